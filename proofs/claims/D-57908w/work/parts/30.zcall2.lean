/-! THE z LAYER, 11: constructors, inherited methods, super calls, lists by their interface -/
section ZK2
variable {G : zG} {M : zM} {d : Nat} {h0 h9 h : zH} {o : zO} {pc : Nat} {lv : zL} {st : List zV}
theorem zst2 {p : Nat} {m : MethodId} {ls : Array Slot} {A rest st : List zV} {b : Nat} (hst : st = A.reverse ++ vR (some b) :: rest) : (F0 m p ls (st.map zv)).stack = (A.map zv).reverse ++ .ref b :: rest.map zv := by
  show st.map zv = _
  rw [hst]
  simp only [List.map_append, List.map_reverse, List.map_cons]
  rfl
theorem zw_invI {M' : zM} {d' n idx b : Nat} {A : List zV} (rest : List zV) {o' : zO} {h2 : zH} (hd : decode M.2.1 pc = .ok (.invokespecial idx, 3)) (hl : zlk M.1.cls idx M'.1) (hm : zMi M' n) (hnm : M'.1.name = "<init>") (hcd : M'.2.2.2 = (none, [])) (hM : zMet G M' d' (vR (some b) :: A) h o' h2) (hd' : d' + 1 ≤ d) (hn : A.length = n) (hst : st = A.reverse ++ vR (some b) :: rest) (hw : (rest.map zc).sum ≤ 8)
    (kv : ∀ v, o' = .inl v → zW G M d h0 o h9 (pc + 3) lv (v.toList ++ rest) h2) (kx : ∀ q, o' = .inr q → zX G M d h0 o h9 pc lv q h2) : zW G M d h0 o h9 pc lv st h := by
  intro p e R s m args below meth c Q H locs ls C hr h1 hz hs hL hlv
  intro T hT X
  obtain ⟨hm, hinst⟩ := hm
  have hts := C.2.2.2.2.2.1
  obtain ⟨w1, w2, w3, -, w5⟩ := id hm
  have hmg : m = (F0 m pc ls (st.map zv)).method := rfl
  have hpl : e.platform.magicAccessors = ({} : Platform).magicAccessors := by rw [X.admits.platform]
  have hcode : (Cond.code M'.1 M'.2.1 M'.2.2.1 none).before args s = true := by
    have := hts _ w1
    unfold zcw at this
    rw [hcd] at this
    exact this
  have hst2 := zst2 (p := pc) (m := m) (ls := ls) hst
  have hlen : ∀ sig, parseMethodDescriptor M'.1.desc = some sig → (A.map zv).length = sig.parameters.length := fun sig hs => by rw [List.length_map, hn]; exact hm.len sig hs
  rcases hl with hl | hl
  · obtain ⟨mk, methM, cM, kP, vm₁, hnamed, hmethM, hcodeM, -, hlocalsM, -, hkP, -, hW₁, hstep₁⟩ := Steps.initColdArgs (e := e) X.here C.1 X.warmed hpl C.2.2.2.2.1 hnm w3 (hts _ hl) (hts _ hinst) hcode (f := F0 m pc ls (st.map zv)) rfl hlen hst2 (by rw [C.2.1]; exact hd)
    have X₁ := X.noted hW₁
    exact zfin C hr h1 hz hs hL hlv hM hd' w5 w1 w2 hw hT X₁ (X₁.named hnamed) (by rw [C.2.1]; exact hd) (fun target ht => hstep₁ _ fun acts => by rw [doInvoke_state]; exact ht) kv kx
  · obtain ⟨mk, methM, cM, kP, vm₁, hnamed, hmethM, hcodeM, -, hlocalsM, -, hkP, -, hW₁, hstep₁⟩ := Steps.initColdArgsNest (e := e) X.here C.1 X.warmed hpl C.2.2.2.2.1 hnm w3 (va_Nw.use rfl (C.2.2.2.2.2.2.2.2.2.1.1.2.2.2.1 _ hl)) (hts _ hinst) hcode (f := F0 m pc ls (st.map zv)) rfl hlen hst2 (by rw [C.2.1]; exact hd)
    have X₁ := X.noted hW₁
    exact zfin C hr h1 hz hs hL hlv hM hd' w5 w1 w2 hw hT X₁ (X₁.named hnamed) (by rw [C.2.1]; exact hd) (fun target ht => hstep₁ _ fun acts => by rw [doInvoke_state]; exact ht) kv kx
/-- a method that the receiver's class has under another owner: inherited or overriding -/
theorem zw_invU {M' : zM} {d' n idx b : Nat} {A : List zV} (rest : List zV) {o' : zO} {h2 : zH} {C0 owner : String} {x : MethodName} (hd : decode M.2.1 pc = .ok (.invokevirtual idx, 3)) (hl : Cond.methodLink M.1.cls idx x ∈ lw_all) (hsame : Cond.sameMethod x.cls owner x.name x.desc ∈ lw_all) (hdecl : (∃ (M0 : zM) (n0 : Nat), zMi M0 n0 ∧ M0.1 = ⟨owner, x.name, x.desc⟩) ∨ (⟨owner, x.name, x.desc⟩ : MethodName) = ⟨"CsrCalculator$Join", "of", "(JJ)J"⟩) (hown : owner ≠ "java/lang/invoke/MethodHandle" ∧ owner ≠ "java/lang/invoke/VarHandle") (hm : zMi M' n) (hdx : M'.1.desc = x.desc) (hsel : Cond.selects C0 x M'.1 ∈ lw_all)
    (hb : ∀ (H : Heap) (s : State) (v : zE), zRep G h H → zF G v s → ∃ cell : Cell, H[b]? = some cell ∧ cell.vm.isStatics = false ∧ s.vm.findClass C0 = some cell.cls) (hM : zMet G M' d' (vR (some b) :: A) h o' h2) (hd' : d' + 1 ≤ d) (hn : A.length = n) (hst : st = A.reverse ++ vR (some b) :: rest) (hw : (rest.map zc).sum ≤ 8)
    (kv : ∀ v, o' = .inl v → zW G M d h0 o h9 (pc + 3) lv (v.toList ++ rest) h2) (kx : ∀ q, o' = .inr q → zX G M d h0 o h9 pc lv q h2) : zW G M d h0 o h9 pc lv st h := by
  intro p e R s m args below meth c Q H locs ls C hr h1 hz hs hL hlv
  intro T hT X
  obtain ⟨hm, hinst⟩ := hm
  have hts := C.2.2.2.2.2.1
  obtain ⟨w1, w2, w3, -, w5⟩ := id hm
  obtain ⟨cell, b1, b3, b4⟩ := hb H s _ hr C.2.2.2.2.2.2.2.2.2.1
  have hd0 : va_Decl s ⟨owner, x.name, x.desc⟩ := by
    rcases hdecl with ⟨M0, n0, ⟨m0, i0⟩, hdecl⟩ | hdecl
    · obtain ⟨mk, methM, hnamed, hmethM, hstM, habM⟩ := Cond.instanceMethod_spec (hts _ i0)
      obtain ⟨methM', cM, hmethM', -, -, -, -, -, -, hsigM⟩ := zcw_spec hnamed (hts _ m0.1)
      cases hmethM.symm.trans hmethM'
      rw [← hdecl]
      exact ⟨mk, methM, hnamed, hmethM, hstM, hsigM⟩
    · rw [hdecl]
      exact Cond.declares_spec (va_Nw.use (A := args) rfl (C.2.2.2.2.2.2.2.2.2.1.1.2.2.2.2.2.2.2.2.1 _ (by decide)))
  obtain ⟨r0, r, hn0, hrm, hstR, hsigR⟩ := hd0
  obtain ⟨cn, ck, r1, hcn, hck, hni, hf, hn1⟩ := Cond.sameMethod_found (hts _ hsame)
  cases hn0.symm.trans hn1
  obtain ⟨mk, methM, hnamed, hmethM, -, habM⟩ := Cond.instanceMethod_spec (hts _ hinst)
  obtain ⟨c2, r2, m2, q1, q2, q3, q4, kP, hkP, hkPi⟩ := Cond.selects_spec (hts _ hsel)
  cases b4.symm.trans q1
  cases hf.symm.trans q2
  cases hnamed.symm.trans q3
  have hselP : selectMethod e.platform s.vm cell.cls r0 = .method mk := by rw [Launch.admits_selectMethod X.admits]; exact q4
  have hst2 := zst2 (p := pc) (m := m) (ls := ls) hst
  have hlen : (A.map zv).length = r.sig.parameters.length := by
    rw [List.length_map, hn]
    refine hm.len _ ?_
    rw [hdx]
    exact hsigR
  obtain ⟨vm₁, X₁, hstep₁⟩ := X.invokevirtualUp C.1 C.2.2.2.2.1 (hts _ hl) (hts _ hsame) hown hn0 hrm hstR (a := b) (cell := cell) (by rw [hT]; exact b1) (fun z h => by rw [h] at b3; cases b3) hselP hmethM habM hkP hkPi (g := F0 m pc ls (st.map zv)) rfl (argsL := A.map zv) (rest := rest.map zv) hlen hst2 (by rw [C.2.1]; exact hd)
  exact zfin C hr h1 hz hs hL hlv hM hd' w5 w1 w2 hw hT X₁ (X₁.named hnamed) (by rw [C.2.1]; exact hd) (fun target ht => hstep₁ _ fun acts => by rw [doInvoke_state]; exact ht) kv kx
theorem zrecv {b : Nat} {cn : String} (hq : zkn (zk h b) = some cn) : ∀ (H : Heap) (s : State) (v : zE), zRep G h H → zF G v s → ∃ cell : Cell, H[b]? = some cell ∧ cell.vm.isStatics = false ∧ s.vm.findClass cn = some cell.cls := by
  intro H s v hr hF
  obtain ⟨cell, b1, b2, b3, b4, -⟩ := zcls hr hF hq
  exact ⟨cell, b1, b3, b4⟩
/-- the field 'word' of a Join -/
theorem zw_getw {k idx a : Nat} (hd : decode M.2.1 pc = .ok (.getfield idx, 3)) (hl : Cond.fieldLink M.1.cls idx "CsrCalculator$Join" "word" "Ljava/lang/String;" ∈ lw_all) (hk : zk h a = k) (hj : k = 23 ∨ k = 24) (kk : zW G M d h0 o h9 (pc + 3) lv (vR (zr h a 0) :: st) h) : zW G M d h0 o h9 pc lv (vR (some a) :: st) h := by
  intro p e R s m args below meth c Q H locs ls C hr h1 hz hs hL hlv
  have hF := C.2.2.2.2.2.2.2.2.2.1
  obtain ⟨cell, c1, c2, c3, c4, c5⟩ := hr.2.2.2.2 a (by rw [hk]; omega)
  have hN : zn h a = 1 := by
    have ha : zarr (zk h a) = false := by rw [hk]; rcases hj with rfl | rfl <;> rfl
    have hz : zN (zk h a) = 1 := by rw [hk]; rcases hj with rfl | rfl <;> rfl
    rw [ha, if_neg (by decide)] at c4
    exact c4.trans hz
  have hS : ∃ (cf : ClassId) (k : Class) (fi : Nat) (f : Field), s.fieldFound? "CsrCalculator$Join" "word" "Ljava/lang/String;" = some (cf, k, fi, f) ∧ f.isStatic = false ∧ f.slot = G.2.2.1 (zk h a) 0 := by
    rw [hk]
    rcases hj with rfl | rfl
    · exact hF.1.2.2.2.2.2.2.2.2.2.2.1.2
    · exact hF.1.2.2.2.2.2.2.2.2.2.2.2.2
  obtain ⟨cf, kf, fi, fd, hi, hst9, hsl2⟩ := hS
  have hslot := c5 0 (by rw [hN]; decide)
  have hT : zval (zT (zk h a) 0) h a 0 = zv (vR (zr h a 0)) := by rw [hk]; rcases hj with rfl | rfl <;> rfl
  rw [hT, ← hsl2] at hslot
  exact W.getf C.1 C.2.1 C.2.2.2.2.1 (C.2.2.2.2.2.1 _ hl) hi hst9 c1 (zunk c3) hslot rfl rfl hd (kk p e R s m args below meth c Q H locs ls C hr h1 hz hs hL hlv)
/-- super.f(..) -/
theorem zw_invSU {M' : zM} {d' n idx b : Nat} {A : List zV} (rest : List zV) {o' : zO} {h2 : zH} {cn : String} (hd : decode M.2.1 pc = .ok (.invokespecial idx, 3)) (hl : Cond.methodLink M.1.cls idx M'.1 ∈ lw_all) (hsame : Cond.sameMethod M'.1.cls M'.1.cls M'.1.name M'.1.desc ∈ lw_all) (hsup : Cond.superclass M.1.cls M'.1.cls ∈ lw_all) (hm : zMi M' n) (hno : M'.1.name ≠ "<init>") (hq : zkn (zk h b) = some cn) (hM : zMet G M' d' (vR (some b) :: A) h o' h2) (hd' : d' + 1 ≤ d) (hn : A.length = n) (hst : st = A.reverse ++ vR (some b) :: rest) (hw : (rest.map zc).sum ≤ 8)
    (kv : ∀ v, o' = .inl v → zW G M d h0 o h9 (pc + 3) lv (v.toList ++ rest) h2) (kx : ∀ q, o' = .inr q → zX G M d h0 o h9 pc lv q h2) : zW G M d h0 o h9 pc lv st h := by
  intro p e R s m args below meth c Q H locs ls C hr h1 hz hs hL hlv
  intro T hT X
  obtain ⟨hm, hinst⟩ := hm
  have hts := C.2.2.2.2.2.1
  obtain ⟨w1, w2, w3, -, w5⟩ := id hm
  obtain ⟨cell, b1, b2, b3, b4, kB, b5⟩ := zcls hr C.2.2.2.2.2.2.2.2.2.1 hq
  obtain ⟨mk, methM, hnamed, hmethM, hstM, habM⟩ := Cond.instanceMethod_spec (hts _ hinst)
  obtain ⟨methM', cM, hmethM', -, -, -, -, -, -, hsigM⟩ := zcw_spec hnamed (hts _ w1)
  cases hmethM.symm.trans hmethM'
  obtain ⟨ps, dk, kp, hps, hdk, hkp, hsuper, -, -, hnid⟩ := Cond.superclass_spec C.2.2.2.2.1 (hts _ hsup)
  have hn0 : s.methodNamed? ⟨M'.1.cls, M'.1.name, M'.1.desc⟩ = some mk := hnamed
  have hpm : ps = mk.cls := Option.some.inj (hps.symm.trans (findClass_of_methodNamed hnamed))
  have hsub : s.vm.isSubclass ps mk.cls = true := by rw [hpm]; simp [Vm.isSubclass, Vm.isSubclassAux]
  have hst2 := zst2 (p := pc) (m := m) (ls := ls) hst
  have hlen : (A.map zv).length = methM.sig.parameters.length := by rw [List.length_map, hn]; exact hm.len _ hsigM
  obtain ⟨vm₁, X₁, hstep₁⟩ := X.invokespecialUp C.1 C.2.2.2.2.1 (hts _ hl) (hts _ hsame) hn0 hmethM hstM habM hno hdk hnid hps hsuper hsub (a := b) (cell := cell) (by rw [hT]; exact b1) (fun z h => by rw [h] at b3; cases b3) b5 (g := F0 m pc ls (st.map zv)) rfl (argsL := A.map zv) (rest := rest.map zv) hlen hst2 (by rw [C.2.1]; exact hd)
  exact zfin C hr h1 hz hs hL hlv hM hd' w5 w1 w2 hw hT X₁ (X₁.named hnamed) (by rw [C.2.1]; exact hd) (fun target ht => hstep₁ _ (by rw [doInvoke_state]; exact ht)) kv kx
/-- a list's method by its interface -/
theorem zw_invF {M' : zM} {d' n idx count b : Nat} {A : List zV} (rest : List zV) {o' : zO} {h2 : zH} {cn : String} {x : MethodName} (hd : decode M.2.1 pc = .ok (.invokeinterface idx count, 5)) (hl : Cond.methodLink M.1.cls idx x ∈ lw_all) (hfw : (cn, x, M'.1) ∈ zFW) (hm : zMi M' n) (hdx : M'.1.desc = x.desc) (hsel : Cond.selects cn x M'.1 ∈ lw_all) (hq : zkn (zk h b) = some cn) (hM : zMet G M' d' (vR (some b) :: A) h o' h2) (hd' : d' + 1 ≤ d) (hn : A.length = n) (hst : st = A.reverse ++ vR (some b) :: rest) (hw : (rest.map zc).sum ≤ 8)
    (kv : ∀ v, o' = .inl v → zW G M d h0 o h9 (pc + 5) lv (v.toList ++ rest) h2) (kx : ∀ q, o' = .inr q → zX G M d h0 o h9 pc lv q h2) : zW G M d h0 o h9 pc lv st h := by
  intro p e R s m args below meth c Q H locs ls C hr h1 hz hs hL hlv
  intro T hT X
  obtain ⟨hm, hinst⟩ := hm
  have hts := C.2.2.2.2.2.1
  obtain ⟨w1, w2, w3, -, w5⟩ := id hm
  have hF := C.2.2.2.2.2.2.2.2.2.1
  obtain ⟨cell, b1, b2, b3, b4, kB, b5⟩ := zcls hr hF hq
  obtain ⟨f1, f2, f3, f4, f5⟩ := hF.1.2.2.2.2.2.2.2.1 _ hfw
  have hx := zFW_ok _ hfw
  have use : ∀ {w : Cond}, w.onTables = true → w.before #[] s = true → w.before args s = true := fun hw h => va_tabs hw rfl h
  obtain ⟨r0, r, hn0, hrm, hstR, hsigR⟩ := Cond.declares_spec (use rfl f1)
  obtain ⟨cL, kL, r1, hcL, hkL, hiL, hfoundL, hn1⟩ := Cond.interfaceMethod_spec (use rfl f2)
  cases hn0.symm.trans hn1
  have hr0cls : r0.cls = cL := Option.some.inj ((findClass_of_methodNamed hn0).symm.trans hcL)
  obtain ⟨hnameR, hdescR⟩ := name_of_methodNamed hn0 hrm
  obtain ⟨mk, methM, hnamed, hmethM, -, habM⟩ := Cond.instanceMethod_spec (hts _ hinst)
  obtain ⟨c2, r2, m2, q1, q2, q3, q4, -⟩ := Cond.selects_spec (hts _ hsel)
  cases b4.symm.trans q1
  cases hfoundL.symm.trans q2
  cases hnamed.symm.trans q3
  have hselP : selectMethod e.platform s.vm cell.cls r0 = .method mk := by rw [Launch.admits_selectMethod X.admits]; exact q4
  have hpubM : hasFlag methM.accessFlags Acc.public_ = true := Cond.publicMethod_spec hnamed hmethM (use rfl f3)
  have hway : ((cell.cls :: s.vm.superclasses cell.cls).any fun k => (declaredIn s.vm r.name r.desc k).any fun (_, z) => z.isPrivate || z.isStatic) = false := by
    rw [hnameR, hdescR]; exact Cond.unhidden_spec b4 (use rfl f4)
  obtain ⟨c3, t3, g1, g2, g3⟩ := Cond.castable_spec (use rfl f5)
  cases b4.symm.trans g1
  cases hcL.symm.trans g2
  have hst2 := zst2 (p := pc) (m := m) (ls := ls) hst
  have hlen : (A.map zv).length = r.sig.parameters.length := by
    rw [List.length_map, hn]
    refine hm.len _ ?_
    rw [hdx]
    exact hsigR
  obtain ⟨vm₁, X₁, hstep₁⟩ := X.invokeinterface C.1 C.2.2.2.2.1 (hts _ hl) hn0 hrm hstR (by rw [hr0cls]; exact hkL) hiL hx (a := b) (cell := cell) (kcell := kB) (by rw [hT]; exact b1)
    (fun z h => by rw [h] at b3; cases b3) b5 (by rw [hr0cls]; exact g3) hselP hmethM hway hpubM habM (g := F0 m pc ls (st.map zv)) rfl (argsL := A.map zv) (rest := rest.map zv) hlen hst2 (by rw [C.2.1]; exact hd)
  exact zfin C hr h1 hz hs hL hlv hM hd' w5 w1 w2 hw hT X₁ (X₁.named hnamed) (by rw [C.2.1]; exact hd) (fun target ht => hstep₁ _ fun acts => by rw [doInvoke_state]; exact ht) kv kx
end ZK2
