/-! THE z LAYER, 12: exceptions -/
section ZE
variable {G : zG} {M : zM} {d : Nat} {h0 h9 h : zH} {o : zO} {pc : Nat} {lv : zL} {st : List zV} {q : Nat}
/-- the row z of a method's table lets the class E pass at pc -/
def zpass (own E : String) (pc : Nat) (z : ExceptionTableEntry) : Prop := covers z pc = false ∨ (z.catchType ≠ 0 ∧ ∃ nm : String, Cond.classLink own z.catchType nm ∈ lw_all ∧ (E, nm) ∈ zNC)
theorem zx_out {cn : String} (hq : zkn (zk h q) = some cn) (hpass : ∀ z ∈ tableOf M.2.2.2.2, zpass M.1.cls cn pc z) (ho : o = .inr q) (he : h9 = h) : zX G M d h0 o h9 pc lv q h := by
  intro p e R s m args below meth c Q H locs ls rest C hr h1 hz hs hL hlv
  intro T hT X
  subst he
  subst ho
  obtain ⟨cell, b1, b2, b3, b4, kC, b5⟩ := zcls hr C.2.2.2.2.2.2.2.2.2.1 hq
  have hpl : e.platform.magicAccessors = ({} : Platform).magicAccessors := by rw [X.admits.platform]
  obtain ⟨vm', hW', X', st⟩ := X.outThrough C.2.2.2.2.2.2.1 q (g := F0 m pc ls rest) rfl rfl rfl (cell := cell) (by rw [hT]; exact b1) b3 ⟨kC, b5⟩ (fun z hz => by
    rw [C.2.2.2.2.2.2.2.1] at hz
    rcases hpass z hz with h | ⟨hz0, nm, hl1, hn1⟩
    · exact Or.inl h
    · obtain ⟨c6, hc6, hcl6⟩ := Cond.classLink_spec C.2.2.2.2.1 (C.2.2.2.2.2.1 _ hl1) e.platform hpl
      obtain ⟨a8, b8, g1, g2, g3⟩ := C.2.2.2.2.2.2.2.2.2.1.1.2.2.2.2.2.1 _ hn1
      cases Option.some.inj (g1.symm.trans b4)
      cases Option.some.inj (g2.symm.trans hc6)
      exact Or.inr ⟨hz0, _, hcl6, g3⟩)
  obtain ⟨g₀, hfr⟩ := X'.frames_eq
  have hend : Ended ((T.setVm vm').setFrames (.throwing q :: below)) below (.threw q) := State.frames_setFrames _ (State.cur_lt_of_frames hfr)
  refine ⟨(T.setVm vm').setFrames (.throwing q :: below), ?_, C.2.2.2.2.2.2.2.2.2.2.2.2.2.2 _ locs X'.here.running hend (X'.ends _).1 (X'.ends _).2 (by show zRep G h9 T.heap; rw [hT]; exact hr) h1 hz hs hL⟩
  rw [X.pushThrowing_eq]
  exact st
theorem zx_catch {cn : String} {nm : String} (pre : List ExceptionTableEntry) (x : ExceptionTableEntry) (suf : List ExceptionTableEntry) (hq : zkn (zk h q) = some cn) (hsplit : tableOf M.2.2.2.2 = pre ++ x :: suf) (hpass : ∀ z ∈ pre, zpass M.1.cls cn pc z) (hx : covers x pc = true) (hh0 : x.catchType ≠ 0) (hl : Cond.classLink M.1.cls x.catchType nm ∈ lw_all) (hc : (cn, nm) ∈ zCA) (kk : zW G M d h0 o h9 x.handlerPc lv [vR (some q)] h) : zX G M d h0 o h9 pc lv q h := by
  intro p e R s m args below meth c Q H locs ls rest C hr h1 hz hs hL hlv
  obtain ⟨cell, b1, b2, b3, b4, kC, b5⟩ := zcls hr C.2.2.2.2.2.2.2.2.2.1 hq
  have hts := C.2.2.2.2.2.1
  have hF := C.2.2.2.2.2.2.2.2.2.1
  refine vx_catch C.2.2.2.2.1 pre x suf (C.2.2.2.2.2.2.2.1.trans hsplit) (fun z hz => ?_) hx hh0 (hts _ hl) (va_Nw.use rfl (hF.1.2.2.2.2.1 _ hc)) b1 b2 b4 (kk p e R s m args below meth c Q H locs ls C hr h1 hz hs hL hlv)
  rcases hpass z hz with h | ⟨hz0, nm, hl1, hn1⟩
  · exact Or.inl h
  · exact Or.inr ⟨hz0, nm, hts _ hl1, hF.1.2.2.2.2.2.1 _ hn1⟩
/-- a row for any class: 'finally' -/
theorem zx_any {cn : String} (pre : List ExceptionTableEntry) (x : ExceptionTableEntry) (suf : List ExceptionTableEntry) (hq : zkn (zk h q) = some cn) (hsplit : tableOf M.2.2.2.2 = pre ++ x :: suf) (hpass : ∀ z ∈ pre, zpass M.1.cls cn pc z) (hx : covers x pc = true) (hh0 : x.catchType = 0) (kk : zW G M d h0 o h9 x.handlerPc lv [vR (some q)] h) : zX G M d h0 o h9 pc lv q h := by
  intro p e R s m args below meth c Q H locs ls rest C hr h1 hz hs hL hlv
  obtain ⟨cell, b1, b2, b3, b4, kC, b5⟩ := zcls hr C.2.2.2.2.2.2.2.2.2.1 hq
  have hts := C.2.2.2.2.2.1
  have hF := C.2.2.2.2.2.2.2.2.2.1
  intro T hT X
  have hpl : e.platform.magicAccessors = ({} : Platform).magicAccessors := by rw [X.admits.platform]
  obtain ⟨vm', X', st⟩ := X.thenCaughtThrough q (g := F0 m pc ls rest) rfl (Steps.refl _) (by rw [hT]; exact b1) b3 ⟨kC, b5⟩ pre x suf (C.2.2.2.2.2.2.2.1.trans hsplit)
    (fun z hz => by
      rcases hpass z hz with h | ⟨hz0, nm, hl1, hn1⟩
      · exact Or.inl h
      · obtain ⟨c6, hc6, hcl6⟩ := Cond.classLink_spec C.2.2.2.2.1 (hts _ hl1) e.platform hpl
        obtain ⟨a8, b8, g1, g2, g3⟩ := hF.1.2.2.2.2.2.1 _ hn1
        cases Option.some.inj (g1.symm.trans b4)
        cases Option.some.inj (g2.symm.trans hc6)
        exact Or.inr ⟨hz0, _, hcl6, g3⟩) hx (Or.inl hh0)
  obtain ⟨t, a1, b1⟩ := kk p e R s m args below meth c Q H locs ls C hr h1 hz hs hL hlv (T.setVm vm') hT X'
  exact ⟨t, st.trans a1, b1⟩
theorem zw_athrow (hd : decode M.2.1 pc = .ok (.athrow, 1)) (kk : zX G M d h0 o h9 pc lv q h) : zW G M d h0 o h9 pc lv (vR (some q) :: st) h := by
  intro p e R s m args below meth c Q H locs ls C hr h1 hz hs hL hlv
  exact vx_athrow C.1 C.2.1 hd (kk p e R s m args below meth c Q H locs ls (st.map zv) C hr h1 hz hs hL hlv)
/-- new X(): new, dup, invokespecial, of a class of exceptions (follows vx_make0 of kit/laws/EXCEPTIONS; it says of every old cell that it stays) -/
theorem zmake0 {p : Program} {l : Launch} {e : Env} {R : Room} {s : State} {m : MethodId} {args : Array Value} {below : List Frame} {meth : Method} {c : Code} {H : Heap} {locs : List Loc} {cells slots : Nat} {Q : State → Prop} {ls : Array Slot} {rest : List Value} {cc : ByteArray} (hexec : p.tables.exec = Jvm.exec) (hb : c.code = cc) (hl : l.stackTraces = false) {own cls : String} {names : List String} {ik ic : Nat} {A : Nat → Prop} {cid : ClassId}
    (hown : s.vm.findClass own = some m.cls) (hcls : Bundle.fit cls = true) (hnames : ∀ n ∈ names, Bundle.fit n = true)
    (hk : (Cond.classLink own ik cls).before args s = true) (hini : (Cond.initialized cls).before args s = true) (hat : ∀ w ∈ vx_at0 own ic cls names, w.before args s = true)
    (hgood : ∀ w ∈ Cond.classLink own ik cls :: Cond.initialized cls :: vx_at0 own ic cls names, vx_ot w = true)
    (hU : vx_Zq Bundle.tN "UNASSIGNED_STACK" Bundle.steD A s H) (hN : vx_Zq Bundle.tN "SUPPRESSED_SENTINEL" Bundle.listD A s H) (hsz : s.heap.size ≤ H.size) (hsize : ls.size = c.maxLocals)
    (d0 : decode cc pc = .ok (.new ik, 3)) (d3 : decode cc (pc + 3) = .ok (.dup, 1)) (d4 : decode cc (pc + 4) = .ok (.invokespecial ic, 3))
    (hcid : s.vm.findClass cls = some cid)
    (hRframes : names.length + 3 < R.frames) (hRlocals : (rest.map fun v => v.category).sum + (13 * (names.length + 1) + 42) ≤ R.locals) (hRcells : cells + 1 ≤ R.cells) (hRslots : slots + 6 ≤ R.slots)
    (kk : ∀ (H1 : Heap) (ce : Cell), H1[H.size]? = some ce → ce.cls = cid → ce.vm = .none → H1.size = H.size + 1 → (∀ q : Nat, q < H.size → H1[q]? = H[q]?) → W p l e R s m args below meth c H1 locs (cells + 1) (slots + 6) Q (F0 m (pc + 7) ls (.ref H.size :: rest))) :
    W p l e R s m args below meth c H locs cells slots Q (F0 m pc ls rest) := by
  intro T hT X
  subst hT
  have htr : e.platform.stackTraces = false := (show e.platform.stackTraces = l.stackTraces by rw [X.admits.platform]).trans hl
  have Y := vx_rebase X (R' := { frames := R.frames, locals := R.locals, cells := 1, slots := 6 }) (Nat.le_refl _) (Nat.le_refl _) hRcells hRslots
  obtain ⟨s', hA'⟩ : ∃ z, z = (T.setVm s.vm).setFrames (.invoking m args :: below) := ⟨_, rfl⟩
  rw [← hA'] at Y
  have hvm : s'.vm = s.vm := by rw [hA']; rfl
  have hhp : s'.heap = T.heap := by rw [hA']; rfl
  have hW0 : s.WarmedH s'.vm := by rw [hvm]; exact State.WarmedH.refl s
  have hat' : ∀ w ∈ vx_at0 own ic cls names, w.before args s' = true := fun w hw => vx_ot_at hW0 hvm.symm (hgood w (List.mem_cons_of_mem _ (List.mem_cons_of_mem _ hw))) (hat w hw)
  have hk' : (Cond.classLink own ik cls).before args s' = true := vx_ot_at hW0 hvm.symm (hgood _ List.mem_cons_self) hk
  have hini' : (Cond.initialized cls).before args s' = true := vx_ot_at hW0 hvm.symm (hgood _ (List.mem_cons_of_mem _ List.mem_cons_self)) hini
  have hU' : vx_Zq Bundle.tN "UNASSIGNED_STACK" Bundle.steD A s' s'.heap := by rw [hhp]; exact vx_Zq.moved hW0.alike hU
  have hN' : vx_Zq Bundle.tN "SUPPRESSED_SENTINEL" Bundle.listD A s' s'.heap := by rw [hhp]; exact vx_Zq.moved hW0.alike hN
  have h : ∀ w ∈ Bundle.ownAtoms0 own ic cls names, w.before args s' = true := vx_own hat' (vx_isRefq hU'.1) (vx_isRefq hN'.1) hU'.2.word hN'.2.word
  have hown' : s'.vm.findClass own = some m.cls := by rw [hvm]; exact hown
  have hins : (Cond.instantiable cls 6).before args s' = true := h _ (by simp [Bundle.ownAtoms0])
  obtain ⟨vm₁, cX, kX, hfX, hkX, -, -, X₁, st1⟩ := Y.newCold hexec (own := own) (C := cls) (index := ik) (n := 6) hown' hk' hins hini'
    (g := F0 m pc ls rest) rfl (by rw [hb]; exact d0) (Nat.le_refl _) (Nat.le_refl _)
  generalize hT1 : (T.setVm vm₁).pushCell { cls := cX, slots := kX.instanceTypes.map defaultValue, vm := .none } = T1 at X₁ st1
  have hcat : (Value.ref T.heap.size).category = 1 := rfl
  have hcellA : T1.heap[T.heap.size]? = some (freshCell cX kX) := by rw [← hT1]; exact State.heap_pushCell_size _ _
  have d3' : decode c.code (pc + 3) = .ok (.dup, 1) := by rw [hb]; exact d3
  obtain ⟨V, ce, L, Z, hL, hlt, hcl9, hvm9, st⟩ := vx_ctorMade0 X₁ hexec htr (own := own) (cls := cls) (names := names) (ic := ic) hown' hcls hnames h (fun x hx => nomatch hx) hfX hkX hcellA (by rw [hhp]; exact Nat.le_refl _)
    (g := { method := m, pc := pc + 4, locals := ls, stack := .ref T.heap.size :: .ref T.heap.size :: rest, locked := none }) rfl hsize (rest := rest) rfl
    (by rw [hb]; exact d4) hRframes (by simp only [List.map_cons, List.sum_cons, hcat]; omega)
  have Z0 := Stand.forget (locs := []) Z (fun y hy => by rw [hL y hy, hhp]; exact Nat.le_refl _)
  obtain ⟨f1, f2⟩ := vx_frame Z0.same
  have f3 := Z0.heapSize
  rw [hhp] at f1 f2 f3
  have hcid' : ce.cls = cid := by
    rw [hcl9]
    rw [hvm] at hfX
    exact Option.some.inj (hfX.symm.trans hcid)
  have hh : (V.setCell T.heap.size ce).heap[T.heap.size]? = some ce := heapAt_setCell_self (s := V) ce hlt
  have hsz1 : T.heap.size < (V.setCell T.heap.size ce).heap.size := (Array.getElem?_eq_some_iff.mp hh).1
  subst hA'
  have X5 := vx_back9 X Y Z0
  have X6 : Stand p l e R s m args below meth c (V.setCell T.heap.size ce) locs (cells + 1) (slots + 6) := { X5 with same := X5.same.mono (by omega) (by omega) }
  obtain ⟨t, a1, b1⟩ := kk (V.setCell T.heap.size ce).heap ce hh hcid' hvm9 (by omega) (fun q hq => f2 q hq (fun z hz => nomatch hz)) _ rfl X6
  refine ⟨t, st1 _ ?_, b1⟩
  show Steps p.tables e below (T1.setTop { method := m, pc := pc + 3, locals := ls, stack := .ref T.heap.size :: rest, locked := none }) _
  jvm_step X₁.here [X₁.here.top, hexec, d3', Value.category]
  exact st _ a1
/-- the exception classes that are made by 'new X()' -/
def zEx (k : Nat) : String × List String := match k with
  | 20 => ("java/lang/IndexOutOfBoundsException", ["java/lang/RuntimeException", "java/lang/Exception"])
  | 21 => ("java/lang/IllegalArgumentException", ["java/lang/RuntimeException", "java/lang/Exception"])
  | _ => ("java/lang/IllegalStateException", ["java/lang/RuntimeException", "java/lang/Exception"])
end ZE
