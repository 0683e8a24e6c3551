/-! THE z LAYER, 10: calls -/
section ZK
variable {G : zG} {M : zM} {d : Nat} {h0 h9 h : zH} {o : zO} {pc : Nat} {lv : zL} {st : List zV}
/-- what a callee's contract gives its caller (follows vx_back of kit/laws/EXCEPTIONS, with the thrown cell named and the room of its own) -/
theorem zback {p : Program} {e : Env} {R : Room} {s : State} {m : MethodId} {sargs : Array Value} {below : List Frame} {meth : Method} {c : Code} {M' : zM} {d' : Nat} {A : List zV} {o' : zO} {h2 : zH} (hM : zMet G M' d' A h o' h2) (hsx : zSX h ≤ 10000000) (hstt : G.1.stackTraces = false) {U : State} {Ls : List Loc} {c0 s0 : Nat}
    (X : Stand p G.1 e R s m sargs below meth c U Ls c0 s0) {g : JFrame} (hg : g.method = m) (hsize : g.locals.size = c.maxLocals) {ig : Instr} {len : Nat} (hdg : decode c.code g.pc = .ok (ig, len)) (hW : 2 * g.monitorRoom + (g.stack.map fun v => v.category).sum ≤ 8) {mk : MethodId} (hn : U.methodNamed? M'.1 = some mk) (hS : zS G h U)
    (hts : ∀ w ∈ lw_all, w.before sargs s = true) (hcw : zcw M' ∈ lw_all) (hini : Cond.initialized M'.1.cls ∈ lw_all)
    (hframes : d' + 1 ≤ R.frames) (hlo : 8 + (M'.2.2.1 + 11) + zlo d' ≤ R.locals) (h4 : c0 + (zCX h - zz h) ≤ R.cells) (h5 : s0 + (zSX h - zs h) ≤ R.slots) :
    ∃ (T' : State) (L : List Loc), Stand p G.1 e R s m sargs below meth c T' (Ls ++ L) (c0 + (zz h2 - zz h)) (s0 + (zs h2 - zs h)) ∧ zRep G h2 T'.heap ∧ h2.1 = h.1 ∧ zz h ≤ zz h2 ∧ zs h ≤ zs h2 ∧ (∀ z ∈ L, zb h ≤ z.base) ∧
      Steps p.tables e below (doInvoke e (U.setTop g) [] mk (A.map zv).toArray).1 (match o' with
        | .inl v => T'.setTop { g with pc := g.pc + len, stack := (v.map zv).toList ++ g.stack }
        | .inr q => (T'.setTop g).pushFrame (.throwing q)) := by
  obtain ⟨a, ha⟩ : ∃ a, a = (A.map zv).toArray := ⟨_, rfl⟩
  rw [← ha]
  have hws := pay_in hts (zcw_good hcw)
  have h1 : (headSpec (zcw M' :: lw_all) { frames := d', cells := zCX h - zz h, slots := zSX h - zs h, locals := zlo d' }).pre.before a U = true := atoms_intro fun w hw => hws w hw _ _ X.warmed
  have h2' : (zcw M').before a U = true := hws _ List.mem_cons_self _ _ X.warmed
  have h3 : (Cond.initialized M'.1.cls).before a U = true := word_at X.warmed (Or.inl (by first | rfl | simp [Cond.onTables, Cond.keeps, Cond.steady])) (hts _ hini)
  have hPc : (va_Pc (A.map zv) (fun U => zS G h U)) a (U.calling g mk a) := ⟨ha, hS.1, zF.calling g mk a hS.2⟩
  obtain ⟨methY, cY, hmY, hcY, -, hlY, -⟩ := zcw_spec hn h2'
  obtain ⟨kY, hkY, -⟩ := className_of_methodNamed hn
  have hinitY : kY.init = .initialized := Cond.initialized_spec (findClass_of_methodNamed hn) hkY h3
  have hh : At U g.method c below := by rw [hg]; exact X.here
  have happ : (headSpec (zcw M' :: lw_all) { frames := d', cells := zCX h - zz h, slots := zSX h - zs h, locals := zlo d' }).appliesLoose M'.1 e.platform (U.calling g mk a) = true :=
    Spec.appliesLoose_calling (g := g) hh hdg hn hkY hinitY
      (X.room_calling (g := g) (R' := { frames := d', cells := zCX h - zz h, slots := zSX h - zs h, locals := zlo d' }) hsize hmY hcY hframes (by rw [hlY]; show _ + zlo d' ≤ _; omega) h4 h5) h1
  obtain ⟨mid, hmid⟩ := hh.above
  have hfr : (U.setTop g).frames = (.java g :: mid) ++ below := by rw [State.frames_setTop' g hh.top, hmid]; rfl
  obtain ⟨o2, s₂, hsteps, -, hend, hq⟩ := Steps.callFree (hM hsx hstt) p X.admits X.cas X.clock (acts := []) hfr happ hPc trivial
  have hq' : zQ G h o' h2 (U.calling g mk a) o2 s₂ := hq
  unfold zQ at hq'
  obtain ⟨ho, hrep, henv, hzz, hzs, hW₂, L, hsm, hL⟩ := hq'
  have hsm : (U.calling g mk a).sameButNew ({ s₂ with vm := (U.calling g mk a).vm } : State) L (zz h2 - zz h) (zs h2 - zs h) := hsm
  rw [State.frames_setTop' g hh.top] at hend
  obtain ⟨g₀, hg0⟩ := Option.isSome_iff_exists.mp hh.top
  obtain ⟨r, hr⟩ := State.topJava?_eq_some.mp hg0
  have hr' : (({ U with heap := s₂.heap, slotsUsed := s₂.slotsUsed } : State).setVm s₂.vm).frames = .java g₀ :: r := hr
  obtain ⟨e2, q2, q3, q4, q5, q6⟩ := id hsm
  have e3 : s₂ = ({ (U.calling g mk a).setFrames s₂.frames with heap := s₂.heap, slotsUsed := s₂.slotsUsed } : State).setVm s₂.vm := by
    have : s₂ = ({ s₂ with vm := (U.calling g mk a).vm } : State).setVm s₂.vm := rfl
    rw [e2] at this
    exact this
  have hW' : U.WarmedH s₂.vm := hW₂
  have hsame : U.sameButNew ({ U with heap := s₂.heap, slotsUsed := s₂.slotsUsed } : State) L (zz h2 - zz h) (zs h2 - zs h) := by
    refine ⟨?_, q2, q3, q4, q5, q6⟩
    obtain ⟨t, ht, -⟩ := State.frames_cons hr
    show ({ U with heap := s₂.heap, slotsUsed := s₂.slotsUsed } : State) = { U.setFrames U.frames with heap := s₂.heap, slotsUsed := s₂.slotsUsed }
    rw [State.setFrames_self ht]
  subst hg
  refine ⟨(({ U with heap := s₂.heap, slotsUsed := s₂.slotsUsed } : State).setVm s₂.vm), L,
    ⟨X.admits, X.cas, X.clock, X.frames, X.room, X.hears, X.method, X.code, (X.here.setHeapUsed s₂.heap s₂.slotsUsed).setVm hW'.alike, X.tail, State.WarmedH.trans X.warmed hW', X.limits, X.bytes, X.same.trans (hsame.setVm s.vm)⟩,
    hrep, henv, hzz, hzs, hL, ?_⟩
  cases o' with
  | inl v =>
    subst ho
    obtain ⟨c₂, i₂, len₂, hc₂, hd₂, hf₂⟩ := hend
    have hcc : c₂ = c := by
      have h1 : s₂.code? g.method = U.code? g.method := by
        rw [State.code?_eq, State.code?_eq, hW'.alike.method?]
      exact Option.some.inj (hc₂.symm.trans (h1.trans hh.code))
    subst hcc
    have hlen : len₂ = len := by rw [hdg] at hd₂; cases hd₂; rfl
    subst hlen
    have hs₂ : s₂ = (({ U with heap := s₂.heap, slotsUsed := s₂.slotsUsed } : State).setVm s₂.vm).setTop { g with pc := g.pc + len₂, stack := (v.map zv).toList ++ g.stack } := by
      refine e3.trans ?_
      rw [hf₂, State.calling_eq hh.top, State.setFrames_setFrames, State.setTop_of_frames _ hr', hr]
      rfl
    show Steps p.tables e below _ ((({ U with heap := s₂.heap, slotsUsed := s₂.slotsUsed } : State).setVm s₂.vm).setTop { g with pc := g.pc + len₂, stack := (v.map zv).toList ++ g.stack })
    rw [← hs₂]
    exact hsteps
  | inr q =>
    subst ho
    have hf₂ : s₂.frames = .throwing q :: .java g :: U.frames.tail := hend
    have hs₂ : s₂ = ((({ U with heap := s₂.heap, slotsUsed := s₂.slotsUsed } : State).setVm s₂.vm).setTop g).pushFrame (.throwing q) := by
      refine e3.trans ?_
      rw [hf₂, State.calling_eq hh.top, State.setFrames_setFrames, State.pushFrame, State.frames_setTop _ hr', State.setTop_of_frames _ hr', State.setFrames_setFrames, hr]
      rfl
    show Steps p.tables e below _ (((({ U with heap := s₂.heap, slotsUsed := s₂.slotsUsed } : State).setVm s₂.vm).setTop g).pushFrame (.throwing q))
    rw [← hs₂]
    exact hsteps
theorem zcats (l : List zV) : ((l.map zv).map fun v => v.category).sum = (l.map zc).sum := by
  rw [List.map_map]
  congr 2
  funext x
  exact zc_ok x
/-- .. and how the walk goes on -/
theorem zfin {p : Program} {e : Env} {R : Room} {s : State} {m : MethodId} {args : Array Value} {below : List Frame} {meth : Method} {c : Code} {Q : State → Prop} {H : Heap} {locs : List Loc} {ls : Array Slot}
    (C : zC G M d h0 o h9 p e R s m args below meth c Q) (hr : zRep G h H) (h1 : h.1 = h0.1) (hz : zz h0 ≤ zz h) (hs : zs h0 ≤ zs h) (hL : ∀ q ∈ locs, zb h0 ≤ q.base) (hlv : lv_has ls M.2.2.1 (lv.map zvl))
    {M' : zM} {d' : Nat} {A rest : List zV} {o' : zO} {h2 : zH} (hM : zMet G M' d' A h o' h2) (hd' : d' + 1 ≤ d) (hnl : M'.2.2.1 ≤ 60) (hcw : zcw M' ∈ lw_all) (hini : Cond.initialized M'.1.cls ∈ lw_all) (hw : (rest.map zc).sum ≤ 8)
    {T : State} {vm₁ : Vm} {mk : MethodId} {ig : Instr} {len : Nat} {stk : List Value} (hT : T.heap = H) (X₁ : Stand p G.1 e R s m args below meth c (T.setVm vm₁) locs (zz h - zz h0) (zs h - zs h0)) (hn : (T.setVm vm₁).methodNamed? M'.1 = some mk) (hdg : decode c.code pc = .ok (ig, len))
    (hstep : ∀ target, Steps p.tables e below (doInvoke e ((T.setVm vm₁).setTop (F0 m pc ls (rest.map zv))) [] mk (A.map zv).toArray).1 target → Steps p.tables e below (T.setTop (F0 m pc ls stk)) target)
    (kv : ∀ v, o' = .inl v → zW G M d h0 o h9 (pc + len) lv (v.toList ++ rest) h2) (kx : ∀ q, o' = .inr q → zX G M d h0 o h9 pc lv q h2) : ∃ t, Steps p.tables e below (T.setTop (F0 m pc ls stk)) t ∧ Q t := by
  obtain ⟨rf, rl, rc, rs⟩ := C.2.2.2.2.2.2.2.2.2.2.2.1
  have eCX : zCX h = zCX h0 := by show h.1.2.1 = h0.1.2.1; rw [h1]
  have eSX : zSX h = zSX h0 := by show h.1.2.2.1 = h0.1.2.2.1; rw [h1]
  have hF : zF G h.1 (T.setVm vm₁) := by rw [h1]; exact C.2.2.2.2.2.2.2.2.2.1.rides X₁.warmed X₁.same
  obtain ⟨-, hc1, hc2⟩ := hr.2.1
  have hlo : zlo d' + 80 ≤ zlo d := by unfold zlo; omega
  obtain ⟨T', L, X', hrep, henv, hzz, hzs, hL', hsteps⟩ := zback hM (by rw [eSX]; exact C.2.2.2.2.2.2.2.2.2.2.2.2.1) C.2.2.2.2.2.2.2.2.2.2.2.2.2.1 X₁ (g := F0 m pc ls (rest.map zv)) rfl (by rw [C.2.2.2.1]; exact hlv.1) hdg (by rw [zcats]; show 2 * 0 + _ ≤ 8; omega) hn ⟨by show zRep G h T.heap; rw [hT]; exact hr, hF⟩ C.2.2.2.2.2.1 hcw hini (Nat.le_trans hd' rf) (by omega) (by omega) (by omega)
  have q1 : zz h - zz h0 + (zz h2 - zz h) = zz h2 - zz h0 := by omega
  have q2 : zs h - zs h0 + (zs h2 - zs h) = zs h2 - zs h0 := by omega
  rw [q1, q2] at X'
  have hL2 : ∀ q ∈ locs ++ L, zb h0 ≤ q.base := fun x hx => by
    rcases List.mem_append.mp hx with hx | hx
    · exact hL x hx
    · have := hL' x hx
      show h0.1.1 ≤ x.base
      rw [← h1]; exact this
  cases o' with
  | inl v =>
    obtain ⟨t, a1, b1⟩ := kv v rfl p e R s m args below meth c Q T'.heap (locs ++ L) ls C hrep (henv.trans h1) (Nat.le_trans hz hzz) (Nat.le_trans hs hzs) hL2 hlv T' rfl X'
    refine ⟨t, hstep t (hsteps.trans ?_), b1⟩
    have ev : (v.map zv).toList ++ rest.map zv = (v.toList ++ rest).map zv := by cases v <;> simp
    show Steps p.tables e below (T'.setTop (F0 m (pc + len) ls ((v.map zv).toList ++ rest.map zv))) t
    rw [ev]
    exact a1
  | inr q =>
    obtain ⟨t, a1, b1⟩ := kx q rfl p e R s m args below meth c Q T'.heap (locs ++ L) ls (rest.map zv) C hrep (henv.trans h1) (Nat.le_trans hz hzz) (Nat.le_trans hs hzs) hL2 hlv T' rfl X'
    exact ⟨t, hstep t (hsteps.trans a1), b1⟩
/-- a method as a callee: its words; how many arguments its descriptor has -/
def zMb (M : zM) (n : Nat) : Prop := zcw M ∈ lw_all ∧ Cond.initialized M.1.cls ∈ lw_all ∧ (M.1.cls ≠ "java/lang/invoke/MethodHandle" ∧ M.1.cls ≠ "java/lang/invoke/VarHandle") ∧ (parseMethodDescriptor M.1.desc).map (fun d => d.parameters.length) = some n ∧ M.2.2.1 ≤ 60
def zMs (M : zM) (n : Nat) : Prop := zMb M n ∧ Cond.static M.1 ∈ lw_all
def zMi (M : zM) (n : Nat) : Prop := zMb M n ∧ Cond.instanceMethod M.1 ∈ lw_all
theorem zMb.len {M : zM} {n : Nat} (h : zMb M n) : ∀ sig, parseMethodDescriptor M.1.desc = some sig → n = sig.parameters.length := fun sig hs => by
  have := h.2.2.2.1
  rw [hs] at this
  exact (Option.some.inj this).symm
/-- the link of a call: an ordinary one, or a nest mate's -/
def zlk (own : String) (idx : Nat) (y : MethodName) : Prop := Cond.methodLink own idx y ∈ lw_all ∨ (own, idx, y, "CsrCalculator") ∈ zNM
theorem zw_invS {M' : zM} {d' n idx : Nat} {A : List zV} (rest : List zV) {o' : zO} {h2 : zH} (hd : decode M.2.1 pc = .ok (.invokestatic idx, 3)) (hl : zlk M.1.cls idx M'.1) (hm : zMs M' n) (hM : zMet G M' d' A h o' h2) (hd' : d' + 1 ≤ d) (hn : A.length = n) (hst : st = A.reverse ++ rest) (hw : (rest.map zc).sum ≤ 8)
    (kv : ∀ v, o' = .inl v → zW G M d h0 o h9 (pc + 3) lv (v.toList ++ rest) h2) (kx : ∀ q, o' = .inr q → zX G M d h0 o h9 pc lv q h2) : zW G M d h0 o h9 pc lv st h := by
  intro p e R s m args below meth c Q H locs ls C hr h1 hz hs hL hlv
  intro T hT X
  obtain ⟨hm, hstat⟩ := hm
  have hts := C.2.2.2.2.2.1
  obtain ⟨w1, w2, w3, -, w5⟩ := id hm
  have hcode0 := hts _ w1
  have hnamed : ∃ mk, s.methodNamed? M'.1 = some mk := by
    revert hcode0
    unfold zcw
    cases M'.2.2.2.2 with
    | nil => exact fun q => Cond.code_named q
    | cons x hh => intro q; obtain ⟨m9, _, _, q9, -⟩ := Cond.codeWith_spec q; exact ⟨m9, q9⟩
  obtain ⟨mk, hnamed⟩ := hnamed
  obtain ⟨methM, cM, hmethM, -, -, -, -, -, -, hsigM⟩ := zcw_spec hnamed hcode0
  have hstatic : methM.isStatic = true := Cond.static_spec hnamed hmethM (hts _ hstat)
  obtain ⟨kP, hkP, -⟩ := className_of_methodNamed hnamed
  have hinitP : kP.init = .initialized := Cond.initialized_spec (findClass_of_methodNamed hnamed) hkP (hts _ w2)
  have hst2 : (F0 m pc ls (st.map zv)).stack = (A.map zv).reverse ++ rest.map zv := by show st.map zv = _; rw [hst]; simp
  have hlen : (A.map zv).length = methM.sig.parameters.length := by rw [List.length_map, hn]; exact hm.len _ hsigM
  rcases hl with hl | hl
  · obtain ⟨vm₁, X₁, hstep₁⟩ := X.invokestatic C.1 C.2.2.2.2.1 (hts _ hl) hnamed hmethM hstatic hkP hinitP w3 (g := F0 m pc ls (st.map zv)) rfl (argsL := A.map zv) (rest := rest.map zv) hlen hst2 (by rw [C.2.1]; exact hd)
    exact zfin C hr h1 hz hs hL hlv hM hd' w5 w1 w2 hw hT X₁ (X₁.named hnamed) (by rw [C.2.1]; exact hd) (fun target ht => hstep₁ _ fun acts => by rw [doInvoke_state]; exact ht) kv kx
  · obtain ⟨vm₁, X₁, hstep₁⟩ := X.invokestaticNest C.1 C.2.2.2.2.1 (va_Nw.use rfl (C.2.2.2.2.2.2.2.2.2.1.1.2.2.2.1 _ hl)) hnamed hmethM hstatic hkP hinitP w3 (g := F0 m pc ls (st.map zv)) rfl (argsL := A.map zv) (rest := rest.map zv) hlen hst2 (by rw [C.2.1]; exact hd)
    exact zfin C hr h1 hz hs hL hlv hM hd' w5 w1 w2 hw hT X₁ (X₁.named hnamed) (by rw [C.2.1]; exact hd) (fun target ht => hstep₁ _ fun acts => by rw [doInvoke_state]; exact ht) kv kx
theorem zw_invV {M' : zM} {d' n idx b : Nat} {A : List zV} (rest : List zV) {o' : zO} {h2 : zH} {cn : String} (hd : decode M.2.1 pc = .ok (.invokevirtual idx, 3)) (hl : zlk M.1.cls idx M'.1) (hm : zMi M' n) (hsel : Cond.selects cn M'.1 M'.1 ∈ lw_all) (hq : zkn (zk h b) = some cn) (hM : zMet G M' d' (vR (some b) :: A) h o' h2) (hd' : d' + 1 ≤ d) (hn : A.length = n) (hst : st = A.reverse ++ vR (some b) :: rest) (hw : (rest.map zc).sum ≤ 8)
    (kv : ∀ v, o' = .inl v → zW G M d h0 o h9 (pc + 3) lv (v.toList ++ rest) h2) (kx : ∀ q, o' = .inr q → zX G M d h0 o h9 pc lv q h2) : zW G M d h0 o h9 pc lv st h := by
  intro p e R s m args below meth c Q H locs ls C hr h1 hz hs hL hlv
  intro T hT X
  obtain ⟨hm, hinst⟩ := hm
  have hts := C.2.2.2.2.2.1
  obtain ⟨w1, w2, w3, -, w5⟩ := id hm
  obtain ⟨cell, b1, b2, b3, b4, -⟩ := zcls hr C.2.2.2.2.2.2.2.2.2.1 hq
  obtain ⟨mk, methM, hnamed, hmethM, hstM, habM⟩ := Cond.instanceMethod_spec (hts _ hinst)
  obtain ⟨methM', cM, hmethM', -, -, -, -, -, -, hsigM⟩ := zcw_spec hnamed (hts _ w1)
  cases hmethM.symm.trans hmethM'
  obtain ⟨c2, r2, m2, q1, q2, q3, q4, kP, hkP, hkPi⟩ := Cond.selects_spec (hts _ hsel)
  cases b4.symm.trans q1
  cases (State.methodFound?_of_named hnamed w3).symm.trans q2
  cases hnamed.symm.trans q3
  have hselP : selectMethod e.platform s.vm cell.cls mk = .method mk := by rw [Launch.admits_selectMethod X.admits]; exact q4
  have hst2 : (F0 m pc ls (st.map zv)).stack = (A.map zv).reverse ++ .ref b :: rest.map zv := by
    show st.map zv = _
    rw [hst]
    simp only [List.map_append, List.map_reverse, List.map_cons]
    rfl
  have hlen : (A.map zv).length = methM.sig.parameters.length := by rw [List.length_map, hn]; exact hm.len _ hsigM
  have hcell : T.heap[b]? = some cell := by rw [hT]; exact b1
  have hobj : ∀ z, cell.vm ≠ .statics z := fun z h => by rw [h] at b3; cases b3
  rcases hl with hl | hl
  · obtain ⟨vm₁, X₁, hstep₁⟩ := X.invokevirtual C.1 C.2.2.2.2.1 (hts _ hl) hnamed hmethM hstM hkP hkPi w3 (a := b) (cell := cell) hcell hobj hselP hmethM habM hkP hkPi (g := F0 m pc ls (st.map zv)) rfl (argsL := A.map zv) (rest := rest.map zv) hlen hst2 (by rw [C.2.1]; exact hd)
    exact zfin C hr h1 hz hs hL hlv hM hd' w5 w1 w2 hw hT X₁ (X₁.named hnamed) (by rw [C.2.1]; exact hd) (fun target ht => hstep₁ _ fun acts => by rw [doInvoke_state]; exact ht) kv kx
  · obtain ⟨vm₁, X₁, hstep₁⟩ := X.invokevirtualNest C.1 C.2.2.2.2.1 (va_Nw.use rfl (C.2.2.2.2.2.2.2.2.2.1.1.2.2.2.1 _ hl)) hnamed hmethM hstM hkP hkPi w3 (a := b) (cell := cell) hcell hobj hselP hmethM habM hkP hkPi (g := F0 m pc ls (st.map zv)) rfl (argsL := A.map zv) (rest := rest.map zv) hlen hst2 (by rw [C.2.1]; exact hd)
    exact zfin C hr h1 hz hs hL hlv hM hd' w5 w1 w2 hw hT X₁ (X₁.named hnamed) (by rw [C.2.1]; exact hd) (fun target ht => hstep₁ _ fun acts => by rw [doInvoke_state]; exact ht) kv kx
end ZK
