/-! THE z LAYER, 5: a call's contract: exact outcome, exact heap; a walk's judgement -/
/-- a method: name, bytes, locals, answer's type, handlers -/
abbrev zM : Type := MethodName × ByteArray × Nat × Option FieldType × List (Nat × Nat × Nat × Nat)
/-- a value of the stack, of a local: int, long, float, double, reference -/
abbrev zV : Type := Int32 ⊕ (Int64 ⊕ (UInt32 ⊕ (UInt64 ⊕ Option Nat)))
abbrev vI (x : Int32) : zV := .inl x
abbrev vJ (x : Int64) : zV := .inr (.inl x)
abbrev vF (x : UInt32) : zV := .inr (.inr (.inl x))
abbrev vD (x : UInt64) : zV := .inr (.inr (.inr (.inl x)))
abbrev vR (x : Option Nat) : zV := .inr (.inr (.inr (.inr x)))
def zv (x : zV) : Value := match x with
  | .inl x => .int x
  | .inr (.inl x) => .long x
  | .inr (.inr (.inl x)) => .float x
  | .inr (.inr (.inr (.inl x))) => .double x
  | .inr (.inr (.inr (.inr x))) => va_rf x
/-- how many words it takes -/
def zc (x : zV) : Nat := match x with
  | .inr (.inl _) => 2
  | .inr (.inr (.inr (.inl _))) => 2
  | _ => 1
theorem zc_ok (x : zV) : (zv x).category = zc x := by
  rcases x with x | x | x | x | x <;> try rfl
  cases x <;> rfl
abbrev zL : Type := List (Nat × zV)
def zvl (q : Nat × zV) : Nat × Value := (q.1, zv q.2)
/-- an outcome: an answer, or a thrown cell -/
abbrev zO : Type := Option zV ⊕ Nat
def zoc (o : zO) : Outcome := match o with
  | .inl v => .returned (v.map zv)
  | .inr q => .threw q
def zargs : Nat → List zV → zL
  | _, [] => []
  | n, x :: l => (n, x) :: zargs (if zc x = 2 then n + 2 else n + 1) l
def zcw (M : zM) : Cond := match M.2.2.2.2 with
  | [] => .code M.1 M.2.1 M.2.2.1 M.2.2.2.1
  | x :: hh => .codeWith M.1 M.2.1 M.2.2.1 M.2.2.2.1 (x :: hh)
/-- room for locals at depth d -/
def zlo (d : Nat) : Nat := 3200 + 80 * d
def zS (G : zG) (h : zH) (U : State) : Prop := zRep G h U.heap ∧ zF G h.1 U
def zQ (G : zG) (h : zH) (o : zO) (h' : zH) (st : State) (oc : Outcome) (t : State) : Prop :=
  oc = zoc o ∧ zRep G h' t.heap ∧ h'.1 = h.1 ∧ zz h ≤ zz h' ∧ zs h ≤ zs h' ∧ st.WarmedH t.vm ∧ ∃ L, st.sameButNew ({ t with vm := st.vm } : State) L (zz h' - zz h) (zs h' - zs h) ∧ ∀ q ∈ L, zb h ≤ q.base
def zMet (G : zG) (M : zM) (d : Nat) (A : List zV) (h : zH) (o : zO) (h' : zH) : Prop :=
  zSX h ≤ 10000000 → G.1.stackTraces = false → MetFree G.1 M.1 (headSpec (zcw M :: lw_all) { frames := d, cells := zCX h - zz h, slots := zSX h - zs h, locals := zlo d }) (va_Pc (A.map zv) (fun U => zS G h U)) (fun _ _ _ _ _ => True) (fun _ st oc t => zQ G h o h' st oc t)
/-- what a walk knows: the machine, the method, the tables, the room, and what is owed at its end -/
def zC (G : zG) (M : zM) (d : Nat) (h0 : zH) (o : zO) (h9 : zH) (p : Program) (e : Env) (R : Room) (s : State) (m : MethodId) (args : Array Value) (below : List Frame) (meth : Method) (c : Code) (Q : State → Prop) : Prop :=
  p.tables.exec = Jvm.exec ∧ c.code = M.2.1 ∧ meth.sig.returnType = M.2.2.2.1 ∧ c.maxLocals = M.2.2.1 ∧ s.vm.findClass M.1.cls = some m.cls ∧ (∀ w ∈ lw_all, w.before args s = true) ∧ meth.locks = false ∧ c.exceptionTable.toList = tableOf M.2.2.2.2 ∧ (meth.name = M.1.name ∧ s.methodNamed? M.1 = some m) ∧
  zF G h0.1 s ∧ zRep G h0 s.heap ∧ (d ≤ R.frames ∧ zlo d ≤ R.locals ∧ zCX h0 ≤ zz h0 + R.cells ∧ zSX h0 ≤ zs h0 + R.slots) ∧ zSX h0 ≤ 10000000 ∧ G.1.stackTraces = false ∧
  ∀ (t : State) (L : List Loc), t.status = .running → Ended t below (zoc o) → s.WarmedH t.vm → s.sameButNew ({ t with vm := s.vm } : State) L (zz h9 - zz h0) (zs h9 - zs h0) → zRep G h9 t.heap → h9.1 = h0.1 → zz h0 ≤ zz h9 → zs h0 ≤ zs h9 → (∀ q ∈ L, zb h0 ≤ q.base) → Q t
/-- the machine, from pc on with these locals, stack and heap, comes to the method's end with outcome o and heap h9 -/
def zW (G : zG) (M : zM) (d : Nat) (h0 : zH) (o : zO) (h9 : zH) (pc : Nat) (lv : zL) (st : List zV) (h : zH) : Prop :=
  ∀ (p : Program) (e : Env) (R : Room) (s : State) (m : MethodId) (args : Array Value) (below : List Frame) (meth : Method) (c : Code) (Q : State → Prop) (H : Heap) (locs : List Loc) (ls : Array Slot),
    zC G M d h0 o h9 p e R s m args below meth c Q → zRep G h H → h.1 = h0.1 → zz h0 ≤ zz h → zs h0 ≤ zs h → (∀ q ∈ locs, zb h0 ≤ q.base) → lv_has ls M.2.2.1 (lv.map zvl) →
    W p G.1 e R s m args below meth c H locs (zz h - zz h0) (zs h - zs h0) Q (F0 m pc ls (st.map zv))
/-- .. with q thrown at pc -/
def zX (G : zG) (M : zM) (d : Nat) (h0 : zH) (o : zO) (h9 : zH) (pc : Nat) (lv : zL) (q : Nat) (h : zH) : Prop :=
  ∀ (p : Program) (e : Env) (R : Room) (s : State) (m : MethodId) (args : Array Value) (below : List Frame) (meth : Method) (c : Code) (Q : State → Prop) (H : Heap) (locs : List Loc) (ls : Array Slot) (rest : List Value),
    zC G M d h0 o h9 p e R s m args below meth c Q → zRep G h H → h.1 = h0.1 → zz h0 ≤ zz h → zs h0 ≤ zs h → (∀ q ∈ locs, zb h0 ≤ q.base) → lv_has ls M.2.2.1 (lv.map zvl) →
    vx_W p G.1 e R s m args below meth c H locs (zz h - zz h0) (zs h - zs h0) Q (F0 m pc ls rest) q
theorem zcw_spec {M : zM} {a : Array Value} {U : State} {mk : MethodId} (hn : U.methodNamed? M.1 = some mk) (h : (zcw M).before a U = true) : ∃ methY cY, U.vm.method? mk = some methY ∧ methY.code = some cY ∧ cY.code = M.2.1 ∧ cY.maxLocals = M.2.2.1 ∧ methY.sig.returnType = M.2.2.2.1 ∧ methY.locks = false ∧ cY.exceptionTable.toList = tableOf M.2.2.2.2 ∧ parseMethodDescriptor M.1.desc = some methY.sig := by
  obtain ⟨y, b, n, r, hh⟩ := M
  cases hh with
  | nil =>
    obtain ⟨methY, cY, h1, h2, h3, h4, h5, h6, h7, h8⟩ := Cond.code_spec hn h
    refine ⟨methY, cY, h1, h2, h3, h4, h5, h6, ?_, h8⟩
    rw [Array.isEmpty_iff.mp h7]
    rfl
  | cons x hh =>
    obtain ⟨m9, methY, cY, hn9, h1, h2, h3, h4, h5, h6, h7, h8⟩ := Cond.codeWith_spec h
    cases hn9.symm.trans hn
    exact ⟨methY, cY, h1, h2, h3, h4, h6, h7, by rw [← h5, table_eq], h8⟩
theorem zcw_good {M : zM} (h : zcw M ∈ lw_all) : GoodIn lw_all (zcw M :: lw_all) := fun w hw => by
  rcases List.mem_cons.mp hw with rfl | hw
  · exact lw_self _ h
  · exact lw_self w hw
theorem zargs_ok : ∀ (n : Nat) (A : List zV), (zargs n A).map zvl = lv_args n (A.map zv)
  | _, [] => rfl
  | n, x :: l => by
    show zvl (n, x) :: (zargs (if zc x = 2 then n + 2 else n + 1) l).map zvl = (n, zv x) :: lv_args (if (zv x).category = 2 then n + 2 else n + 1) (l.map zv)
    rw [zargs_ok, zc_ok]
    rfl
theorem zsl_len (A : List zV) : (lg_sl (A.map zv)).length = (A.map zc).sum := by
  induction A with
  | nil => rfl
  | cons x l ih =>
    have h1 : (lg_sl ((x :: l).map zv)).length = zc x + (lg_sl (l.map zv)).length := by
      have h2 : lg_sl ((x :: l).map zv) = (if (zv x).category = 2 then [.val (zv x), .second] else [.val (zv x)]) ++ lg_sl (l.map zv) := rfl
      rw [h2, List.length_append, zc_ok]
      rcases x with x | x | x | x | x <;> rfl
    rw [h1, ih]
    rfl
/-- a contract by a walk from the method's entry -/
theorem zMet.of {G : zG} {M : zM} {d : Nat} {A : List zV} {h h9 : zH} {o : zO} (hy : plainFor M.1 = true) (hA : (A.map zc).sum ≤ M.2.2.1)
    (k : zW G M d h o h9 0 (zargs 0 A) [] h) : zMet G M d A h o h9 := by
  intro hS hl
  refine MetFree.of_bodySF (code := M.2.1) (maxLocals := M.2.2.1) (ret := M.2.2.2.1) hy ?_ ?_
  · intro args s m hp hn
    obtain ⟨methY, cY, h1, h2, h3, h4, h5, h6, -⟩ := zcw_spec hn (atoms_spec (ws := zcw M :: lw_all) hp _ List.mem_cons_self)
    exact ⟨methY, cY, h1, h2, h3, h4, h5, h6⟩
  · intro p e s m args below meth c s₁ B hml hP _
    obtain ⟨rfl, hR, hF⟩ := hP
    have hh0 : s₁.heap = s.heap := by rw [B.state]; rfl
    have hts := atoms_spec (ws := zcw M :: lw_all) B.pre
    obtain ⟨methY, cY, h1, h2, h3, h4, h5, h6, h7, -⟩ := zcw_spec B.named (hts _ List.mem_cons_self)
    cases Option.some.inj (h1.symm.trans B.method)
    cases Option.some.inj (h2.symm.trans (Stand.of_body B).code)
    have hA9 : (lg_sl (A.map zv)).length ≤ M.2.2.1 := by rw [zsl_len]; exact hA
    have hlv := lv_entry (A.map zv) (n := M.2.2.1) hA9
    rw [← zargs_ok] at hlv
    have hw := k p e ({ frames := d, cells := zCX h - zz h, slots := zSX h - zs h, locals := zlo d } : Room) s m (A.map zv).toArray below meth c (fun t => ∃ o', t.status = .running ∧ Ended t below o' ∧ zQ G h o h9 s o' t) s.heap [] _
      ⟨B.exec, B.bytes, B.returns, hml, findClass_of_methodNamed B.named, fun w hw => hts w (List.mem_cons_of_mem _ hw), B.notSynchronized, h7, ⟨(name_of_methodNamed B.named B.method).1, B.named⟩, hF, hR, ⟨Nat.le_refl _, Nat.le_refl _, (by show zCX h ≤ zz h + (zCX h - zz h); omega), (by show zSX h ≤ zs h + (zSX h - zs h); omega)⟩, hS, hl,
        fun t L q1 q2 q3 q4 q5 q6 q7 q8 q9 => ⟨_, q1, q2, rfl, q5, q6, q7, q8, q3, L, q4, q9⟩⟩ hR rfl (Nat.le_refl _) (Nat.le_refl _) (fun q hq => by cases hq) hlv
    rw [Nat.sub_self, Nat.sub_self] at hw
    have hent : entryFrame m (A.map zv).toArray M.2.2.1 = F0 m 0 ((lg_sl (A.map zv) ++ List.replicate (M.2.2.1 - (lg_sl (A.map zv)).length) Slot.unset).toArray) [] := by rw [lg_entry_eq]
    obtain ⟨t, a1, o', b1, b2, b3⟩ := hw s₁ hh0 (Stand.of_body B)
    rw [hent]
    exact ⟨t, o', a1, b1, b2, b3⟩
section ZR
variable {G : zG} {M : zM} {d : Nat} {h0 h9 h : zH} {o : zO} {pc : Nat} {lv : zL} {st : List zV}
theorem zW_mono {p : Program} {l : Launch} {e : Env} {R : Room} {s : State} {m : MethodId} {args : Array Value} {below : List Frame} {meth : Method} {c : Code} {H : Heap} {locs : List Loc} {cells slots : Nat} {Q Q' : State → Prop} {g : JFrame} (hq : ∀ t, Q t → Q' t) (k : W p l e R s m args below meth c H locs cells slots Q g) : W p l e R s m args below meth c H locs cells slots Q' g := by
  intro T hT X
  obtain ⟨t, a, b⟩ := k T hT X
  exact ⟨t, a, hq t b⟩
/-- the end of a method: of what the kit's own return rows give -/
theorem zEnd {p : Program} {e : Env} {R : Room} {s : State} {m : MethodId} {args : Array Value} {below : List Frame} {meth : Method} {c : Code} {H : Heap} {locs : List Loc} {Q : State → Prop} {g : JFrame} {v : Option zV}
    (C : zC G M d h0 o h9 p e R s m args below meth c Q) (ho : o = .inl v) (he : h9 = h) (hr : zRep G h H) (h1 : h.1 = h0.1) (hz : zz h0 ≤ zz h) (hs : zs h0 ≤ zs h) (hL : ∀ q ∈ locs, zb h0 ≤ q.base)
    (k : W p G.1 e R s m args below meth c H locs (zz h - zz h0) (zs h - zs h0) (MQ below (fun _ _ oc t => oc = .returned (v.map zv) ∧ t.heap = H) args s (zz h - zz h0) (zs h - zs h0) (fun q => zb h0 ≤ q)) g) :
    W p G.1 e R s m args below meth c H locs (zz h - zz h0) (zs h - zs h0) Q g := by
  subst he
  refine zW_mono (fun t ht => ?_) k
  obtain ⟨o', r1, r2, ⟨rfl, r3⟩, L, ⟨-, r4, r5⟩, r6⟩ := ht
  subst ho
  exact C.2.2.2.2.2.2.2.2.2.2.2.2.2.2 t L r1 r2 r4 r5 (by rw [r3]; exact hr) h1 hz hs r6
theorem zw_iret {v : Int32} (hd : decode M.2.1 pc = .ok (.ireturn, 1)) (hret : M.2.2.2.1 = some .int) (ho : o = .inl (some (vI v))) (he : h9 = h) : zW G M d h0 o h9 pc lv [vI v] h := by
  intro p e R s m args below meth c Q H locs ls C hr h1 hz hs hL hlv
  refine zEnd C ho he hr h1 hz hs hL ?_
  exact W.iret C.1 C.2.1 (C.2.2.1.trans hret) (fun t ht _ => ⟨rfl, ht⟩) hL hd C.2.2.2.2.2.2.1
theorem zw_zret {v : Int32} {ty : FieldType} (hd : decode M.2.1 pc = .ok (.ireturn, 1)) (hret : M.2.2.2.1 = some ty) (hn : narrow ty (.int v) = .int v) (ho : o = .inl (some (vI v))) (he : h9 = h) : zW G M d h0 o h9 pc lv [vI v] h := by
  intro p e R s m args below meth c Q H locs ls C hr h1 hz hs hL hlv
  refine zEnd C ho he hr h1 hz hs hL ?_
  exact W.zret C.1 C.2.1 (C.2.2.1.trans hret) hn (fun t ht _ => ⟨rfl, ht⟩) hL hd C.2.2.2.2.2.2.1
theorem zw_lret {v : Int64} (hd : decode M.2.1 pc = .ok (.lreturn, 1)) (hret : M.2.2.2.1 = some .long) (ho : o = .inl (some (vJ v))) (he : h9 = h) : zW G M d h0 o h9 pc lv [vJ v] h := by
  intro p e R s m args below meth c Q H locs ls C hr h1 hz hs hL hlv
  refine zEnd C ho he hr h1 hz hs hL ?_
  exact W.lret C.1 C.2.1 (C.2.2.1.trans hret) (fun t ht _ => ⟨rfl, ht⟩) hL hd C.2.2.2.2.2.2.1
theorem zw_fret {v : UInt32} (hd : decode M.2.1 pc = .ok (.freturn, 1)) (hret : M.2.2.2.1 = some .float) (ho : o = .inl (some (vF v))) (he : h9 = h) : zW G M d h0 o h9 pc lv [vF v] h := by
  intro p e R s m args below meth c Q H locs ls C hr h1 hz hs hL hlv
  refine zEnd C ho he hr h1 hz hs hL ?_
  exact W.fret C.1 C.2.1 (C.2.2.1.trans hret) (fun t ht _ => ⟨rfl, ht⟩) hL hd C.2.2.2.2.2.2.1
theorem zw_dret {v : UInt64} (hd : decode M.2.1 pc = .ok (.dreturn, 1)) (hret : M.2.2.2.1 = some .double) (ho : o = .inl (some (vD v))) (he : h9 = h) : zW G M d h0 o h9 pc lv [vD v] h := by
  intro p e R s m args below meth c Q H locs ls C hr h1 hz hs hL hlv
  refine zEnd C ho he hr h1 hz hs hL ?_
  exact W.dret C.1 C.2.1 (C.2.2.1.trans hret) (fun t ht _ => ⟨rfl, ht⟩) hL hd C.2.2.2.2.2.2.1
theorem zw_vret (hd : decode M.2.1 pc = .ok (.return_, 1)) (hret : M.2.2.2.1 = none) (ho : o = .inl none) (he : h9 = h) : zW G M d h0 o h9 pc lv [] h := by
  intro p e R s m args below meth c Q H locs ls C hr h1 hz hs hL hlv
  refine zEnd C ho he hr h1 hz hs hL ?_
  exact W.vret C.1 C.2.1 (C.2.2.1.trans hret) (fun t ht _ => ⟨rfl, ht⟩) hL hd C.2.2.2.2.2.2.1
theorem zw_aret {v : Option Nat} {rt : FieldType} (hd : decode M.2.1 pc = .ok (.areturn, 1)) (hret : M.2.2.2.1 = some rt) (hrt : (∃ n, rt = .object n) ∨ ∃ t, rt = .array t) (ho : o = .inl (some (vR v))) (he : h9 = h) : zW G M d h0 o h9 pc lv [vR v] h := by
  intro p e R s m args below meth c Q H locs ls C hr h1 hz hs hL hlv
  refine zEnd C ho he hr h1 hz hs hL ?_
  exact W.aret C.1 C.2.1 (C.2.2.1.trans hret) hrt (by cases v with
    | none => exact Or.inl rfl
    | some a => exact Or.inr ⟨a, rfl⟩) (fun t ht _ => ⟨rfl, ht⟩) hL hd C.2.2.2.2.2.2.1
end ZR
