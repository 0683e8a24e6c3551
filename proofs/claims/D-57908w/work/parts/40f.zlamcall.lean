/-! THE z LAYER, 25: an interface call on a lambda -/
/-- field j of the made class of site i -/
def zff (i j : Nat) : Option Field := (zFo (zsg i) (zsx i).cls).bind fun q => q.2.2.1[j]?
def zfwF (i : Nat) (c : ClassId) (bytes : List UInt8) (ml : Nat) (fis : List Nat) (mi : Nat) (U : State) : Prop :=
  ∃ (k tk : Class) (methk : Method) (ck : Code) (tc : ClassId) (t : MethodId), U.vm.classes[c]? = some k ∧ k.name = (zsx i).cls ++ "$$Lambda" ∧
    U.vm.method? ⟨c, 1⟩ = some methk ∧ methk.code = some ck ∧ ck.code = ⟨bytes.toArray⟩ ∧ ck.maxLocals = ml ∧ ck.exceptionTable = #[] ∧ methk.locks = false ∧ methk.accessFlags = 0x0001 ∧ methk.sig.returnType = (zsg i).sam.returnType ∧
    U.vm.findClass (zsg i).implClass = some tc ∧ U.vm.classes[tc]? = some tk ∧ tk.isInterface = (zsg i).implItf ∧ ((methodIn tc (zsg i).implName (zsg i).implDesc.toString tk.isInterface none).ask { classPath := fun _ => none } U.vm).1 = .ok t ∧
    (∀ j fi, fis[j]? = some fi → ∃ f, zff i j = some f ∧ U.vm.fieldReady c fi c f ∧ f.isStatic = false ∧ f.slot = j) ∧ U.vm.methodReady c mi t ∧
    ∃ (ci nt : Nat) (file : ClassFile), U.vm.classReady c ci tc ∧ k.cf = some file ∧ file.constantPool[mi]? = some (.methodref ci nt) ∧ file.constantPool.nameAndType? nt = some ((zsg i).implName, (zsg i).implDesc.toString)
theorem zfwOK {i : Nat} {bytes : List UInt8} {ml mi : Nat} {fis : List Nat} (hchk : zfchk i bytes ml fis mi = true) {U : State} {args : Array Value} {d c : ClassId} {dk : Class} (hO : (Cond.instantiable "java/lang/Object" 0).before args U = true) (hd : U.vm.classes[d]? = some dk) (hname : dk.name = (zsx i).cls)
    (h : Lambda.isMade { classPath := fun _ => none } U.vm d (zsg i) c = true) : zfwF i c bytes ml fis mi U := by
  unfold zfchk at hchk
  cases hfo : zFo (zsg i) (zsx i).cls with
  | none => rw [hfo] at hchk; cases hchk
  | some q =>
    obtain ⟨cf, f, lay⟩ := q
    rw [hfo] at hchk
    simp only [Bool.and_eq_true, decide_eq_true_eq] at hchk
    obtain ⟨⟨⟨⟨⟨⟨h1, h2⟩, h3⟩, h4⟩, h4b⟩, h5⟩, h6⟩ := hchk
    have hcode : (f.code.map fun c => (c.code, c.maxLocals)) = some (⟨bytes.toArray⟩, ml) := by
      cases hf : f.code with
      | none => rw [hf] at h1; cases h1
      | some x =>
        rw [hf] at h1
        simp only [Option.map_some, Option.some.injEq, Prod.mk.injEq] at h1 ⊢
        refine ⟨?_, h1.2⟩
        apply ByteArray.ext
        rw [← h1.1]
    obtain ⟨k, tk, file, methk, ck, tc, t, g1, g2, g3, g4, g5, g6, g7, g8, g9, g10, g11, g12, g13, g14, g15, g16, g17, g18, g19⟩ := zfwd hO hd hname h hfo hcode h2
    refine ⟨k, tk, methk, ck, tc, t, g1, g2, g5, g6, g7, g8, g9, g10, g11, by rw [g12]; exact h3, g14, g15, g16, g17, fun j fi hj => ?_, ?_⟩
    · rw [List.all_eq_true] at h5
      have h9 := h5 (fi, j) (by rw [List.mem_zipIdx_iff_getElem?]; exact hj)
      dsimp only at h9
      split at h9 <;> try (cases h9; done)
      rename_i ci nt hp
      split at h9 <;> try (cases h9; done)
      rename_i nm dd hnt
      simp only [Bool.and_eq_true, decide_eq_true_eq] at h9
      obtain ⟨e1, h9⟩ := h9
      split at h9 <;> try (cases h9; done)
      rename_i fd hfd
      simp only [Bool.and_eq_true, Bool.not_eq_true', decide_eq_true_eq] at h9
      refine ⟨fd, by unfold zff; rw [hfo]; exact hfd, zfw_field g1 g18 g19 hp hnt e1 hfd, h9.1, h9.2⟩
    · split at h6 <;> try (cases h6; done)
      rename_i ci nt hp
      simp only [Bool.and_eq_true, decide_eq_true_eq] at h6
      obtain ⟨⟨⟨e1, e2⟩, e3⟩, h6⟩ := h6
      split at h6 <;> try (cases h6; done)
      rename_i n hn
      simp only [decide_eq_true_eq] at h6
      exact ⟨zfw_method g1 g18 hp e1 e2 g14 g15 g17, ci, nt, file, zfw_class g1 g18 hn e3 h6 g14, g3, by rw [g4]; exact hp, by rw [g4]; exact e2⟩
/-- the values that a lambda of site i has caught -/
def zcapt (i b : Nat) (h : zH) : List zV := (zLc i).zipIdx.map fun w => match w.1 with
  | .int => vI (zi h b w.2)
  | _ => vR (zr h b w.2)
theorem zcapt_len {i b : Nat} {h : zH} : (zcapt i b h).length = (zLc i).length := by unfold zcapt; simp
theorem zLc_ok {i j : Nat} {t : FieldType} (h : (zLc i)[j]? = some t) : t = .int ∨ ∃ C, t = .object C := by
  have key : ∀ l ∈ zlamTs, ∀ t ∈ l, (match t with
    | .int => true
    | .object _ => true
    | _ => false) = true := by decide +kernel
  have h1 : t ∈ zLc i := List.mem_of_getElem? h
  unfold zLc at h1
  rw [List.getD_eq_getElem?_getD] at h1
  cases hi : zlamTs[i]? with
  | none => rw [hi] at h1; cases h1
  | some l =>
    rw [hi] at h1
    have := key l (List.mem_of_getElem? hi) t h1
    cases t <;> first | exact Or.inl rfl | exact Or.inr ⟨_, rfl⟩ | cases this
theorem zcapt_val {i b j : Nat} {h : zH} {v : zV} (hv : (zcapt i b h)[j]? = some v) : zval ((zLc i).getD j .int) h b j = zv v := by
  unfold zcapt at hv
  rw [List.getElem?_map, List.getElem?_zipIdx] at hv
  cases hj : (zLc i)[j]? with
  | none => rw [hj] at hv; cases hv
  | some t =>
    rw [hj] at hv
    simp only [Option.map_some, Option.some.injEq, Nat.zero_add] at hv
    rw [List.getD_eq_getElem?_getD, hj]
    rcases zLc_ok hj with rfl | ⟨C, rfl⟩
    · rw [← hv]; rfl
    · rw [← hv]; rfl
/-- what a forwarder answers: its type, its return instruction, what its target answered -/
def zfret (rt : FieldType) (ins : Instr) (o' : zO) : Prop := (∃ q, o' = .inr q) ∨ (∃ x : Int32, rt = .boolean ∧ ins = .ireturn ∧ (x = 0 ∨ x = 1) ∧ o' = .inl (some (vI x))) ∨ (∃ x : Int64, rt = .long ∧ ins = .lreturn ∧ o' = .inl (some (vJ x))) ∨ (∃ (C : String) (x : Option Nat), rt = .object C ∧ ins = .areturn ∧ o' = .inl (some (vR x)))
/-- the bytes of a forwarder: how many captured values, how many ints of the interface's method, the call, the return -/
def zfdec (cc : ByteArray) (fis : List Nat) (A : List zV) (pcI : Nat) (inv ret : Instr) : Prop :=
  (∀ j, j < fis.length → decode cc (4 * j) = .ok (.aload_n 0, 1) ∧ decode cc (4 * j + 1) = .ok (.getfield (fis.getD j 0), 3)) ∧
  ((A = [] ∧ pcI = 4 * fis.length) ∨ (∃ a1 a2 : Int32, A = [vI a1, vI a2] ∧ pcI = 4 * fis.length + 2 ∧ decode cc (4 * fis.length) = .ok (.iload_n 1, 1) ∧ decode cc (4 * fis.length + 1) = .ok (.iload_n 2, 1))) ∧
  decode cc pcI = .ok (inv, 3) ∧ decode cc (pcI + 3) = .ok (ret, 1)
section ZFC2
variable {G : zG} {p : Program} {e : Env} {R : Room} {s : State} {m : MethodId} {args : Array Value} {below : List Frame} {meth : Method} {c : Code} {h h2 : zH} {o' : zO} {M' : zM} {d' : Nat} {V A : List zV}
theorem zfwRun (hexec : p.tables.exec = Jvm.exec) (hts : ∀ w ∈ lw_all, w.before args s = true) {U : State} {locs : List Loc} {cells slots : Nat} (X₁ : Stand p G.1 e R s m args below meth c U locs cells slots)
    (hr : zRep G h U.heap) (hF : zF G h.1 U) (hsx : zSX h ≤ 10000000) (hstt : G.1.stackTraces = false) {g : JFrame} (hg : g.method = m) (hsize : g.locals.size = c.maxLocals) {ig : Instr} {len : Nat} (hdg : decode c.code g.pc = .ok (ig, len)) (hgw : 2 * g.monitorRoom + (g.stack.map fun v => v.category).sum ≤ 8)
    {i b ml mi pcI : Nat} {bytes : List UInt8} {fis : List Nat} {inv ret : Instr} {rt : FieldType} (hq : zk h b = 70 + i) (hfw : ∀ W : State, U.WarmedH W.vm → zfwF i (G.2.1 (70 + i)) bytes ml fis mi W)
    (hV : V = zcapt i b h) (hfl : fis.length = (zLc i).length) (hdec : zfdec ⟨bytes.toArray⟩ fis A pcI inv ret) (hml : 1 + A.length ≤ ml) (hml2 : ml ≤ 3) (hrt : (zsg i).sam.returnType = some rt) (hret : zfret rt ret o')
    (hM : zMet G M' d' (V ++ A) h o' h2) (hcw : zcw M' ∈ lw_all) (hini : Cond.initialized M'.1.cls ∈ lw_all) (hnl : M'.2.2.1 ≤ 60) (hthr : ∀ q, o' = .inr q → ∃ cn, zkn (zk h2 q) = some cn)
    (hinv : ∀ (R' : Room) (s' : State) (a : Array Value) (below' : List Frame) (methk : Method) (ck : Code) (T2 : State) (locs2 : List Loc) (ls : Array Slot), Stand p G.1 e R' s' ⟨G.2.1 (70 + i), 1⟩ a below' methk ck T2 locs2 0 0 → T2.heap = U.heap → U.WarmedH T2.vm → s.WarmedH T2.vm → ck.code = ⟨bytes.toArray⟩ →
      ∃ mT, T2.methodNamed? M'.1 = some mT ∧ ∀ target, (∀ acts, Steps p.tables e below' (doInvoke e (T2.setTop (F0 ⟨G.2.1 (70 + i), 1⟩ pcI ls [])) acts mT ((V ++ A).map zv).toArray).1 target) → Steps p.tables e below' (T2.setTop (F0 ⟨G.2.1 (70 + i), 1⟩ pcI ls ((V ++ A).map zv).reverse)) target)
    (hframes : d' + 2 ≤ R.frames) (hlo : zlo d' + 160 ≤ R.locals) (hc4 : cells + (zCX h - zz h) ≤ R.cells) (hs5 : slots + (zSX h - zs h) ≤ R.slots) :
    ∃ (T' : State) (L : List Loc), Stand p G.1 e R s m args below meth c T' (locs ++ L) (cells + (zz h2 - zz h)) (slots + (zs h2 - zs h)) ∧ zRep G h2 T'.heap ∧ h2.1 = h.1 ∧ zz h ≤ zz h2 ∧ zs h ≤ zs h2 ∧ (∀ z ∈ L, zb h ≤ z.base) ∧
      Steps p.tables e below (doInvoke e (U.setTop g) [] ⟨G.2.1 (70 + i), 1⟩ (.ref b :: A.map zv).toArray).1 (match o' with
        | .inl v => T'.setTop { g with pc := g.pc + len, stack := (v.map zv).toList ++ g.stack }
        | .inr q => (T'.setTop g).pushFrame (.throwing q)) := by
  obtain ⟨k, tk, methk, ck, tc, t, f1, f2, f3, f4, f5, f6, f7, f8, f9, f10, -⟩ := hfw U (State.WarmedH.refl U)
  have hws := pay_in hts lw_self
  have hpk : U.plainMethod ⟨G.2.1 (70 + i), 1⟩ := State.plainMethod.of_name (fun k' hk' => by
    cases f1.symm.trans hk'
    rw [f2]
    have : ∀ j, j < 26 → (zsx j).cls ++ "$$Lambda" = "CsrCalculator$$Lambda" ∨ (zsx j).cls ++ "$$Lambda" = "CsrCalculator$Csr$$Lambda" := by decide +kernel
    by_cases hi : i < 26
    · rcases this i hi with q | q <;> rw [q] <;> decide
    · have e1 : zLS[i]? = none := List.getElem?_eq_none (by show 26 ≤ i; omega)
      unfold zsx
      rw [e1]
      decide)
  have hmn : ((A.map zv).map fun v => v.category).sum ≤ 2 := by
    rcases hdec.2.1 with ⟨rfl, -⟩ | ⟨a1, a2, rfl, -⟩
    · decide
    · exact Nat.le_refl 2
  obtain ⟨Y, hin⟩ := X₁.into hg hsize hdg (.ref b :: A.map zv).toArray (R' := { frames := d' + 1, cells := zCX h - zz h, slots := zSX h - zs h, locals := zlo d' + 100 }) f3 f4 f8 hpk (by show d' + 1 + 1 ≤ R.frames; omega)
    (by show _ + (ck.maxLocals + 11) + (zlo d' + 100) ≤ _; rw [f6]; omega) hc4 hs5
  rw [hin []]
  have hlvA : (lg_sl (.ref b :: A.map zv)).length ≤ ml := by
    rcases hdec.2.1 with ⟨rfl, -⟩ | ⟨a1, a2, rfl, -⟩
    · exact hml
    · exact hml
  have hlv := lv_entry (.ref b :: A.map zv) (n := ml) hlvA
  have hent : entryFrame ⟨G.2.1 (70 + i), 1⟩ (.ref b :: A.map zv).toArray ck.maxLocals = F0 ⟨G.2.1 (70 + i), 1⟩ 0 ((lg_sl (.ref b :: A.map zv) ++ List.replicate (ml - (lg_sl (.ref b :: A.map zv)).length) Slot.unset).toArray) [] := by rw [lg_entry_eq, f6]
  rw [hent] at Y ⊢
  generalize hls : ((lg_sl (.ref b :: A.map zv) ++ List.replicate (ml - (lg_sl (.ref b :: A.map zv)).length) Slot.unset).toArray) = ls at Y hlv ⊢
  have l0 : ls[0]? = some (.val (.ref b)) := hlv.2.2 (0, .ref b) List.mem_cons_self
  obtain ⟨cell, b1, b2, b3, b4, b5⟩ := hr.2.2.2.2 b (by rw [hq]; omega)
  have hak : zarr (70 + i) = false := decide_eq_false (by omega)
  have hTk : ∀ j, zT (70 + i) j = (zLc i).getD j .int := fun j => by unfold zT; rw [hak, if_neg (by decide), if_pos (by omega)]; rw [Nat.add_sub_cancel_left]
  have hNk : zN (70 + i) = (zLc i).length := by unfold zN; rw [if_pos (by omega), Nat.add_sub_cancel_left]
  rw [hq] at b2 b4 b5
  rw [hak, if_neg (by decide), hNk] at b4
  have hVl : V.length = fis.length := by rw [hV, zcapt_len, hfl]
  -- the end of the inner walk
  have hgoal : ∃ (tt : State) (L : List Loc), Steps p.tables e (.java g :: below) (((U.setTop g).pushFrame (.java (F0 ⟨G.2.1 (70 + i), 1⟩ 0 ls []))).setTop (F0 ⟨G.2.1 (70 + i), 1⟩ 0 ls [])) tt ∧ Ended tt (.java g :: below) (zoc o') ∧ (U.calling g ⟨G.2.1 (70 + i), 1⟩ (.ref b :: A.map zv).toArray).WarmedH tt.vm ∧ (U.calling g ⟨G.2.1 (70 + i), 1⟩ (.ref b :: A.map zv).toArray).sameButNew ({ tt with vm := (U.calling g ⟨G.2.1 (70 + i), 1⟩ (.ref b :: A.map zv).toArray).vm } : State) L (zz h2 - zz h) (zs h2 - zs h) ∧ zRep G h2 tt.heap ∧ h2.1 = h.1 ∧ zz h ≤ zz h2 ∧ zs h ≤ zs h2 ∧ ∀ q ∈ L, zb h ≤ q.base := by
    have hFs : zF G h.1 (U.calling g ⟨G.2.1 (70 + i), 1⟩ (.ref b :: A.map zv).toArray) := zF.calling _ _ _ hF
    have main : W p G.1 e ({ frames := d' + 1, cells := zCX h - zz h, slots := zSX h - zs h, locals := zlo d' + 100 } : Room) (U.calling g ⟨G.2.1 (70 + i), 1⟩ (.ref b :: A.map zv).toArray) ⟨G.2.1 (70 + i), 1⟩ (.ref b :: A.map zv).toArray (.java g :: below) methk ck U.heap [] 0 0
        (fun tt => ∃ (L : List Loc), Ended tt (.java g :: below) (zoc o') ∧ (U.calling g ⟨G.2.1 (70 + i), 1⟩ (.ref b :: A.map zv).toArray).WarmedH tt.vm ∧ (U.calling g ⟨G.2.1 (70 + i), 1⟩ (.ref b :: A.map zv).toArray).sameButNew ({ tt with vm := (U.calling g ⟨G.2.1 (70 + i), 1⟩ (.ref b :: A.map zv).toArray).vm } : State) L (zz h2 - zz h) (zs h2 - zs h) ∧ zRep G h2 tt.heap ∧ h2.1 = h.1 ∧ zz h ≤ zz h2 ∧ zs h ≤ zs h2 ∧ ∀ q ∈ L, zb h ≤ q.base) (F0 ⟨G.2.1 (70 + i), 1⟩ 0 ls []) := by
      refine zfw_caps (cell := cell) (vals := V.map zv) (fi := fun j => fis.getD j 0) hexec f5 l0 b1 (zunk b3) (fun j hj => hdec.1 j (by rw [List.length_map, hVl] at hj; exact hj)) (fun j v hv => ?_) (V.length) (by rw [List.length_map]; exact Nat.le_refl _) ?_
      · rw [List.getElem?_map, Option.map_eq_some_iff] at hv
        obtain ⟨u, hu, rfl⟩ := hv
        have hj : j < fis.length := by rw [← hVl]; exact (List.getElem?_eq_some_iff.mp hu).1
        have hfj : fis[j]? = some (fis.getD j 0) := by rw [List.getD_eq_getElem?_getD, List.getElem?_eq_getElem hj]; rfl
        obtain ⟨k0, tk0, methk0, ck0, tc0, t0, -, -, -, -, -, -, -, -, -, -, -, -, -, -, hfs0, -⟩ := hfw U (State.WarmedH.refl U)
        obtain ⟨f0, z1, -, z3, z4⟩ := hfs0 j _ hfj
        refine ⟨f0, fun W hW => ?_, z3, ?_⟩
        · obtain ⟨k1, tk1, methk1, ck1, tc1, t1, -, -, -, -, -, -, -, -, -, -, -, -, -, -, hfs1, -⟩ := hfw W hW
          obtain ⟨f1', y1, y2, -, -⟩ := hfs1 j _ hfj
          cases z1.symm.trans y1
          exact y2
        · rw [z4]
          have h7 := b5 j (by rw [b4, ← hfl]; exact hj)
          rw [hF.2.2.2.2.2.2 (70 + i) j (by omega), hTk] at h7
          rw [h7, hV] at *
          rw [zcapt_val hu]
      · have e1 : ((V.map zv).take V.length) = V.map zv := by rw [List.take_of_length_le]; rw [List.length_map]; exact Nat.le_refl _
        rw [e1, hVl]
        have atInv : W p G.1 e ({ frames := d' + 1, cells := zCX h - zz h, slots := zSX h - zs h, locals := zlo d' + 100 } : Room) (U.calling g ⟨G.2.1 (70 + i), 1⟩ (.ref b :: A.map zv).toArray) ⟨G.2.1 (70 + i), 1⟩ (.ref b :: A.map zv).toArray (.java g :: below) methk ck U.heap [] 0 0
            (fun tt => ∃ (L : List Loc), Ended tt (.java g :: below) (zoc o') ∧ (U.calling g ⟨G.2.1 (70 + i), 1⟩ (.ref b :: A.map zv).toArray).WarmedH tt.vm ∧ (U.calling g ⟨G.2.1 (70 + i), 1⟩ (.ref b :: A.map zv).toArray).sameButNew ({ tt with vm := (U.calling g ⟨G.2.1 (70 + i), 1⟩ (.ref b :: A.map zv).toArray).vm } : State) L (zz h2 - zz h) (zs h2 - zs h) ∧ zRep G h2 tt.heap ∧ h2.1 = h.1 ∧ zz h ≤ zz h2 ∧ zs h ≤ zs h2 ∧ ∀ q ∈ L, zb h ≤ q.base) (F0 ⟨G.2.1 (70 + i), 1⟩ pcI ls ((V ++ A).map zv).reverse) := by
          intro T2 hT2 X2
          have hW2 : U.WarmedH T2.vm := X2.warmed
          obtain ⟨mT, hn2, hstep2⟩ := hinv _ _ _ _ _ _ T2 [] ls X2 hT2 hW2 (State.WarmedH.trans X₁.warmed hW2) f5
          have hdI : decode ck.code pcI = .ok (inv, 3) := by rw [f5]; exact hdec.2.2.1
          obtain ⟨T3, L, X3, hrep, henv, hzz, hzs, hL', hsteps⟩ := zback hM hsx hstt X2 (g := F0 ⟨G.2.1 (70 + i), 1⟩ pcI ls []) rfl (by rw [f6]; exact hlv.1) hdI (by show 2 * 0 + 0 ≤ 8; omega) hn2 ⟨by rw [hT2]; exact hr, hFs.rides X2.warmed X2.same⟩ (fun w hw => hws w hw _ _ X₁.warmed) hcw hini (Nat.le_refl _) (by show _ ≤ zlo d' + 100; omega) (by show 0 + _ ≤ zCX h - zz h; omega) (by show 0 + _ ≤ zSX h - zs h; omega)
          rw [List.nil_append, Nat.zero_add, Nat.zero_add] at X3
          have hdR : decode (⟨bytes.toArray⟩ : ByteArray) (pcI + 3) = .ok (ret, 1) := hdec.2.2.2
          have hrk : methk.sig.returnType = some rt := f10.trans hrt
          have fin : ∀ (v : zV) (tt : State), o' = .inl (some v) → MQ (.java g :: below) (fun _ _ oc t => oc = .returned (some (zv v)) ∧ t.heap = T3.heap) (.ref b :: A.map zv).toArray (U.calling g ⟨G.2.1 (70 + i), 1⟩ (.ref b :: A.map zv).toArray) (zz h2 - zz h) (zs h2 - zs h) (fun q => zb h ≤ q) tt → (∃ (L : List Loc), Ended tt (.java g :: below) (zoc o') ∧ (U.calling g ⟨G.2.1 (70 + i), 1⟩ (.ref b :: A.map zv).toArray).WarmedH tt.vm ∧ (U.calling g ⟨G.2.1 (70 + i), 1⟩ (.ref b :: A.map zv).toArray).sameButNew ({ tt with vm := (U.calling g ⟨G.2.1 (70 + i), 1⟩ (.ref b :: A.map zv).toArray).vm } : State) L (zz h2 - zz h) (zs h2 - zs h) ∧ zRep G h2 tt.heap ∧ h2.1 = h.1 ∧ zz h ≤ zz h2 ∧ zs h ≤ zs h2 ∧ ∀ q ∈ L, zb h ≤ q.base) := by
            intro v tt ho hQ
            obtain ⟨oc, r1, r2, ⟨rfl, r3⟩, L9, ⟨-, r4, r5⟩, r6⟩ := hQ
            subst ho
            exact ⟨L9, r2, r4, r5, by rw [r3]; exact hrep, henv, hzz, hzs, r6⟩
          rcases hret with ⟨q, rfl⟩ | ⟨x, rfl, rfl, hx, rfl⟩ | ⟨x, rfl, rfl, rfl⟩ | ⟨C9, x, rfl, rfl, rfl⟩
          · obtain ⟨cn, hcn⟩ := hthr q rfl
            obtain ⟨cq, w1, w2, w3, w4, kC, w5⟩ := zcls hrep (hFs) (by exact hcn)
            obtain ⟨vm', hW', X', st⟩ := X3.outThrough f8 q (g := F0 ⟨G.2.1 (70 + i), 1⟩ pcI ls []) rfl rfl rfl (cell := cq) w1 w3 ⟨kC, w5⟩ (fun z hz => by rw [f7] at hz; cases hz)
            obtain ⟨g₀, hfr⟩ := X'.frames_eq
            have hend : Ended ((T3.setVm vm').setFrames (.throwing q :: .java g :: below)) (.java g :: below) (.threw q) := State.frames_setFrames _ (State.cur_lt_of_frames hfr)
            refine ⟨(T3.setVm vm').setFrames (.throwing q :: .java g :: below), hstep2 _ (fun acts => ?_), L, hend, (X'.ends _).1, (X'.ends _).2, hrep, henv, hzz, hzs, hL'⟩
            rw [doInvoke_state]
            refine hsteps.trans ?_
            show Steps p.tables e _ ((T3.setTop (F0 ⟨G.2.1 (70 + i), 1⟩ pcI ls [])).pushFrame (.throwing q)) _
            rw [X3.pushThrowing_eq]
            exact st
          · obtain ⟨tt, a1, a2⟩ := (W.zret (free := fun q => zb h ≤ q) (Qc := fun _ _ oc t => oc = .returned (some (zv (vI x))) ∧ t.heap = T3.heap) (v := x) hexec f5 hrk (znarZ hx) (fun t ht _ => ⟨rfl, ht⟩) hL' hdR f8) T3 rfl X3
            exact ⟨tt, hstep2 _ (fun acts => by rw [doInvoke_state]; exact hsteps.trans a1), fin _ tt rfl a2⟩
          · obtain ⟨tt, a1, a2⟩ := (W.lret (free := fun q => zb h ≤ q) (Qc := fun _ _ oc t => oc = .returned (some (zv (vJ x))) ∧ t.heap = T3.heap) (v := x) hexec f5 hrk (fun t ht _ => ⟨rfl, ht⟩) hL' hdR f8) T3 rfl X3
            exact ⟨tt, hstep2 _ (fun acts => by rw [doInvoke_state]; exact hsteps.trans a1), fin _ tt rfl a2⟩
          · obtain ⟨tt, a1, a2⟩ := (W.aret (free := fun q => zb h ≤ q) (Qc := fun _ _ oc t => oc = .returned (some (zv (vR x))) ∧ t.heap = T3.heap) (v := zv (vR x)) hexec f5 hrk (Or.inl ⟨_, rfl⟩) (by cases x with
              | none => exact Or.inl rfl
              | some a => exact Or.inr ⟨a, rfl⟩) (fun t ht _ => ⟨rfl, ht⟩) hL' hdR f8) T3 rfl X3
            exact ⟨tt, hstep2 _ (fun acts => by rw [doInvoke_state]; exact hsteps.trans a1), fin _ tt rfl a2⟩
        rcases hdec.2.1 with ⟨rfl, hpc⟩ | ⟨a1, a2, rfl, hpc, dl1, dl2⟩
        · rw [List.append_nil, hpc] at atInv
          rw [← List.map_reverse] at atInv ⊢
          exact atInv
        · have l1 : ls[1]? = some (.val (.int a1)) := hlv.2.2 (1, .int a1) (List.mem_cons_of_mem _ List.mem_cons_self)
          have l2 : ls[2]? = some (.val (.int a2)) := hlv.2.2 (2, .int a2) (List.mem_cons_of_mem _ (List.mem_cons_of_mem _ List.mem_cons_self))
          refine lv_iload_n hexec f5 dl1 rfl l1 ?_
          refine lv_iload_n hexec f5 dl2 rfl l2 ?_
          rw [hpc] at atInv
          have e2 : ((V ++ [vI a1, vI a2]).map zv).reverse = .int a2 :: .int a1 :: (V.map zv).reverse := by simp [zv]
          rw [e2] at atInv
          exact atInv
    obtain ⟨tt, a1, L, b1', b2', b3', b4', b5', b6', b7', b8'⟩ := main _ (show ((((U.setTop g).pushFrame (.java (F0 ⟨G.2.1 (70 + i), 1⟩ 0 ls []))).heap = U.heap)) from rfl) Y
    exact ⟨tt, L, a1, b1', b2', b3', b4', b5', b6', b7', b8'⟩
  obtain ⟨tt, L, a1, b1', b2', b3', b4', b5', b6', b7', b8'⟩ := hgoal
  have a1' : Steps p.tables e below (((U.setTop g).pushFrame (.java (F0 ⟨G.2.1 (70 + i), 1⟩ 0 ls []))).setTop (F0 ⟨G.2.1 (70 + i), 1⟩ 0 ls [])) tt := Steps.weaken (mid := [.java g]) a1
  cases o' with
  | inl v =>
    obtain ⟨T', X', hW', -, ht⟩ := X₁.outOf hg hdg b1' b2' b3'
    refine ⟨T', L, X', ?_, b5', b6', b7', b8', ?_⟩
    · have : tt.heap = T'.heap := by rw [ht]; rfl
      rw [← this]; exact b4'
    · show Steps p.tables e below _ (T'.setTop { g with pc := g.pc + len, stack := (v.map zv).toList ++ g.stack })
      have ht2 : tt = T'.setTop { g with pc := g.pc + len, stack := (v.map zv).toList ++ g.stack } := ht
      rw [← ht2]
      exact a1'
  | inr q =>
    obtain ⟨T', X', hW', -, ht⟩ := X₁.outOfThrown hg b1' b2' b3'
    refine ⟨T', L, X', ?_, b5', b6', b7', b8', ?_⟩
    · have : tt.heap = T'.heap := by rw [ht]; rfl
      rw [← this]; exact b4'
    · show Steps p.tables e below _ ((T'.setTop g).pushFrame (.throwing q))
      rw [← ht]
      exact a1'
end ZFC2
section ZFC3
variable {G : zG} {M : zM} {d : Nat} {h0 h9 h : zH} {o : zO} {pc : Nat} {lv : zL} {st : List zV}
/-- site i, its forwarder, its target -/
def zSite (i : Nat) (x : MethodName) (M' : zM) (bytes : List UInt8) (ml : Nat) (fis : List Nat) (mi : Nat) (rt : FieldType) (nA : Nat) : Prop :=
  zfchk i bytes ml fis mi = true ∧ (∃ (x0 : MethodName) (pc0 ix0 : Nat) (σ : Lambda.Shape), zLS[i]? = some (.lambdaSite x0 pc0 ix0 σ)) ∧ x = ⟨(zsg i).iface, (zsg i).name, (zsg i).sam.toString⟩ ∧ M'.1 = ⟨(zsg i).implClass, (zsg i).implName, (zsg i).implDesc.toString⟩ ∧ (zsg i).sam.returnType = some rt ∧ x ∈ zIM ∧ (parseMethodDescriptor x.desc).map (fun d => d.parameters.length) = some nA ∧ fis.length = (zLc i).length ∧ 1 + nA ≤ ml ∧ ml ≤ 3
theorem zIM_ok : ∀ x ∈ zIM, x ∈ zDE ∧ x.cls ≠ "java/lang/invoke/MethodHandle" ∧ x.cls ≠ "java/lang/invoke/VarHandle" := by decide +kernel
theorem zw_lamCall {M' : zM} {d' n idx count b mi ml pcI nA : Nat} {A V : List zV} (rest : List zV) {o' : zO} {h2 : zH} {x : MethodName} {bytes : List UInt8} {fis : List Nat} {inv ret : Instr} {rt : FieldType} (i : Nat)
    (hd : decode M.2.1 pc = .ok (.invokeinterface idx count, 5)) (hl : Cond.methodLink M.1.cls idx x ∈ lw_all) (hsite : zSite i x M' bytes ml fis mi rt nA) (hdec : zfdec ⟨bytes.toArray⟩ fis A pcI inv ret) (hnA : A.length = nA) (hm : zMb M' n) (hq : zk h b = 70 + i) (hV : V = zcapt i b h) (hret : zfret rt ret o')
    (hM : zMet G M' d' (V ++ A) h o' h2) (hthr : ∀ q, o' = .inr q → ∃ cn, zkn (zk h2 q) = some cn)
    (hinv : ∀ (s U : State) (a0 : Array Value), s.WarmedH U.vm → (∀ w ∈ lw_all, w.before a0 s = true) → zF G h.1 s → zRep G h U.heap → (∀ W : State, U.WarmedH W.vm → zfwF i (G.2.1 (70 + i)) bytes ml fis mi W) → ∀ (p : Program) (e : Env) (R' : Room) (s' : State) (a : Array Value) (below' : List Frame) (methk : Method) (ck : Code) (T2 : State) (locs2 : List Loc) (ls : Array Slot), p.tables.exec = Jvm.exec → Stand p G.1 e R' s' ⟨G.2.1 (70 + i), 1⟩ a below' methk ck T2 locs2 0 0 → T2.heap = U.heap → U.WarmedH T2.vm → s.WarmedH T2.vm → ck.code = ⟨bytes.toArray⟩ →
      ∃ mT, T2.methodNamed? M'.1 = some mT ∧ ∀ target, (∀ acts, Steps p.tables e below' (doInvoke e (T2.setTop (F0 ⟨G.2.1 (70 + i), 1⟩ pcI ls [])) acts mT ((V ++ A).map zv).toArray).1 target) → Steps p.tables e below' (T2.setTop (F0 ⟨G.2.1 (70 + i), 1⟩ pcI ls ((V ++ A).map zv).reverse)) target)
    (hd' : d' + 2 ≤ d) (hst : st = A.reverse ++ vR (some b) :: rest) (hw : (rest.map zc).sum ≤ 8)
    (kv : ∀ v, o' = .inl v → zW G M d h0 o h9 (pc + 5) lv (v.toList ++ rest) h2) (kx : ∀ q, o' = .inr q → zX G M d h0 o h9 pc lv q h2) : zW G M d h0 o h9 pc lv st h := by
  intro p e R s m args below meth c Q H locs ls C hr h1 hz hs hL hlv
  intro T hT X
  obtain ⟨hchk, ⟨x0, pc0, ix0, σ, hi⟩, hx, hM1, hrt, hxI, hxn, hfl, hml, hml2⟩ := hsite
  have hts := C.2.2.2.2.2.1
  have hF := C.2.2.2.2.2.2.2.2.2.1
  have hws := pay_in hts lw_self
  have hσ : zsg i = σ := by unfold zsg; rw [hi]
  have hx0 : zsx i = x0 := by unfold zsx; rw [hi]
  have hat := (hF.2.2.2.2.2.1 i _ hi).1
  obtain ⟨m', kS, cfS, i0, p0, lk, hm', hkS, hcfS, hsh, -, hfind, hmade, hcan, -⟩ := State.lambdaAt?_spec hat
  obtain ⟨kS', hkS', hnameS⟩ := className_of_methodNamed hm'
  cases hkS.symm.trans hkS'
  have hfwAll : ∀ W : State, s.WarmedH W.vm → zfwF i (G.2.1 (70 + i)) bytes ml fis mi W := by
    intro W hW
    obtain ⟨kW, hkW, heW⟩ := hW.alike.2.2 _ _ hkS
    exact zfwOK hchk (args := args) (hws _ q3088 _ _ hW) hkW (by rw [heW, hx0]; exact hnameS) (by rw [hσ]; exact Lambda.isMade_warmer hW hmade)
  obtain ⟨cell, b1, b2, b3, b4, b5⟩ := hr.2.2.2.2 b (by rw [hq]; omega)
  rw [hq] at b2
  obtain ⟨k, tk, methk, ck, tc, t, f1, f2, f3, f4, f5, f6, f7, f8, f9, f10, -⟩ := hfwAll s (State.WarmedH.refl s)
  obtain ⟨hxD, hxm⟩ := zIM_ok x hxI
  obtain ⟨r0, r, hn0, hrm, hstR, hsigR⟩ := Cond.declares_spec (va_Nw.use (A := args) rfl (hF.1.2.2.2.2.2.2.2.2.1 _ hxD))
  obtain ⟨cL, kL, r1, hcL, hkL, hiL, hfoundL, hn1⟩ := Cond.interfaceMethod_spec (hF.1.2.2.2.2.2.2.2.2.2.1.2.2 _ hxI)
  cases hn0.symm.trans hn1
  have hr0cls : r0.cls = cL := Option.some.inj ((findClass_of_methodNamed hn0).symm.trans hcL)
  obtain ⟨hnameR, hdescR⟩ := name_of_methodNamed hn0 hrm
  obtain ⟨-, -, -, -, -, -, -, iface', -, -, -, -, found, -, -, -, -, -, hi', -, -, -, -, -, -, hfound', -, -, -, -, -, -, -, -, -, -, hsel⟩ := Lambda.isMade_spec hmade
  rw [hσ] at hx
  have hxc : x.cls = σ.iface := by rw [hx]
  have hxn' : x.name = σ.name := by rw [hx]
  have hxd : x.desc = σ.sam.toString := by rw [hx]
  rw [hxc] at hcL
  cases hcL.symm.trans hi'
  have hfr : found = r0 := by
    rw [hxc, hxn', hxd] at hfoundL
    simp only [State.methodFound?, hcL, hkL, hiL, Option.bind_eq_bind, Option.bind_some] at hfoundL
    rw [hfound'] at hfoundL
    exact Option.some.inj hfoundL
  subst hfr
  obtain ⟨i2, hi2, hasg, hway⟩ := State.lambdaCallable_spec hcan
  cases hcL.symm.trans hi2
  have hst2 := zst2 (p := pc) (m := m) (ls := ls) hst
  have hlen : (A.map zv).length = r.sig.parameters.length := by
    rw [List.length_map, hnA]
    have := hxn
    rw [hsigR] at this
    exact (Option.some.inj this).symm
  obtain ⟨vm₁, X₁, hstep₁⟩ := X.invokeinterface C.1 C.2.2.2.2.1 (hts _ hl) hn0 hrm hstR (by rw [hr0cls]; exact hkL) hiL hxm (a := b) (cell := cell) (kcell := k) (by rw [hT]; exact b1)
    (fun z h => by rw [b3] at h; cases h) (by rw [b2]; exact f1) (by rw [hr0cls, b2]; exact hasg) (m' := ⟨G.2.1 (70 + i), 1⟩) (meth' := methk) (by rw [Launch.admits_selectMethod X.admits, b2]; exact hsel) f3 (by rw [hnameR, hdescR, hxn', hxd, b2]; exact hway) (by rw [f9]; decide) (by simp [Method.isAbstract, f9, hasFlag, Acc.abstract])
    (g := F0 m pc ls (st.map zv)) rfl (argsL := A.map zv) (rest := rest.map zv) hlen hst2 (by rw [C.2.1]; exact hd)
  obtain ⟨rf, rl, rc, rs⟩ := C.2.2.2.2.2.2.2.2.2.2.2.1
  have eCX : zCX h = zCX h0 := by show h.1.2.1 = h0.1.2.1; rw [h1]
  have eSX : zSX h = zSX h0 := by show h.1.2.2.1 = h0.1.2.2.1; rw [h1]
  have hF1 : zF G h.1 (T.setVm vm₁) := by rw [h1]; exact hF.rides X₁.warmed X₁.same
  obtain ⟨-, hc1, hc2⟩ := hr.2.1
  have hlo : zlo d' + 160 ≤ zlo d := by unfold zlo; omega
  obtain ⟨w1, w2, w3, -, w5⟩ := id hm
  have hrT : zRep G h (T.setVm vm₁).heap := by show zRep G h T.heap; rw [hT]; exact hr
  have hfw1 : ∀ W : State, (T.setVm vm₁).WarmedH W.vm → zfwF i (G.2.1 (70 + i)) bytes ml fis mi W := fun W hW => hfwAll W (State.WarmedH.trans X₁.warmed hW)
  obtain ⟨T', L, X', hrep, henv, hzz, hzs, hL', hsteps⟩ := zfwRun C.1 hts X₁ hrT hF1 (by rw [eSX]; exact C.2.2.2.2.2.2.2.2.2.2.2.2.1) C.2.2.2.2.2.2.2.2.2.2.2.2.2.1 (g := F0 m pc ls (rest.map zv)) rfl (by rw [C.2.2.2.1]; exact hlv.1) (by rw [C.2.1]; exact hd) (by rw [zcats]; show 2 * 0 + _ ≤ 8; omega) hq hfw1
    hV hfl hdec (by rw [hnA]; exact hml) hml2 hrt hret hM w1 w2 w5 hthr (fun R' s' a below' methk ck T2 locs2 ls => hinv s (T.setVm vm₁) args X₁.warmed hts (by rw [h1]; exact hF) hrT hfw1 p e R' s' a below' methk ck T2 locs2 ls C.1) (Nat.le_trans hd' rf) (by omega) (by omega) (by omega)
  have q1 : zz h - zz h0 + (zz h2 - zz h) = zz h2 - zz h0 := by omega
  have q2 : zs h - zs h0 + (zs h2 - zs h) = zs h2 - zs h0 := by omega
  rw [q1, q2] at X'
  have hL2 : ∀ q ∈ locs ++ L, zb h0 ≤ q.base := fun x hx => by
    rcases List.mem_append.mp hx with hx | hx
    · exact hL x hx
    · have := hL' x hx
      show h0.1.1 ≤ x.base
      rw [← h1]; exact this
  have hentry : ∀ target, Steps p.tables e below (doInvoke e ((T.setVm vm₁).setTop (F0 m pc ls (rest.map zv))) [] ⟨G.2.1 (70 + i), 1⟩ (.ref b :: A.map zv).toArray).1 target → Steps p.tables e below (T.setTop (F0 m pc ls (st.map zv))) target := fun target ht => hstep₁ _ fun acts => by rw [doInvoke_state]; exact ht
  cases o' with
  | inl v =>
    obtain ⟨t, a1, b1⟩ := kv v rfl p e R s m args below meth c Q T'.heap (locs ++ L) ls C hrep (henv.trans h1) (Nat.le_trans hz hzz) (Nat.le_trans hs hzs) hL2 hlv T' rfl X'
    refine ⟨t, hentry t (hsteps.trans ?_), b1⟩
    have ev : (v.map zv).toList ++ rest.map zv = (v.toList ++ rest).map zv := by cases v <;> simp
    show Steps p.tables e below (T'.setTop (F0 m (pc + 5) ls ((v.map zv).toList ++ rest.map zv))) t
    rw [ev]
    exact a1
  | inr q =>
    obtain ⟨t, a1, b1⟩ := kx q rfl p e R s m args below meth c Q T'.heap (locs ++ L) ls (rest.map zv) C hrep (henv.trans h1) (Nat.le_trans hz hzz) (Nat.le_trans hs hzs) hL2 hlv T' rfl X'
    exact ⟨t, hentry t (hsteps.trans a1), b1⟩
/-- the target is a static method -/
theorem zfinvS {i mi ml pcI n : Nat} {A V : List zV} {M' : zM} {bytes : List UInt8} {fis : List Nat} (hdI : decode (⟨bytes.toArray⟩ : ByteArray) pcI = .ok (.invokestatic mi, 3)) (hm : zMs M' n) (hM1 : M'.1 = ⟨(zsg i).implClass, (zsg i).implName, (zsg i).implDesc.toString⟩) (hn : (V ++ A).length = n) :
    ∀ (s U : State) (a0 : Array Value), s.WarmedH U.vm → (∀ w ∈ lw_all, w.before a0 s = true) → zF G h.1 s → zRep G h U.heap → (∀ W : State, U.WarmedH W.vm → zfwF i (G.2.1 (70 + i)) bytes ml fis mi W) → ∀ (p : Program) (e : Env) (R' : Room) (s' : State) (a : Array Value) (below' : List Frame) (methk : Method) (ck : Code) (T2 : State) (locs2 : List Loc) (ls : Array Slot), p.tables.exec = Jvm.exec → Stand p G.1 e R' s' ⟨G.2.1 (70 + i), 1⟩ a below' methk ck T2 locs2 0 0 → T2.heap = U.heap → U.WarmedH T2.vm → s.WarmedH T2.vm → ck.code = ⟨bytes.toArray⟩ →
      ∃ mT, T2.methodNamed? M'.1 = some mT ∧ ∀ target, (∀ acts, Steps p.tables e below' (doInvoke e (T2.setTop (F0 ⟨G.2.1 (70 + i), 1⟩ pcI ls [])) acts mT ((V ++ A).map zv).toArray).1 target) → Steps p.tables e below' (T2.setTop (F0 ⟨G.2.1 (70 + i), 1⟩ pcI ls ((V ++ A).map zv).reverse)) target := by
  intro s U a0 hsU hts hF hr hfw p e R' s' a below' methk ck T2 locs2 ls hexec X2 hT2 hU2 hs2 hck
  have hws := pay_in hts lw_self
  obtain ⟨hm, hstat⟩ := hm
  obtain ⟨w1, w2, w3, -, w5⟩ := id hm
  have hcode0 := hws _ w1 #[] T2 hs2
  have hnamed : ∃ mk, T2.methodNamed? M'.1 = some mk := by
    revert hcode0
    unfold zcw
    cases M'.2.2.2.2 with
    | nil => exact fun q => Cond.code_named q
    | cons x hh => intro q; obtain ⟨m9, _, _, q9, -⟩ := Cond.codeWith_spec q; exact ⟨m9, q9⟩
  obtain ⟨mk, hnamed⟩ := hnamed
  obtain ⟨methM, cM, hmethM, -, -, -, -, -, -, hsigM⟩ := zcw_spec hnamed hcode0
  have hstatic : methM.isStatic = true := Cond.static_spec hnamed hmethM (hws _ hstat #[] T2 hs2)
  obtain ⟨kP, hkP, hnameP⟩ := className_of_methodNamed hnamed
  have hinitP : kP.init = .initialized := Cond.initialized_spec (findClass_of_methodNamed hnamed) hkP (hws _ w2 #[] T2 hs2)
  obtain ⟨k, tk, methk2, ck2, tc, t, f1, f2, -, -, -, -, -, -, -, -, f11, f12, f13, f14, -, f16, ci, nt, file, f17, f18, f19, f20⟩ := hfw T2 hU2
  have hfind := findClass_of_methodNamed hnamed
  have e1 : M'.1.cls = (zsg i).implClass := by rw [hM1]
  have e2 : M'.1.name = (zsg i).implName := by rw [hM1]
  have e3 : M'.1.desc = (zsg i).implDesc.toString := by rw [hM1]
  rw [e1] at hfind
  cases f11.symm.trans hfind
  cases f12.symm.trans hkP
  have ht : t = mk := by
    have h1 := State.methodFound?_of_named hnamed w3
    rw [e1, e2, e3] at h1
    simp only [State.methodFound?, f11, f12, Option.bind_eq_bind, Option.bind_some] at h1
    rw [f14] at h1
    exact Option.some.inj h1
  subst ht
  have hnm : kP.name ≠ "java/lang/invoke/MethodHandle" ∧ kP.name ≠ "java/lang/invoke/VarHandle" := by rw [hnameP]; exact w3
  have hsp : ∀ y : Method, signaturePolymorphic kP y = false := fun y => by simp [signaturePolymorphic, hnm.1, hnm.2]
  obtain ⟨b9, hmem⟩ := memberRef_ask' (e := e) (vm := T2.vm) (d := G.2.1 (70 + i)) (index := mi) f1 f18 (Or.inl f19) f20
  refine ⟨t, hnamed, fun target htg => ?_⟩
  have := zfw_invS (cc := ⟨bytes.toArray⟩) (rest := []) (ls := ls) X2 hexec hck (argsL := (V ++ A).map zv) hdI ⟨ci, _, _, b9, t.cls, kP, hmem, f17, f12, by simp [hsp]⟩ f16 f12 hmethM (hsp _) hstatic hinitP (by rw [List.length_map, hn]; exact hm.len _ hsigM) htg
  rw [List.append_nil] at this
  exact this
/-- the target is a private method of what was caught first -/
theorem zfinvV {i mi ml pcI n v0 : Nat} {A V V' : List zV} {M' : zM} {cn : String} {bytes : List UInt8} {fis : List Nat} (hdI : decode (⟨bytes.toArray⟩ : ByteArray) pcI = .ok (.invokevirtual mi, 3)) (hm : zMi M' n) (hpv : M'.1 ∈ zPV) (hM1 : M'.1 = ⟨(zsg i).implClass, (zsg i).implName, (zsg i).implDesc.toString⟩) (hitf : (zsg i).implItf = false) (hV : V = vR (some v0) :: V') (hn : (V' ++ A).length = n) (hq : zkn (zk h v0) = some cn) :
    ∀ (s U : State) (a0 : Array Value), s.WarmedH U.vm → (∀ w ∈ lw_all, w.before a0 s = true) → zF G h.1 s → zRep G h U.heap → (∀ W : State, U.WarmedH W.vm → zfwF i (G.2.1 (70 + i)) bytes ml fis mi W) → ∀ (p : Program) (e : Env) (R' : Room) (s' : State) (a : Array Value) (below' : List Frame) (methk : Method) (ck : Code) (T2 : State) (locs2 : List Loc) (ls : Array Slot), p.tables.exec = Jvm.exec → Stand p G.1 e R' s' ⟨G.2.1 (70 + i), 1⟩ a below' methk ck T2 locs2 0 0 → T2.heap = U.heap → U.WarmedH T2.vm → s.WarmedH T2.vm → ck.code = ⟨bytes.toArray⟩ →
      ∃ mT, T2.methodNamed? M'.1 = some mT ∧ ∀ target, (∀ acts, Steps p.tables e below' (doInvoke e (T2.setTop (F0 ⟨G.2.1 (70 + i), 1⟩ pcI ls [])) acts mT ((V ++ A).map zv).toArray).1 target) → Steps p.tables e below' (T2.setTop (F0 ⟨G.2.1 (70 + i), 1⟩ pcI ls ((V ++ A).map zv).reverse)) target := by
  intro s U a0 hsU hts hF hr hfw p e R' s' a below' methk ck T2 locs2 ls hexec X2 hT2 hU2 hs2 hck
  have hws := pay_in hts lw_self
  obtain ⟨hm, hinst⟩ := hm
  obtain ⟨w1, w2, w3, -, w5⟩ := id hm
  obtain ⟨mk, methM, hnamed, hmethM, hstM, habM⟩ := Cond.instanceMethod_spec (hws _ hinst #[] T2 hs2)
  obtain ⟨methM', cM, hmethM', -, -, -, -, -, -, hsigM⟩ := zcw_spec hnamed (hws _ w1 #[] T2 hs2)
  cases hmethM.symm.trans hmethM'
  obtain ⟨kP, hkP, hnameP⟩ := className_of_methodNamed hnamed
  obtain ⟨k, tk, methk2, ck2, tc, t, f1, f2, -, -, -, -, -, -, -, -, f11, f12, f13, f14, -, f16, ci, nt, file, f17, f18, f19, f20⟩ := hfw T2 hU2
  have hfind := findClass_of_methodNamed hnamed
  have e1 : M'.1.cls = (zsg i).implClass := by rw [hM1]
  have e2 : M'.1.name = (zsg i).implName := by rw [hM1]
  have e3 : M'.1.desc = (zsg i).implDesc.toString := by rw [hM1]
  rw [e1] at hfind
  cases f11.symm.trans hfind
  cases f12.symm.trans hkP
  have ht : t = mk := by
    have h1 := State.methodFound?_of_named hnamed w3
    rw [e1, e2, e3] at h1
    simp only [State.methodFound?, f11, f12, Option.bind_eq_bind, Option.bind_some] at h1
    rw [f14] at h1
    exact Option.some.inj h1
  subst ht
  have hnm : kP.name ≠ "java/lang/invoke/MethodHandle" ∧ kP.name ≠ "java/lang/invoke/VarHandle" := by rw [hnameP]; exact w3
  have hsp : ∀ y : Method, signaturePolymorphic kP y = false := fun y => by simp [signaturePolymorphic, hnm.1, hnm.2]
  have hpriv : methM.isPrivate = true := (zPv.moved hs2.alike hF.1.2.2.2.2.2.2.2.2.2.1.2.1) _ hpv _ _ hnamed hmethM
  obtain ⟨cell, c1, c2, c3, c4, -⟩ := zcls hr hF hq
  refine ⟨t, hnamed, fun target htg => ?_⟩
  have := zfw_invV (cc := ⟨bytes.toArray⟩) (rest := []) (ls := ls) X2 hexec hck (a := v0) (cell := cell) (argsL := (V' ++ A).map zv) hdI ⟨k, file, ci, nt, t.cls, kP, f1, f18, f19, f17, f12, f13.trans hitf⟩ f16 f12 hmethM (hsp _) hstM (by rw [List.length_map, hn]; exact hm.len _ hsigM) (by rw [hT2]; exact c1) (fun z hh => by rw [hh] at c3; cases c3) (selectMethod_private hmethM hpriv) hmethM habM f12 (f13.trans hitf) (target := target) (fun acts => by
    have := htg acts
    rw [hV] at this
    exact this)
  have e9 : ((V ++ A).map zv).reverse = ((V' ++ A).map zv).reverse ++ [.ref v0] := by rw [hV]; simp [zv, va_rf]
  rw [e9]
  exact this
end ZFC3
