/-! THE z LAYER, 24: rows of a forwarder's walk -/
section ZFW
variable {p : Program} {l : Launch} {e : Env} {R : Room} {s : State} {m : MethodId} {args : Array Value} {below : List Frame} {meth : Method} {c : Code} {H : Heap} {locs : List Loc} {cells slots : Nat} {Q : State → Prop} {cc : ByteArray} {pc : Nat} {ls : Array Slot} {rest : List Value}
theorem zfw_getf {a idx : Nat} {f : Field} {cell : Cell} {v : Value} (hexec : p.tables.exec = Jvm.exec) (hb : c.code = cc) (hready : ∀ U : State, s.WarmedH U.vm → U.vm.fieldReady m.cls idx m.cls f) (hfs : f.isStatic = false) (hcell : H[a]? = some cell) (hknown : cell.vm ≠ .unknown) (hslot : cell.slots[f.slot]? = some v) (hd : decode cc pc = .ok (.getfield idx, 3))
    (k : W p l e R s m args below meth c H locs cells slots Q (F0 m (pc + 3) ls (v :: rest))) : W p l e R s m args below meth c H locs cells slots Q (F0 m pc ls (.ref a :: rest)) := by
  intro T hT X
  obtain ⟨t, a1, b1⟩ := k T hT X
  refine ⟨t, ?_, b1⟩
  have hd' : decode c.code pc = .ok (.getfield idx, 3) := by rw [hb]; exact hd
  jvm_step X.here [hexec, hd', getfield.wp_ready (e := e) (s := T) (c := m.cls) (field := f) (a := a) (rest := rest) (cell := cell) (v := v) (f := F0 m pc ls (.ref a :: rest)) X.here.top (hready T X.warmed) hfs rfl (by rw [hT]; exact hcell) hknown hslot]
  exact a1
theorem zfw_invV {T : State} (X : Stand p l e R s m args below meth c T locs cells slots) (hexec : p.tables.exec = Jvm.exec) (hb : c.code = cc) {idx a : Nat} {r t : MethodId} {kr kt : Class} {methr metht : Method} {cell : Cell} {argsL : List Value} (hd : decode cc pc = .ok (.invokevirtual idx, 3))
    (hnamed : namesAClass T m.cls idx) (hr : T.vm.methodReady m.cls idx r) (hkr : T.vm.classes[r.cls]? = some kr) (hmr : T.vm.method? r = some methr) (hpoly : signaturePolymorphic kr methr = false) (hstatic : methr.isStatic = false) (hlen : argsL.length = methr.sig.parameters.length)
    (hcell : T.heap[a]? = some cell) (hobj : ∀ k, cell.vm ≠ .statics k) (hsel : selectMethod e.platform T.vm cell.cls r = .method t) (hmt : T.vm.method? t = some metht) (habs : metht.isAbstract = false) (hkt : T.vm.classes[t.cls]? = some kt) (hitf : kt.isInterface = false) {target : State}
    (hrest : ∀ acts, Steps p.tables e below (doInvoke e (T.setTop (F0 m pc ls rest)) acts t (.ref a :: argsL).toArray).1 target) : Steps p.tables e below (T.setTop (F0 m pc ls (argsL.reverse ++ .ref a :: rest))) target := by
  have hd' : decode c.code pc = .ok (.invokevirtual idx, 3) := by rw [hb]; exact hd
  jvm_step X.here [hexec, hd', invokevirtual.wp_ready (e := e) (s := T) (r := r) (m := t) (k := kr) (mk := kt) (rmeth := methr) (meth := metht) (a := a) (args := argsL) (rest := rest) (cell := cell) (f := F0 m pc ls (argsL.reverse ++ .ref a :: rest)) X.here.top hnamed hr hkr hmr hpoly hstatic hlen rfl hcell hobj hsel hmt habs hkt hitf]
  intro acts
  exact hrest acts
theorem zfw_invS {T : State} (X : Stand p l e R s m args below meth c T locs cells slots) (hexec : p.tables.exec = Jvm.exec) (hb : c.code = cc) {idx : Nat} {t : MethodId} {kt : Class} {metht : Method} {argsL : List Value} (hd : decode cc pc = .ok (.invokestatic idx, 3))
    (href : plainRef T e m.cls idx) (hr : T.vm.methodReady m.cls idx t) (hkt : T.vm.classes[t.cls]? = some kt) (hmt : T.vm.method? t = some metht) (hpoly : signaturePolymorphic kt metht = false) (hstatic : metht.isStatic = true) (hinit : kt.init = .initialized) (hlen : argsL.length = metht.sig.parameters.length) {target : State}
    (hrest : ∀ acts, Steps p.tables e below (doInvoke e (T.setTop (F0 m pc ls rest)) acts t argsL.toArray).1 target) : Steps p.tables e below (T.setTop (F0 m pc ls (argsL.reverse ++ rest))) target := by
  have hd' : decode c.code pc = .ok (.invokestatic idx, 3) := by rw [hb]; exact hd
  jvm_step X.here [hexec, hd', invokestatic.wp_ready (e := e) (s := T) (m := t) (k := kt) (meth := metht) (args := argsL) (rest := rest) (f := F0 m pc ls (argsL.reverse ++ rest)) X.here.top href hr hkt hmt hpoly hstatic hinit hlen rfl]
  intro acts
  exact hrest _
end ZFW
/-- a made class's entries are resolved: a field, the target, the target's class -/
theorem zfw_field {e : Setting} {vm : Vm} {cf : ClassFile} {c : ClassId} {k : Class} {fs : Array Field} {idx ci nt j : Nat} {nm dd : String} {f : Field} (hk : vm.classes[c]? = some k) (hres : ∀ (i : Nat) x, (Lambda.resolvedOf e vm cf fs c)[i]? = some (some x) → k.resolved[i]? = some (some x)) (hf : ∀ (i : Nat) a, fs[i]? = some a → k.fields[i]? = some a)
    (h1 : cf.constantPool[idx]? = some (.fieldref ci nt)) (h2 : cf.constantPool.nameAndType? nt = some (nm, dd)) (h3 : fs.findIdx? (·.name == nm) = some j) (h4 : fs[j]? = some f) : vm.fieldReady c idx c f := ⟨k, j, k, hk, hres idx _ (Lambda.resolvedOf_field h1 h2 h3), hk, hf j _ h4⟩
theorem zfw_method {e : Setting} {vm : Vm} {cf : ClassFile} {c tc : ClassId} {k tk : Class} {fs : Array Field} {idx ci nt : Nat} {cn nm dd : String} {t : MethodId} (hk : vm.classes[c]? = some k) (hres : ∀ (i : Nat) x, (Lambda.resolvedOf e vm cf fs c)[i]? = some (some x) → k.resolved[i]? = some (some x))
    (h1 : cf.constantPool[idx]? = some (.methodref ci nt)) (h2 : cf.constantPool.className? ci = some cn) (h3 : cf.constantPool.nameAndType? nt = some (nm, dd)) (h4 : vm.findClass cn = some tc) (h5 : vm.classes[tc]? = some tk) (h6 : ((methodIn tc nm dd tk.isInterface none).ask e vm).1 = .ok t) : vm.methodReady c idx t := ⟨k, hk, hres idx _ (Lambda.resolvedOf_method h1 h2 h4 h5 h3 h6)⟩
theorem zfw_class {e : Setting} {vm : Vm} {cf : ClassFile} {c tc : ClassId} {k : Class} {fs : Array Field} {ci n : Nat} {cn : String} (hk : vm.classes[c]? = some k) (hres : ∀ (i : Nat) x, (Lambda.resolvedOf e vm cf fs c)[i]? = some (some x) → k.resolved[i]? = some (some x))
    (h1 : cf.constantPool[ci]? = some (.class_ n)) (h2 : ci ≠ cf.thisClass) (h3 : cf.constantPool.string? n = some cn) (h4 : vm.findClass cn = some tc) : vm.classReady c ci tc := ⟨k, hk, hres ci _ (Lambda.resolvedOf_class h1 h2 h3 h4)⟩
section ZFC
variable {p : Program} {l : Launch} {e : Env} {R : Room} {s : State} {m : MethodId} {args : Array Value} {below : List Frame} {meth : Method} {c : Code} {H : Heap} {locs : List Loc} {cells slots : Nat} {Q : State → Prop} {cc : ByteArray} {ls : Array Slot}
/-- the captured values are laid on the stack -/
theorem zfw_caps {a : Nat} {cell : Cell} {vals : List Value} {fi : Nat → Nat} (hexec : p.tables.exec = Jvm.exec) (hb : c.code = cc) (h0 : ls[0]? = some (.val (.ref a))) (hcell : H[a]? = some cell) (hknown : cell.vm ≠ .unknown)
    (hdec : ∀ j, j < vals.length → decode cc (4 * j) = .ok (.aload_n 0, 1) ∧ decode cc (4 * j + 1) = .ok (.getfield (fi j), 3))
    (hrd : ∀ j v, vals[j]? = some v → ∃ f : Field, (∀ U : State, s.WarmedH U.vm → U.vm.fieldReady m.cls (fi j) m.cls f) ∧ f.isStatic = false ∧ cell.slots[f.slot]? = some v) :
    ∀ n, n ≤ vals.length → W p l e R s m args below meth c H locs cells slots Q (F0 m (4 * n) ls (vals.take n).reverse) → W p l e R s m args below meth c H locs cells slots Q (F0 m 0 ls []) := by
  intro n
  induction n with
  | zero => intro _ k; exact k
  | succ n ih =>
    intro hn k
    refine ih (by omega) ?_
    obtain ⟨d1, d2⟩ := hdec n (by omega)
    obtain ⟨f, f1, f2, f3⟩ := hrd n vals[n] (List.getElem?_eq_getElem (by omega))
    refine lv_aload_n hexec hb d1 rfl h0 ?_
    refine zfw_getf hexec hb f1 f2 hcell hknown f3 d2 ?_
    have e1 : (vals.take (n + 1)).reverse = vals[n] :: (vals.take n).reverse := by rw [List.take_succ_eq_append_getElem (by omega)]; simp
    have e2 : 4 * n + 1 + 3 = 4 * (n + 1) := by omega
    rw [e1] at k
    rw [e2]
    exact k
end ZFC
