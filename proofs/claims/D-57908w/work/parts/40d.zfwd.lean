/-! THE z LAYER, 23: the made class of a lambda: what its forwarder is -/
/-- what the rule's class file says of the forwarder, for a site of class 'own' -/
def zFo (σ : Lambda.Shape) (own : String) : Option (ClassFile × Method × (Array Field × Array FieldType × Array FieldType)) := (σ.file own).bind fun cf => (layoutMethods cf).bind fun ms => (ms[1]?).bind fun f => (layoutFields cf 0).bind fun lay => some (cf, f, lay)
theorem zfwd {args : Array Value} {s : State} {e : Setting} {d c : ClassId} {σ : Lambda.Shape} {dk : Class} {own : String} {cf : ClassFile} {f : Method} {lay : Array Field × Array FieldType × Array FieldType} {code : ByteArray} {ml : Nat}
    (hO : (Cond.instantiable "java/lang/Object" 0).before args s = true) (hd : s.vm.classes[d]? = some dk) (hname : dk.name = own) (h : Lambda.isMade e s.vm d σ c = true) (hfo : zFo σ own = some (cf, f, lay))
    (hcode : (f.code.map fun c => (c.code, c.maxLocals)) = some (code, ml)) (hflags : f.accessFlags = 0x0001) :
    ∃ (k tk : Class) (file : ClassFile) (methk : Method) (ck : Code) (tc : ClassId) (t : MethodId),
      s.vm.classes[c]? = some k ∧ k.name = own ++ "$$Lambda" ∧ k.cf = some file ∧ file.constantPool = cf.constantPool ∧
      s.vm.method? ⟨c, 1⟩ = some methk ∧ methk.code = some ck ∧ ck.code = code ∧ ck.maxLocals = ml ∧ ck.exceptionTable = #[] ∧ methk.locks = false ∧ methk.accessFlags = 0x0001 ∧ methk.sig = f.sig ∧ methk.name = f.name ∧
      s.vm.findClass σ.implClass = some tc ∧ s.vm.classes[tc]? = some tk ∧ tk.isInterface = σ.implItf ∧ ((methodIn tc σ.implName σ.implDesc.toString tk.isInterface none).ask e s.vm).1 = .ok t ∧
      (∀ (i : Nat) x, (Lambda.resolvedOf e s.vm cf lay.1 c)[i]? = some (some x) → k.resolved[i]? = some (some x)) ∧ (∀ (i : Nat) a, lay.1[i]? = some a → k.fields[i]? = some a) := by
  obtain ⟨dk', k, ok, tk, file, cf', object, iface, toy, lay', methods, target, found, hd', hk, hfile, hcf, hobj, -, hok, hlay, hms, ht, htk, hg, -, hrec, -, -, -, hitf, hpool, hmeth, hfields, -, hres, -⟩ := Lambda.isMade_spec h
  cases hd.symm.trans hd'
  obtain ⟨cO, kO, hfO, hkO, -, -, -, hsz⟩ := Cond.instantiable_spec hO
  cases hfO.symm.trans hobj
  cases hkO.symm.trans hok
  rw [hsz] at hlay
  rw [hname] at hcf
  unfold zFo at hfo
  rw [hcf] at hfo
  simp only [Option.bind_some, hms, hlay] at hfo
  obtain ⟨f', hf', hfo⟩ := zbind hfo
  cases hfo
  obtain ⟨b, hb, hsame⟩ := hmeth 1 f hf'
  obtain ⟨n1, n2, n3, n4, x, y, hx, hy, c1, c2, c3, c4⟩ := Lambda.sameMethod_spec hsame
  rw [hx] at hcode
  cases hcode
  refine ⟨k, tk, file, b, y, toy, target, hk, by rw [hrec.1, hname], hfile, hpool.2.1, by simp [Vm.method?, hk, hb], hy, c3, c2, c4, ?_, by rw [n4]; exact hflags, n3, n1, ht, htk, hitf, hg, hres, hfields⟩
  simp [Method.locks, Method.isSynchronized, n4, hflags, hasFlag, Acc.synchronized]
/-- the shape of a site -/
def zsg (i : Nat) : Lambda.Shape := match zLS[i]? with
  | some (.lambdaSite _ _ _ σ) => σ
  | _ => { iface := "", name := "", sam := ⟨[], none⟩, captured := [], kind := 5, implClass := "", implName := "", implDesc := ⟨[], none⟩, implItf := false, inst := ⟨[], none⟩ }
/-- the method in which a site stands -/
def zsx (i : Nat) : MethodName := match zLS[i]? with
  | some (.lambdaSite x _ _ _) => x
  | _ => ⟨"", "", ""⟩
/-- what is read off the rule's class file of site i -/
def zfchk (i : Nat) (bytes : List UInt8) (ml : Nat) (fis : List Nat) (mi : Nat) : Bool :=
  match zFo (zsg i) (zsx i).cls with
  | none => false
  | some q =>
    decide (q.2.1.code.map (fun c => (c.code.data.toList, c.maxLocals)) = some (bytes, ml)) && decide (q.2.1.accessFlags = 1) && decide (q.2.1.sig.returnType = (zsg i).sam.returnType) && decide (fis.length = (zLc i).length) && decide ((zsg i).captured = zLc i) &&
    (fis.zipIdx.all fun w => match q.1.constantPool[w.1]? with
      | some (.fieldref _ nt) => (match q.1.constantPool.nameAndType? nt with
        | some (nm, _) => decide (q.2.2.1.findIdx? (·.name == nm) = some w.2) && (match q.2.2.1[w.2]? with
          | some f => !f.isStatic && decide (f.slot = w.2)
          | none => false)
        | none => false)
      | _ => false) &&
    (match q.1.constantPool[mi]? with
      | some (.methodref ci nt) => decide (q.1.constantPool.className? ci = some (zsg i).implClass) && decide (q.1.constantPool.nameAndType? nt = some ((zsg i).implName, (zsg i).implDesc.toString)) && decide (ci ≠ q.1.thisClass) && (match q.1.constantPool[ci]? with
        | some (.class_ n) => decide (q.1.constantPool.string? n = some (zsg i).implClass)
        | _ => false)
      | _ => false)
theorem zfchk_0 : zfchk 0 [42, 180, 0, 15, 27, 28, 182, 0, 22, 172] 3 [15] 22 = true := by decide +kernel
theorem zfchk_1 : zfchk 1 [42, 180, 0, 15, 27, 28, 182, 0, 22, 173] 3 [15] 22 = true := by decide +kernel
theorem zfchk_2 : zfchk 2 [42, 180, 0, 16, 42, 180, 0, 18, 27, 28, 182, 0, 26, 172] 3 [16, 18] 26 = true := by decide +kernel
theorem zfchk_3 : zfchk 3 [42, 180, 0, 16, 42, 180, 0, 18, 27, 28, 182, 0, 26, 173] 3 [16, 18] 26 = true := by decide +kernel
theorem zfchk_4 : zfchk 4 [42, 180, 0, 18, 42, 180, 0, 20, 42, 180, 0, 22, 27, 28, 182, 0, 30, 172] 3 [18, 20, 22] 30 = true := by decide +kernel
theorem zfchk_5 : zfchk 5 [42, 180, 0, 19, 42, 180, 0, 21, 42, 180, 0, 23, 42, 180, 0, 25, 27, 28, 182, 0, 33, 173] 3 [19, 21, 23, 25] 33 = true := by decide +kernel
theorem zfchk_6 : zfchk 6 [27, 28, 184, 0, 17, 172] 3 [] 17 = true := by decide +kernel
theorem zfchk_7 : zfchk 7 [27, 28, 184, 0, 17, 173] 3 [] 17 = true := by decide +kernel
theorem zfchk_8 : zfchk 8 [42, 180, 0, 15, 27, 28, 182, 0, 22, 172] 3 [15] 22 = true := by decide +kernel
theorem zfchk_9 : zfchk 9 [42, 180, 0, 17, 42, 180, 0, 19, 27, 28, 182, 0, 27, 173] 3 [17, 19] 27 = true := by decide +kernel
theorem zfchk_10 : zfchk 10 [42, 180, 0, 16, 42, 180, 0, 18, 27, 28, 182, 0, 26, 172] 3 [16, 18] 26 = true := by decide +kernel
theorem zfchk_11 : zfchk 11 [42, 180, 0, 18, 42, 180, 0, 20, 42, 180, 0, 22, 27, 28, 182, 0, 30, 173] 3 [18, 20, 22] 30 = true := by decide +kernel
theorem zfchk_12 : zfchk 12 [42, 180, 0, 15, 27, 28, 182, 0, 22, 172] 3 [15] 22 = true := by decide +kernel
theorem zfchk_13 : zfchk 13 [42, 180, 0, 15, 27, 28, 182, 0, 22, 173] 3 [15] 22 = true := by decide +kernel
theorem zfchk_14 : zfchk 14 [42, 180, 0, 19, 42, 180, 0, 21, 42, 180, 0, 23, 42, 180, 0, 25, 184, 0, 33, 176] 1 [19, 21, 23, 25] 33 = true := by decide +kernel
theorem zfchk_15 : zfchk 15 [42, 180, 0, 15, 184, 0, 23, 176] 1 [15] 23 = true := by decide +kernel
theorem zfchk_16 : zfchk 16 [42, 180, 0, 18, 42, 180, 0, 20, 42, 180, 0, 22, 184, 0, 30, 176] 1 [18, 20, 22] 30 = true := by decide +kernel
theorem zfchk_17 : zfchk 17 [42, 180, 0, 18, 42, 180, 0, 20, 42, 180, 0, 22, 27, 28, 182, 0, 30, 172] 3 [18, 20, 22] 30 = true := by decide +kernel
theorem zfchk_18 : zfchk 18 [42, 180, 0, 15, 27, 28, 182, 0, 22, 173] 3 [15] 22 = true := by decide +kernel
theorem zfchk_19 : zfchk 19 [42, 180, 0, 18, 42, 180, 0, 20, 42, 180, 0, 22, 184, 0, 30, 176] 1 [18, 20, 22] 30 = true := by decide +kernel
theorem zfchk_20 : zfchk 20 [42, 180, 0, 18, 42, 180, 0, 20, 42, 180, 0, 22, 27, 28, 182, 0, 30, 172] 3 [18, 20, 22] 30 = true := by decide +kernel
theorem zfchk_21 : zfchk 21 [42, 180, 0, 18, 42, 180, 0, 20, 42, 180, 0, 22, 27, 28, 182, 0, 30, 173] 3 [18, 20, 22] 30 = true := by decide +kernel
theorem zfchk_22 : zfchk 22 [42, 180, 0, 17, 42, 180, 0, 19, 184, 0, 27, 176] 1 [17, 19] 27 = true := by decide +kernel
theorem zfchk_23 : zfchk 23 [42, 180, 0, 15, 184, 0, 23, 176] 1 [15] 23 = true := by decide +kernel
theorem zfchk_24 : zfchk 24 [42, 180, 0, 16, 42, 180, 0, 18, 184, 0, 26, 176] 1 [16, 18] 26 = true := by decide +kernel
theorem zfchk_25 : zfchk 25 [42, 180, 0, 16, 42, 180, 0, 18, 184, 0, 26, 176] 1 [16, 18] 26 = true := by decide +kernel
