/-! THE z LAYER, 4: facts of the tables that ride with a run; statics and constants of the start -/
def zArrK (U : State) (c : ClassId) (t : FieldType) : Prop := (∃ (kA : Class) (comp : ClassId), U.vm.classes[c]? = some kA ∧ kA.kind = .array comp t) ∧ va_RA U c t
theorem zArrK.moved {u U : State} (hvm : u.vm.Alike U.vm) {c : ClassId} {t : FieldType} (h : zArrK u c t) : zArrK U c t := by
  obtain ⟨⟨kA, comp, h1, h2⟩, h3⟩ := h
  obtain ⟨k', hk', he⟩ := hvm.2.2 _ _ h1
  exact ⟨⟨k', comp, hk', by rw [he]; exact h2⟩, h3.moved hvm⟩
theorem zArrK.of {U : State} {c : ClassId} {t : FieldType} (h : zArrK U c t) {cell : Cell} (hc : cell.cls = c) (hv : cell.vm = .none) : U.isArrayOf cell t := by
  obtain ⟨⟨kA, comp, h1, h2⟩, -⟩ := h
  exact ⟨fun k h => (by rw [hv] at h; cases h), kA, (by rw [hc]; exact h1), comp, h2⟩
def zarrs : List Nat := [50, 51, 52, 53, 60, 61, 62]
/-- the class of a Join, and the slot of its word -/
def zJn (nm : String) (c : ClassId) (i : Nat) (s : State) : Prop := (s.vm.findClass nm = some c ∧ ∃ kC : Class, s.vm.classes[c]? = some kC) ∧ ∃ (cf : ClassId) (k : Class) (fi : Nat) (f : Field), s.fieldFound? "CsrCalculator$Join" "word" "Ljava/lang/String;" = some (cf, k, fi, f) ∧ f.isStatic = false ∧ f.slot = i
theorem zJn.moved {u U : State} (hvm : u.vm.Alike U.vm) {nm : String} {c : ClassId} {i : Nat} (h : zJn nm c i u) : zJn nm c i U := by
  obtain ⟨⟨h1, kC, h2⟩, cf, k, fi, f, h3, h4, h5⟩ := h
  obtain ⟨k', hi', he⟩ := State.fieldFound?_setVm hvm h3
  obtain ⟨k2, hk2, -⟩ := hvm.2.2 _ _ h2
  exact ⟨⟨by rw [hvm.findClass]; exact h1, k2, hk2⟩, cf, k', fi, f, hi', h4, h5⟩
/-- private methods of a class that can't be made itself -/
def zPV : List MethodName := [⟨"java/lang/AbstractStringBuilder", "ensureCapacityInternal", "(I)V"⟩, ⟨"java/lang/AbstractStringBuilder", "newCapacity", "(I)I"⟩, ⟨"java/lang/AbstractStringBuilder", "inflate", "()V"⟩, ⟨"java/lang/AbstractStringBuilder", "appendNull", "()Ljava/lang/AbstractStringBuilder;"⟩, ⟨"java/lang/AbstractStringBuilder", "putStringAt", "(ILjava/lang/String;)V"⟩, ⟨"java/lang/AbstractStringBuilder", "inflateIfNeededFor", "(Ljava/lang/String;)V"⟩, ⟨"CsrCalculator$Csr", "lambda$transposed$8", "(II)Z"⟩, ⟨"CsrCalculator$Csr", "lambda$transposed$9", "(II)J"⟩, ⟨"CsrCalculator$Csr", "lambda$times$16", "(LCsrCalculator$Csr;II)Z"⟩, ⟨"CsrCalculator$Csr", "lambda$times$17", "(LCsrCalculator$Csr;II)J"⟩, ⟨"CsrCalculator$Csr", "lambda$with$0", "(IIII)Z"⟩, ⟨"CsrCalculator$Csr", "lambda$with$1", "(IIIII)J"⟩, ⟨"CsrCalculator$Csr", "lambda$scaled$10", "(II)Z"⟩, ⟨"CsrCalculator$Csr", "lambda$scaled$11", "(III)J"⟩, ⟨"CsrCalculator$Csr", "lambda$joined$14", "(LCsrCalculator$Csr;II)Z"⟩, ⟨"CsrCalculator$Csr", "lambda$joined$15", "(LCsrCalculator$Join;LCsrCalculator$Csr;II)J"⟩, ⟨"CsrCalculator$Csr", "lambda$withoutZeros$4", "(II)Z"⟩, ⟨"CsrCalculator$Csr", "lambda$withoutZeros$5", "(II)J"⟩, ⟨"CsrCalculator$Csr", "lambda$without$2", "(IIII)Z"⟩, ⟨"CsrCalculator$Csr", "lambda$without$3", "(II)J"⟩, ⟨"CsrCalculator$Csr", "lambda$withSwapped$6", "(IIII)Z"⟩, ⟨"CsrCalculator$Csr", "lambda$withSwapped$7", "(IIII)J"⟩]
def zPv (s : State) : Prop := ∀ y ∈ zPV, ∀ (mk : MethodId) (meth : Method), s.methodNamed? y = some mk → s.vm.method? mk = some meth → meth.isPrivate = true
theorem zPv.moved {u U : State} (hvm : u.vm.Alike U.vm) (h : zPv u) : zPv U := by
  intro y hy mk meth h1 h2
  have e1 : U.methodNamed? y = u.methodNamed? y := by
    have : (u.setVm U.vm).methodNamed? y = u.methodNamed? y := by rw [State.methodNamed?_setVm hvm]
    rw [← this]
    rfl
  rw [e1] at h1
  rw [hvm.method?] at h2
  exact h y hy mk meth h1 h2
/-- methods that interfaces declare themselves -/
def zIM : List MethodName := [⟨"CsrCalculator$Mask", "stores", "(II)Z"⟩, ⟨"CsrCalculator$Cell", "value", "(II)J"⟩, ⟨"CsrCalculator$Operation", "result", "()LCsrCalculator$Csr;"⟩]
theorem zIM_mh : ∀ q ∈ zIM, q.cls ≠ "java/lang/invoke/MethodHandle" ∧ q.cls ≠ "java/lang/invoke/VarHandle" := by decide +kernel
def zIf (s : State) : Prop := ∀ q ∈ zIM, (Cond.interfaceMethod q.cls q.cls q.name q.desc).before #[] s = true
theorem zIf.moved {u U : State} (hvm : u.vm.Alike U.vm) (h : zIf u) : zIf U := by
  intro q hq
  have h2 := h q hq
  obtain ⟨c, k, r, -, -, -, -, hn⟩ := Cond.interfaceMethod_spec h2
  have tr : ∀ {c : Cond}, c.onTables = true → c.before #[] (u.setVm U.vm) = true → c.before #[] U = true := by
    intro c hc h
    have e := Cond.onTables_vm (A := #[]) (A' := #[]) (U := u) (U' := U) U.vm c hc
    have hU : U.setVm U.vm = U := rfl
    rw [hU] at e
    rw [← e]
    exact h
  exact tr rfl (by rw [Cond.interfaceMethod_setVm hvm (r := r) hn (zIM_mh q hq)]; exact h2)
/-- facts of the tables alone -/
def zFt (G : zG) (s : State) : Prop :=
  (∀ (c : Nat) (q : vw_C), zcl[c]? = some q → u_Kn s q.1 q.2.1 q.2.2 (G.2.1 (c + 1)) (G.2.2.1 (c + 1))) ∧
  (∀ k ∈ zarrs, zArrK s (G.2.1 k) (zAt k)) ∧
  (∀ q ∈ zNF, va_Nw (.fieldLinkNest q.1 q.2.1 q.2.2.1 q.2.2.2.1 q.2.2.2.2.1 q.2.2.2.2.2) s) ∧
  (∀ q ∈ zNM, va_Nw (.methodLinkNest q.1 q.2.1 q.2.2.1 q.2.2.2) s) ∧
  (∀ q ∈ zCA, va_Nw (.castable q.1 q.2) s) ∧
  (∀ q ∈ zNC, va_Nc q.1 q.2 s) ∧
  (∀ q ∈ zAO, va_AO q s) ∧
  (∀ q ∈ zFW, va_Fw q.1 q.2.1 q.2.2 s) ∧
  (∀ q ∈ zDE, va_Nw (.declares q) s) ∧ (va_Dc s ∧ zPv s ∧ zIf s) ∧
  zJn "CsrCalculator$Join$1" (G.2.1 23) (G.2.2.1 23 0) s ∧
  zJn "CsrCalculator$Join$2" (G.2.1 24) (G.2.2.1 24 0) s
theorem zFW_ok : ∀ q ∈ zFW, q.2.1.cls ≠ "java/lang/invoke/MethodHandle" ∧ q.2.1.cls ≠ "java/lang/invoke/VarHandle" := by decide +kernel
theorem zFt.warm {G : zG} {s U : State} (hW : s.WarmedH U.vm) (h : zFt G s) : zFt G U := by
  obtain ⟨h1, h2, h3, h4, h5, h6, h7, h8, h9, h10, h11, h12⟩ := h
  have hA := hW.alike
  exact ⟨fun c q hq => u_Kn_moved hA (h1 c q hq), fun k hk => (h2 k hk).moved hA, fun q hq => va_Nw.warmF hW (h3 q hq), fun q hq => va_Nw.warmM hW (h4 q hq), fun q hq => va_Nw.warmC hW (h5 q hq), fun q hq => va_Nc.moved hA (h6 q hq), fun q hq => va_AO.moved hA (h7 q hq), fun q hq => va_Fw.moved (zFW_ok q hq) hA (h8 q hq), (fun q hq => va_Nw.warmD hW (h9 q hq)), ⟨va_Dc.moved hA h10.1, zPv.moved hA h10.2.1, zIf.moved hA h10.2.2⟩, h11.moved hA, h12.moved hA⟩
/-- static fields: class, name, descriptor, what it holds (none: the reference 'zsv h i') -/
def zSt : List (String × String × String × Option Int32) := [("java/lang/String", "COMPACT_STRINGS", "Z", some 1), ("java/lang/Integer", "DigitOnes", "[B", none), ("java/lang/Integer", "DigitTens", "[B", none), ("java/util/ArrayList", "DEFAULTCAPACITY_EMPTY_ELEMENTDATA", "[Ljava/lang/Object;", none), ("CsrCalculator$Join", "PLUS", "LCsrCalculator$Join;", none), ("CsrCalculator$Join", "LESS", "LCsrCalculator$Join;", none), ("CsrCalculator$Join", "$VALUES", "[LCsrCalculator$Join;", none), ("java/lang/Throwable", "UNASSIGNED_STACK", "[Ljava/lang/StackTraceElement;", none), ("java/lang/Throwable", "SUPPRESSED_SENTINEL", "Ljava/util/List;", none), ("jdk/internal/util/Preconditions", "SIOOBE_FORMATTER", "Ljava/util/function/BiFunction;", none)]
/-- String constants: class, entry, text -/
def zSs : List (String × Nat × String) := [("CsrCalculator", 7, "matrix"), ("CsrCalculator", 13, "entry"), ("CsrCalculator", 15, "let"), ("CsrCalculator", 17, "drop"), ("CsrCalculator", 19, "erase"), ("CsrCalculator", 21, "swap"), ("CsrCalculator", 23, "repeat"), ("CsrCalculator$Join", 46, "plus"), ("CsrCalculator$Join", 54, "less"), ("CsrCalculator$Reader", 29, ""), ("CsrCalculator$Reader", 212, "csr"), ("CsrCalculator$Reader", 228, "matrix"), ("CsrCalculator$Reader", 230, "entry"), ("CsrCalculator$Reader", 232, "let"), ("CsrCalculator$Reader", 247, "minus"), ("CsrCalculator$Reader", 178, "unit"), ("CsrCalculator$Reader", 186, "trans"), ("CsrCalculator$Reader", 188, "neg"), ("CsrCalculator$Reader", 161, "times"), ("CsrCalculator$Reader", 263, "repeat"), ("CsrCalculator$Reader", 292, "drop")]
/-- the lambdas' sites -/
def zLS : List Cond := [siteWord_1_1, siteWord_1_2, siteWord_1_3, siteWord_1_4, siteWord_1_5, siteWord_1_6, siteWord_1_7, siteWord_1_8, siteWord_1_9, siteWord_1_10, siteWord_1_11, siteWord_1_12, siteWord_1_13, siteWord_1_14, siteWord_1_15, siteWord_1_16, siteWord_1_17, siteWord_1_18, siteWord_1_19, siteWord_1_20, siteWord_1_21, siteWord_1_22, siteWord_1_23, siteWord_1_24, siteWord_1_25, siteWord_1_26]
/-- a site's word, with the made class (and, for one that catches nothing, the one object) named -/
def zLat (s : State) (w : Cond) (c : ClassId) (one : Option Nat) : Prop := match w with
  | .lambdaSite x pc index σ => s.lambdaAt? x pc index σ = some (c, if σ.captured = [] then one else none) ∧ (σ.captured = [] → ∃ a, one = some a)
  | _ => False
/-- statics, constants, lambdas: by the environment of the heap -/
def zFe (G : zG) (v : zE) (s : State) : Prop :=
  (∀ (i : Nat) (q : String × String × String × Option Int32), zSt[i]? = some q → va_Z q.1 q.2.1 q.2.2.1 (match q.2.2.2 with
    | some c => .int c
    | none => va_rf (v.2.2.2.2 i)) (fun a => v.1 ≤ a) s G.2.2.2) ∧
  (∀ (i : Nat) (q : String × Nat × String), zSs[i]? = some q → vk_R q.1 q.2.1 q.2.2 (v.2.2.2.1 i) s) ∧
  (∃ mi, v.2.2.2.2 40 = some mi ∧ va_Mi "[Ljava/lang/Object;" mi s) ∧
  (vx_Zq Bundle.tN "UNASSIGNED_STACK" Bundle.steD (fun a => v.1 ≤ a) s G.2.2.2 ∧ vx_Zq Bundle.tN "SUPPRESSED_SENTINEL" Bundle.listD (fun a => v.1 ≤ a) s G.2.2.2) ∧
  (∀ (i : Nat) (w : Cond), zLS[i]? = some w → zLat s w (G.2.1 (70 + i)) (v.2.2.2.2 (50 + i))) ∧
  (∀ k j, 50 ≤ k → G.2.2.1 k j = j)
def zF (G : zG) (v : zE) (s : State) : Prop := zFt G s ∧ zFe G v s
theorem zLat.rides {s t : State} {L : List Loc} {k n : Nat} (hW : s.WarmedH t.vm) (hsame : s.sameButNew (t.setVm s.vm) L k n) {w : Cond} {c : ClassId} {one : Option Nat} (h : zLat s w c one) : zLat t w c one := by
  cases w <;> try exact h.elim
  exact ⟨State.lambdaAt?_rides hW hsame h.1, h.2⟩
theorem zFe.rides {G : zG} {v : zE} {s t : State} {L : List Loc} {k n : Nat} (hW : s.WarmedH t.vm) (hsame : s.sameButNew (t.setVm s.vm) L k n) (h : zFe G v s) : zFe G v t := by
  obtain ⟨h1, h2, ⟨mi, h3, h4⟩, ⟨h5, h6⟩, h7, h8⟩ := h
  have hA := hW.alike
  exact ⟨fun i q hq => va_Z.moved hA (h1 i q hq), fun i q hq => vk_R.warm hW (h2 i q hq), ⟨mi, h3, va_Mi.moved hA h4⟩, ⟨vx_Zq.moved hA h5, vx_Zq.moved hA h6⟩, fun i w hw => (h7 i w hw).rides hW hsame, h8⟩
theorem zF.rides {G : zG} {v : zE} {s t : State} {L : List Loc} {k n : Nat} (hW : s.WarmedH t.vm) (hsame : s.sameButNew (t.setVm s.vm) L k n) (h : zF G v s) : zF G v t := ⟨h.1.warm hW, h.2.rides hW hsame⟩
/-- the same tables and heap, other frames -/
theorem zF.calling {G : zG} {v : zE} {U : State} (g : JFrame) (mk : MethodId) (a : Array Value) (h : zF G v U) : zF G v (U.calling g mk a) := by
  have hv : U.vm = (U.calling g mk a).vm := rfl
  obtain ⟨ht, h1, h2, ⟨mi, h3, h4⟩, ⟨h5, h6⟩, h7, h8⟩ := h
  have hA : U.vm.Alike (U.calling g mk a).vm := Vm.Alike.refl U.vm
  refine ⟨?_, fun i q hq => va_Z.moved hA (h1 i q hq), fun i q hq => vk_R.same hv.symm (h2 i q hq), ⟨mi, h3, va_Mi.moved hA h4⟩, ⟨vx_Zq.moved hA h5, vx_Zq.moved hA h6⟩, fun i w hw => ?_, h8⟩
  · obtain ⟨t1, t2, t3, t4, t5, t6, t7, t8, t9, t10, t11, t12⟩ := ht
    exact ⟨fun c q hq => u_Kn_moved hA (t1 c q hq), fun k hk => (t2 k hk).moved hA, fun q hq => va_Nw.same rfl hv (t3 q hq), fun q hq => va_Nw.same rfl hv (t4 q hq), fun q hq => va_Nw.same rfl hv (t5 q hq), fun q hq => va_Nc.moved hA (t6 q hq), fun q hq => va_AO.moved hA (t7 q hq), fun q hq => va_Fw.moved (zFW_ok q hq) hA (t8 q hq), (fun q hq => va_Nw.same rfl hv (t9 q hq)), ⟨va_Dc.moved hA t10.1, zPv.moved hA t10.2.1, zIf.moved hA t10.2.2⟩, t11.moved hA, t12.moved hA⟩
  · have := h7 i w hw
    cases w <;> first | exact this.elim | exact this
