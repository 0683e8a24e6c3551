/-! THE z LAYER, 22: lambdas are made -/
section ZSH
variable {α : Type}
theorem zm3 {x : Array Nat} {f : Nat → Nat → Nat → Option α} {r : α} (h : Lambda.shapeOf?.match_15 (fun _ => Option α) x f (fun _ => none) = some r) : ∃ a b c, f a b c = some r := by
  obtain ⟨L⟩ := x
  rcases L with _ | ⟨a, _ | ⟨b, _ | ⟨c, _ | ⟨d, L⟩⟩⟩⟩ <;> first | (cases h; done) | exact ⟨a, b, c, h⟩
end ZSH
theorem zshape {cf : ClassFile} {index : Nat} {σ : Lambda.Shape} (h : Lambda.shapeOf? cf index = some σ) : ∃ (b nt : Nat) (desc : String) (site : MethodDescriptor), cf.constantPool[index]? = some (.invokeDynamic b nt) ∧ cf.constantPool.nameAndType? nt = some (σ.name, desc) ∧ parseMethodDescriptor desc = some site ∧ site.parameters = σ.captured := by
  unfold Lambda.shapeOf? at h
  split at h <;> try (cases h; done)
  rename_i b nt hc
  obtain ⟨es, -, h⟩ := zbind h
  obtain ⟨bm, -, h⟩ := zbind h
  split at h <;> try (cases h; done)
  obtain ⟨-, -, h⟩ := zbind h
  obtain ⟨a0, a1, a2, h⟩ := zm3 h
  split at h <;> try (cases h; done)
  split at h <;> try (cases h; done)
  split at h <;> try (cases h; done)
  obtain ⟨⟨name, desc⟩, hnt, h⟩ := zbind h
  obtain ⟨site, hs, h⟩ := zbind h
  dsimp only at h
  split at h <;> try (cases h; done)
  obtain ⟨⟨i1, i2, i3, i4⟩, -, h⟩ := zbind h
  obtain ⟨x1, -, h⟩ := zbind h
  obtain ⟨x2, -, h⟩ := zbind h
  obtain ⟨x3, -, h⟩ := zbind h
  obtain ⟨x4, -, h⟩ := zbind h
  obtain ⟨x5, -, h⟩ := zbind h
  cases h
  exact ⟨b, nt, desc, site, hc, hnt, hs, rfl⟩
def zAi (A : List zV) (j : Nat) : Int32 := match A[j]? with
  | some (.inl x) => x
  | _ => 0
def zAr (A : List zV) (j : Nat) : Option Nat := match A[j]? with
  | some (.inr (.inr (.inr (.inr x)))) => x
  | _ => none
/-- a lambda of site i that has caught A -/
def zlmH (i : Nat) (A : List zV) (h : zH) : zH := zwR (zwI (zAl h (70 + i) A.length A.length) (zz h) (zAi A)) (zz h) (zAr A)
def zokL (ts : List FieldType) (A : List zV) : Prop := ts.length = A.length ∧ ∀ (j : Nat) (t : FieldType) (v : zV), ts[j]? = some t → A[j]? = some v → (t = FieldType.int ∧ ∃ x : Int32, v = vI x) ∨ (∃ (C : String) (x : Option Nat), t = FieldType.object C ∧ v = vR x)
theorem zokL_nil : zokL [] [] := ⟨rfl, fun j t v h => by simp at h⟩
theorem zokL_int {ts : List FieldType} {A : List zV} {x : Int32} (h : zokL ts A) : zokL (.int :: ts) (vI x :: A) := ⟨by simp [h.1], fun j t v h1 h2 => by
  cases j with
  | zero => cases h1; cases h2; exact Or.inl ⟨rfl, x, rfl⟩
  | succ j => exact h.2 j t v h1 h2⟩
theorem zokL_ref {ts : List FieldType} {A : List zV} {C : String} {x : Option Nat} (h : zokL ts A) : zokL (.object C :: ts) (vR x :: A) := ⟨by simp [h.1], fun j t v h1 h2 => by
  cases j with
  | zero => cases h1; cases h2; exact Or.inr ⟨C, x, rfl, rfl⟩
  | succ j => exact h.2 j t v h1 h2⟩
theorem zokL_nar : ∀ {ts : List FieldType} {A : List zV}, zokL ts A → (ts.zip (A.map zv)).map (fun (t, v) => narrow t v) = A.map zv
  | [], [], _ => rfl
  | [], _ :: _, h => by cases h.1
  | _ :: _, [], h => by cases h.1
  | t :: ts, v :: A, h => by
    have h' : zokL ts A := ⟨by have := h.1; simp at this; exact this, fun j t v h1 h2 => h.2 (j + 1) t v h1 h2⟩
    have hv : narrow t (zv v) = zv v := by
      rcases h.2 0 t v rfl rfl with ⟨rfl, x, rfl⟩ | ⟨C, x, rfl, rfl⟩
      · rfl
      · cases x <;> rfl
    show narrow t (zv v) :: ((ts.zip (A.map zv)).map (fun (t, v) => narrow t v)) = zv v :: A.map zv
    rw [hv, zokL_nar h']
theorem zokL_val {i : Nat} {h : zH} {A : List zV} (hA : zokL (zLc i) A) {j : Nat} {v : zV} (hv : A[j]? = some v) : zval ((zLc i).getD j .int) (zlmH i A h) (zz h) j = zv v := by
  have hj : j < A.length := (List.getElem?_eq_some_iff.mp hv).1
  have ht : (zLc i)[j]? = some ((zLc i).getD j .int) := by
    rw [List.getD_eq_getElem?_getD, List.getElem?_eq_getElem (by rw [hA.1]; exact hj)]
    rfl
  rcases hA.2 j _ v ht hv with ⟨h1, x, rfl⟩ | ⟨C, x, h1, rfl⟩
  · rw [h1]
    show Value.int (zrw (zrw (zi h) (zz h) (fun _ => 0)) (zz h) (zAi A) (zz h) j) = .int x
    rw [zrw_s]
    unfold zAi
    rw [hv]
  · rw [h1]
    show va_rf (zrw (zrw (zr h) (zz h) (fun _ => none)) (zz h) (zAr A) (zz h) j) = va_rf x
    rw [zrw_s]
    unfold zAr
    rw [hv]
theorem zLc_nf {i j : Nat} : (zLc i).getD j .int ≠ .float := by
  have key : ∀ l ∈ zlamTs, ∀ t ∈ l, t ≠ .float := by decide +kernel
  rw [List.getD_eq_getElem?_getD]
  cases hj : (zLc i)[j]? with
  | none => exact fun z => by cases z
  | some t =>
    have h1 : t ∈ zLc i := List.mem_of_getElem? hj
    unfold zLc at h1
    rw [List.getD_eq_getElem?_getD] at h1
    cases hi : zlamTs[i]? with
    | none => rw [hi] at h1; cases h1
    | some l => rw [hi] at h1; exact key l (List.mem_of_getElem? hi) t h1
section ZLM
variable {G : zG} {M : zM} {d : Nat} {h0 h9 h : zH} {o : zO} {pc : Nat} {lv : zL} {st : List zV}
theorem zw_lamMake {index : Nat} (i : Nat) {σ : Lambda.Shape} {A : List zV} (rest : List zV) (hd : decode M.2.1 pc = .ok (.invokedynamic index, 5)) (hi : zLS[i]? = some (.lambdaSite M.1 pc index σ)) (hcap : σ.captured = zLc i) (hne : σ.captured ≠ [])
    (hlay : ((σ.file M.1.cls).bind (layoutFields · 0)).map (·.2.1) = some (zLc i).toArray) (hA : zokL (zLc i) A) (hst : st = A.reverse ++ rest) (hw : (st.map zc).sum ≤ 60) (hc9 : zz h + 1 ≤ zCX h) (hs9 : zs h + A.length ≤ zSX h)
    (kk : zW G M d h0 o h9 (pc + 5) lv (vR (some (zz h)) :: rest) (zlmH i A h)) : zW G M d h0 o h9 pc lv st h := by
  intro p e R s m args below meth c Q H locs ls C hr e1 hz hs hL hlv T hT X
  have hF := C.2.2.2.2.2.2.2.2.2.1
  have hts := C.2.2.2.2.2.1
  have hat : s.lambdaAt? M.1 pc index σ = some (G.2.1 (70 + i), if σ.captured = [] then zsv h0 (50 + i) else none) := (hF.2.2.2.2.2.1 i _ hi).1
  rw [if_neg hne] at hat
  obtain ⟨m', kS, cfS, i0, p0, lk, hm', hkS, hcfS, hsh, -, hfind, hmade, hcan, hlk⟩ := State.lambdaAt?_spec hat
  cases C.2.2.2.2.2.2.2.2.1.2.symm.trans hm'
  obtain ⟨rfl, -, -⟩ : lk = .makes (G.2.1 (70 + i)) ∧ (none : Option Addr) = none ∧ σ.captured ≠ [] := by
    rcases hlk with ⟨a, cell, -, z, -⟩ | q
    · cases z
    · exact q
  obtain ⟨b, nt, desc, site, hc, hnt, hsd, hpar⟩ := zshape hsh
  obtain ⟨dk, k, ok, tk, file, cf, object, iface, t, lay, methods, target, found, i1, i2, i3, i4, i5, i6, i7, i8, i9, i10, i11, i12, i13, ⟨-, hkind, -⟩, -, hhid, -, -, -, -, -, ⟨hty, -⟩, -⟩ := Lambda.isMade_spec hmade
  cases hkS.symm.trans i1
  obtain ⟨kS', hkS', hnameS⟩ := className_of_methodNamed hm'
  cases hkS.symm.trans hkS'
  obtain ⟨cO, kO, hfO, hkO, -, -, -, hsz⟩ := Cond.instantiable_spec (hts _ q3088)
  cases hfO.symm.trans i5
  cases hkO.symm.trans i7
  have hemp : ok.instanceTypes = #[] := Array.eq_empty_of_size_eq_zero hsz
  rw [hsz] at i8
  rw [hnameS] at i4
  rw [i4] at hlay
  simp only [Option.bind_some, i8, Option.map_some, Option.some.injEq] at hlay
  have hTy : k.instanceTypes = (zLc i).toArray := by rw [hty, hemp, hlay]; simp
  have hvals : ((k.instanceTypes.toList.zip (A.map zv)).map fun (t, v) => narrow t v) = A.map zv := by rw [hTy]; exact zokL_nar hA
  obtain ⟨rf, rl, rc, rs⟩ := C.2.2.2.2.2.2.2.2.2.2.2.1
  have eCX : zCX h = zCX h0 := by show h.1.2.1 = h0.1.2.1; rw [e1]
  have eSX : zSX h = zSX h0 := by show h.1.2.2.1 = h0.1.2.2.1; rw [e1]
  have hwd : ((st.map zv).map fun v => v.category).sum = (st.map zc).sum := zcats st
  have hst2 : (F0 m pc ls (st.map zv)).stack = (A.map zv).reverse ++ rest.map zv := by show st.map zv = _; rw [hst]; simp
  obtain ⟨X₁, st1⟩ := X.lambdaMakes C.1 (g := F0 m pc ls (st.map zv)) rfl (by rw [C.2.2.2.1]; exact hlv.1) (by rw [C.2.1]; exact hd) (vals := A.map zv) (rest := rest.map zv) hkS hfind hcfS hc hnt (parseLong_of_parse hsd) (by rw [hpar, hcap, hA.1]; simp) hst2 i2
    (by
      have h9 : zlo d ≤ R.locals := rl
      have h8 : 3200 ≤ zlo d := by show 3200 ≤ 3200 + 80 * d; omega
      rw [X.admits.platform]
      show 2 * 0 + _ + 3072 ≤ _
      rw [hwd]
      omega) (by omega) (by rw [hvals, List.length_map]; omega)
    (fun j v hv => by
      rw [hvals] at hv
      simp only [List.getElem?_toArray, List.getElem?_map, Option.map_eq_some_iff] at hv
      obtain ⟨u, hu, rfl⟩ := hv
      have hj : j < A.length := (List.getElem?_eq_some_iff.mp hu).1
      have htj : (zLc i)[j]? = some ((zLc i).getD j .int) := by
        rw [List.getD_eq_getElem?_getD, List.getElem?_eq_getElem (by rw [hA.1]; exact hj)]
        rfl
      rcases hA.2 j _ u htj hu with ⟨q1, x, rfl⟩ | ⟨CC, x, q1, rfl⟩
      · rw [q1] at htj
        simp [State.fitsSlot, State.slotType?, i2, hkind, hTy, htj, fits, zv]
      · rw [q1] at htj
        cases x <;> simp [State.fitsSlot, State.slotType?, i2, hkind, hTy, htj, fits, zv, va_rf])
  rw [hvals] at X₁ st1
  have hak : zarr (70 + i) = false := decide_eq_false (by omega)
  have hTk : ∀ j, zT (70 + i) j = (zLc i).getD j .int := fun j => by unfold zT; rw [hak, if_neg (by decide), if_pos (by omega)]; rw [Nat.add_sub_cancel_left]
  have hNk : zN (70 + i) = A.length := by unfold zN; rw [if_pos (by omega), Nat.add_sub_cancel_left, hA.1]
  have hr1 : zRep G (zAl h (70 + i) A.length A.length) (H.push { cls := G.2.1 (70 + i), slots := ((List.range A.length).map (fun j => defaultValue ((zLc i).getD j .int))).toArray, vm := .none }) := by
    refine hr.al (cell := { cls := G.2.1 (70 + i), slots := ((List.range A.length).map (fun j => defaultValue ((zLc i).getD j .int))).toArray, vm := .none }) (by omega) hc9 hs9 (by rw [← hr.1]; simp) (by simp) (fun q hq => by rw [← hr.1] at hq; rw [Array.getElem?_push, if_neg (Nat.ne_of_lt hq)]) rfl rfl (by rw [hak, if_neg (by decide)]; exact hNk.symm) (fun j hj => by rw [hTk]; exact zLc_nf) (fun j hj => ?_)
    rw [hF.2.2.2.2.2.2 (70 + i) j (by omega), hTk]
    simp [hj]
  have hr2 : zRep G (zlmH i A h) (H.push { cls := G.2.1 (70 + i), slots := (A.map zv).toArray, vm := .none }) := by
    have hkz : zk (zAl h (70 + i) A.length A.length) (zz h) = 70 + i := zrw_s
    have hnz : zn (zAl h (70 + i) A.length A.length) (zz h) = A.length := zrw_s
    refine hr1.row (a := zz h) (cell := { cls := G.2.1 (70 + i), slots := ((List.range A.length).map (fun j => defaultValue ((zLc i).getD j .int))).toArray, vm := .none }) (cell' := { cls := G.2.1 (70 + i), slots := (A.map zv).toArray, vm := .none }) (by rw [hkz]; omega) hr.2.1.1 (by rw [← hr.1]; simp) (by rw [← hr.1]; simp) (by simp) (fun q hq => ?_) rfl rfl (by simp) rfl rfl rfl rfl rfl (fun j hj => ?_) (fun b i' hb => ?_)
    · rw [← hr.1] at hq
      simp only [Array.getElem?_push, if_neg hq]
    · rw [hnz] at hj
      rw [hkz, hF.2.2.2.2.2.2 (70 + i) j (by omega), hTk]
      have hu : A[j]? = some A[j] := List.getElem?_eq_getElem hj
      rw [zokL_val hA hu]
      simp [hj]
    · have key : ∀ t, zval t (zlmH i A h) b i' = zval t (zAl h (70 + i) A.length A.length) b i' := by
        intro t
        cases t <;> first | rfl | (show Value.int (zrw (zrw (zi h) (zz h) _) (zz h) _ b i') = Value.int (zrw (zi h) (zz h) _ b i'); rw [zrw_n hb]) | (show va_rf (zrw (zrw (zr h) (zz h) _) (zz h) _ b i') = va_rf (zrw (zr h) (zz h) _ b i'); rw [zrw_n hb])
      exact key _
  have hheap : (T.pushCell { cls := G.2.1 (70 + i), slots := (A.map zv).toArray, vm := .none }).heap = H.push { cls := G.2.1 (70 + i), slots := (A.map zv).toArray, vm := .none } := by rw [← hT]; rfl
  have qz : zz (zlmH i A h) = zz h + 1 := rfl
  have qs : zs (zlmH i A h) = zs h + A.length := rfl
  obtain ⟨t9, a1, b1⟩ := kk p e R s m args below meth c Q _ locs ls C hr2 e1 (by rw [qz]; omega) (by rw [qs]; omega) hL hlv _ hheap (by
    rw [qz, qs]
    have q1 : zz h + 1 - zz h0 = zz h - zz h0 + 1 := by omega
    have q2 : zs h + A.length - zs h0 = zs h - zs h0 + ((A.map zv).toArray).size := by simp; omega
    rw [q1, q2]
    exact X₁)
  refine ⟨t9, st1 t9 ?_, b1⟩
  have hTs : T.heap.size = zz h := by rw [hT]; exact hr.1
  rw [hTs]
  exact a1
/-- one that has caught nothing -/
theorem zw_lamConst {index a : Nat} (i : Nat) {σ : Lambda.Shape} (hd : decode M.2.1 pc = .ok (.invokedynamic index, 5)) (hi : zLS[i]? = some (.lambdaSite M.1 pc index σ)) (hcap : σ.captured = []) (ha : zsv h (50 + i) = some a) (hw : (st.map zc).sum ≤ 60)
    (kk : zW G M d h0 o h9 (pc + 5) lv (vR (some a) :: st) h) : zW G M d h0 o h9 pc lv st h := by
  intro p e R s m args below meth c Q H locs ls C hr e1 hz hs hL hlv T hT X
  have hF := C.2.2.2.2.2.2.2.2.2.1
  have hat : s.lambdaAt? M.1 pc index σ = some (G.2.1 (70 + i), if σ.captured = [] then zsv h0 (50 + i) else none) := (hF.2.2.2.2.2.1 i _ hi).1
  have e50 : zsv h0 (50 + i) = some a := by show h0.1.2.2.2.2 (50 + i) = _; rw [← e1]; exact ha
  rw [if_pos hcap, e50] at hat
  obtain ⟨m', kS, cfS, i0, p0, lk, hm', hkS, hcfS, hsh, -, hfind, hmade, hcan, hlk⟩ := State.lambdaAt?_spec hat
  cases C.2.2.2.2.2.2.2.2.1.2.symm.trans hm'
  obtain ⟨a2, cell, rfl, q2, -⟩ : ∃ a2 cell, lk = .constant a2 ∧ some a = some a2 ∧ s.heap[a2]? = some cell := by
    rcases hlk with ⟨a2, cell, q1, q2, -, q3, -⟩ | ⟨-, z, -⟩
    · exact ⟨a2, cell, q1, q2, q3⟩
    · cases z
  cases q2
  obtain ⟨rf, rl, rc, rs⟩ := C.2.2.2.2.2.2.2.2.2.2.2.1
  have hwd : ((st.map zv).map fun v => v.category).sum = (st.map zc).sum := zcats st
  obtain ⟨t9, a1, b1⟩ := kk p e R s m args below meth c Q H locs ls C hr e1 hz hs hL hlv T hT X
  exact ⟨t9, X.lambdaConstant C.1 (g := F0 m pc ls (st.map zv)) rfl (by rw [C.2.2.2.1]; exact hlv.1) (by rw [C.2.1]; exact hd) hkS hfind (by
      have h9 : zlo d ≤ R.locals := rl
      have h8 : 3200 ≤ zlo d := by show 3200 ≤ 3200 + 80 * d; omega
      rw [X.admits.platform]
      show 2 * 0 + _ + 3072 ≤ _
      rw [hwd]
      omega) a1, b1⟩
/-- a site that makes lambdas of kind 70 + i -/
def zLm (x : MethodName) (pc index i : Nat) : Prop := ∃ σ : Lambda.Shape, zLS[i]? = some (.lambdaSite x pc index σ) ∧ σ.captured = zLc i ∧ σ.captured ≠ [] ∧ ((σ.file x.cls).bind (layoutFields · 0)).map (·.2.1) = some (zLc i).toArray
def zLk (x : MethodName) (pc index i : Nat) : Prop := ∃ σ : Lambda.Shape, zLS[i]? = some (.lambdaSite x pc index σ) ∧ σ.captured = []
def zlm (i : Nat) (A : List zV) (h : zH) : Option (Nat × zH) := if zz h + 1 ≤ zCX h ∧ zs h + A.length ≤ zSX h then some (zz h, zlmH i A h) else none
theorem zy_lam {index i q : Nat} {A : List zV} {h1 : zH} (rest : List zV) (hd : decode M.2.1 pc = .ok (.invokedynamic index, 5)) (hl : zLm M.1 pc index i) (hA : zokL (zLc i) A) (hst : st = A.reverse ++ rest) (hw : (st.map zc).sum ≤ 60) (e : zlm i A h = some (q, h1)) (kk : zW G M d h0 o h9 (pc + 5) lv (vR (some q) :: rest) h1) : zW G M d h0 o h9 pc lv st h := by
  obtain ⟨σ, g1, g2, g3, g4⟩ := hl
  unfold zlm at e
  obtain ⟨c, e⟩ := zgd e
  cases e
  exact zw_lamMake i rest hd g1 g2 g3 g4 hA hst hw c.1 c.2 kk
theorem zy_lamC {index i a : Nat} (hd : decode M.2.1 pc = .ok (.invokedynamic index, 5)) (hl : zLk M.1 pc index i) (hw : (st.map zc).sum ≤ 60) (e : zsv h (50 + i) = some a) (kk : zW G M d h0 o h9 (pc + 5) lv (vR (some a) :: st) h) : zW G M d h0 o h9 pc lv st h := by
  obtain ⟨σ, g1, g2⟩ := hl
  exact zw_lamConst i hd g1 g2 e hw kk
end ZLM
