/-! THE z LAYER, 19: a private method of the superclass -/
section ZPV
variable {G : zG} {M : zM} {d : Nat} {h0 h9 h : zH} {o : zO} {pc : Nat} {lv : zL} {st : List zV}
theorem zw_invP {M' : zM} {d' n idx b : Nat} {A : List zV} (rest : List zV) {o' : zO} {h2 : zH} {cn C0 : String} {x0 y0 : MethodName} (hd : decode M.2.1 pc = .ok (.invokevirtual idx, 3)) (hl : Cond.methodLink M.1.cls idx M'.1 ∈ lw_all) (hm : zMi M' n) (hpv : M'.1 ∈ zPV) (hsel : Cond.selects C0 x0 y0 ∈ lw_all) (hy0 : y0.cls = M'.1.cls) (hq : zkn (zk h b) = some cn) (hM : zMet G M' d' (vR (some b) :: A) h o' h2) (hd' : d' + 1 ≤ d) (hn : A.length = n) (hst : st = A.reverse ++ vR (some b) :: rest) (hw : (rest.map zc).sum ≤ 8)
    (kv : ∀ v, o' = .inl v → zW G M d h0 o h9 (pc + 3) lv (v.toList ++ rest) h2) (kx : ∀ q, o' = .inr q → zX G M d h0 o h9 pc lv q h2) : zW G M d h0 o h9 pc lv st h := by
  intro p e R s m args below meth c Q H locs ls C hr h1 hz hs hL hlv
  intro T hT X
  obtain ⟨hm, hinst⟩ := hm
  have hts := C.2.2.2.2.2.1
  obtain ⟨w1, w2, w3, -, w5⟩ := id hm
  obtain ⟨cell, b1, b2, b3, b4, -⟩ := zcls hr C.2.2.2.2.2.2.2.2.2.1 hq
  obtain ⟨mk, methM, hnamed, hmethM, hstM, habM⟩ := Cond.instanceMethod_spec (hts _ hinst)
  obtain ⟨methM', cM, hmethM', -, -, -, -, -, -, hsigM⟩ := zcw_spec hnamed (hts _ w1)
  cases hmethM.symm.trans hmethM'
  obtain ⟨c2, r2, m2, q1, q2, q3, q4, kP, hkP, hkPi⟩ := Cond.selects_spec (hts _ hsel)
  have hcls : m2.cls = mk.cls := by
    have e1 := findClass_of_methodNamed q3
    have e2 := findClass_of_methodNamed hnamed
    rw [hy0] at e1
    exact Option.some.inj (e1.symm.trans e2)
  rw [hcls] at hkP
  have hselP : selectMethod e.platform s.vm cell.cls mk = .method mk := selectMethod_private hmethM (C.2.2.2.2.2.2.2.2.2.1.1.2.2.2.2.2.2.2.2.2.1.2.1 _ hpv mk methM hnamed hmethM)
  have hst2 : (F0 m pc ls (st.map zv)).stack = (A.map zv).reverse ++ .ref b :: rest.map zv := by
    show st.map zv = _
    rw [hst]
    simp only [List.map_append, List.map_reverse, List.map_cons]
    rfl
  have hlen : (A.map zv).length = methM.sig.parameters.length := by rw [List.length_map, hn]; exact hm.len _ hsigM
  have hcell : T.heap[b]? = some cell := by rw [hT]; exact b1
  have hobj : ∀ z, cell.vm ≠ .statics z := fun z h => by rw [h] at b3; cases b3
  obtain ⟨vm₁, X₁, hstep₁⟩ := X.invokevirtual C.1 C.2.2.2.2.1 (hts _ hl) hnamed hmethM hstM hkP hkPi w3 (a := b) (cell := cell) hcell hobj hselP hmethM habM hkP hkPi (g := F0 m pc ls (st.map zv)) rfl (argsL := A.map zv) (rest := rest.map zv) hlen hst2 (by rw [C.2.1]; exact hd)
  exact zfin C hr h1 hz hs hL hlv hM hd' w5 w1 w2 hw hT X₁ (X₁.named hnamed) (by rw [C.2.1]; exact hd) (fun target ht => hstep₁ _ fun acts => by rw [doInvoke_state]; exact ht) kv kx
end ZPV
