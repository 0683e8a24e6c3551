/-! THE z LAYER, 8: arrays, new cells, statics, constants -/
section ZA
variable {G : zG} {M : zM} {d : Nat} {h0 h9 h : zH} {o : zO} {pc : Nat} {lv : zL} {st : List zV}
theorem zcellA {G : zG} {h : zH} {H : Heap} {s : State} {v : zE} {k a : Nat} (hr : zRep G h H) (hF : zF G v s) (hk : zk h a = k) (hm : k ∈ zarrs) : ∃ cell : Cell, H[a]? = some cell ∧ cell.cls = G.2.1 k ∧ cell.vm = .none ∧ cell.slots.size = zn h a ∧ s.isArrayOf cell (zAt k) ∧ ∀ j, j < zn h a → cell.slots[j]? = some (zval (zAt k) h a j) := by
  subst hk
  have ha : zarr (zk h a) = true ∧ zk h a ≠ 0 ∧ 50 ≤ zk h a := by
    revert hm
    generalize zk h a = k
    intro hm
    simp only [zarrs, List.mem_cons, List.not_mem_nil, or_false] at hm
    rcases hm with rfl | rfl | rfl | rfl | rfl | rfl | rfl <;> decide
  obtain ⟨cell, c1, c2, c3, c4, c5⟩ := hr.2.2.2.2 a ha.2.1
  rw [ha.1, if_pos rfl] at c4
  refine ⟨cell, c1, c2, c3, c4, (hF.1.2.1 _ hm).of c2 c3, fun j hj => ?_⟩
  have := c5 j hj
  rw [hF.2.2.2.2.2.2 _ _ ha.2.2] at this
  unfold zT at this
  rw [ha.1, if_pos rfl] at this
  exact this
theorem zunk {cell : Cell} (h : cell.vm = .none) : cell.vm ≠ .unknown := by rw [h]; exact fun z => by cases z
theorem zw_iald {a : Nat} {i : Int32} (hd : decode M.2.1 pc = .ok (.iaload, 1)) (hk : zk h a = 50) (hi : vp_in i (zn h a)) (kk : zW G M d h0 o h9 (pc + 1) lv (vI (zi h a i.toNatClampNeg) :: st) h) : zW G M d h0 o h9 pc lv (vI i :: vR (some a) :: st) h := by
  intro p e R s m args below meth c Q H locs ls C hr h1 hz hs hL hlv
  obtain ⟨cell, c1, c2, c3, c4, c5, c6⟩ := zcellA hr C.2.2.2.2.2.2.2.2.2.1 hk (by decide)
  exact W.iald C.1 C.2.1 c1 c5 (zunk c3) (by rw [c4]; exact hi) (c6 _ (Nat.not_le.mp fun q => hi (Or.inr q))) rfl rfl hd (kk p e R s m args below meth c Q H locs ls C hr h1 hz hs hL hlv)
theorem zw_bald {a : Nat} {i : Int32} (hd : decode M.2.1 pc = .ok (.baload, 1)) (hk : zk h a = 53) (hi : vp_in i (zn h a)) (kk : zW G M d h0 o h9 (pc + 1) lv (vI (zi h a i.toNatClampNeg) :: st) h) : zW G M d h0 o h9 pc lv (vI i :: vR (some a) :: st) h := by
  intro p e R s m args below meth c Q H locs ls C hr h1 hz hs hL hlv
  obtain ⟨cell, c1, c2, c3, c4, c5, c6⟩ := zcellA hr C.2.2.2.2.2.2.2.2.2.1 hk (by decide)
  exact W.bald C.1 C.2.1 c1 c5 (zunk c3) (by rw [c4]; exact hi) (c6 _ (Nat.not_le.mp fun q => hi (Or.inr q))) rfl rfl hd (kk p e R s m args below meth c Q H locs ls C hr h1 hz hs hL hlv)
theorem zw_lald {a : Nat} {i : Int32} (hd : decode M.2.1 pc = .ok (.laload, 1)) (hk : zk h a = 51) (hi : vp_in i (zn h a)) (kk : zW G M d h0 o h9 (pc + 1) lv (vJ (zj h a i.toNatClampNeg) :: st) h) : zW G M d h0 o h9 pc lv (vI i :: vR (some a) :: st) h := by
  intro p e R s m args below meth c Q H locs ls C hr h1 hz hs hL hlv
  obtain ⟨cell, c1, c2, c3, c4, c5, c6⟩ := zcellA hr C.2.2.2.2.2.2.2.2.2.1 hk (by decide)
  exact W.lald C.1 C.2.1 c1 c5 (zunk c3) (by rw [c4]; exact hi) (c6 _ (Nat.not_le.mp fun q => hi (Or.inr q))) rfl rfl hd (kk p e R s m args below meth c Q H locs ls C hr h1 hz hs hL hlv)
theorem zw_dald {a : Nat} {i : Int32} (hd : decode M.2.1 pc = .ok (.daload, 1)) (hk : zk h a = 52) (hi : vp_in i (zn h a)) (kk : zW G M d h0 o h9 (pc + 1) lv (vD (zd h a i.toNatClampNeg) :: st) h) : zW G M d h0 o h9 pc lv (vI i :: vR (some a) :: st) h := by
  intro p e R s m args below meth c Q H locs ls C hr h1 hz hs hL hlv
  obtain ⟨cell, c1, c2, c3, c4, c5, c6⟩ := zcellA hr C.2.2.2.2.2.2.2.2.2.1 hk (by decide)
  exact W.dald C.1 C.2.1 c1 c5 (zunk c3) (by rw [c4]; exact hi) (c6 _ (Nat.not_le.mp fun q => hi (Or.inr q))) rfl rfl hd (kk p e R s m args below meth c Q H locs ls C hr h1 hz hs hL hlv)
/-- array kinds of references -/
def zarq : List Nat := [60, 61, 62]
theorem zarq_in {k : Nat} (h : k ∈ zarq) : k ∈ zarrs ∧ (zAt k).isReference = true ∧ refKind (zAt k) = true ∧ ∃ C, zAt k = .object C := by
  simp only [zarq, List.mem_cons, List.not_mem_nil, or_false] at h
  rcases h with rfl | rfl | rfl <;> exact ⟨by decide, rfl, rfl, _, rfl⟩
theorem zval_ref {k : Nat} (h : k ∈ zarq) {hh : zH} {a j : Nat} : zval (zAt k) hh a j = va_rf (zr hh a j) := by
  obtain ⟨-, -, -, C, e⟩ := zarq_in h
  rw [e]
  rfl
theorem zw_aald {k a : Nat} {i : Int32} (hd : decode M.2.1 pc = .ok (.aaload, 1)) (hk : zk h a = k) (hm : k ∈ zarq) (hi : vp_in i (zn h a)) (kk : zW G M d h0 o h9 (pc + 1) lv (vR (zr h a i.toNatClampNeg) :: st) h) : zW G M d h0 o h9 pc lv (vI i :: vR (some a) :: st) h := by
  intro p e R s m args below meth c Q H locs ls C hr h1 hz hs hL hlv
  obtain ⟨g1, g2, -⟩ := zarq_in hm
  obtain ⟨cell, c1, c2, c3, c4, c5, c6⟩ := zcellA hr C.2.2.2.2.2.2.2.2.2.1 hk g1
  have hv := c6 _ (Nat.not_le.mp fun q => hi (Or.inr q))
  rw [zval_ref hm] at hv
  exact W.aald C.1 C.2.1 c1 c5 g2 (zunk c3) (by rw [c4]; exact hi) hv rfl rfl hd (kk p e R s m args below meth c Q H locs ls C hr h1 hz hs hL hlv)
theorem zw_alen {k a : Nat} (hd : decode M.2.1 pc = .ok (.arraylength, 1)) (hk : zk h a = k) (hm : k ∈ zarrs) (kk : zW G M d h0 o h9 (pc + 1) lv (vI (nI (zn h a)) :: st) h) : zW G M d h0 o h9 pc lv (vR (some a) :: st) h := by
  intro p e R s m args below meth c Q H locs ls C hr h1 hz hs hL hlv
  obtain ⟨cell, c1, c2, c3, c4, c5, c6⟩ := zcellA hr C.2.2.2.2.2.2.2.2.2.1 hk hm
  exact W.alen C.1 C.2.1 c1 c5 (by rw [c4]; rfl) rfl rfl hd (kk p e R s m args below meth c Q H locs ls C hr h1 hz hs hL hlv)
/-- the walk goes on behind a store into an array -/
theorem zast {k a j : Nat} {v : zV} {p : Program} {e : Env} {R : Room} {s : State} {m : MethodId} {args : Array Value} {below : List Frame} {meth : Method} {c : Code} {Q : State → Prop} {H : Heap} {locs : List Loc} {ls : Array Slot} {pc2 : Nat} {cell : Cell}
    (C : zC G M d h0 o h9 p e R s m args below meth c Q) (hr : zRep G h H) (h1 : h.1 = h0.1) (hz : zz h0 ≤ zz h) (hs : zs h0 ≤ zs h) (hL : ∀ q ∈ locs, zb h0 ≤ q.base) (hlv : lv_has ls M.2.2.1 (lv.map zvl))
    (hk : zk h a = k) (hm : k ∈ zarrs) (hj : j < zn h a) (hb : zb h ≤ a) (hv : zfit (zAt k) v) (c1 : H[a]? = some cell) (kk : zW G M d h0 o h9 pc2 lv st (zput h a j v)) :
    ∀ H' : Heap, H'[a]? = some (cell.setSlot j (zv v)) → H'.size = H.size → (∀ q, q ≠ a → H'[q]? = H[q]?) → W p G.1 e R s m args below meth c H' (locs ++ [⟨a, j⟩]) (zz h - zz h0) (zs h - zs h0) Q (F0 m pc2 ls (st.map zv)) := by
  intro H' e1 e2 e3
  subst hk
  have ha : zarr (zk h a) = true ∧ zk h a ≠ 0 ∧ 50 ≤ zk h a := by
    revert hm
    generalize zk h a = k
    intro hm
    simp only [zarrs, List.mem_cons, List.not_mem_nil, or_false] at hm
    rcases hm with rfl | rfl | rfl | rfl | rfl | rfl | rfl <;> decide
  have hI : ∀ i, G.2.2.1 (zk h a) i = i := fun i => C.2.2.2.2.2.2.2.2.2.1.2.2.2.2.2.2 _ _ ha.2.2
  have hT : ∀ i, zT (zk h a) i = zAt (zk h a) := fun i => by unfold zT; rw [ha.1, if_pos rfl]
  obtain ⟨g1, g2, g3, g4, g5⟩ := zput_same (h := h) (a := a) (j := j) (v := v)
  have hr' : zRep G (zput h a j v) H' := hr.put (a := a) (j := j) (v := zv v) ha.2.1 hj hb c1 (fun i hi hij => by rw [hI, hI]; exact hij) (by rw [hI]; exact e1) e2 e3 g1 g2 g3 g4 g5 (by rw [hT]; exact zput_new hv) (fun b i hbi => zput_old hbi)
  have := kk p e R s m args below meth c Q H' (locs ++ [⟨a, j⟩]) ls C hr' (g1.trans h1) (by rw [g2]; exact hz) (by rw [g3]; exact hs) (fun x hx => by
    rcases List.mem_append.mp hx with hx | hx
    · exact hL x hx
    · rw [List.mem_singleton.mp hx]
      show h0.1.1 ≤ a
      rw [← h1]; exact hb) hlv
  rw [g2, g3] at this
  exact this
theorem zfitI {x : Int32} : zfit .int (vI x) := ⟨⟨by decide, by decide, by decide, rfl⟩, rfl, rfl⟩
theorem zfitB {x : Int32} : zfit .byte (vI (vp_nar .byte x)) := ⟨⟨by decide, by decide, by decide, rfl⟩, by rw [vp_nar_byte, pk_nb], by rw [vp_nar_byte, pk_fb]⟩
theorem zw_iast {a : Nat} {i x : Int32} (hd : decode M.2.1 pc = .ok (.iastore, 1)) (hk : zk h a = 50) (hi : vp_in i (zn h a)) (hb : zb h ≤ a) (kk : zW G M d h0 o h9 (pc + 1) lv st (zput h a i.toNatClampNeg (vI x))) : zW G M d h0 o h9 pc lv (vI x :: vI i :: vR (some a) :: st) h := by
  intro p e R s m args below meth c Q H locs ls C hr h1 hz hs hL hlv
  obtain ⟨cell, c1, c2, c3, c4, c5, c6⟩ := zcellA hr C.2.2.2.2.2.2.2.2.2.1 hk (by decide)
  exact W.iast C.1 C.2.1 c1 c5 (zunk c3) (by rw [c4]; exact hi) rfl rfl hd (zast C hr h1 hz hs hL hlv hk (by decide) (Nat.not_le.mp fun q => hi (Or.inr q)) hb zfitI c1 kk)
theorem zw_bast {a : Nat} {i x : Int32} (hd : decode M.2.1 pc = .ok (.bastore, 1)) (hk : zk h a = 53) (hi : vp_in i (zn h a)) (hb : zb h ≤ a) (kk : zW G M d h0 o h9 (pc + 1) lv st (zput h a i.toNatClampNeg (vI (vp_nar .byte x)))) : zW G M d h0 o h9 pc lv (vI x :: vI i :: vR (some a) :: st) h := by
  intro p e R s m args below meth c Q H locs ls C hr h1 hz hs hL hlv
  obtain ⟨cell, c1, c2, c3, c4, c5, c6⟩ := zcellA hr C.2.2.2.2.2.2.2.2.2.1 hk (by decide)
  refine W.bast C.1 C.2.1 c1 c5 (zunk c3) (by rw [c4]; exact hi) rfl rfl hd (fun H' e1 e2 e3 => zast C hr h1 hz hs hL hlv hk (by decide) (Nat.not_le.mp fun q => hi (Or.inr q)) hb zfitB c1 kk H' ?_ e2 e3)
  rw [e1]
  rfl
theorem zw_last {a : Nat} {i : Int32} {x : Int64} (hd : decode M.2.1 pc = .ok (.lastore, 1)) (hk : zk h a = 51) (hi : vp_in i (zn h a)) (hb : zb h ≤ a) (kk : zW G M d h0 o h9 (pc + 1) lv st (zput h a i.toNatClampNeg (vJ x))) : zW G M d h0 o h9 pc lv (vJ x :: vI i :: vR (some a) :: st) h := by
  intro p e R s m args below meth c Q H locs ls C hr h1 hz hs hL hlv
  obtain ⟨cell, c1, c2, c3, c4, c5, c6⟩ := zcellA hr C.2.2.2.2.2.2.2.2.2.1 hk (by decide)
  exact W.last C.1 C.2.1 c1 c5 (zunk c3) (by rw [c4]; exact hi) rfl rfl hd (zast C hr h1 hz hs hL hlv hk (by decide) (Nat.not_le.mp fun q => hi (Or.inr q)) hb (show zfit .long (vJ x) from rfl) c1 kk)
theorem zw_dast {a : Nat} {i : Int32} {x : UInt64} (hd : decode M.2.1 pc = .ok (.dastore, 1)) (hk : zk h a = 52) (hi : vp_in i (zn h a)) (hb : zb h ≤ a) (kk : zW G M d h0 o h9 (pc + 1) lv st (zput h a i.toNatClampNeg (vD x))) : zW G M d h0 o h9 pc lv (vD x :: vI i :: vR (some a) :: st) h := by
  intro p e R s m args below meth c Q H locs ls C hr h1 hz hs hL hlv
  obtain ⟨cell, c1, c2, c3, c4, c5, c6⟩ := zcellA hr C.2.2.2.2.2.2.2.2.2.1 hk (by decide)
  exact W.dast C.1 C.2.1 c1 c5 (zunk c3) (by rw [c4]; exact hi) rfl rfl hd (zast C hr h1 hz hs hL hlv hk (by decide) (Nat.not_le.mp fun q => hi (Or.inr q)) hb (show zfit .double (vD x) from rfl) c1 kk)
/-- the class's name of a kind of objects -/
def zkn (k : Nat) : Option String := if k = 23 then some "CsrCalculator$Join$1" else if k = 24 then some "CsrCalculator$Join$2" else if k = 0 then none else (zcl[k - 1]?).map (fun q => q.1)
theorem zkn0 {k : Nat} {cn : String} (h : zkn k = some cn) : k ≠ 0 := by
  intro e
  subst e
  cases h
/-- a cell of a kind: its class's name -/
theorem zcls {G : zG} {h : zH} {H : Heap} {s : State} {v : zE} {a : Nat} {cn : String} (hr : zRep G h H) (hF : zF G v s) (hq : zkn (zk h a) = some cn) : ∃ cell : Cell, H[a]? = some cell ∧ cell.vm = .none ∧ cell.vm.isStatics = false ∧ s.vm.findClass cn = some cell.cls ∧ ∃ kC, s.vm.classes[cell.cls]? = some kC := by
  have h0 := zkn0 hq
  obtain ⟨cell, c1, c2, c3, -⟩ := hr.2.2.2.2 a h0
  unfold zkn at hq
  by_cases h23 : zk h a = 23
  · rw [if_pos h23] at hq
    cases hq
    rw [h23] at c2
    obtain ⟨⟨g1, kC, g2⟩, -⟩ := hF.1.2.2.2.2.2.2.2.2.2.2.1
    exact ⟨cell, c1, c3, by rw [c3]; rfl, by rw [c2]; exact g1, kC, by rw [c2]; exact g2⟩
  · rw [if_neg h23] at hq
    by_cases h24 : zk h a = 24
    · rw [if_pos h24] at hq
      cases hq
      rw [h24] at c2
      obtain ⟨⟨g1, kC, g2⟩, -⟩ := hF.1.2.2.2.2.2.2.2.2.2.2.2
      exact ⟨cell, c1, c3, by rw [c3]; rfl, by rw [c2]; exact g1, kC, by rw [c2]; exact g2⟩
    · rw [if_neg h24, if_neg h0] at hq
      obtain ⟨q, hq2, rfl⟩ := Option.map_eq_some_iff.mp hq
      have hke : zk h a - 1 + 1 = zk h a := by omega
      obtain ⟨-, hfc, kC, hkC, -⟩ := hF.1.1 _ q hq2
      rw [hke] at hfc hkC
      exact ⟨cell, c1, c3, by rw [c3]; rfl, by rw [c2]; exact hfc, kC, by rw [c2]; exact hkC⟩
/-- may a class be used as another: by a castable word, or the same -/
theorem zasg {args : Array Value} {G : zG} {s : State} {v : zE} {cn T : String} {c t : ClassId} (hF : zF G v s) (h1 : s.vm.findClass cn = some c) (h2 : s.vm.findClass T = some t) (h : cn = T ∨ (cn, T) ∈ zCA) : s.vm.assignable c t = true := by
  rcases h with rfl | h
  · cases h1.symm.trans h2
    exact va_asg _ _
  · obtain ⟨c0, t0, f1, f2, f3⟩ := Cond.castable_spec (va_Nw.use (A := args) rfl (hF.1.2.2.2.2.1 _ h))
    cases h1.symm.trans f1
    cases h2.symm.trans f2
    exact f3
/-- which kinds may lie in an array of a kind: the class's name, by a castable word or the same -/
def zcan (k kv : Nat) : Prop := ∃ (cn T : String), zkn kv = some cn ∧ zAt k = .object T ∧ (cn = T ∨ (cn, T) ∈ zCA)
theorem zw_aast {k a v : Nat} {i : Int32} (hd : decode M.2.1 pc = .ok (.aastore, 1)) (hk : zk h a = k) (hm : k ∈ zarq) (hi : vp_in i (zn h a)) (hb : zb h ≤ a) (hc : zcan k (zk h v)) (kk : zW G M d h0 o h9 (pc + 1) lv st (zput h a i.toNatClampNeg (vR (some v)))) : zW G M d h0 o h9 pc lv (vR (some v) :: vI i :: vR (some a) :: st) h := by
  intro p e R s m args below meth c Q H locs ls C hr h1 hz hs hL hlv
  obtain ⟨g1, g2, g3, -⟩ := zarq_in hm
  have hF := C.2.2.2.2.2.2.2.2.2.1
  obtain ⟨cell, c1, c2, c3, c4, c5, c6⟩ := zcellA hr hF hk g1
  obtain ⟨cn, T, hkv, hT, hcan⟩ := hc
  obtain ⟨cv, v1, v2, v3, v4, kC, v5⟩ := zcls hr hF hkv
  have hA := (hF.1.2.1 _ g1).2
  rw [hT] at hA
  obtain ⟨kA, comp, a1, a2, a3, a4⟩ := hA
  obtain ⟨kcomp, hkcomp, -⟩ := Vm.findClass_spec a3
  have hasg : s.vm.assignable cv.cls comp = true := zasg (args := args) hF v4 a3 hcan
  exact W.aast C.1 C.2.1 (k := kA) (kv := kC) (kcomp := kcomp) (comp := comp) (t := .object T) c1 (fun z => by rw [c3]; exact fun y => by cases y) (zunk c3) (by rw [c2, ← hk, hk]; exact a1) a2 rfl hkcomp ⟨fun z => hi (Or.inl z), by rw [c4]; exact Nat.not_le.mp fun q => hi (Or.inr q)⟩ v1 (fun z => by rw [v2]; exact fun y => by cases y) v5 hasg rfl rfl hd
    (zast C hr h1 hz hs hL hlv hk g1 (Nat.not_le.mp fun q => hi (Or.inr q)) hb (show zfit (zAt k) (vR (some v)) from g3) c1 kk)
end ZA
