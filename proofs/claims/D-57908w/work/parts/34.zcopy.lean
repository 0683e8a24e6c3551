/-! THE z LAYER, 14: System.arraycopy, getClass -/
/-- one whole row of one cell is written -/
theorem zRep.row {G : zG} {h h' : zH} {H H' : Heap} {a : Nat} {cell cell' : Cell} (r : zRep G h H) (hk : zk h a ≠ 0) (hb : zb h ≤ a)
    (hcell : H[a]? = some cell) (e1 : H'[a]? = some cell') (e2 : H'.size = H.size) (e3 : ∀ q, q ≠ a → H'[q]? = H[q]?)
    (c1 : cell'.cls = cell.cls) (c2 : cell'.vm = cell.vm) (c3 : cell'.slots.size = cell.slots.size)
    (g1 : h'.1 = h.1) (g2 : zz h' = zz h) (g9 : zs h' = zs h) (g3 : zk h' = zk h) (g4 : zn h' = zn h)
    (g5 : ∀ j, j < zn h a → cell'.slots[G.2.2.1 (zk h a) j]? = some (zval (zT (zk h a) j) h' a j))
    (g6 : ∀ b i, b ≠ a → zval (zT (zk h b) i) h' b i = zval (zT (zk h b) i) h b i) : zRep G h' H' := by
  obtain ⟨r1, r2, r3, r4, r5⟩ := r
  have hbb : zb h' = zb h := by show h'.1.1 = h.1.1; rw [g1]
  have hcx : zCX h' = zCX h := by show h'.1.2.1 = h.1.2.1; rw [g1]
  have hsx : zSX h' = zSX h := by show h'.1.2.2.1 = h.1.2.2.1; rw [g1]
  refine ⟨by rw [e2, g2]; exact r1, by rw [hbb, g2, g9, hcx, hsx]; exact r2, by rw [hbb]; exact r3, fun q hq => ?_, fun b hb2 => ?_⟩
  · rw [hbb] at hq
    rw [e3 q (by omega)]
    exact r4 q hq
  · rw [g3] at hb2
    unfold zCell
    rw [g3, g4]
    by_cases hba : b = a
    · subst hba
      obtain ⟨q1, h1, h2, h3, h4, h5⟩ := r5 b hk
      cases Option.some.inj (h1.symm.trans hcell)
      exact ⟨_, e1, c1.trans h2, c2.trans h3, by rw [c3]; exact h4, g5⟩
    · obtain ⟨q1, h1, h2, h3, h4, h5⟩ := r5 b hb2
      refine ⟨q1, by rw [e3 b hba]; exact h1, h2, h3, h4, fun i hi => ?_⟩
      rw [g6 b i hba]
      exact h5 i hi
/-- n values of f from place sp on, laid into g from place dp on -/
def zcpy {α : Type} (f g : Nat → α) (sp dp n : Nat) : Nat → α := fun k => if dp ≤ k ∧ k < dp + n then f (sp + (k - dp)) else g k
section ZCP
variable {G : zG} {M : zM} {d : Nat} {h0 h9 h : zH} {o : zO} {pc : Nat} {lv : zL} {st : List zV}
theorem znn {z : Int32} (hz : ¬ z < 0) : z.toInt = (z.toNatClampNeg : Int) := by
  have hz0 : (0 : Int) ≤ z.toInt := by
    have := Int32.not_lt.mp hz
    simpa using Int32.le_iff_toInt_le.mp this
  show z.toInt = ((z.toInt.toNat : Nat) : Int)
  omega
/-- the link of arraycopy -/
def zlc (own : String) (idx : Nat) : Prop := Cond.methodLink own idx arraycopyName ∈ lw_all
theorem zw_copy {k a a0 idx : Nat} {n dp sp : Int32} {h2 : zH} (hd : decode M.2.1 pc = .ok (.invokestatic idx, 3)) (hl : zlc M.1.cls idx) (hdd : 1 ≤ d)
    (hk0 : zk h a0 = k) (hk1 : zk h a = k) (hm : k ∈ zarrs) (hb : zb h ≤ a) (h1 : ¬ sp < 0) (h2' : ¬ dp < 0) (h3 : ¬ n < 0) (h4 : sp.toNatClampNeg + n.toNatClampNeg ≤ zn h a0) (h5 : dp.toNatClampNeg + n.toNatClampNeg ≤ zn h a)
    (hvals : ∀ i, i < n.toNatClampNeg → zfit (zAt k) (zfld (zAt k) h a0 (sp.toNatClampNeg + i)) ∧ (∀ y, zfld (zAt k) h a0 (sp.toNatClampNeg + i) = vR (some y) → zcan k (zk h y)))
    (q1 : h2.1 = h.1) (q2 : zz h2 = zz h) (q9 : zs h2 = zs h) (q3 : zk h2 = zk h) (q4 : zn h2 = zn h)
    (q5 : ∀ j, zval (zAt k) h2 a j = zcpy (fun j => zval (zAt k) h a0 j) (fun j => zval (zAt k) h a j) sp.toNatClampNeg dp.toNatClampNeg n.toNatClampNeg j)
    (q6 : ∀ t b i, b ≠ a → zval t h2 b i = zval t h b i)
    (hw : (st.map zc).sum ≤ 8)
    (kk : zW G M d h0 o h9 (pc + 3) lv st h2) : zW G M d h0 o h9 pc lv (vI n :: vI dp :: vR (some a) :: vI sp :: vR (some a0) :: st) h := by
  intro p e R s m args below meth c Q H locs ls C hr e1 hz hs hL hlv T hT X
  have hF := C.2.2.2.2.2.2.2.2.2.1
  obtain ⟨cs, s1, s2, s3, s4, s5, s6⟩ := zcellA hr hF hk0 hm
  obtain ⟨cd, t1, t2, t3, t4, t5, t6⟩ := zcellA hr hF hk1 hm
  have hts := C.2.2.2.2.2.1
  obtain ⟨-, ks, hks, cms, hkks⟩ := s5
  obtain ⟨-, kd, hkd, cmd, hkkd⟩ := t5
  have hK := (hF.1.2.1 _ hm).2
  obtain ⟨rf, rl, -⟩ := C.2.2.2.2.2.2.2.2.2.2.2.1
  have ha : zarr k = true ∧ k ≠ 0 ∧ 50 ≤ k := by
    revert hm
    generalize k = k
    intro hm
    simp only [zarrs, List.mem_cons, List.not_mem_nil, or_false] at hm
    rcases hm with rfl | rfl | rfl | rfl | rfl | rfl | rfl <;> decide
  have hsz : (st.map zv).map (fun v => v.category) = st.map zc := by
    rw [List.map_map]
    exact List.map_congr_left (fun x _ => zc_ok x)
  have hget : ∀ i, i < n.toNatClampNeg → cs.slots.getD (sp.toNatClampNeg + i) .null = zval (zAt k) h a0 (sp.toNatClampNeg + i) := by
    intro i hi
    rw [Array.getD_eq_getD_getElem?, s6 _ (by omega)]
    rfl
  obtain ⟨vm', X', step⟩ := X.arraycopy C.1 C.2.2.2.2.1 (hts _ hl) (hts _ q499) (hts _ q498) (hts _ q199) (src := a0) (dst := a) (cs := cs) (cd := cd) (srcPos := sp) (destPos := dp) (n := n) (by rw [hT]; exact s1) (by rw [hT]; exact t1)
    (fun _ z => by rw [s3] at z; cases z) (fun _ z => by rw [t3] at z; cases z) (zunk s3) (zunk t3) hks hkd hkks hkkd (by simp) h1 h2' h3
    (by rw [znn h1, znn h3, s4]; omega) (by rw [znn h2', znn h3, t4]; omega)
    (fun vm₁ hal i hi => by
      rw [hget i hi]
      obtain ⟨v1, v2⟩ := hvals i hi
      rw [← zfld_ok]
      refine ⟨(zfit_nf v1).2, ?_⟩
      revert v1 v2
      generalize zfld (zAt k) h a0 (sp.toNatClampNeg + i) = x
      intro v1 v2
      rcases x with x | x | x | x | x <;> try exact trivial
      cases x with
      | none => exact trivial
      | some y =>
        obtain ⟨cn, T9, hkv, hT9, hcan⟩ := v2 y rfl
        obtain ⟨cv, w1, w2, w3, w4, kC, w5⟩ := zcls hr hF hkv
        have hA := hK
        rw [hT9] at hA
        obtain ⟨kA, comp, a1, a2, a3, a4⟩ := hA
        obtain ⟨kE, hkE, -⟩ := Vm.findClass_spec a3
        have hasg : s.vm.assignable cv.cls comp = true := zasg (args := args) hF w4 a3 hcan
        rw [t2] at hkd
        cases hkd.symm.trans a1
        rw [a2] at hkkd
        obtain ⟨rfl, -⟩ := Kind.array.inj hkkd
        obtain ⟨kC', hkC', -⟩ := hal.2.2 _ _ w5
        obtain ⟨kE', hkE', -⟩ := hal.2.2 _ _ hkE
        refine ⟨cv, (show T.heap[y]? = some cv by rw [hT]; exact w1), (fun q z => by rw [w2] at z; cases z), ⟨kC', hkC'⟩, ⟨kE', hkE'⟩, ?_⟩
        show vm₁.assignable _ _ = true
        rw [hal.assignable]
        exact hasg)
    (g := F0 m pc ls (.int n :: .int dp :: .ref a :: .int sp :: .ref a0 :: st.map zv)) rfl (by rw [C.2.2.2.1]; exact hlv.1) (rest := st.map zv) rfl (by rw [C.2.1]; exact hd) (by omega)
    (by
      have : nativeFrameWords "java/lang/System" "arraycopy" 5 ≤ 100 := by decide
      have h9 : zlo d ≤ R.locals := rl
      have h8 : 3200 ≤ zlo d := by show 3200 ≤ 3200 + 80 * d; omega
      show 2 * 0 + _ + _ ≤ _
      rw [hsz]
      omega)
  have hfc := Cell.storeRun_facts cd dp.toNatClampNeg (cs.stretch sp.toNatClampNeg n.toNatClampNeg)
  have hlt : a < H.size := (Array.getElem?_eq_some_iff.mp t1).1
  have hheap : ((T.setVm vm').setCell a (copied cs cd sp dp n)).heap = H.setIfInBounds a (copied cs cd sp dp n) := by rw [← hT]; rfl
  have hr' : zRep G h2 (H.setIfInBounds a (copied cs cd sp dp n)) := by
    refine hr.row (a := a) (cell := cd) (cell' := copied cs cd sp dp n) (by rw [hk1]; exact ha.2.1) hb t1 (by simp [Array.getElem?_setIfInBounds, hlt]) (by simp) (fun q hq => by simp [Array.getElem?_setIfInBounds, Ne.symm hq]) hfc.1 hfc.2.1 hfc.2.2.1 q1 q2 q9 q3 q4 (fun j hj => ?_) (fun b i hb9 => q6 _ _ _ hb9)
    have hI : G.2.2.1 (zk h a) j = j := by rw [hk1]; exact hF.2.2.2.2.2.2 _ _ ha.2.2
    have hTk : zT (zk h a) j = zAt k := by rw [hk1]; unfold zT; rw [ha.1, if_pos rfl]
    rw [hI, hTk, q5]
    show (cd.storeRun dp.toNatClampNeg (cs.stretch sp.toNatClampNeg n.toNatClampNeg)).slots[j]? = _
    rw [Cell.storeRun_get _ _ _ _ (by rw [Cell.stretch_length, t4]; omega), Cell.stretch_length]
    unfold zcpy
    by_cases hin : dp.toNatClampNeg ≤ j ∧ j < dp.toNatClampNeg + n.toNatClampNeg
    · rw [if_pos hin, if_pos hin]
      have h7 := hget (j - dp.toNatClampNeg) (by omega)
      unfold Cell.stretch
      rw [List.getElem?_map, List.getElem?_range (by omega)]
      show some (cs.slots.getD (sp.toNatClampNeg + (j - dp.toNatClampNeg)) .null) = _
      rw [h7]
    · rw [if_neg hin, if_neg hin]
      exact t6 j hj
  obtain ⟨t, a1, b1⟩ := kk p e R s m args below meth c Q _ (locs ++ (cs.stretch sp.toNatClampNeg n.toNatClampNeg).zipIdx.map fun q => ⟨a, dp.toNatClampNeg + q.2⟩) ls C hr' (q1.trans e1) (by rw [q2]; exact hz) (by rw [q9]; exact hs) (fun x hx => by
    rcases List.mem_append.mp hx with hx | hx
    · exact hL x hx
    · obtain ⟨z, -, hz⟩ := List.mem_map.mp hx
      rw [← hz]
      show h0.1.1 ≤ a
      rw [← e1]; exact hb) hlv _ hheap (by rw [q2, q9]; exact X')
  exact ⟨t, step t a1, b1⟩
theorem zw_getC {a idx mi : Nat} (hd : decode M.2.1 pc = .ok (.invokevirtual idx, 3)) (hM : M.1.cls = "java/util/Arrays") (hi : idx = 86) (hk : zk h a = 60) (hmi : zsv h 40 = some mi) (hdd : 1 ≤ d) (hw : (st.map zc).sum ≤ 8)
    (kk : zW G M d h0 o h9 (pc + 3) lv (vR (some mi) :: st) h) : zW G M d h0 o h9 pc lv (vR (some a) :: st) h := by
  intro p e R s m args below meth c Q H locs ls C hr e1 hz hs hL hlv
  have hF := C.2.2.2.2.2.2.2.2.2.1
  have hts := C.2.2.2.2.2.1
  obtain ⟨cs, s1, s2, s3, s4, s5, s6⟩ := zcellA hr hF hk (by decide)
  obtain ⟨-, -, -, -, -, nmA⟩ := (hF.1.2.1 60 (by decide)).2
  obtain ⟨mi', m1, m2⟩ := hF.2.2.2.1
  obtain ⟨rf, rl, -⟩ := C.2.2.2.2.2.2.2.2.2.2.2.1
  have e40 : mi' = mi := by
    have : zsv h 40 = some mi' := by show h.1.2.2.2.2 40 = _; rw [e1]; exact m1
    exact Option.some.inj (this.symm.trans hmi)
  subst e40 hi
  have hsz : (st.map zv).map (fun v => v.category) = st.map zc := by
    rw [List.map_map]
    exact List.map_congr_left (fun x _ => zc_ok x)
  exact va_getC C.1 C.2.1 (C.2.2.2.1.trans hlv.1.symm) C.2.2.2.2.1 (hts _ (by rw [hM]; exact q1263)) (va_Nw.use (A := args) rfl (hF.1.2.2.2.2.2.2.2.2.1 _ (by decide +kernel))) (hts _ q3073) (hts _ q1264) (hts _ q1293) m2 ⟨cs, s1, by rw [s3]; rfl, by rw [s2]; exact nmA⟩ (by omega) (by
      have h9 : zlo d ≤ R.locals := rl
      have h8 : 3200 ≤ zlo d := by show 3200 ≤ 3200 + 80 * d; omega
      rw [hsz]
      omega) hd (kk p e R s m args below meth c Q H locs ls C hr e1 hz hs hL hlv)
end ZCP
