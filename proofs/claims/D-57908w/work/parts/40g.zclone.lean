/-! THE z LAYER, 26: values() of an enum: the clone of an array of references -/
section ZMR2
variable {G : zG} {M : zM} {d : Nat} {h0 h9 h h1 h2 : zH} {o : zO} {pc pc2 : Nat} {lv : zL} {st rest : List zV} {r r0 : Option Nat}
/-- the clone of an array of Joins -/
theorem zw_cloneJ {a idx : Nat} (hd : decode M.2.1 pc = .ok (.invokevirtual idx, 3)) (hl : Cond.methodLink M.1.cls idx ⟨"[LCsrCalculator$Join;", "clone", "()Ljava/lang/Object;"⟩ ∈ lw_all) (hk : zk h a = 62) (hc9 : zz h + 1 ≤ zCX h) (hs9 : zs h + zn h a ≤ zSX h) (hdd : 1 ≤ d) (hw : (st.map zc).sum ≤ 8)
    (kk : zW G M d h0 o h9 (pc + 3) lv (vR (some (zz h)) :: st) (zwR (zAl h 62 (zn h a) (zn h a)) (zz h) (zr h a))) : zW G M d h0 o h9 pc lv (vR (some a) :: st) h := by
  intro p e R s m args below meth c Q H locs ls C hr e1 hz hs hL hlv T hT X
  have hF := C.2.2.2.2.2.2.2.2.2.1
  have hts := C.2.2.2.2.2.1
  obtain ⟨cs, s1, s2, s3, s4, s5, s6⟩ := zcellA hr hF hk (by decide)
  have hK := (hF.1.2.1 62 (by decide)).2
  obtain ⟨-, kS, hkS, compS, hkindS⟩ := id s5
  obtain ⟨c0, t0, f1, f2, f3⟩ := Cond.castable_spec (va_Nw.use (A := args) rfl (hF.1.2.2.2.2.1 ("[LCsrCalculator$Join;", "java/lang/Cloneable") (by decide +kernel)))
  have hnm : s.vm.findClass "[LCsrCalculator$Join;" = some (G.2.1 62) := by
    rw [show ("[LCsrCalculator$Join;" : String) = "[" ++ (zAt 62).toString from by decide +kernel]
    obtain ⟨kA, comp, -, -, -, h4⟩ := hK
    exact h4
  cases hnm.symm.trans f1
  obtain ⟨rf, rl, rc, rs⟩ := C.2.2.2.2.2.2.2.2.2.2.2.1
  have eCX : zCX h = zCX h0 := by show h.1.2.1 = h0.1.2.1; rw [e1]
  have eSX : zSX h = zSX h0 := by show h.1.2.2.1 = h0.1.2.2.1; rw [e1]
  have hsz : (st.map zv).map (fun v => v.category) = st.map zc := by
    rw [List.map_map]
    exact List.map_congr_left (fun x _ => zc_ok x)
  obtain ⟨-, kT, hkT, comp, hkind⟩ := State.isArrayOf_alike X.warmed.alike s5
  obtain ⟨vm', X', st'⟩ := X.cloneArray C.1 C.2.2.2.2.1 (hts _ hl) (hts _ q1311) (hts _ q735) (hts _ q736) (hts _ q1312) (a := a) (cell := cs) (by rw [hT]; exact s1) (fun _ z => by rw [s3] at z; cases z) (zunk s3) (by rw [s2]; exact hnm) f2 (by rw [s2]; exact f3)
    (fun i v hv => by
      have hi : i < zn h a := by rw [← s4]; exact (Array.getElem?_eq_some_iff.mp hv).1
      have hv2 := s6 i hi
      rw [hv] at hv2
      cases hv2
      have hb2 : fits (zAt 62) (zval (zAt 62) h a i) = true := by
        show fits (.object "CsrCalculator$Join") (va_rf (zr h a i)) = true
        cases zr h a i <;> rfl
      simpa [State.fitsSlot, State.slotType?, hkT, hkind] using hb2)
    (g := F0 m pc ls (.ref a :: st.map zv)) rfl (by rw [C.2.2.2.1]; exact hlv.1) rfl (by rw [C.2.1]; exact hd) (by omega) (by
      have h9 : zlo d ≤ R.locals := rl
      have h8 : 3200 ≤ zlo d := by show 3200 ≤ 3200 + 80 * d; omega
      show 2 * 0 + _ + 14 ≤ _
      rw [hsz]
      omega) (by omega) (by rw [s4]; omega) (hloader := Vm.clonesLoader_of_array hkS hkindS)
  have hr1 : zRep G (zAl h 62 (zn h a) (zn h a)) (H.push { cls := G.2.1 62, slots := Array.replicate (zn h a) .null, vm := .none }) := by
    refine hr.al (cell := { cls := G.2.1 62, slots := Array.replicate (zn h a) .null, vm := .none }) (by decide) hc9 hs9 (by rw [← hr.1]; simp) (by simp) (fun q hq => by rw [← hr.1] at hq; rw [Array.getElem?_push, if_neg (Nat.ne_of_lt hq)]) rfl rfl (by rw [if_pos (by decide)]; simp) (fun j hj => by show zT 62 j ≠ .float; exact fun z => by cases z) (fun j hj => ?_)
    rw [hF.2.2.2.2.2.2 62 j (by decide)]
    show (Array.replicate (zn h a) Value.null)[j]? = some .null
    simp [hj]
  have hr2 : zRep G (zwR (zAl h 62 (zn h a) (zn h a)) (zz h) (zr h a)) (H.push { cls := cs.cls, slots := cs.slots }) := by
    have hkz : zk (zAl h 62 (zn h a) (zn h a)) (zz h) = 62 := zrw_s
    have hnz : zn (zAl h 62 (zn h a) (zn h a)) (zz h) = zn h a := zrw_s
    refine hr1.row (a := zz h) (cell := { cls := G.2.1 62, slots := Array.replicate (zn h a) .null, vm := .none }) (cell' := { cls := cs.cls, slots := cs.slots }) (by rw [hkz]; decide) hr.2.1.1 (by rw [← hr.1]; simp) (by rw [← hr.1]; simp) (by simp) (fun q hq => ?_) s2 rfl (by simp [s4]) rfl rfl rfl rfl rfl (fun j hj => ?_) (fun b i hb => ?_)
    · rw [← hr.1] at hq
      simp only [Array.getElem?_push, if_neg hq]
    · rw [hkz, hF.2.2.2.2.2.2 62 j (by decide)]
      rw [hnz] at hj
      have h7 := s6 j hj
      show cs.slots[j]? = some (va_rf (zrw (zrw (zr h) (zz h) (fun _ => none)) (zz h) (zr h a) (zz h) j))
      rw [zrw_s]
      exact h7
    · have key : ∀ t, zval t (zwR (zAl h 62 (zn h a) (zn h a)) (zz h) (zr h a)) b i = zval t (zAl h 62 (zn h a) (zn h a)) b i := by
        intro t
        cases t <;> first | rfl | (show va_rf (zrw (zrw (zr h) (zz h) _) (zz h) _ b i) = va_rf (zrw (zr h) (zz h) _ b i); rw [zrw_n hb])
      exact key _
  have hheap : ((T.setVm vm').pushCell { cls := cs.cls, slots := cs.slots }).heap = H.push { cls := cs.cls, slots := cs.slots } := by rw [← hT]; rfl
  have qz : zz (zwR (zAl h 62 (zn h a) (zn h a)) (zz h) (zr h a)) = zz h + 1 := rfl
  have qs : zs (zwR (zAl h 62 (zn h a) (zn h a)) (zz h) (zr h a)) = zs h + zn h a := rfl
  obtain ⟨t, a1, b1⟩ := kk p e R s m args below meth c Q _ locs ls C hr2 e1 (by rw [qz]; omega) (by rw [qs]; omega) hL hlv _ hheap (by
    rw [qz, qs]
    have q1 : zz h + 1 - zz h0 = zz h - zz h0 + 1 := by omega
    have q2 : zs h + zn h a - zs h0 = zs h - zs h0 + cs.slots.size := by omega
    rw [q1, q2]
    exact X')
  refine ⟨t, st' t ?_, b1⟩
  have hTs : T.heap.size = zz h := by rw [hT]; exact hr.1
  rw [hTs]
  exact a1
def zcJ (r : Option Nat) (h : zH) : Option (Nat × zH) := r.bind fun a => if zk h a = 62 ∧ zz h + 1 ≤ zCX h ∧ zs h + zn h a ≤ zSX h then some (zz h, zwR (zAl h 62 (zn h a) (zn h a)) (zz h) (zr h a)) else none
theorem zy_cloneJ {idx q : Nat} (hd : decode M.2.1 pc = .ok (.invokevirtual idx, 3)) (hl : Cond.methodLink M.1.cls idx ⟨"[LCsrCalculator$Join;", "clone", "()Ljava/lang/Object;"⟩ ∈ lw_all) (hdd : 1 ≤ d) (e : zcJ r h = some (q, h1)) (hw : (st.map zc).sum ≤ 8) (kk : zW G M d h0 o h9 (pc + 3) lv (vR (some q) :: st) h1) : zW G M d h0 o h9 pc lv (vR r :: st) h := by
  obtain ⟨a, rfl, e⟩ := zbind e
  obtain ⟨⟨c1, c2, c3⟩, e⟩ := zgd e
  cases e
  exact zw_cloneJ hd hl c1 c2 c3 hdd hw kk
end ZMR2
