/-! THE z LAYER, 20: more rows for the printed proofs -/
section ZMR
variable {G : zG} {M : zM} {d : Nat} {h0 h9 h h1 h2 : zH} {o : zO} {pc pc2 : Nat} {lv : zL} {st rest : List zV} {r r0 : Option Nat}
def zgC (r : Option Nat) (h : zH) : Option Nat := r.bind fun a => if zk h a = 60 then zsv h 40 else none
theorem zy_getC {idx mi : Nat} (hd : decode M.2.1 pc = .ok (.invokevirtual idx, 3)) (hM : M.1.cls = "java/util/Arrays") (hi : idx = 86) (e : zgC r h = some mi) (hdd : 1 ≤ d) (hw : (st.map zc).sum ≤ 8)
    (kk : zW G M d h0 o h9 (pc + 3) lv (vR (some mi) :: st) h) : zW G M d h0 o h9 pc lv (vR r :: st) h := by
  obtain ⟨a, rfl, e⟩ := zbind e
  obtain ⟨k, e⟩ := zgd e
  exact zw_getC hd hM hi k e hdd hw kk
/-- the word of a Join -/
def zgW (r : Option Nat) (h : zH) : Option (Option Nat) := r.bind fun a => if zk h a = 23 ∨ zk h a = 24 then some (zr h a 0) else none
theorem zy_getW {idx : Nat} {v : Option Nat} (hd : decode M.2.1 pc = .ok (.getfield idx, 3)) (hl : Cond.fieldLink M.1.cls idx "CsrCalculator$Join" "word" "Ljava/lang/String;" ∈ lw_all) (e : zgW r h = some v) (kk : zW G M d h0 o h9 (pc + 3) lv (vR v :: st) h) : zW G M d h0 o h9 pc lv (vR r :: st) h := by
  obtain ⟨a, rfl, q, rfl⟩ := zg_okc e
  exact zw_getw hd hl rfl q kk
/-- a new exception, by 'new X()' -/
def zmk (k : Nat) (h : zH) : Option (Nat × zH) := if zz h + 1 ≤ zCX h ∧ zs h + 6 ≤ zSX h then some (zz h, zAl h k 0 6) else none
theorem zy_make0 {k ik ic q : Nat} (hM : M.1.cls = "CsrCalculator") (hk : (k = 20 ∧ ik = 68 ∧ ic = 138) ∨ (k = 21 ∧ ik = 70 ∧ ic = 139) ∨ (k = 22 ∧ ik = 72 ∧ ic = 140)) (d0 : decode M.2.1 pc = .ok (.new ik, 3)) (d3 : decode M.2.1 (pc + 3) = .ok (.dup, 1)) (d4 : decode M.2.1 (pc + 4) = .ok (.invokespecial ic, 3))
    (hdd : 6 ≤ d) (hw : (st.map zc).sum ≤ 8) (e : zmk k h = some (q, h1)) (kk : zW G M d h0 o h9 (pc + 7) lv (vR (some q) :: st) h1) : zW G M d h0 o h9 pc lv st h := by
  unfold zmk at e
  obtain ⟨c, e⟩ := zgd e
  cases e
  exact zw_make0 hM hk d0 d3 d4 hdd hw c.1 c.2 kk
/-- the clone of an array of bytes -/
theorem zw_cloneB {a idx : Nat} (hd : decode M.2.1 pc = .ok (.invokevirtual idx, 3)) (hl : Cond.methodLink M.1.cls idx ⟨"[B", "clone", "()Ljava/lang/Object;"⟩ ∈ lw_all) (hk : zk h a = 53) (hc9 : zz h + 1 ≤ zCX h) (hs9 : zs h + zn h a ≤ zSX h) (hfit : ∀ i, i < zn h a → vp_nar .byte (zi h a i) = zi h a i) (hdd : 1 ≤ d) (hw : (st.map zc).sum ≤ 8)
    (kk : zW G M d h0 o h9 (pc + 3) lv (vR (some (zz h)) :: st) (zwI (zAl h 53 (zn h a) (zn h a)) (zz h) (zi h a))) : zW G M d h0 o h9 pc lv (vR (some a) :: st) h := by
  intro p e R s m args below meth c Q H locs ls C hr e1 hz hs hL hlv T hT X
  have hF := C.2.2.2.2.2.2.2.2.2.1
  have hts := C.2.2.2.2.2.1
  obtain ⟨cs, s1, s2, s3, s4, s5, s6⟩ := zcellA hr hF hk (by decide)
  have hK := (hF.1.2.1 53 (by decide)).2
  obtain ⟨-, kS, hkS, compS, hkindS⟩ := id s5
  obtain ⟨c0, t0, f1, f2, f3⟩ := Cond.castable_spec (va_Nw.use (A := args) rfl (hF.1.2.2.2.2.1 ("[B", "java/lang/Cloneable") (by decide +kernel)))
  have hnm : s.vm.findClass "[B" = some (G.2.1 53) := hK
  cases hnm.symm.trans f1
  obtain ⟨rf, rl, rc, rs⟩ := C.2.2.2.2.2.2.2.2.2.2.2.1
  have eCX : zCX h = zCX h0 := by show h.1.2.1 = h0.1.2.1; rw [e1]
  have eSX : zSX h = zSX h0 := by show h.1.2.2.1 = h0.1.2.2.1; rw [e1]
  have hsz : (st.map zv).map (fun v => v.category) = st.map zc := by
    rw [List.map_map]
    exact List.map_congr_left (fun x _ => zc_ok x)
  obtain ⟨-, kT, hkT, comp, hkind⟩ := State.isArrayOf_alike X.warmed.alike s5
  obtain ⟨vm', X', st'⟩ := X.cloneArray C.1 C.2.2.2.2.1 (hts _ hl) (hts _ q734) (hts _ q735) (hts _ q736) (hts _ q737) (a := a) (cell := cs) (by rw [hT]; exact s1) (fun _ z => by rw [s3] at z; cases z) (zunk s3) (by rw [s2]; exact hnm) f2 (by rw [s2]; exact f3)
    (fun i v hv => by
      have hi : i < zn h a := by rw [← s4]; exact (Array.getElem?_eq_some_iff.mp hv).1
      have hv2 := s6 i hi
      rw [hv] at hv2
      cases hv2
      have hb : fits .byte (.int (zi h a i)) = true := by
        have := @zfitB (zi h a i)
        rw [hfit i hi] at this
        exact this.2.2
      have hb2 : fits (zAt 53) (zval (zAt 53) h a i) = true := hb
      simpa [State.fitsSlot, State.slotType?, hkT, hkind] using hb2)
    (g := F0 m pc ls (.ref a :: st.map zv)) rfl (by rw [C.2.2.2.1]; exact hlv.1) rfl (by rw [C.2.1]; exact hd) (by omega) (by
      have h9 : zlo d ≤ R.locals := rl
      have h8 : 3200 ≤ zlo d := by show 3200 ≤ 3200 + 80 * d; omega
      show 2 * 0 + _ + 14 ≤ _
      rw [hsz]
      omega) (by omega) (by rw [s4]; omega) (hloader := Vm.clonesLoader_of_array hkS hkindS)
  have hr1 : zRep G (zAl h 53 (zn h a) (zn h a)) (H.push { cls := G.2.1 53, slots := Array.replicate (zn h a) (.int 0), vm := .none }) := by
    refine hr.al (cell := { cls := G.2.1 53, slots := Array.replicate (zn h a) (.int 0), vm := .none }) (by decide) hc9 hs9 (by rw [← hr.1]; simp) (by simp) (fun q hq => by rw [← hr.1] at hq; rw [Array.getElem?_push, if_neg (Nat.ne_of_lt hq)]) rfl rfl (by rw [if_pos (by decide)]; simp) (fun j hj => by show zT 53 j ≠ .float; exact fun z => by cases z) (fun j hj => ?_)
    rw [hF.2.2.2.2.2.2 53 j (by decide)]
    show (Array.replicate (zn h a) (Value.int 0))[j]? = some (.int 0)
    simp [hj]
  have hr2 : zRep G (zwI (zAl h 53 (zn h a) (zn h a)) (zz h) (zi h a)) (H.push { cls := cs.cls, slots := cs.slots }) := by
    have hkz : zk (zAl h 53 (zn h a) (zn h a)) (zz h) = 53 := zrw_s
    have hnz : zn (zAl h 53 (zn h a) (zn h a)) (zz h) = zn h a := zrw_s
    refine hr1.row (a := zz h) (cell := { cls := G.2.1 53, slots := Array.replicate (zn h a) (.int 0), vm := .none }) (cell' := { cls := cs.cls, slots := cs.slots }) (by rw [hkz]; decide) hr.2.1.1 (by rw [← hr.1]; simp) (by rw [← hr.1]; simp) (by simp) (fun q hq => ?_) s2 rfl (by simp [s4]) rfl rfl rfl rfl rfl (fun j hj => ?_) (fun b i hb => ?_)
    · rw [← hr.1] at hq
      simp only [Array.getElem?_push, if_neg hq]
    · rw [hkz, hF.2.2.2.2.2.2 53 j (by decide)]
      rw [hnz] at hj
      have h7 := s6 j hj
      show cs.slots[j]? = some (.int (zrw (zrw (zi h) (zz h) (fun _ => 0)) (zz h) (zi h a) (zz h) j))
      rw [zrw_s]
      exact h7
    · have key : ∀ t, zval t (zwI (zAl h 53 (zn h a) (zn h a)) (zz h) (zi h a)) b i = zval t (zAl h 53 (zn h a) (zn h a)) b i := by
        intro t
        cases t <;> first | rfl | (show Value.int (zrw (zrw (zi h) (zz h) _) (zz h) _ b i) = Value.int (zrw (zi h) (zz h) _ b i); rw [zrw_n hb])
      exact key _
  have hheap : ((T.setVm vm').pushCell { cls := cs.cls, slots := cs.slots }).heap = H.push { cls := cs.cls, slots := cs.slots } := by rw [← hT]; rfl
  have qz : zz (zwI (zAl h 53 (zn h a) (zn h a)) (zz h) (zi h a)) = zz h + 1 := rfl
  have qs : zs (zwI (zAl h 53 (zn h a) (zn h a)) (zz h) (zi h a)) = zs h + zn h a := rfl
  obtain ⟨t, a1, b1⟩ := kk p e R s m args below meth c Q _ locs ls C hr2 e1 (by rw [qz]; omega) (by rw [qs]; omega) hL hlv _ hheap (by
    rw [qz, qs]
    have q1 : zz h + 1 - zz h0 = zz h - zz h0 + 1 := by omega
    have q2 : zs h + zn h a - zs h0 = zs h - zs h0 + cs.slots.size := by omega
    rw [q1, q2]
    exact X')
  refine ⟨t, st' t ?_, b1⟩
  have hTs : T.heap.size = zz h := by rw [hT]; exact hr.1
  rw [hTs]
  exact a1
def zcB (r : Option Nat) (h : zH) : Option (Nat × zH) := r.bind fun a => if (zk h a = 53 ∧ zz h + 1 ≤ zCX h ∧ zs h + zn h a ≤ zSX h) ∧ (∀ i, i < zn h a → vp_nar .byte (zi h a i) = zi h a i) then some (zz h, zwI (zAl h 53 (zn h a) (zn h a)) (zz h) (zi h a)) else none
theorem zy_cloneB {idx q : Nat} (hd : decode M.2.1 pc = .ok (.invokevirtual idx, 3)) (hl : Cond.methodLink M.1.cls idx ⟨"[B", "clone", "()Ljava/lang/Object;"⟩ ∈ lw_all) (hdd : 1 ≤ d) (e : zcB r h = some (q, h1)) (hw : (st.map zc).sum ≤ 8) (kk : zW G M d h0 o h9 (pc + 3) lv (vR (some q) :: st) h1) : zW G M d h0 o h9 pc lv (vR r :: st) h := by
  obtain ⟨a, rfl, e⟩ := zbind e
  obtain ⟨⟨⟨c1, c2, c3⟩, c4⟩, e⟩ := zgd e
  cases e
  exact zw_cloneB hd hl c1 c2 c3 c4 hdd hw kk
end ZMR
