/-! THE z LAYER, 9: new cells, statics, constants, casts -/
section ZN
variable {G : zG} {M : zM} {d : Nat} {h0 h9 h : zH} {o : zO} {pc : Nat} {lv : zL} {st : List zV}
theorem zdef {t : FieldType} (h : t ≠ .float) : True := trivial
theorem zT_nf : ∀ (c : Nat) (q : vw_C), zcl[c]? = some q → ∀ j, j < q.2.2 → zT (c + 1) j ≠ .float := by
  have key : ∀ (c : Nat) (q : vw_C), zcl[c]? = some q → (List.range q.2.2).all (fun j => decide (zT (c + 1) j ≠ .float)) = true := by
    intro c q hq
    match c, hq with
    | 0, h => cases h; decide +kernel
    | 1, h => cases h; decide +kernel
    | 2, h => cases h; decide +kernel
    | 3, h => cases h; decide +kernel
    | 4, h => cases h; decide +kernel
    | 5, h => cases h; decide +kernel
    | 6, h => cases h; decide +kernel
    | 7, h => cases h; decide +kernel
    | 8, h => cases h; decide +kernel
    | 9, h => cases h; decide +kernel
    | 10, h => cases h; decide +kernel
    | 11, h => cases h; decide +kernel
    | 12, h => cases h; decide +kernel
    | 13, h => cases h; decide +kernel
    | 14, h => cases h; decide +kernel
    | 15, h => cases h; decide +kernel
    | 16, h => cases h; decide +kernel
    | 17, h => cases h; decide +kernel
    | 18, h => cases h; decide +kernel
    | 19, h => cases h; rfl
    | 20, h => cases h; rfl
    | 21, h => cases h; rfl
    | c + 22, h => exact absurd (List.getElem?_eq_some_iff.mp h).1 (by show ¬ c + 22 < 22; omega)
  intro c q hq j hj
  exact of_decide_eq_true (List.all_eq_true.mp (key c q hq) j (List.mem_range.mpr hj))
/-- entry idx of 'own' is a class of kind k that can be made (no exception class) -/
def zCl (own : String) (idx k : Nat) : Prop := ∃ q : vw_C, k ≠ 0 ∧ k < 20 ∧ zcl[k - 1]? = some q ∧ Cond.classLink own idx q.1 ∈ lw_all ∧ Cond.instantiable q.1 q.2.2 ∈ lw_all ∧ Cond.initialized q.1 ∈ lw_all
theorem zw_new {k idx : Nat} (hd : decode M.2.1 pc = .ok (.new idx, 3)) (hl : zCl M.1.cls idx k) (hc : zz h + 1 ≤ zCX h) (hs9 : zs h + zN k ≤ zSX h) (kk : zW G M d h0 o h9 (pc + 3) lv (vR (some (zz h)) :: st) (zAl h k (zN k) (zN k))) : zW G M d h0 o h9 pc lv st h := by
  intro p e R s m args below meth c Q H locs ls C hr h1 hz hs hL hlv
  obtain ⟨q, hk0, hk20, hcl, w1, w2, w3⟩ := hl
  have hke : k - 1 + 1 = k := by omega
  have hts := C.2.2.2.2.2.1
  obtain ⟨hin, -, hty⟩ := zcl_ok _ q hcl
  have hKn := C.2.2.2.2.2.2.2.2.2.1.1.1 _ q hcl
  have hNk : zN k = q.2.2 := by have := zN_cl hcl; rwa [hke] at this
  have hak : zarr k = false := by have := zarr_cl hcl; rwa [hke] at this
  obtain ⟨-, -, rc, rs⟩ := C.2.2.2.2.2.2.2.2.2.2.2.1
  have eCX : zCX h = zCX h0 := by show h.1.2.1 = h0.1.2.1; rw [h1]
  have eSX : zSX h = zSX h0 := by show h.1.2.2.1 = h0.1.2.2.1; rw [h1]
  refine W.newcK C.1 C.2.1 C.2.2.2.2.1 (hts _ w1) (hts _ w2) (hts _ w3) rfl hd (by omega) (by omega) (hKn.2.1) (h := zz h) hr.1 (fun H' kC hkC e1 e2 e3 => ?_)
  rw [hke] at hkC e1 hKn
  have hob := u_born (zT k) hts hin hKn hkC e1 (by rw [hke] at hty; exact hty)
  obtain ⟨cell, b1, b2, b3, b4⟩ := hob
  cases Option.some.inj (e1.symm.trans b1)
  have hr' : zRep G (zAl h k (zN k) (zN k)) H' := hr.al hk0 hc hs9 e1 (by rw [e2, hr.1]) e3 b2 b3 (by rw [hak, if_neg (by decide)]) (fun j hj => by have := zT_nf _ q hcl j (by rw [← hNk]; exact hj); rwa [hke] at this) (fun j hj => b4 j (by rw [← hNk]; exact hj))
  have := kk p e R s m args below meth c Q H' locs ls C hr' h1 (Nat.le_succ_of_le hz) (Nat.le_trans hs (Nat.le_add_right _ _)) hL hlv
  have x1 : zz (zAl h k (zN k) (zN k)) = zz h + 1 := rfl
  have x2 : zs (zAl h k (zN k) (zN k)) = zs h + zN k := rfl
  rw [x1, x2] at this
  rw [show zz h - zz h0 + 1 = zz h + 1 - zz h0 by omega, show zs h - zs h0 + q.2.2 = zs h + zN k - zs h0 by omega]
  exact this
/-- array types that 'newarray' names -/
def znaty : Nat → ArrayType := fun k => match k with
  | 51 => .long
  | 52 => .double
  | 53 => .byte
  | _ => .int
theorem zw_newa {k : Nat} {n : Int32} (hd : decode M.2.1 pc = .ok (.newarray (znaty k), 2)) (hk : k ∈ [50, 51, 52, 53]) (hw : Cond.arrayClass (zAt k) ∈ lw_all) (hn : ¬ n < 0) (hc : zz h + 1 ≤ zCX h) (hs9 : zs h + n.toNatClampNeg ≤ zSX h) (kk : zW G M d h0 o h9 (pc + 2) lv (vR (some (zz h)) :: st) (zAl h k n.toNatClampNeg n.toNatClampNeg)) : zW G M d h0 o h9 pc lv (vI n :: st) h := by
  intro p e R s m args below meth c Q H locs ls C hr h1 hz hs hL hlv
  have hts := C.2.2.2.2.2.1
  obtain ⟨-, -, rc, rs⟩ := C.2.2.2.2.2.2.2.2.2.2.2.1
  have eCX : zCX h = zCX h0 := by show h.1.2.1 = h0.1.2.1; rw [h1]
  have eSX : zSX h = zSX h0 := by show h.1.2.2.1 = h0.1.2.2.1; rw [h1]
  have hlim := C.2.2.2.2.2.2.2.2.2.2.2.2.1
  have hkk : newarray.typeOf (znaty k) = zAt k ∧ zarr k = true ∧ k ≠ 0 ∧ 50 ≤ k ∧ k ∈ zarrs ∧ zAt k ≠ .float ∧ componentBytes (zAt k) ≤ 8 ∧ (∀ C, zAt k ≠ .object C) := by
    simp only [List.mem_cons, List.not_mem_nil, or_false] at hk
    rcases hk with rfl | rfl | rfl | rfl <;> exact ⟨rfl, by decide, by decide, by decide, by decide, (fun z => by cases z), by decide, fun C z => by cases z⟩
  obtain ⟨k1, k2, k3, k4, k5, k6, k7, k8⟩ := hkk
  refine W.newa C.1 C.2.1 (by rw [k1]; exact hts _ hw) rfl hd rfl hn (by rw [k1]; exact Nat.le_trans (Nat.mul_le_mul_left _ k7) (by omega)) (by omega) (by omega) (fun cA kA comp f1 f2 f3 => ?_)
  rw [k1] at f1
  rw [k1]
  have hcA : cA = G.2.1 k := by
    have hA := (C.2.2.2.2.2.2.2.2.2.1.1.2.1 _ k5).2
    have h2 : s.vm.findClass ("[" ++ (zAt k).toString) = some (G.2.1 k) := by
      revert hA
      cases hz : zAt k <;> intro hA <;> first | exact absurd hz (k8 _) | exact hA
    exact Option.some.inj (f1.symm.trans h2)
  have hr' : zRep G (zAl h k n.toNatClampNeg n.toNatClampNeg) (H.push { cls := cA, slots := Array.replicate n.toNatClampNeg (defaultValue (zAt k)), vm := .none }) :=
    hr.al k3 hc hs9 (cell := { cls := cA, slots := Array.replicate n.toNatClampNeg (defaultValue (zAt k)), vm := .none }) (by rw [← hr.1]; simp) (by simp) (fun q hq => by rw [Array.getElem?_push, if_neg (by rw [hr.1]; exact Nat.ne_of_lt hq)]) hcA rfl (by rw [k2, if_pos rfl]; simp) (fun j hj => by unfold zT; rw [k2, if_pos rfl]; exact k6) (fun j hj => by
      rw [C.2.2.2.2.2.2.2.2.2.1.2.2.2.2.2.2 _ _ k4]
      unfold zT
      rw [k2, if_pos rfl]
      simp [hj])
  have := kk p e R s m args below meth c Q _ locs ls C hr' h1 (Nat.le_succ_of_le hz) (Nat.le_trans hs (Nat.le_add_right _ _)) hL hlv
  have x1 : zz (zAl h k n.toNatClampNeg n.toNatClampNeg) = zz h + 1 := rfl
  have x2 : zs (zAl h k n.toNatClampNeg n.toNatClampNeg) = zs h + n.toNatClampNeg := rfl
  rw [x1, x2] at this
  rw [show zz h - zz h0 + 1 = zz h + 1 - zz h0 by omega, show zs h - zs h0 + n.toNatClampNeg = zs h + n.toNatClampNeg - zs h0 by omega, hr.1]
  exact this
theorem zw_anew {k idx : Nat} {n : Int32} {D : String} (hd : decode M.2.1 pc = .ok (.anewarray idx, 3)) (hk : k ∈ zarq) (hD : zAt k = .object D) (hw : Cond.classLink M.1.cls idx D ∈ lw_all) (hao : D ∈ zAO) (hn : ¬ n < 0) (hc : zz h + 1 ≤ zCX h) (hs9 : zs h + n.toNatClampNeg ≤ zSX h) (kk : zW G M d h0 o h9 (pc + 3) lv (vR (some (zz h)) :: st) (zAl h k n.toNatClampNeg n.toNatClampNeg)) : zW G M d h0 o h9 pc lv (vI n :: st) h := by
  intro p e R s m args below meth c Q H locs ls C hr h1 hz hs hL hlv
  have hts := C.2.2.2.2.2.1
  have hF := C.2.2.2.2.2.2.2.2.2.1
  obtain ⟨-, -, rc, rs⟩ := C.2.2.2.2.2.2.2.2.2.2.2.1
  have eCX : zCX h = zCX h0 := by show h.1.2.1 = h0.1.2.1; rw [h1]
  have eSX : zSX h = zSX h0 := by show h.1.2.2.1 = h0.1.2.2.1; rw [h1]
  have hlim := C.2.2.2.2.2.2.2.2.2.2.2.2.1
  obtain ⟨g1, g2, g3, -⟩ := zarq_in hk
  have hkk : zarr k = true ∧ k ≠ 0 ∧ 50 ≤ k := by
    simp only [zarq, List.mem_cons, List.not_mem_nil, or_false] at hk
    rcases hk with rfl | rfl | rfl <;> decide
  obtain ⟨k2, k3, k4⟩ := hkk
  refine W.anew C.1 C.2.1 C.2.2.2.2.1 (hts _ hw) (va_AO.use (hF.1.2.2.2.2.2.2.1 _ hao)) rfl hd rfl hn (by omega) (by omega) (by omega) (fun cA kA comp f1 f2 f3 f4 => ?_)
  have hcA : cA = G.2.1 k := by
    have hA := (hF.1.2.1 _ g1).2
    rw [hD] at hA
    obtain ⟨kA', comp', a1, a2, a3, a4⟩ := hA
    exact Option.some.inj (f1.symm.trans a4)
  have hr' : zRep G (zAl h k n.toNatClampNeg n.toNatClampNeg) (H.push { cls := cA, slots := Array.replicate n.toNatClampNeg .null, vm := .none }) :=
    hr.al k3 hc hs9 (cell := { cls := cA, slots := Array.replicate n.toNatClampNeg .null, vm := .none }) (by rw [← hr.1]; simp) (by simp) (fun q hq => by rw [Array.getElem?_push, if_neg (by rw [hr.1]; exact Nat.ne_of_lt hq)]) hcA rfl (by rw [k2, if_pos rfl]; simp) (fun j hj => by unfold zT; rw [k2, if_pos rfl, hD]; exact fun z => by cases z) (fun j hj => by
      rw [hF.2.2.2.2.2.2 _ _ k4]
      unfold zT
      rw [k2, if_pos rfl, hD]
      simp [hj, defaultValue])
  have := kk p e R s m args below meth c Q _ locs ls C hr' h1 (Nat.le_succ_of_le hz) (Nat.le_trans hs (Nat.le_add_right _ _)) hL hlv
  have x1 : zz (zAl h k n.toNatClampNeg n.toNatClampNeg) = zz h + 1 := rfl
  have x2 : zs (zAl h k n.toNatClampNeg n.toNatClampNeg) = zs h + n.toNatClampNeg := rfl
  rw [x1, x2] at this
  rw [show zz h - zz h0 + 1 = zz h + 1 - zz h0 by omega, show zs h - zs h0 + n.toNatClampNeg = zs h + n.toNatClampNeg - zs h0 by omega, hr.1]
  exact this
theorem zw_aastN {k a : Nat} {i : Int32} (hd : decode M.2.1 pc = .ok (.aastore, 1)) (hk : zk h a = k) (hm : k ∈ zarq) (hi : vp_in i (zn h a)) (hb : zb h ≤ a) (kk : zW G M d h0 o h9 (pc + 1) lv st (zput h a i.toNatClampNeg (vR none))) : zW G M d h0 o h9 pc lv (vR none :: vI i :: vR (some a) :: st) h := by
  intro p e R s m args below meth c Q H locs ls C hr h1 hz hs hL hlv
  obtain ⟨g1, g2, g3, T, hT⟩ := zarq_in hm
  obtain ⟨cell, c1, c2, c3, c4, c5, c6⟩ := zcellA hr C.2.2.2.2.2.2.2.2.2.1 hk g1
  rw [hT] at c5
  exact va_WaastN (C := T) C.1 C.2.1 c1 c5 (zunk c3) (by rw [c4]; exact hi) rfl rfl hd (zast C hr h1 hz hs hL hlv hk g1 (Nat.not_le.mp fun q => hi (Or.inr q)) hb (show zfit (zAt k) (vR none) from g3) c1 kk)
/-- statics -/
def zstv (h : zH) (i : Nat) : zV := match zSt[i]? with
  | some (_, _, _, some x) => vI x
  | _ => vR (zsv h i)
theorem zkeep {G : zG} {h : zH} {H : Heap} (hr : zRep G h H) : ∀ a : Nat, a < G.2.2.2.size → ¬ (zb h ≤ a) → H[a]? = G.2.2.2[a]? := fun a h1 h2 => hr.2.2.2.1 a (by omega)
theorem zw_gets {idx : Nat} (i : Nat) {q : String × String × String × Option Int32} {ref : String} {v : zV} (hd : decode M.2.1 pc = .ok (.getstatic idx, 3)) (hq : zSt[i]? = some q) (hl : Cond.fieldLink M.1.cls idx ref q.2.1 q.2.2.1 ∈ lw_all) (href : ref = q.1) (hv : zstv h i = v) (kk : zW G M d h0 o h9 (pc + 3) lv (v :: st) h) : zW G M d h0 o h9 pc lv st h := by
  intro p e R s m args below meth c Q H locs ls C hr h1 hz hs hL hlv
  subst href
  have hF := C.2.2.2.2.2.2.2.2.2.1
  have hZ := hF.2.1 i q hq
  rw [← h1] at hZ
  have hZ2 := hZ.kept (H1 := H) (zkeep hr)
  obtain ⟨cf, kf, fi, f, a, cell, z1, z2, z3, z4, z5, z6, z7, z8⟩ := hZ2
  have hvv : (match q.2.2.2 with
    | some c => Value.int c
    | none => va_rf (h.1.2.2.2.2 i)) = zv v := by
    rw [← hv]
    unfold zstv
    rw [hq]
    obtain ⟨q1, q2, q3, q4⟩ := q
    cases q4 <;> rfl
  have z7 : cell.slots[f.slot]? = some (zv v) := z7.trans (congrArg some hvv)
  exact W.gets C.1 C.2.1 C.2.2.2.2.1 (C.2.2.2.2.2.1 _ hl) z1 z2 z3 z4 z5 (fun z => by rw [z] at z6; cases z6) z7 rfl hd (kk p e R s m args below meth c Q H locs ls C hr h1 hz hs hL hlv)
theorem zw_ldcI {idx : Nat} {x : Int32} (hd : decode M.2.1 pc = .ok (.ldc idx, 2)) (hl : Cond.constant M.1.cls idx x ∈ lw_all) (kk : zW G M d h0 o h9 (pc + 2) lv (vI x :: st) h) : zW G M d h0 o h9 pc lv st h := by
  intro p e R s m args below meth c Q H locs ls C hr h1 hz hs hL hlv
  exact lv_ldc C.1 C.2.1 C.2.2.2.2.1 (C.2.2.2.2.2.1 _ hl) hd (kk p e R s m args below meth c Q H locs ls C hr h1 hz hs hL hlv)
theorem zw_ldcwI {idx : Nat} {x : Int32} (hd : decode M.2.1 pc = .ok (.ldc_w idx, 3)) (hl : Cond.constant M.1.cls idx x ∈ lw_all) (kk : zW G M d h0 o h9 (pc + 3) lv (vI x :: st) h) : zW G M d h0 o h9 pc lv st h := by
  intro p e R s m args below meth c Q H locs ls C hr h1 hz hs hL hlv
  exact lv_ldcw C.1 C.2.1 C.2.2.2.2.1 (C.2.2.2.2.2.1 _ hl) hd (kk p e R s m args below meth c Q H locs ls C hr h1 hz hs hL hlv)
theorem zw_ldc2 {idx : Nat} {x : Int64} (hd : decode M.2.1 pc = .ok (.ldc2_w idx, 3)) (hl : Cond.constantLong M.1.cls idx x ∈ lw_all) (kk : zW G M d h0 o h9 (pc + 3) lv (vJ x :: st) h) : zW G M d h0 o h9 pc lv st h := by
  intro p e R s m args below meth c Q H locs ls C hr h1 hz hs hL hlv
  exact lv_ldc2 C.1 C.2.1 C.2.2.2.2.1 (C.2.2.2.2.2.1 _ hl) hd (kk p e R s m args below meth c Q H locs ls C hr h1 hz hs hL hlv)
theorem zw_ldcS {idx : Nat} (i : Nat) {tx : String} (hd : decode M.2.1 pc = .ok (.ldc idx, 2)) (hl : zSs[i]? = some (M.1.cls, idx, tx)) (kk : zW G M d h0 o h9 (pc + 2) lv (vR (some (zst h i)) :: st) h) : zW G M d h0 o h9 pc lv st h := by
  intro p e R s m args below meth c Q H locs ls C hr h1 hz hs hL hlv
  have hR := C.2.2.2.2.2.2.2.2.2.1.2.2.1 i _ hl
  rw [← h1] at hR
  exact va_ldcS C.1 C.2.1 C.2.2.2.2.1 hR hd (kk p e R s m args below meth c Q H locs ls C hr h1 hz hs hL hlv)
theorem zldcWS {p : Program} {l : Launch} {e : Env} {R : Room} {s : State} {m : MethodId} {args : Array Value} {below : List Frame} {meth : Method} {c : Code} {T : State} {locs : List Loc} {cells slots : Nat}
    (X : Stand p l e R s m args below meth c T locs cells slots) (hexec : p.tables.exec = Jvm.exec) {own text : String} {index : Nat} {a : Addr} (hown : s.vm.findClass own = some m.cls)
    (hconst : (Cond.stringRef own index text).before args s = true) (hev : (Term.string own index).eval args s none [] s = some (.ref a)) {g : JFrame} (hg : g.method = m) (hdg : decode c.code g.pc = .ok (.ldc_w index, 3)) :
    ∀ target, Steps p.tables e below (T.setTop { g with pc := g.pc + 3, stack := .ref a :: g.stack }) target → Steps p.tables e below (T.setTop g) target := by
  obtain ⟨k, cf, i, a', hk, hcf, hcp, -, hr, hev'⟩ := Cond.stringRef_spec hown hconst
  cases hev.symm.trans hev'
  obtain ⟨k', hk', he⟩ := X.warmed.alike.2.2 _ _ hk
  have hr' : k'.resolved[index]? = some (some (.string a)) := by
    rcases X.warmed.entry hk hk' index with h | ⟨h, -⟩
    · rw [h]; exact hr
    · rw [hr] at h; cases h
  intro target hrest
  subst hg
  jvm_step X.here [hexec, hdg, ldc_w.wp_string (e := e) (s := T) (f := g) X.here.top hk' (by rw [he]; exact hcf) hcp hr']
  exact hrest
theorem zw_ldcwS {idx : Nat} (i : Nat) {tx : String} (hd : decode M.2.1 pc = .ok (.ldc_w idx, 3)) (hl : zSs[i]? = some (M.1.cls, idx, tx)) (kk : zW G M d h0 o h9 (pc + 3) lv (vR (some (zst h i)) :: st) h) : zW G M d h0 o h9 pc lv st h := by
  intro p e R s m args below meth c Q H locs ls C hr h1 hz hs hL hlv
  have hR := C.2.2.2.2.2.2.2.2.2.1.2.2.1 i _ hl
  rw [← h1] at hR
  intro T hT X
  obtain ⟨t, a1, b1⟩ := kk p e R s m args below meth c Q H locs ls C hr h1 hz hs hL hlv T hT X
  refine ⟨t, zldcWS X C.1 C.2.2.2.2.1 (text := tx) (a := h.1.2.2.2.1 i) hR.1 hR.2 (g := F0 m pc ls (st.map zv)) rfl (by rw [C.2.1]; exact hd) t a1, b1⟩
theorem zw_ldcM {idx : Nat} {mi : Nat} (hd : decode M.2.1 pc = .ok (.ldc idx, 2)) (hl : Cond.classLink M.1.cls idx "[Ljava/lang/Object;" ∈ lw_all) (hmi : zsv h 40 = some mi) (kk : zW G M d h0 o h9 (pc + 2) lv (vR (some mi) :: st) h) : zW G M d h0 o h9 pc lv st h := by
  intro p e R s m args below meth c Q H locs ls C hr h1 hz hs hL hlv
  obtain ⟨mi', e1, e2⟩ := C.2.2.2.2.2.2.2.2.2.1.2.2.2.1
  rw [← h1] at e1
  cases Option.some.inj (e1.symm.trans hmi)
  exact va_ldcM C.1 C.2.1 C.2.2.2.2.1 (C.2.2.2.2.2.1 _ hl) e2 hd (kk p e R s m args below meth c Q H locs ls C hr h1 hz hs hL hlv)
theorem zw_cast {idx a : Nat} {nm cn : String} (hd : decode M.2.1 pc = .ok (.checkcast idx, 3)) (hl : Cond.classLink M.1.cls idx nm ∈ lw_all) (hq : zkn (zk h a) = some cn) (hc : cn = nm ∨ (cn, nm) ∈ zCA) (kk : zW G M d h0 o h9 (pc + 3) lv (vR (some a) :: st) h) : zW G M d h0 o h9 pc lv (vR (some a) :: st) h := by
  intro p e R s m args below meth c Q H locs ls C hr h1 hz hs hL hlv
  have hF := C.2.2.2.2.2.2.2.2.2.1
  obtain ⟨cell, c1, c2, c3, c4, kC, c5⟩ := zcls hr hF hq
  rcases hc with rfl | hc
  · intro T hT X
    obtain ⟨vm', X', st'⟩ := X.checkcastYes C.1 C.2.2.2.2.1 (C.2.2.2.2.2.1 _ hl) (by rw [hT]; exact c1) c3 c4 (va_asg _ _) (g := F0 m pc ls (.ref a :: st.map zv)) rfl rfl (by rw [C.2.1]; exact hd)
    obtain ⟨t, a1, b1⟩ := kk p e R s m args below meth c Q H locs ls C hr h1 hz hs hL hlv (T.setVm vm') hT X'
    exact ⟨t, st' t a1, b1⟩
  · exact va_castY C.1 C.2.1 C.2.2.2.2.1 (C.2.2.2.2.2.1 _ hl) (hF.1.2.2.2.2.1 _ hc) ⟨cell, c1, c3, c4⟩ hd (kk p e R s m args below meth c Q H locs ls C hr h1 hz hs hL hlv)
theorem zw_castN {idx : Nat} (hd : decode M.2.1 pc = .ok (.checkcast idx, 3)) (kk : zW G M d h0 o h9 (pc + 3) lv (vR none :: st) h) : zW G M d h0 o h9 pc lv (vR none :: st) h := by
  intro p e R s m args below meth c Q H locs ls C hr h1 hz hs hL hlv
  exact lv_castN C.1 C.2.1 hd (kk p e R s m args below meth c Q H locs ls C hr h1 hz hs hL hlv)
theorem zw_castA {idx a k : Nat} {nm : String} (hd : decode M.2.1 pc = .ok (.checkcast idx, 3)) (hl : Cond.classLink M.1.cls idx nm ∈ lw_all) (hk : zk h a = k) (hm : k ∈ zarrs) (hnm : "[" ++ (zAt k).toString = nm) (kk : zW G M d h0 o h9 (pc + 3) lv (vR (some a) :: st) h) : zW G M d h0 o h9 pc lv (vR (some a) :: st) h := by
  intro p e R s m args below meth c Q H locs ls C hr h1 hz hs hL hlv
  have hF := C.2.2.2.2.2.2.2.2.2.1
  obtain ⟨cell, c1, c2, c3, c4, c5, c6⟩ := zcellA hr hF hk hm
  have hfc : s.vm.findClass nm = some (G.2.1 k) := by
    rw [← hnm]
    have hA := (hF.1.2.1 _ hm).2
    revert hA
    cases hz : zAt k <;> intro hA <;> first | exact hA | (obtain ⟨_, _, _, _, _, a4⟩ := hA; exact a4)
  intro T hT X
  obtain ⟨vm', X', st'⟩ := X.checkcastYes C.1 C.2.2.2.2.1 (C.2.2.2.2.2.1 _ hl) (by rw [hT]; exact c1) (by rw [c3]; rfl) hfc (by rw [c2]; exact va_asg _ _) (g := F0 m pc ls (.ref a :: st.map zv)) rfl rfl (by rw [C.2.1]; exact hd)
  obtain ⟨t, a1, b1⟩ := kk p e R s m args below meth c Q H locs ls C hr h1 hz hs hL hlv (T.setVm vm') hT X'
  exact ⟨t, st' t a1, b1⟩
theorem zw_instY {idx a : Nat} {nm : String} (hd : decode M.2.1 pc = .ok (.instanceof idx, 3)) (hl : Cond.classLink M.1.cls idx nm ∈ lw_all) (hq : zkn (zk h a) = some nm) (kk : zW G M d h0 o h9 (pc + 3) lv (vI 1 :: st) h) : zW G M d h0 o h9 pc lv (vR (some a) :: st) h := by
  intro p e R s m args below meth c Q H locs ls C hr h1 hz hs hL hlv
  have hF := C.2.2.2.2.2.2.2.2.2.1
  obtain ⟨cell, c1, c2, c3, c4, kC, c5⟩ := zcls hr hF hq
  exact va_instE C.1 C.2.1 C.2.2.2.2.1 (C.2.2.2.2.2.1 _ hl) ⟨cell, c1, c3, c4⟩ hd (kk p e R s m args below meth c Q H locs ls C hr h1 hz hs hL hlv)
theorem zw_instNo {idx a : Nat} {nm cn : String} (hd : decode M.2.1 pc = .ok (.instanceof idx, 3)) (hl : Cond.classLink M.1.cls idx nm ∈ lw_all) (hq : zkn (zk h a) = some cn) (hc : (cn, nm) ∈ zNC) (kk : zW G M d h0 o h9 (pc + 3) lv (vI 0 :: st) h) : zW G M d h0 o h9 pc lv (vR (some a) :: st) h := by
  intro p e R s m args below meth c Q H locs ls C hr h1 hz hs hL hlv
  have hF := C.2.2.2.2.2.2.2.2.2.1
  obtain ⟨cell, c1, c2, c3, c4, kC, c5⟩ := zcls hr hF hq
  exact va_instNo C.1 C.2.1 C.2.2.2.2.1 (C.2.2.2.2.2.1 _ hl) (hF.1.2.2.2.2.2.1 _ hc) ⟨cell, c1, c3, c4⟩ hd (kk p e R s m args below meth c Q H locs ls C hr h1 hz hs hL hlv)
theorem zw_instN {idx : Nat} (hd : decode M.2.1 pc = .ok (.instanceof idx, 3)) (kk : zW G M d h0 o h9 (pc + 3) lv (vI 0 :: st) h) : zW G M d h0 o h9 pc lv (vR none :: st) h := by
  intro p e R s m args below meth c Q H locs ls C hr h1 hz hs hL hlv
  exact lv_instN C.1 C.2.1 hd (kk p e R s m args below meth c Q H locs ls C hr h1 hz hs hL hlv)
/-- Object's constructor -/
theorem zw_objInit {idx : Nat} {a : Nat} (hd : decode M.2.1 pc = .ok (.invokespecial idx, 3)) (w1 : Cond.methodLink M.1.cls idx Lib.objectInit ∈ lw_all) (w2 : Cond.instanceMethod Lib.objectInit ∈ lw_all) (w3 : Cond.code Lib.objectInit ⟨#[0xb1]⟩ 1 none ∈ lw_all) (hdd : 1 ≤ d) (hw : (st.map zc).sum ≤ 8) (kk : zW G M d h0 o h9 (pc + 3) lv st h) : zW G M d h0 o h9 pc lv (vR (some a) :: st) h := by
  intro p e R s m args below meth c Q H locs ls C hr h1 hz hs hL hlv
  obtain ⟨rf, rl, -, -⟩ := C.2.2.2.2.2.2.2.2.2.2.2.1
  have hts := C.2.2.2.2.2.1
  have hwd : ((st.map zv).map fun v => v.category).sum = (st.map zc).sum := by
    rw [List.map_map]
    congr 2
    funext x
    exact zc_ok x
  refine W.objInit C.1 C.2.1 C.2.2.2.2.1 (hts _ w1) (hts _ w2) (hts _ w3) rfl (by rw [C.2.2.2.1]; exact hlv.1) rfl hd (Nat.le_trans hdd rf) ?_ ?_
  · have hz : 2 * (F0 m pc ls (List.map zv (vR (some a) :: st))).monitorRoom = 0 := rfl
    rw [hz, hwd]
    unfold zlo at rl
    omega
  · exact kk p e R s m args below meth c Q H locs ls C hr h1 hz hs hL hlv
end ZN
