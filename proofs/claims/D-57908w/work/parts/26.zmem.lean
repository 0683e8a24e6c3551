/-! THE z LAYER, 7: instructions of the heap -/
def zfld (t : FieldType) (h : zH) (a j : Nat) : zV := match t with
  | .long => vJ (zj h a j)
  | .double => vD (zd h a j)
  | .object _ => vR (zr h a j)
  | .array _ => vR (zr h a j)
  | _ => vI (zi h a j)
theorem zfld_ok (t : FieldType) (h : zH) (a j : Nat) : zv (zfld t h a j) = zval t h a j := by cases t <;> rfl
/-- what a store asks of a value -/
def zfit (t : FieldType) (v : zV) : Prop := match v with
  | .inl x => (t ≠ .long ∧ t ≠ .double ∧ t ≠ .float ∧ refKind t = false) ∧ narrow t (.int x) = .int x ∧ fits t (.int x) = true
  | .inr (.inl _) => t = .long
  | .inr (.inr (.inl _)) => False
  | .inr (.inr (.inr (.inl _))) => t = .double
  | .inr (.inr (.inr (.inr _))) => refKind t = true
def zput (h : zH) (a j : Nat) (v : zV) : zH := match v with
  | .inl x => zwI h a (zup (zi h a) j x)
  | .inr (.inl x) => zwJ h a (zup (zj h a) j x)
  | .inr (.inr (.inl _)) => h
  | .inr (.inr (.inr (.inl x))) => zwD h a (zup (zd h a) j x)
  | .inr (.inr (.inr (.inr x))) => zwR h a (zup (zr h a) j x)
theorem zput_same {h : zH} {a j : Nat} {v : zV} : (zput h a j v).1 = h.1 ∧ zz (zput h a j v) = zz h ∧ zs (zput h a j v) = zs h ∧ zk (zput h a j v) = zk h ∧ zn (zput h a j v) = zn h := by
  rcases v with x | x | x | x | x <;> exact ⟨rfl, rfl, rfl, rfl, rfl⟩
theorem zfit_nf {t : FieldType} {v : zV} (hf : zfit t v) : narrow t (zv v) = zv v ∧ fits t (zv v) = true := by
  rcases v with x | x | x | x | x
  · exact ⟨hf.2.1, hf.2.2⟩
  · have : t = .long := hf
    subst this
    exact ⟨rfl, rfl⟩
  · exact hf.elim
  · have : t = .double := hf
    subst this
    exact ⟨rfl, rfl⟩
  · have hk : refKind t = true := hf
    cases t <;> simp [refKind] at hk <;> cases x <;> exact ⟨rfl, rfl⟩
theorem zput_new {t : FieldType} {h : zH} {a j : Nat} {v : zV} (hf : zfit t v) : zval t (zput h a j v) a j = zv v := by
  rcases v with x | x | x | x | x
  · obtain ⟨⟨h1, h2, h3, h4⟩, -⟩ := hf
    cases t <;> simp [refKind] at h1 h2 h3 h4 <;> simp [zval, zput, zwI, zi, zrw_s, zup_s, zv]
  · have : t = .long := hf
    subst this
    simp [zval, zput, zwJ, zj, zrw_s, zup_s, zv]
  · exact hf.elim
  · have : t = .double := hf
    subst this
    simp [zval, zput, zwD, zd, zrw_s, zup_s, zv]
  · have hk : refKind t = true := hf
    cases t <;> simp [refKind] at hk <;> simp [zval, zput, zwR, zr, zrw_s, zup_s, zv]
theorem zput_old {t : FieldType} {h : zH} {a j b i : Nat} {v : zV} (hd : b ≠ a ∨ (b = a ∧ i ≠ j)) : zval t (zput h a j v) b i = zval t h b i := by
  have key : ∀ {α : Type} (f : Nat → Nat → α) (x : α), zrw f a (zup (f a) j x) b i = f b i := by
    intro α f x
    rcases hd with hd | ⟨rfl, hd⟩
    · rw [zrw_n hd]
    · rw [zrw_s, zup_n hd]
  rcases v with x | x | x | x | x <;> cases t <;> simp [zval, zput, zwI, zwJ, zwR, zwD, zi, zj, zr, zd] <;> first | exact key _ _ | (congr 1; exact key _ _)
theorem zcl_ok : ∀ (c : Nat) (q : vw_C), zcl[c]? = some q → (∀ w ∈ u_ws q.1 q.2.1 q.2.2, w ∈ lw_all) ∧ (∀ a, a < q.2.2 → ∀ b, b < q.2.2 → a ≠ b → (q.2.1 a).2.1 ≠ (q.2.1 b).2.1) ∧ (∀ k, k < q.2.2 → parseFieldDescriptor (q.2.1 k).2.2.1 = some (zT (c + 1) k)) := by
  intro c q hq
  match c, hq with
  | 0, h => cases h; exact ⟨in_X1, nmX1, tyX1_ok⟩
  | 1, h => cases h; exact ⟨in_X2, nmX2, tyX2_ok⟩
  | 2, h => cases h; exact ⟨in_X3, nmX3, tyX3_ok⟩
  | 3, h => cases h; exact ⟨in_X4, nmX4, tyX4_ok⟩
  | 4, h => cases h; exact ⟨in_X5, nmX5, tyX5_ok⟩
  | 5, h => cases h; exact ⟨in_X6, nmX6, tyX6_ok⟩
  | 6, h => cases h; exact ⟨in_X7, nmX7, tyX7_ok⟩
  | 7, h => cases h; exact ⟨in_X8, nmX8, tyX8_ok⟩
  | 8, h => cases h; exact ⟨in_X9, nmX9, tyX9_ok⟩
  | 9, h => cases h; exact ⟨in_X10, nmX10, tyX10_ok⟩
  | 10, h => cases h; exact ⟨in_X11, nmX11, tyX11_ok⟩
  | 11, h => cases h; exact ⟨in_X12, nmX12, tyX12_ok⟩
  | 12, h => cases h; exact ⟨in_X13, nmX13, tyX13_ok⟩
  | 13, h => cases h; exact ⟨in_X15, nmX15, tyX15_ok⟩
  | 14, h => cases h; exact ⟨in_X16, nmX16, tyX16_ok⟩
  | 15, h => cases h; exact ⟨in_J18, nmJ18, tyJ18_ok⟩
  | 16, h => cases h; exact ⟨in_J1, nmJ1, tyJ1_ok⟩
  | 17, h => cases h; exact ⟨in_J3, nmJ3, tyJ3_ok⟩
  | 18, h => cases h; exact ⟨in_J4, nmJ4, tyJ4_ok⟩
  | 19, h => cases h; exact ⟨fun w hw => (nomatch hw), fun a ha => absurd ha (Nat.not_lt_zero a), fun a ha => absurd ha (Nat.not_lt_zero a)⟩
  | 20, h => cases h; exact ⟨fun w hw => (nomatch hw), fun a ha => absurd ha (Nat.not_lt_zero a), fun a ha => absurd ha (Nat.not_lt_zero a)⟩
  | 21, h => cases h; exact ⟨fun w hw => (nomatch hw), fun a ha => absurd ha (Nat.not_lt_zero a), fun a ha => absurd ha (Nat.not_lt_zero a)⟩
  | c + 22, h => exact absurd (List.getElem?_eq_some_iff.mp h).1 (by show ¬ c + 22 < 22; omega)
theorem zcl_lt {c : Nat} {q : vw_C} (h : zcl[c]? = some q) : c < 22 := (List.getElem?_eq_some_iff.mp h).1
theorem zN_cl {c : Nat} {q : vw_C} (h : zcl[c]? = some q) : zN (c + 1) = q.2.2 := by
  have := zcl_lt h
  unfold zN
  rw [if_neg (by omega), if_neg (by omega)]
  show (match zcl[c + 1 - 1]? with
  | some q => q.2.2
  | none => 0) = _
  rw [Nat.add_sub_cancel, h]
theorem zarr_cl {c : Nat} {q : vw_C} (h : zcl[c]? = some q) : zarr (c + 1) = false := by
  have := zcl_lt h
  exact decide_eq_false (by omega)
/-- entry idx of the class 'own' is field j of kind k -/
def zFl (own : String) (idx k j : Nat) : Prop := ∃ (q : vw_C) (ref : String), k ≠ 0 ∧ zcl[k - 1]? = some q ∧ j < q.2.2 ∧ (Cond.fieldLink own idx ref (q.2.1 j).2.1 (q.2.1 j).2.2.1 ∈ lw_all ∨ (own, idx, ref, (q.2.1 j).2.1, (q.2.1 j).2.2.1, "CsrCalculator") ∈ zNF) ∧ (ref = (q.2.1 j).1 ∨ Cond.sameField ref (q.2.1 j).1 (q.2.1 j).2.1 (q.2.1 j).2.2.1 ∈ lw_all)
/-- .. and may be written by the method 'nm' -/
def zFp (own nm : String) (idx k j : Nat) : Prop := ∃ (q : vw_C) (ref : String), k ≠ 0 ∧ zcl[k - 1]? = some q ∧ j < q.2.2 ∧ (ref = (q.2.1 j).1 ∨ Cond.sameField ref (q.2.1 j).1 (q.2.1 j).2.1 (q.2.1 j).2.2.1 ∈ lw_all) ∧ (((Cond.fieldLink own idx ref (q.2.1 j).2.1 (q.2.1 j).2.2.1 ∈ lw_all ∨ (own, idx, ref, (q.2.1 j).2.1, (q.2.1 j).2.2.1, "CsrCalculator") ∈ zNF) ∧ (q.2.1 j).2.2.2 = false) ∨ (Cond.fieldLink own idx ref (q.2.1 j).2.1 (q.2.1 j).2.2.1 ∈ lw_all ∧ (q.2.1 j).2.2.2 = true ∧ nm = "<init>" ∧ (q.2.1 j).1 = own))
section ZM
variable {G : zG} {M : zM} {d : Nat} {h0 h9 h : zH} {o : zO} {pc : Nat} {lv : zL} {st : List zV}
theorem zsame {args : Array Value} {s : State} {ref C n dd : String} (hts : ∀ w ∈ lw_all, w.before args s = true) (h : ref = C ∨ Cond.sameField ref C n dd ∈ lw_all) : ∀ x, s.fieldFound? C n dd = some x → s.fieldFound? ref n dd = some x := by
  rcases h with rfl | h
  · exact fun x hx => hx
  · exact u_same (hts _ h)
theorem zw_getf {k j idx a : Nat} {v : zV} (hd : decode M.2.1 pc = .ok (.getfield idx, 3)) (hl : zFl M.1.cls idx k j) (hk : zk h a = k) (hv : zfld (zT k j) h a j = v) (kk : zW G M d h0 o h9 (pc + 3) lv (v :: st) h) : zW G M d h0 o h9 pc lv (vR (some a) :: st) h := by
  intro p e R s m args below meth c Q H locs ls C hr h1 hz hs hL hlv
  obtain ⟨q, ref, hk0, hc, hj, hlink, hsame⟩ := hl
  subst hk
  obtain ⟨cell, c1, c2, c3, c4, c5⟩ := hr.2.2.2.2 a hk0
  have hke : zk h a - 1 + 1 = zk h a := by omega
  have hN : zn h a = q.2.2 := by
    have := zarr_cl hc
    rw [hke] at this
    rw [this, if_neg (by decide)] at c4
    have h5 := zN_cl hc
    rw [hke] at h5
    exact c4.trans h5
  have hts := C.2.2.2.2.2.1
  obtain ⟨hS, hfc, kC, hkC, hkind⟩ := C.2.2.2.2.2.2.2.2.2.1.1.1 _ q hc
  rw [hke] at hS hfc hkC
  obtain ⟨cf, kf, fi, fd, hi, hsl⟩ := hS j hj
  have hst := (u_facts hfc hkC (u_lays hts (zcl_ok _ q hc).1 hj) hi).1
  have hslot := c5 j (by rw [hN]; exact hj)
  rw [← zfld_ok, hv, ← hsl] at hslot
  rcases hlink with hlink | hlink
  · exact W.getf C.1 C.2.1 C.2.2.2.2.1 (hts _ hlink) (zsame hts hsame _ hi) hst c1 (by rw [c3]; exact fun z => by cases z) hslot rfl rfl hd (kk p e R s m args below meth c Q H locs ls C hr h1 hz hs hL hlv)
  · exact va_Wgetf C.1 C.2.1 C.2.2.2.2.1 (va_Nw.use rfl (C.2.2.2.2.2.2.2.2.2.1.1.2.2.1 _ hlink)) (zsame hts hsame _ hi) hst c1 (by rw [c3]; exact fun z => by cases z) hslot rfl rfl hd (kk p e R s m args below meth c Q H locs ls C hr h1 hz hs hL hlv)
theorem zw_putf {k j idx a : Nat} {v : zV} (hd : decode M.2.1 pc = .ok (.putfield idx, 3)) (hl : zFp M.1.cls M.1.name idx k j) (hk : zk h a = k) (hb : zb h ≤ a) (hv : zfit (zT k j) v) (kk : zW G M d h0 o h9 (pc + 3) lv st (zput h a j v)) : zW G M d h0 o h9 pc lv (v :: vR (some a) :: st) h := by
  intro p e R s m args below meth c Q H locs ls C hr h1 hz hs hL hlv
  obtain ⟨q, ref, hk0, hc, hj, hsame, hlink⟩ := hl
  subst hk
  obtain ⟨cell, c1, c2, c3, c4, c5⟩ := hr.2.2.2.2 a hk0
  have hke : zk h a - 1 + 1 = zk h a := by omega
  have hN : zn h a = q.2.2 := by
    have := zarr_cl hc
    rw [hke] at this
    rw [this, if_neg (by decide)] at c4
    have h5 := zN_cl hc
    rw [hke] at h5
    exact c4.trans h5
  have hts := C.2.2.2.2.2.1
  obtain ⟨hin, hnm, hty⟩ := zcl_ok _ q hc
  have hK : va_K (fun c => G.2.1 (c + 1), fun c => G.2.2.1 (c + 1)) zcl [] s := ⟨C.2.2.2.2.2.2.2.2.2.1.1.1, fun k q hk => by cases hk⟩
  have hap := va_apart (own := M.1.cls) hts hin _ hty hnm hK hc
  obtain ⟨hS, hfc, kC, hkC, hkind⟩ := C.2.2.2.2.2.2.2.2.2.1.1.1 _ q hc
  have hty := hty j hj
  dsimp only at hap
  rw [hke] at hS hfc hkC hty hap
  obtain ⟨cf, kf, fi, fd, hi, hsl⟩ := hS j hj
  have hst := (u_facts hfc hkC (u_lays hts hin hj) hi).1
  have hnf := zfit_nf hv
  have hlt : fd.slot < cell.slots.size := by
    rw [hsl]
    exact k2_hasslot (c5 j (by rw [hN]; exact hj))
  have fin : ∀ H' : Heap, H'[a]? = some (cell.setSlot fd.slot (zv v)) → H'.size = H.size → (∀ q, q ≠ a → H'[q]? = H[q]?) → W p G.1 e R s m args below meth c H' (locs ++ [⟨a, fd.slot⟩]) (zz h - zz h0) (zs h - zs h0) Q (F0 m (pc + 3) ls (st.map zv)) := by
    intro H' e1 e2 e3
    obtain ⟨g1, g2, g3, g4, g5⟩ := zput_same (h := h) (a := a) (j := j) (v := v)
    have hr' : zRep G (zput h a j v) H' := hr.put (a := a) (j := j) (v := zv v) hk0 (by rw [hN]; exact hj) hb c1 (fun i hi hij => hap i j (by rw [hN] at hi; exact hi) hj hij) (by rw [← hsl]; exact e1) e2 e3 g1 g2 g3 g4 g5 (zput_new hv) (fun b i hbi => zput_old hbi)
    have := kk p e R s m args below meth c Q H' (locs ++ [⟨a, fd.slot⟩]) ls C hr' (g1.trans h1) (by rw [g2]; exact hz) (by rw [g3]; exact hs) (fun x hx => by
      rcases List.mem_append.mp hx with hx | hx
      · exact hL x hx
      · rw [List.mem_singleton.mp hx]
        show h0.1.1 ≤ a
        rw [← h1]; exact hb) hlv
    rw [g2, g3] at this
    exact this
  rcases hlink with ⟨hlink, hfin⟩ | ⟨hlink, hfin, hini, hdecl⟩
  · have hlay := hts _ (hin _ (u_in_lay hj))
    unfold u_lay at hlay
    rw [if_neg (by rw [hfin]; decide)] at hlay
    have h6 := u_store hfc hkC hkind hlay hi hty hnf.1 hnf.2
    rcases hlink with hlink | hlink
    · exact W.putK C.1 C.2.1 (f := fd) ⟨C.2.2.2.2.1, hts _ hlink, ⟨_, _, _, zsame hts hsame _ hi⟩, hst⟩ (by rw [c2]; exact h6) c1 c3 hlt rfl rfl hd fin
    · exact va_WputK C.1 C.2.1 (f := fd) C.2.2.2.2.1 (va_Nw.use rfl (C.2.2.2.2.2.2.2.2.2.1.1.2.2.1 _ hlink)) (zsame hts hsame _ hi) hst (by rw [c2]; exact h6) c1 c3 hlt rfl rfl hd fin
  · have hlay := hts _ (hin _ (u_in_lay hj))
    unfold u_lay at hlay
    rw [if_pos hfin] at hlay
    have hcf : m.cls = cf := by
      obtain ⟨_, _, c', _, _, _, -, -, hf', -, -, -, hown2, -⟩ := Cond.laysFinal_spec hlay
      have e1 : c' = cf := by have := hi.symm.trans hf'; simp at this; exact this.1.symm
      rw [hdecl] at hown2
      rw [← e1]; exact Option.some.inj (C.2.2.2.2.1.symm.trans hown2)
    have h6 := u_fits hfc hkC hkind (Or.inr hlay) hi hty hnf.1 hnf.2
    exact W.putFinK C.1 C.2.1 C.2.2.2.2.1 (hts _ hlink) (zsame hts hsame _ hi) hst hcf (C.2.2.2.2.2.2.2.2.1.1.trans hini) (by rw [c2]; exact h6) c1 c3 hlt rfl rfl hd fin
end ZM
