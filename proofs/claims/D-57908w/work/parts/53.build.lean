/-! LAYER C, 4: matrices are built -/
theorem zN_3 : zN 3 = 5 := rfl
theorem zN_7 : zN 7 = 6 := rfl
section AL
variable {h : zH} {k n c a : Nat}
theorem al_k : zk (zAl h k n c) a = if a = zz h then k else zk h a := rfl
theorem al_n : zn (zAl h k n c) a = if a = zz h then n else zn h a := rfl
theorem al_i : zi (zAl h k n c) a = if a = zz h then fun _ => 0 else zi h a := rfl
theorem al_r : zr (zAl h k n c) a = if a = zz h then fun _ => none else zr h a := rfl
theorem al_z : zz (zAl h k n c) = zz h + 1 := rfl
theorem al_s : zs (zAl h k n c) = zs h + c := rfl
theorem al_b : zb (zAl h k n c) = zb h := rfl
theorem al_kn : zk (zAl h k n c) (zz h) = k := if_pos rfl
theorem al_nn : zn (zAl h k n c) (zz h) = n := if_pos rfl
theorem al_ko (ha : a ≠ zz h) : zk (zAl h k n c) a = zk h a := if_neg ha
theorem al_no (ha : a ≠ zz h) : zn (zAl h k n c) a = zn h a := if_neg ha
theorem al_io (ha : a ≠ zz h) : zi (zAl h k n c) a = zi h a := if_neg ha
theorem al_ro (ha : a ≠ zz h) : zr (zAl h k n c) a = zr h a := if_neg ha
theorem al_in : zi (zAl h k n c) (zz h) = fun _ => 0 := if_pos rfl
theorem al_rn : zr (zAl h k n c) (zz h) = fun _ => none := if_pos rfl
end AL
theorem wI_s {h : zH} {a : Nat} {f : Nat → Int32} : zi (zwI h a f) a = f := zrw_s
theorem wI_n {h : zH} {a b : Nat} {f : Nat → Int32} (hb : b ≠ a) : zi (zwI h a f) b = zi h b := zrw_n hb
theorem wR_s {h : zH} {a : Nat} {f : Nat → Option Nat} : zr (zwR h a f) a = f := zrw_s
theorem wR_n {h : zH} {a b : Nat} {f : Nat → Option Nat} (hb : b ≠ a) : zr (zwR h a f) b = zr h b := zrw_n hb
theorem s_X3_cut {g : zH} {a n : Nat} (hk : zk g a = 50) (hn : n ≤ zn g a) (h31 : n < 2147483648) (ha : a < zz g) (hr : zRm 1 n g) :
    f_X3_cut (some a) (nI n) g = some (some (zz g), zwI (zAl g 50 n n) (zz g) (zcpy (zi g a) (fun _ => 0) 0 0 n)) := by
  have hne : a ≠ zz g := Nat.ne_of_lt ha
  unfold f_X3_cut
  rw [e_na h31 hr.2.1 hr.2.2, zb2_s]
  have e : zcpI 50 (some a) 0 (some (zz g)) 0 (nI n) (zAl g 50 n n) = some (zwI (zAl g 50 n n) (zz g) (zcpy (zi g a) (fun _ => 0) 0 0 n)) := by
    show (if _ then _ else _) = _
    rw [if_pos]
    · rw [nI_clamp h31, al_io hne, al_in]
      rfl
    · refine ⟨⟨(al_ko hne).trans hk, al_kn, hr.1⟩, ⟨by decide, by decide, nI_pos h31⟩, ?_, ?_, fun h => absurd h (by decide)⟩
      · rw [al_no hne, nI_clamp h31, show (0 : Int32).toNatClampNeg = 0 from rfl]; omega
      · rw [al_nn, nI_clamp h31, show (0 : Int32).toNatClampNeg = 0 from rfl]; omega
  rw [e, Option.bind_some]
theorem zcpy_0 {f g : Nat → Int32} {n j : Nat} (h : j < n) : zcpy f g 0 0 n j = f j := by
  unfold zcpy
  rw [if_pos (by omega)]
  congr 1
  omega
theorem s_X3_init_2 {g : zH} {q : Nat} {x0 x1 : Int32} {r2 r3 r4 : Option Nat} (hk : zk g q = 3) (hb : zb g ≤ q) :
    ∃ g', f_X3_init_2 (some q) x0 x1 r2 r3 r4 g = some g' ∧ (zi g' q 0 = x0 ∧ zi g' q 1 = x1 ∧ zr g' q 2 = r2 ∧ zr g' q 3 = r3 ∧ zr g' q 4 = r4) ∧ (g'.1 = g.1 ∧ zz g' = zz g ∧ zs g' = zs g ∧ zk g' = zk g ∧ zn g' = zn g ∧ zj g' = zj g ∧ zd g' = zd g) ∧ ∀ b, b ≠ q → zi g' b = zi g b ∧ zr g' b = zr g b := by
  unfold f_X3_init_2
  rw [Option.bind_some, e_pI hk hb, Option.bind_some, e_pI (by exact hk) (by exact hb), Option.bind_some, e_pR (by exact hk) (by exact hb), Option.bind_some, e_pR (by exact hk) (by exact hb), Option.bind_some, e_pR (by exact hk) (by exact hb), Option.bind_some]
  refine ⟨_, rfl, ⟨?_, ?_, ?_, ?_, ?_⟩, ⟨rfl, rfl, rfl, rfl, rfl, rfl, rfl⟩, fun b hb => ⟨?_, ?_⟩⟩
  · show zrw (zrw (zi g) q _) q _ q 0 = _
    rw [zrw_s, zup_n (by decide)]
    show zrw (zi g) q _ q 0 = _
    rw [zrw_s, zup_s]
  · show zrw (zrw (zi g) q _) q _ q 1 = _
    rw [zrw_s, zup_s]
  · show zrw (zrw (zrw (zr g) q _) q _) q _ q 2 = _
    rw [zrw_s, zup_n (by decide)]
    show zrw (zrw (zr g) q _) q _ q 2 = _
    rw [zrw_s, zup_n (by decide)]
    show zrw (zr g) q _ q 2 = _
    rw [zrw_s, zup_s]
  · show zrw (zrw (zrw (zr g) q _) q _) q _ q 3 = _
    rw [zrw_s, zup_n (by decide)]
    show zrw (zrw (zr g) q _) q _ q 3 = _
    rw [zrw_s, zup_s]
  · show zrw (zrw (zrw (zr g) q _) q _) q _ q 4 = _
    rw [zrw_s, zup_s]
  · show zrw (zrw (zi g) q _) q _ b = _
    rw [zrw_n hb, zrw_n hb]
  · show zrw (zrw (zrw (zr g) q _) q _) q _ b = _
    rw [zrw_n hb, zrw_n hb, zrw_n hb]
/-- the end of 'build' -/
theorem s_buildEnd {m : Nat} {g : zH} {P X V : Nat} {M : zMt} (ok : mOK M) (hP : zk g P = 50 ∧ zn g P = mR M + 1 ∧ ∀ i, i ≤ mR M → zi g P i = nI (ct (mF M) (12 * i))) (hoP : zo m g P) (hm : m + 20 ≤ zz g)
    (hX : zk g X = 50 ∧ mN M ≤ zn g X ∧ X < zz g) (hV : zk g V = 50 ∧ mN M ≤ zn g V ∧ V < zz g) (hkv : ∀ k, mF M k = true → zi g X (ct (mF M) k) = nI (k % 12) ∧ zi g V (ct (mF M) k) = iI (mV M k)) (hr : zRm 3 (5 + 2 * mN M) g) :
    ∃ g', B_X3_build_131 (nI (mR M)) (nI (mC M)) (some P) (some X) (some V) (nI (mN M)) g = some (.inl (some (zz g)), g') ∧ zGr 3 (5 + 2 * mN M) zNo g g' ∧ cM m g' (zz g) M := by
  have hN := mOK.n144 (M := M)
  unfold B_X3_build_131
  obtain ⟨r1, r2, r3⟩ := hr
  have r2' : zz g + 3 ≤ g.1.2.1 := r2
  have r3' : zs g + (5 + 2 * mN M) ≤ g.1.2.2.1 := r3
  rw [e_nw (by show zz g + 1 ≤ g.1.2.1; omega) (by rw [zN_3]; show zs g + 5 ≤ g.1.2.2.1; omega), zb2_s, zN_3]
  have nX : X ≠ zz g := Nat.ne_of_lt hX.2.2
  have nV : V ≠ zz g := Nat.ne_of_lt hV.2.2
  have nP : P ≠ zz g := Nat.ne_of_lt hoP.1
  rw [s_X3_cut (g := zAl g 3 5 5) ((al_ko nX).trans hX.1) (by rw [al_no nX]; exact hX.2.1) (by omega) (by rw [al_z]; have := hX.2.2; omega) ⟨by show zb g ≤ zz g + 1; omega, by show zz g + 1 + 1 ≤ g.1.2.1; omega, by show zs g + 5 + mN M ≤ g.1.2.2.1; omega⟩, zb2_s, al_io nX, al_z]
  generalize hg1 : zwI (zAl (zAl g 3 5 5) 50 (mN M) (mN M)) (zz g + 1) (zcpy (zi g X) (fun _ => 0) 0 0 (mN M)) = g1
  have a1 : g1.1 = g.1 ∧ zz g1 = zz g + 2 ∧ zs g1 = zs g + (5 + mN M) := by subst hg1; exact ⟨rfl, rfl, by show zs g + 5 + mN M = _; omega⟩
  have a2 : ∀ b, b < zz g → zk g1 b = zk g b ∧ zn g1 b = zn g b ∧ zi g1 b = zi g b ∧ zj g1 b = zj g b ∧ zr g1 b = zr g b ∧ zd g1 b = zd g b := by
    subst hg1
    intro b hb
    have n1 : b ≠ zz g := by omega
    have n2 : b ≠ zz g + 1 := by omega
    refine ⟨?_, ?_, ?_, ?_, ?_, ?_⟩
    · show zrw (zrw (zk g) (zz g) 3) (zz g + 1) 50 b = _; rw [zrw_n n2, zrw_n n1]
    · show zrw (zrw (zn g) (zz g) _) (zz g + 1) _ b = _; rw [zrw_n n2, zrw_n n1]
    · show zrw (zrw (zrw (zi g) (zz g) _) (zz g + 1) _) (zz g + 1) _ b = _; rw [zrw_n n2, zrw_n n2, zrw_n n1]
    · show zrw (zrw (zj g) (zz g) _) (zz g + 1) _ b = _; rw [zrw_n n2, zrw_n n1]
    · show zrw (zrw (zr g) (zz g) _) (zz g + 1) _ b = _; rw [zrw_n n2, zrw_n n1]
    · show zrw (zrw (zd g) (zz g) _) (zz g + 1) _ b = _; rw [zrw_n n2, zrw_n n1]
  have a3 : zk g1 (zz g) = 3 ∧ zk g1 (zz g + 1) = 50 ∧ zn g1 (zz g + 1) = mN M ∧ ∀ j, j < mN M → zi g1 (zz g + 1) j = zi g X j := by
    subst hg1
    refine ⟨?_, ?_, ?_, fun j hj => ?_⟩
    · show zrw (zrw (zk g) (zz g) 3) (zz g + 1) 50 (zz g) = _; rw [zrw_n (by omega), zrw_s]
    · show zrw (zrw (zk g) (zz g) 3) (zz g + 1) 50 (zz g + 1) = _; rw [zrw_s]
    · show zrw (zrw (zn g) (zz g) _) (zz g + 1) _ (zz g + 1) = _; rw [zrw_s]
    · show zrw (zrw (zrw (zi g) (zz g) _) (zz g + 1) _) (zz g + 1) _ (zz g + 1) j = _; rw [zrw_s, zcpy_0 hj]
  clear hg1
  obtain ⟨b1, b2, b3, b4, b5, b6⟩ := a2 V hV.2.2
  have e1 : zCX g1 = g.1.2.1 := by show g1.1.2.1 = _; rw [a1.1]
  have e2 : zSX g1 = g.1.2.2.1 := by show g1.1.2.2.1 = _; rw [a1.1]
  have e3 : zb g1 = zb g := by show g1.1.1 = _; rw [a1.1]; rfl
  rw [s_X3_cut (g := g1) (b1.trans hV.1) (by rw [b2]; exact hV.2.1) (by omega) (by rw [a1.2.1]; have := hV.2.2; omega) ⟨by rw [e3, a1.2.1]; omega, by rw [e1, a1.2.1]; omega, by rw [e2, a1.2.2]; omega⟩, zb2_s, b3, a1.2.1]
  generalize hg2 : zwI (zAl g1 50 (mN M) (mN M)) (zz g + 2) (zcpy (zi g V) (fun _ => 0) 0 0 (mN M)) = g2
  have c1 : g2.1 = g.1 ∧ zz g2 = zz g + 3 ∧ zs g2 = zs g + (5 + 2 * mN M) := by subst hg2; exact ⟨a1.1, by show zz g1 + 1 = _; rw [a1.2.1], by show zs g1 + mN M = _; rw [a1.2.2]; omega⟩
  have c2 : ∀ b, b < zz g + 2 → zk g2 b = zk g1 b ∧ zn g2 b = zn g1 b ∧ zi g2 b = zi g1 b ∧ zj g2 b = zj g1 b ∧ zr g2 b = zr g1 b ∧ zd g2 b = zd g1 b := by
    subst hg2
    intro b hb
    have n1 : b ≠ zz g1 := by rw [a1.2.1]; omega
    have n2 : b ≠ zz g + 2 := by omega
    exact ⟨zrw_n n1, zrw_n n1, by show zrw (zrw (zi g1) (zz g1) _) (zz g + 2) _ b = _; rw [zrw_n n2, zrw_n n1], zrw_n n1, zrw_n n1, zrw_n n1⟩
  have c3 : zk g2 (zz g + 2) = 50 ∧ zn g2 (zz g + 2) = mN M ∧ ∀ j, j < mN M → zi g2 (zz g + 2) j = zi g V j := by
    subst hg2
    refine ⟨?_, ?_, fun j hj => ?_⟩
    · show zrw (zk g1) (zz g1) 50 (zz g + 2) = _; rw [a1.2.1, zrw_s]
    · show zrw (zn g1) (zz g1) _ (zz g + 2) = _; rw [a1.2.1, zrw_s]
    · show zrw (zrw (zi g1) (zz g1) _) (zz g + 2) _ (zz g + 2) j = _; rw [zrw_s, zcpy_0 hj]
  clear hg2
  have k3 : zk g2 (zz g) = 3 := (c2 _ (by omega)).1.trans a3.1
  obtain ⟨g', f1, ⟨f2, f3, f4, f5, f6⟩, ⟨f7, f8, f9, f10, f11, f12, f13⟩, f14⟩ := s_X3_init_2 (g := g2) (q := zz g) (x0 := nI (mR M)) (x1 := nI (mC M)) (r2 := some P) (r3 := some (zz g + 1)) (r4 := some (zz g + 2)) k3 (by show g2.1.1 ≤ _; rw [c1.1]; exact r1)
  refine ⟨g', by rw [Option.bind_some, f1, Option.bind_some], ?_, ?_⟩
  · refine ⟨⟨f7.trans c1.1, by rw [f8, c1.2.1]; omega, by rw [f9, c1.2.2]; omega, fun q hq => ?_⟩, by rw [f8, c1.2.1]; omega, by rw [f9, c1.2.2]; omega⟩
    obtain ⟨x1, x2, x3, x4, x5, x6⟩ := a2 q hq
    obtain ⟨y1, y2, y3, y4, y5, y6⟩ := c2 q (by omega)
    obtain ⟨z1, z2⟩ := f14 q (by omega)
    refine ⟨by rw [f10, y1, x1], by rw [f11, y2, x2], fun _ => ⟨by rw [z1, y3, x3], by rw [f12, y4, x4], by rw [z2, y5, x5], by rw [f13, y6, x6]⟩⟩
  · have go : ∀ b, b < zz g + 3 → (b < m ∨ m + 20 ≤ b) → zo m g' b := fun b h1 h2 => ⟨by rw [f8, c1.2.1]; exact h1, h2⟩
    have hPk : zi g' P = zi g P := by rw [(f14 P nP).1, (c2 P (by have := hoP.1; omega)).2.2.1, (a2 P hoP.1).2.2.1]
    have hXi : zi g' (zz g + 1) = zi g1 (zz g + 1) := by rw [(f14 _ (by omega)).1, (c2 _ (by omega)).2.2.1]
    have hVi : zi g' (zz g + 2) = zi g2 (zz g + 2) := (f14 _ (by omega)).1
    refine ⟨P, zz g + 1, zz g + 2, ⟨by rw [f10]; exact k3, f2, f3, f4, f5, f6⟩, ⟨?_, ?_, fun i hi => by rw [hPk]; exact hP.2.2 i hi⟩, ⟨?_, ?_⟩, ⟨?_, ?_⟩, fun k hk => ⟨?_, ?_⟩, ⟨go _ (by omega) (by omega), go P (by have := hoP.1; omega) hoP.2, go _ (by omega) (by omega), go _ (by omega) (by omega)⟩, ok⟩
    · rw [f10, (c2 P (by have := hoP.1; omega)).1, (a2 P hoP.1).1]; exact hP.1
    · rw [f11, (c2 P (by have := hoP.1; omega)).2.1, (a2 P hoP.1).2.1]; exact hP.2.1
    · rw [f10, (c2 _ (by omega)).1]; exact a3.2.1
    · rw [f11, (c2 _ (by omega)).2.1]; exact a3.2.2.1
    · rw [f10]; exact c3.1
    · rw [f11]; exact c3.2.1
    · rw [hXi, a3.2.2.2 _ (ct_lt hk (ok.lt hk))]; exact (hkv k hk).1
    · rw [hVi, c3.2.2 _ (ct_lt hk (ok.lt hk))]; exact (hkv k hk).2
theorem s_pR {k j a : Nat} {x : Option Nat} {h : zH} (hk : zk h a = k) (hb : zb h ≤ a) : ∃ g, zpR k j (some a) x h = some g ∧ (g.1 = h.1 ∧ zz g = zz h ∧ zs g = zs h ∧ zk g = zk h ∧ zn g = zn h ∧ zi g = zi h ∧ zj g = zj h ∧ zd g = zd h) ∧ ∀ c, c ≠ a → zr g c = zr h c :=
  ⟨_, e_pR hk hb, ⟨rfl, rfl, rfl, rfl, rfl, rfl, rfl, rfl⟩, fun _ hc => zrw_n hc⟩
theorem s_X7_init {g : zH} {q : Nat} (hk : zk g q = 7) (hb : zb g ≤ q) : ∃ g', f_X7_init (some q) g = some g' ∧ (g'.1 = g.1 ∧ zz g' = zz g ∧ zs g' = zs g ∧ zk g' = zk g ∧ zn g' = zn g ∧ zi g' = zi g ∧ zj g' = zj g ∧ zd g' = zd g) ∧ ∀ c, c ≠ q → zr g' c = zr g c := by
  have st : ∀ (h : zH) (j : Nat) (x : Option Nat), (h.1 = g.1 ∧ zz h = zz g ∧ zs h = zs g ∧ zk h = zk g ∧ zn h = zn g ∧ zi h = zi g ∧ zj h = zj g ∧ zd h = zd g) ∧ (∀ c, c ≠ q → zr h c = zr g c) → ∃ h', zpR 7 j (some q) x h = some h' ∧ (h'.1 = g.1 ∧ zz h' = zz g ∧ zs h' = zs g ∧ zk h' = zk g ∧ zn h' = zn g ∧ zi h' = zi g ∧ zj h' = zj g ∧ zd h' = zd g) ∧ (∀ c, c ≠ q → zr h' c = zr g c) := by
    rintro h j x ⟨⟨a1, a2, a3, a4, a5, a6, a7, a8⟩, a9⟩
    obtain ⟨h', e, ⟨b1, b2, b3, b4, b5, b6, b7, b8⟩, b9⟩ := s_pR (k := 7) (j := j) (a := q) (x := x) (h := h) (by rw [a4]; exact hk) (by show h.1.1 ≤ q; rw [a1]; exact hb)
    exact ⟨h', e, ⟨b1.trans a1, b2.trans a2, b3.trans a3, b4.trans a4, b5.trans a5, b6.trans a6, b7.trans a7, b8.trans a8⟩, fun c hc => (b9 c hc).trans (a9 c hc)⟩
  unfold f_X7_init f_J7_init_k7 f_J6_init_2_k7 B_J6_init_2_k7_41
  rw [Option.bind_some, Option.bind_some, Option.bind_some]
  obtain ⟨h1, e1, f1⟩ := st g 0 (some q) ⟨⟨rfl, rfl, rfl, rfl, rfl, rfl, rfl, rfl⟩, fun _ _ => rfl⟩
  rw [e1, Option.bind_some]
  obtain ⟨h2, e2, f2⟩ := st h1 1 (zsv h1 7) f1
  rw [e2, Option.bind_some]
  obtain ⟨h3, e3, f3⟩ := st h2 2 (zsv h2 8) f2
  rw [e3, Option.bind_some, ite_t rfl]
  obtain ⟨h4, e4, f4⟩ := st h3 1 none f3
  rw [e4, Option.bind_some]
  obtain ⟨h5, e5, f5⟩ := st h4 3 none f4
  rw [e5, Option.bind_some]
  obtain ⟨h6, e6, f6⟩ := st h5 0 none f5
  rw [e6, Option.bind_some, ite_t rfl]
  obtain ⟨h7, e7, f7⟩ := st h6 2 none f6
  rw [e7, Option.bind_some, Option.bind_some, Option.bind_some]
  exact ⟨h7, rfl, f7⟩
/-- 'throw new Failure()' -/
theorem s_newF {α : Type} {g : zH} (hr : zRm 1 6 g) : ∃ q g', (zb2 (znw 7 g) fun q14 h15 => (some q14).bind fun b17 => (f_X7_init (some b17) h15).bind fun h20 => (some q14).bind fun q21 => if zk h20 q21 = 7 then some (Sum.inr q21, h20) else none) = some ((Sum.inr q : α ⊕ Nat), g') ∧ zGr 1 6 zNo g g' ∧ zk g' q = 7 := by
  rw [e_nw hr.2.1 (by rw [zN_7]; exact hr.2.2), zb2_s, Option.bind_some, zN_7]
  obtain ⟨g', e, ⟨e1, e2, e3, e4, e5, e6, e7, e8⟩, e9⟩ := s_X7_init (g := zAl g 7 6 6) (q := zz g) al_kn hr.1
  have k7 : zk g' (zz g) = 7 := by rw [e4]; exact al_kn
  rw [e, Option.bind_some, Option.bind_some, if_pos k7]
  refine ⟨_, _, rfl, ⟨⟨e1, by rw [e2]; exact Nat.le_succ _, by rw [e3]; exact Nat.le_add_right _ _, fun a ha => ?_⟩, by rw [e2]; exact Nat.le_refl _, by rw [e3]; exact Nat.le_refl _⟩, k7⟩
  have hn : a ≠ zz g := Nat.ne_of_lt ha
  exact ⟨by rw [e4]; exact zrw_n hn, by rw [e5]; exact zrw_n hn, fun _ => ⟨by rw [e6]; exact zrw_n hn, by rw [e7]; exact zrw_n hn, by rw [e9 a hn]; exact zrw_n hn, by rw [e8]; exact zrw_n hn⟩⟩
def zbI (g : zH) (P X V : Nat) (M : zMt) (I : Nat → Nat → Int32) (r c : Nat) : Prop := (∀ b, b ≠ P → b ≠ X → b ≠ V → I b = zi g b) ∧ (∀ i, i ≤ r → I P i = nI (ct (mF M) (12 * i))) ∧
  (∀ k, k < 12 * r + c → mF M k = true → I X (ct (mF M) k) = nI (k % 12) ∧ I V (ct (mF M) k) = iI (mV M k)) ∧ ∀ k, k < 12 * r + c → mF M k = true → -999999 ≤ mV M k ∧ mV M k ≤ 999999
theorem lit_m1 : (-999999 : Int64).toInt = -999999 := by decide
theorem lit_p1 : (999999 : Int64).toInt = 999999 := by decide
theorem ctB {R C : Nat} {μ : Nat → Nat → Bool} {γ : Nat → Nat → Int} (hC : C ≤ 12) : ∀ r, ct (mF (mB R C μ γ)) (12 * r) ≤ r * C ∧ ct (mF (mB R C μ γ)) (12 * r + C) = ct (mF (mB R C μ γ)) (12 * (r + 1)) := by
  have row : ∀ r, ct (mF (mB R C μ γ)) (12 * r + C) = ct (mF (mB R C μ γ)) (12 * (r + 1)) := by
    intro r
    have e : 12 * (r + 1) = 12 * r + C + (12 - C) := by omega
    rw [e, ct_add _ (12 * r + C), cr_zero]
    · rfl
    · intro t ht
      show (decide ((12 * r + C + t) / 12 < R ∧ (12 * r + C + t) % 12 < C) && _) = false
      rw [decide_eq_false (by omega)]
      rfl
  intro r
  refine ⟨?_, row r⟩
  induction r with
  | zero => exact Nat.zero_le _
  | succ r ih =>
    have e2 : (r + 1) * C = r * C + C := Nat.succ_mul r C
    rw [← row r, ct_add, e2]
    have := cr_le (mF (mB R C μ γ)) (12 * r) C
    omega
theorem s_X3_build {m : Nat} {h : zH} {R C qm qc : Nat} {μ : Nat → Nat → Bool} {γ : Nat → Nat → Int} (hR : 1 ≤ R ∧ R ≤ 12) (hC : 1 ≤ C ∧ C ≤ 12) (hm : m + 20 ≤ zz h) (hr : zRm 6 594 h)
    (hμ : ∀ g, zFm zNo h g → ∀ i j, i < R → j < C → fl_Mask (some qm) (nI i) (nI j) g = some (bI (μ i j))) (hγ : ∀ g, zFm zNo h g → ∀ i j, i < R → j < C → μ i j = true → fl_Cell (some qc) (nI i) (nI j) g = some (lI (γ i j)))
    (hγb : ∀ i j, i < R → j < C → -9223372036854775808 ≤ γ i j ∧ γ i j < 9223372036854775808) :
    ∃ o g, f_X3_build (nI R) (nI C) (some qm) (some qc) h = some (o, g) ∧ zGr 6 594 zNo h g ∧ ((mSm R C μ γ ∧ ∃ a, o = .inl (some a) ∧ cM m g a (mB R C μ γ)) ∨ (¬ mSm R C μ γ ∧ ∃ q, o = .inr q ∧ zk g q = 7)) := by
  obtain ⟨r1, r2, r3⟩ := hr
  have r2' : zz h + 6 ≤ h.1.2.1 := r2
  have r3' : zs h + 594 ≤ h.1.2.2.1 := r3
  have hRC : R * C ≤ 144 := Nat.le_trans (Nat.mul_le_mul hR.2 hC.2) (by decide)
  unfold f_X3_build
  rw [nI_1, nI_mul, e_na (by omega) (by show zz h + 1 ≤ h.1.2.1; omega) (by show zs h + (R + 1) ≤ h.1.2.2.1; omega), zb2_s, e_na (by omega) (by show zz h + 1 + 1 ≤ h.1.2.1; omega) (by show zs h + (R + 1) + R * C ≤ h.1.2.2.1; omega), zb2_s, e_na (by omega) (by show zz h + 1 + 1 + 1 ≤ h.1.2.1; omega) (by show zs h + (R + 1) + R * C + R * C ≤ h.1.2.2.1; omega), zb2_s]
  generalize hg8 : zAl (zAl (zAl h 50 (R + 1) (R + 1)) 50 (R * C) (R * C)) 50 (R * C) (R * C) = g8
  show ∃ o g, zloop B_X3_build_27 (fun _ _ _ _ _ _ _ _ _ _ => none) zFU (nI R) (nI C) (some qm) (some qc) (some (zz h)) (some (zz h + 1)) (some (zz h + 1 + 1)) 0 0 g8 = some (o, g) ∧ _
  have a1 : g8.1 = h.1 ∧ zz g8 = zz h + 3 ∧ zs g8 = zs h + (R + 1 + R * C + R * C) := by subst hg8; exact ⟨rfl, rfl, by show zs h + (R + 1) + R * C + R * C = _; omega⟩
  have aE : zFm zNo h g8 := by subst hg8; exact (((zFm.refl zNo h).al _ _ _).al _ _ _).al _ _ _
  have aP : zk g8 (zz h) = 50 ∧ zn g8 (zz h) = R + 1 ∧ zi g8 (zz h) = fun _ => 0 := by
    subst hg8
    refine ⟨?_, ?_, ?_⟩
    · show zrw (zrw (zrw (zk h) (zz h) 50) (zz h + 1) 50) (zz h + 1 + 1) 50 (zz h) = _; rw [zrw_n (by omega), zrw_n (by omega), zrw_s]
    · show zrw (zrw (zrw (zn h) (zz h) _) (zz h + 1) _) (zz h + 1 + 1) _ (zz h) = _; rw [zrw_n (by omega), zrw_n (by omega), zrw_s]
    · show zrw (zrw (zrw (zi h) (zz h) _) (zz h + 1) _) (zz h + 1 + 1) _ (zz h) = _; rw [zrw_n (by omega), zrw_n (by omega), zrw_s]
  have aX : zk g8 (zz h + 1) = 50 ∧ zn g8 (zz h + 1) = R * C := by
    subst hg8
    refine ⟨?_, ?_⟩
    · show zrw (zrw (zrw (zk h) (zz h) 50) (zz h + 1) 50) (zz h + 1 + 1) 50 (zz h + 1) = _; rw [zrw_n (by omega), zrw_s]
    · show zrw (zrw (zrw (zn h) (zz h) _) (zz h + 1) _) (zz h + 1 + 1) _ (zz h + 1) = _; rw [zrw_n (by omega), zrw_s]
  have aV : zk g8 (zz h + 1 + 1) = 50 ∧ zn g8 (zz h + 1 + 1) = R * C := by
    subst hg8
    exact ⟨zrw_s, zrw_s⟩
  clear hg8
  have e1 : zCX g8 = h.1.2.1 := by show g8.1.2.1 = _; rw [a1.1]
  have e2 : zSX g8 = h.1.2.2.1 := by show g8.1.2.2.1 = _; rw [a1.1]
  have e3 : zb g8 = zb h := by show g8.1.1 = _; rw [a1.1]; rfl
  have hFe : ∀ i j, i < R → j < C → mF (mB R C μ γ) (12 * i + j) = μ i j := by
    intro i j hi hj
    show (decide ((12 * i + j) / 12 < R ∧ (12 * i + j) % 12 < C) && μ ((12 * i + j) / 12) ((12 * i + j) % 12)) = _
    have q1 : (12 * i + j) / 12 = i := by omega
    have q2 : (12 * i + j) % 12 = j := by omega
    rw [q1, q2, decide_eq_true ⟨hi, hj⟩]
    rfl
  have hVe : ∀ i j, i < R → j < C → μ i j = true → mV (mB R C μ γ) (12 * i + j) = γ i j := by
    intro i j hi hj hμ1
    have h9 := hFe i j hi hj
    show (if mF (mB R C μ γ) (12 * i + j) = true then γ ((12 * i + j) / 12) ((12 * i + j) % 12) else 0) = _
    have q1 : (12 * i + j) / 12 = i := by omega
    have q2 : (12 * i + j) % 12 = j := by omega
    rw [h9, if_pos hμ1, q1, q2]
  have hcl : ∀ r c, r < R → c < C → ct (mF (mB R C μ γ)) (12 * r + c) < R * C := by
    intro r c hr hc
    have q1 := (ctB (R := R) (μ := μ) (γ := γ) hC.2 r).1
    have q2 := cr_le (mF (mB R C μ γ)) (12 * r) c
    have q3 : (r + 1) * C ≤ R * C := Nat.mul_le_mul_right C hr
    have e2 : (r + 1) * C = r * C + C := Nat.succ_mul r C
    rw [e2] at q3
    rw [ct_add]
    omega
  have hE8 : ∀ (I : Nat → Nat → Int32) (r c : Nat), zbI g8 (zz h) (zz h + 1) (zz h + 1 + 1) (mB R C μ γ) I r c → zFm zNo h (zU g8 I (zj g8)) := fun I r c hI => aE.U fun a ha _ => ⟨hI.1 a (by omega) (by omega) (by omega), rfl⟩
  obtain ⟨Q, hQ⟩ : ∃ Q : (Option Nat ⊕ Nat) × zH → Prop, Q = fun og => zGr 6 594 zNo h og.2 ∧ ((mSm R C μ γ ∧ ∃ a, og.1 = .inl (some a) ∧ cM m og.2 a (mB R C μ γ)) ∨ (¬ mSm R C μ γ ∧ ∃ q, og.1 = .inr q ∧ zk og.2 q = 7)) := ⟨_, rfl⟩
  have fin : zP (zloop B_X3_build_27 (fun _ _ _ _ _ _ _ _ _ _ => none) zFU (nI R) (nI C) (some qm) (some qc) (some (zz h)) (some (zz h + 1)) (some (zz h + 1 + 1)) (nI (ct (mF (mB R C μ γ)) (12 * 0))) (nI 0) (zU g8 (zi g8) (zj g8))) Q := by
    refine zlF (P := fun n (f : Int32 → Int32 → Option Nat → Option Nat → Option Nat → Option Nat → Option Nat → Int32 → Int32 → zH → Option ((Option Nat ⊕ Nat) × zH)) => ∀ (I : Nat → Nat → Int32) (r : Nat), r + n = R → zbI g8 (zz h) (zz h + 1) (zz h + 1 + 1) (mB R C μ γ) I r 0 →
      zP (f (nI R) (nI C) (some qm) (some qc) (some (zz h)) (some (zz h + 1)) (some (zz h + 1 + 1)) (nI (ct (mF (mB R C μ γ)) (12 * r))) (nI r) (zU g8 I (zj g8))) Q) ?_ R (by omega) (zi g8) 0 (by omega) ⟨fun _ _ _ _ => rfl, fun i hi => (by rw [aP.2.2, show i = 0 from Nat.le_zero.mp hi]; rfl), fun k hk => (by omega), fun k hk => (by omega)⟩
    intro n f ih I r hrn hI
    unfold B_X3_build_27
    by_cases hrR : r = R
    · subst hrR
      rw [ite_t (Int32.le_refl _)]
      have small : mSm r C μ γ := by
        intro i j hi hj hij
        have := hI.2.2.2 (12 * i + j) (by omega) (by rw [hFe i j hi hj]; exact hij)
        rw [hVe i j hi hj hij] at this
        exact this
      have ok := mB_ok hR hC small
      have hN : mN (mB r C μ γ) = ct (mF (mB r C μ γ)) (12 * r) := ok.all.symm
      have hNle : mN (mB r C μ γ) ≤ r * C := by rw [hN]; exact (ctB (R := r) (μ := μ) (γ := γ) hC.2 r).1
      have h144 := mOK.n144 (M := mB r C μ γ)
      rw [← hN]
      obtain ⟨g', f1, f2, f3⟩ := s_buildEnd (m := m) (g := zU g8 I (zj g8)) (P := zz h) (X := zz h + 1) (V := zz h + 1 + 1) ok ⟨aP.1, aP.2.1, hI.2.1⟩ ⟨by show zz h < zz g8; rw [a1.2.1]; omega, by omega⟩ (by show m + 20 ≤ zz g8; rw [a1.2.1]; omega)
        ⟨aX.1, by show _ ≤ zn g8 _; rw [aX.2]; exact hNle, by show _ < zz g8; rw [a1.2.1]; omega⟩ ⟨aV.1, by show _ ≤ zn g8 _; rw [aV.2]; exact hNle, by show _ < zz g8; rw [a1.2.1]; omega⟩
        (fun k hk => hI.2.2.1 k (by have := (ok.2.1 k hk).1; have e : mR (mB r C μ γ) = r := rfl; rw [e] at this; omega) hk) ⟨by show zb g8 ≤ zz g8; rw [e3, a1.2.1]; omega, by show zz g8 + 3 ≤ zCX g8; rw [e1, a1.2.1]; omega, by show zs g8 + _ ≤ zSX g8; rw [e2, a1.2.2]; omega⟩
      refine ⟨_, f1, ?_⟩
      rw [hQ]
      refine ⟨⟨(hE8 I r 0 hI).trans f2.1, ?_, ?_⟩, Or.inl ⟨small, _, rfl, f3⟩⟩
      · show zz g' ≤ zz h + 6
        have := f2.2.1
        have q : zz (zU g8 I (zj g8)) = zz h + 3 := a1.2.1
        rw [q] at this; omega
      · show zs g' ≤ zs h + 594
        have := f2.2.2
        have q : zs (zU g8 I (zj g8)) = zs h + (r + 1 + r * C + r * C) := a1.2.2
        rw [q] at this; omega
    · rw [ite_f (by rw [nI_leI (by omega) (by omega)]; omega)]
      have e0 : (0 : Int32) = nI 0 := rfl
      have e00 : 12 * r = 12 * r + 0 := rfl
      rw [e0, e00]
      refine zlF (P := fun n' (f' : Int32 → Int32 → Option Nat → Option Nat → Option Nat → Option Nat → Option Nat → Int32 → Int32 → Int32 → zH → Option ((Option Nat ⊕ Nat) × zH)) => ∀ (I : Nat → Nat → Int32) (c : Nat), c + n' = C → zbI g8 (zz h) (zz h + 1) (zz h + 1 + 1) (mB R C μ γ) I r c →
        zP (f' (nI R) (nI C) (some qm) (some qc) (some (zz h)) (some (zz h + 1)) (some (zz h + 1 + 1)) (nI (ct (mF (mB R C μ γ)) (12 * r + c))) (nI r) (nI c) (zU g8 I (zj g8))) Q) ?_ C (by omega) I 0 (by omega) hI
      clear hI I
      intro n' f' ih' I c hc hI
      unfold B_X3_build_36
      by_cases hcC : c = C
      · subst hcC
        rw [ite_t (Int32.le_refl _)]
        unfold B_X3_build_116
        rw [nI_1, e_sI (h := zU g8 I (zj g8)) aP.1 (by show zb g8 ≤ zz h; rw [e3]; exact r1) (by show r + 1 < zn g8 (zz h); rw [aP.2.1]; omega) (by omega), Option.bind_some, (ctB (R := R) (μ := μ) (γ := γ) hC.2 r).2]
        refine ih (n - 1) (by omega) (zu2 I (zz h) (r + 1) (nI (ct (mF (mB R c μ γ)) (12 * (r + 1))))) (r + 1) (by omega) ⟨fun b b1 b2 b3 => by rw [zu2_r b1]; exact hI.1 b b1 b2 b3, fun i hi => ?_, fun k hk hF => ?_, fun k hk hF => ?_⟩
        · by_cases q : i = r + 1
          · rw [q, zu2_s]
          · rw [zu2_n (Or.inr q)]; exact hI.2.1 i (by omega)
        · rw [zu2_n (Or.inl (by omega)), zu2_n (Or.inl (by omega))]
          refine hI.2.2.1 k ?_ hF
          have := hF
          have q9 : (decide (k / 12 < R ∧ k % 12 < c) && μ (k / 12) (k % 12)) = true := hF
          rw [Bool.and_eq_true, decide_eq_true_eq] at q9
          omega
        · refine hI.2.2.2 k ?_ hF
          have q9 : (decide (k / 12 < R ∧ k % 12 < c) && μ (k / 12) (k % 12)) = true := hF
          rw [Bool.and_eq_true, decide_eq_true_eq] at q9
          omega
      · rw [ite_f (by rw [nI_leI (by omega) (by omega)]; omega), hμ _ (hE8 I r c hI) r c (by omega) (by omega), Option.bind_some]
        have hF := hFe r c (by omega) (by omega)
        cases hrc : μ r c with
        | false =>
          rw [ite_t (show bI false = 0 from rfl), nI_1]
          have e9 : ct (mF (mB R C μ γ)) (12 * r + c) = ct (mF (mB R C μ γ)) (12 * r + (c + 1)) := by rw [← Nat.add_assoc, ct_s, hF, hrc]; rfl
          rw [e9]
          refine ih' (n' - 1) (by omega) I (c + 1) (by omega) ⟨hI.1, hI.2.1, fun k hk hFk => hI.2.2.1 k ?_ hFk, fun k hk hFk => hI.2.2.2 k ?_ hFk⟩
          · have : k ≠ 12 * r + c := fun q => by rw [q, hF, hrc] at hFk; cases hFk
            omega
          · have : k ≠ 12 * r + c := fun q => by rw [q, hF, hrc] at hFk; cases hFk
            omega
        | true =>
          have hγ1 := hγb r c (by omega) (by omega)
          have hV1 := hVe r c (by omega) (by omega) hrc
          rw [ite_f (by decide), hγ _ (hE8 I r c hI) r c (by omega) (by omega) hrc, Option.bind_some, s_isIn, Option.bind_some, lit_m1, lit_p1, lI_toInt hγ1.1 hγ1.2]
          by_cases hs : -999999 ≤ γ r c ∧ γ r c ≤ 999999
          · rw [decide_eq_true hs, ite_f (by decide)]
            have hlt := hcl r c (by omega) (by omega)
            rw [e_sI (h := zU g8 I (zj g8)) aX.1 (by show zb g8 ≤ _; rw [e3]; omega) (by show _ < zn g8 _; rw [aX.2]; exact hlt) (by omega), Option.bind_some, e_sI (by exact aV.1) (by show zb g8 ≤ _; rw [e3]; omega) (by show _ < zn g8 _; rw [aV.2]; exact hlt) (by omega), Option.bind_some, nI_1, nI_1, lI_i (by omega) (by omega)]
            have e9 : ct (mF (mB R C μ γ)) (12 * r + c) + 1 = ct (mF (mB R C μ γ)) (12 * r + (c + 1)) := by rw [← Nat.add_assoc, ct_s, hF, hrc]; rfl
            rw [e9]
            refine ih' (n' - 1) (by omega) (zu2 (zu2 I (zz h + 1) (ct (mF (mB R C μ γ)) (12 * r + c)) (nI c)) (zz h + 1 + 1) (ct (mF (mB R C μ γ)) (12 * r + c)) (iI (γ r c))) (c + 1) (by omega) ⟨fun b b1 b2 b3 => by rw [zu2_r b3, zu2_r b2]; exact hI.1 b b1 b2 b3, fun i hi => by rw [zu2_n (Or.inl (by omega)), zu2_n (Or.inl (by omega))]; exact hI.2.1 i hi, fun k hk hFk => ?_, fun k hk hFk => ?_⟩
            · by_cases q : k = 12 * r + c
              · subst q
                rw [zu2_n (Or.inl (by omega)), zu2_s, zu2_s, hV1]
                exact ⟨by congr 1; omega, rfl⟩
              · have hlt2 : ct (mF (mB R C μ γ)) k ≠ ct (mF (mB R C μ γ)) (12 * r + c) := fun z => q (ct_inj hFk (by rw [hF]; exact hrc) z)
                rw [zu2_n (Or.inl (by omega)), zu2_n (Or.inr hlt2), zu2_n (Or.inr hlt2), zu2_n (Or.inl (by omega))]
                exact hI.2.2.1 k (by omega) hFk
            · by_cases q : k = 12 * r + c
              · subst q; rw [hV1]; exact hs
              · exact hI.2.2.2 k (by omega) hFk
          · rw [decide_eq_false hs, ite_t (show bI false = 0 from rfl)]
            obtain ⟨q, g', f1, f2, f3⟩ := s_newF (α := Option Nat) (g := zU g8 I (zj g8)) ⟨by show zb g8 ≤ zz g8; rw [e3, a1.2.1]; omega, by show zz g8 + 1 ≤ zCX g8; rw [e1, a1.2.1]; omega, by show zs g8 + _ ≤ zSX g8; rw [e2, a1.2.2]; omega⟩
            refine ⟨_, f1, ?_⟩
            rw [hQ]
            refine ⟨⟨(hE8 I r c hI).trans f2.1, ?_, ?_⟩, Or.inr ⟨fun z => hs (z r c (by omega) (by omega) hrc), _, rfl, f3⟩⟩
            · show zz g' ≤ zz h + 6
              have := f2.2.1
              have q : zz (zU g8 I (zj g8)) = zz h + 3 := a1.2.1
              rw [q] at this; omega
            · show zs g' ≤ zs h + 594
              have := f2.2.2
              have q : zs (zU g8 I (zj g8)) = zs h + (R + 1 + R * C + R * C) := a1.2.2
              rw [q] at this; omega
  obtain ⟨⟨o, g⟩, f1, f2⟩ := fin
  rw [hQ] at f2
  exact ⟨o, g, f1, f2⟩
