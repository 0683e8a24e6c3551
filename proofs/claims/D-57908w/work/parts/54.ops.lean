/-! LAYER C, 5: the operations on matrices -/
theorem s_lm {i : Nat} {A : List zV} {h : zH} (hr : zRm 1 A.length h) : ∃ g, zlm i A h = some (zz h, g) ∧ zGr 1 A.length zNo h g ∧ zz g = zz h + 1 ∧ zk g (zz h) = 70 + i ∧ (∀ j, zi g (zz h) j = zAi A j) ∧ ∀ j, zr g (zz h) j = zAr A j := by
  refine ⟨zlmH i A h, if_pos ⟨hr.2.1, hr.2.2⟩, ⟨⟨rfl, Nat.le_succ _, Nat.le_add_right _ _, fun a ha => ?_⟩, Nat.le_refl _, Nat.le_refl _⟩, rfl, zrw_s, fun j => ?_, fun j => ?_⟩
  · have hn : a ≠ zz h := Nat.ne_of_lt ha
    exact ⟨zrw_n hn, zrw_n hn, fun _ => ⟨(zrw_n hn).trans (zrw_n hn), zrw_n hn, (zrw_n hn).trans (zrw_n hn), zrw_n hn⟩⟩
  · show zrw (zrw (zi h) (zz h) _) (zz h) (zAi A) (zz h) j = _
    rw [zrw_s]
  · show zrw (zrw (zr h) (zz h) _) (zz h) (zAr A) (zz h) j = _
    rw [zrw_s]
/-- a matrix made by two lambdas -/
theorem s_lam2 {m : Nat} {h : zH} {i1 i2 R C : Nat} {A1 A2 : List zV} {μ : Nat → Nat → Bool} {γ : Nat → Nat → Int} (hR : 1 ≤ R ∧ R ≤ 12) (hC : 1 ≤ C ∧ C ≤ 12) (hm : m + 20 ≤ zz h) (hr : zRm 8 602 h) (hA1 : A1.length ≤ 4) (hA2 : A2.length ≤ 4)
    (hμ : ∀ g, zFm zNo h g → zk g (zz h) = 70 + i1 → (∀ j, zi g (zz h) j = zAi A1 j) → (∀ j, zr g (zz h) j = zAr A1 j) → ∀ i j, i < R → j < C → fl_Mask (some (zz h)) (nI i) (nI j) g = some (bI (μ i j)))
    (hγ : ∀ g, zFm zNo h g → zk g (zz h + 1) = 70 + i2 → (∀ j, zi g (zz h + 1) j = zAi A2 j) → (∀ j, zr g (zz h + 1) j = zAr A2 j) → ∀ i j, i < R → j < C → μ i j = true → fl_Cell (some (zz h + 1)) (nI i) (nI j) g = some (lI (γ i j)))
    (hγb : ∀ i j, i < R → j < C → -9223372036854775808 ≤ γ i j ∧ γ i j < 9223372036854775808) :
    ∃ o g, (zb2 (zlm i1 A1 h) fun q5 h6 => zb2 (zlm i2 A2 h6) fun q8 h9 => zb3 (f_X3_build (nI R) (nI C) (some q5) (some q8) h9) (fun x12 h13 => some (.inl x12, h13)) (fun q14 h15 => if zk h15 q14 = 7 then some (.inr q14, h15) else none)) = some (o, g) ∧ zGr 8 602 zNo h g ∧ ((mSm R C μ γ ∧ ∃ a, o = .inl (some a) ∧ cM m g a (mB R C μ γ)) ∨ (¬ mSm R C μ γ ∧ ∃ q, o = .inr q ∧ zk g q = 7)) := by
  obtain ⟨g1, e1, f1, z1, k1, i1', r1⟩ := s_lm (i := i1) (A := A1) (hr.le (by decide) (by omega))
  rw [e1, zb2_s]
  have hr1 := hr.go f1 (by decide) (by omega)
  obtain ⟨g2, e2, f2, z2, k2, i2', r2⟩ := s_lm (i := i2) (A := A2) (hr1.le (by decide) (by omega))
  rw [e2, zb2_s, z1]
  rw [z1] at k2 i2' r2
  have f12 := f1.trans f2
  have hr2 := hr.go f12 (by decide) (by omega)
  obtain ⟨o, g, b1, b2, b3⟩ := s_X3_build (m := m) (h := g2) (qm := zz h) (qc := zz h + 1) (μ := μ) (γ := γ) hR hC (by rw [z2, z1]; omega) (hr2.le (by decide) (by omega))
    (fun g e i j hi hj => by
      have e' : zFm zNo g1 g := f2.1.trans e
      obtain ⟨c1, c2, c3⟩ := e'.2.2.2 (zz h) (by rw [z1]; omega)
      obtain ⟨d1, d2, d3, d4⟩ := c3 (Or.inl fun z => z)
      exact hμ g (f1.1.trans e') (c1.trans k1) (fun j => by rw [d1]; exact i1' j) (fun j => by rw [d3]; exact r1 j) i j hi hj)
    (fun g e i j hi hj hij => by
      obtain ⟨c1, c2, c3⟩ := e.2.2.2 (zz h + 1) (by rw [z2, z1]; omega)
      obtain ⟨d1, d2, d3, d4⟩ := c3 (Or.inl fun z => z)
      exact hγ g (f12.1.trans e) (c1.trans k2) (fun j => by rw [d1]; exact i2' j) (fun j => by rw [d3]; exact r2 j) i j hi hj hij) hγb
  rw [b1]
  rcases b3 with ⟨hs, a, rfl, hc⟩ | ⟨hs, q, rfl, hq⟩
  · exact ⟨_, _, rfl, (f12.trans b2).mono (by decide) (by omega), Or.inl ⟨hs, a, rfl, hc⟩⟩
  · refine ⟨_, _, ?_, (f12.trans b2).mono (by decide) (by omega), Or.inr ⟨hs, q, rfl, hq⟩⟩
    rw [zb3_r, if_pos hq]
def mTr (M : zMt) : zMt := mB (mC M) (mR M) (fun i j => mF M (12 * j + i)) (fun i j => mV M (12 * j + i))
def mSet (M : zMt) (r c : Nat) (v : Int) : zMt := mB (mR M) (mC M) (fun i j => decide (i = r ∧ j = c) || mF M (12 * i + j)) (fun i j => if i = r ∧ j = c then v else mV M (12 * i + j))
def mDel (M : zMt) (r c : Nat) : zMt := mB (mR M) (mC M) (fun i j => !decide (i = r ∧ j = c) && mF M (12 * i + j)) (fun i j => mV M (12 * i + j))
def mDz (M : zMt) : zMt := mB (mR M) (mC M) (fun i j => decide (mV M (12 * i + j) ≠ 0)) (fun i j => mV M (12 * i + j))
def sw (i a b : Nat) : Nat := if i = a then b else if i = b then a else i
def mSw (M : zMt) (a b : Nat) : zMt := mB (mR M) (mC M) (fun i j => mF M (12 * sw i a b + j)) (fun i j => mV M (12 * sw i a b + j))
def mSc (M : zMt) (f : Int) : zMt := mB (mR M) (mC M) (fun i j => mF M (12 * i + j)) (fun i j => f * mV M (12 * i + j))
def mUn (n : Nat) : zMt := mB n n (fun i j => decide (i = j)) (fun _ _ => 1)
def mJo (s : Int) (M N : zMt) : zMt := mB (mR M) (mC M) (fun i j => mF M (12 * i + j) || mF N (12 * i + j)) (fun i j => mV M (12 * i + j) + s * mV N (12 * i + j))
/-- how many products make an entry of a product; their sum -/
def mMe (M N : zMt) (i j : Nat) : Nat := cr (fun k => mF M (12 * i + k) && mF N (12 * k + j)) 0 (mC M)
def mDt (M N : zMt) (i j : Nat) : Int := sm (fun k => mV M (12 * i + k) * mV N (12 * k + j)) 0 (mC M)
def mMu (M N : zMt) : zMt := mB (mR M) (mC N) (fun i j => decide (0 < mMe M N i j)) (fun i j => mDt M N i j)
section OPS
variable {m : Nat} {h : zH} {a : Nat} {M : zMt}
theorem mOK.vb (ok : mOK M) (k : Nat) : -9223372036854775808 ≤ mV M k ∧ mV M k < 9223372036854775808 := by have := ok.2.2.2 k; omega
theorem s_X3_valueL {g : zH} (c : cM m g a M) {i j : Nat} (hi : i < mR M) (hj : j < 12) : (f_X3_value (some a) (nI i) (nI j) g).bind (fun x => some x.toInt64) = some (lI (mV M (12 * i + j))) := by
  have := c.ok.2.2.2 (12 * i + j)
  rw [s_X3_value c hi hj, Option.bind_some, iI_l (by omega) (by omega)]
theorem s_X3_transposed (c : cM m h a M) (hm : m + 20 ≤ zz h) (hr : zRm 8 602 h) : ∃ b g, f_X3_transposed (some a) h = some (.inl (some b), g) ∧ zGr 8 602 zNo h g ∧ cM m g b (mTr M) := by
  have ok := c.ok
  unfold f_X3_transposed
  rw [e_gI c.k3, Option.bind_some, e_gI c.k3, Option.bind_some, c.i0, c.i1]
  obtain ⟨o, g, e, f, hs⟩ := s_lam2 (m := m) (h := h) (i1 := 0) (i2 := 1) (R := mC M) (C := mR M) (A1 := [vR (some a)]) (A2 := [vR (some a)]) (μ := fun i j => mF M (12 * j + i)) (γ := fun i j => mV M (12 * j + i)) ok.1.2.2 ⟨ok.1.1, ok.1.2.1⟩ hm hr (by decide) (by decide)
    (fun g e k1 _ z2 i j hi hj => by
      have c' := c.no e
      have z0 : zr g (zz h) 0 = some a := z2 0
      have hi12 := ok.1.2.2.2
      unfold fl_Mask f_X3_lambda_transposed_8
      simp only [Option.bind_some, k1, z0, e_rv c'.k3, s_X3_stores c' hj (show i < 12 by omega), if_pos (bI_01 _), Nat.add_zero, if_true])
    (fun g e k1 _ z2 i j hi hj _ => by
      have c' := c.no e
      have z0 : zr g (zz h + 1) 0 = some a := z2 0
      have hi12 := ok.1.2.2.2
      unfold fl_Cell f_X3_lambda_transposed_9
      simp only [Option.bind_some, k1, z0, e_rv c'.k3, s_X3_valueL c' hj (show i < 12 by omega), if_true, Nat.reduceAdd])
    (fun i j _ _ => ok.vb _)
  rcases hs with ⟨-, b, rfl, hc⟩ | ⟨hs, -⟩
  · exact ⟨b, g, e, f, hc⟩
  · exact absurd (fun i j _ _ _ => ok.2.2.2 _) hs
theorem s_X3_withoutZeros (c : cM m h a M) (hm : m + 20 ≤ zz h) (hr : zRm 8 602 h) : ∃ b g, f_X3_withoutZeros (some a) h = some (.inl (some b), g) ∧ zGr 8 602 zNo h g ∧ cM m g b (mDz M) := by
  have ok := c.ok
  have hC12 := ok.1.2.2.2
  unfold f_X3_withoutZeros
  rw [e_gI c.k3, Option.bind_some, e_gI c.k3, Option.bind_some, c.i0, c.i1]
  obtain ⟨o, g, e, f, hs⟩ := s_lam2 (m := m) (h := h) (i1 := 12) (i2 := 13) (R := mR M) (C := mC M) (A1 := [vR (some a)]) (A2 := [vR (some a)]) (μ := fun i j => decide (mV M (12 * i + j) ≠ 0)) (γ := fun i j => mV M (12 * i + j)) ⟨ok.1.1, ok.1.2.1⟩ ok.1.2.2 hm hr (by decide) (by decide)
    (fun g e k1 _ z2 i j hi hj => by
      have c' := c.no e
      have z0 : zr g (zz h) 0 = some a := z2 0
      have hb := ok.2.2.2 (12 * i + j)
      unfold fl_Mask f_X3_lambda_withoutZeros_4
      simp only [Option.bind_some, k1, z0, e_rv c'.k3, s_X3_value c' hi (show j < 12 by omega), Nat.reduceAdd, Nat.reduceEqDiff, if_true, if_false]
      by_cases hv : mV M (12 * i + j) = 0
      · rw [hv]; rfl
      · rw [ite_f (by rw [show (0 : Int32) = iI 0 from rfl, iI_eq (by omega) (by omega) (by omega) (by omega)]; exact hv), decide_eq_true hv]; rfl)
    (fun g e k1 _ z2 i j hi hj _ => by
      have c' := c.no e
      have z0 : zr g (zz h + 1) 0 = some a := z2 0
      unfold fl_Cell f_X3_lambda_withoutZeros_5
      simp only [Option.bind_some, k1, z0, e_rv c'.k3, s_X3_valueL c' hi (show j < 12 by omega), if_true, if_false, Nat.reduceAdd, Nat.reduceEqDiff])
    (fun i j _ _ => ok.vb _)
  rcases hs with ⟨-, b, rfl, hc⟩ | ⟨hs, -⟩
  · exact ⟨b, g, e, f, hc⟩
  · exact absurd (fun i j _ _ _ => ok.2.2.2 _) hs
theorem s_X3_with (c : cM m h a M) {r q : Nat} {v : Int} (hr1 : r < mR M) (hq1 : q < mC M) (hv : -999999 ≤ v ∧ v ≤ 999999) (hm : m + 20 ≤ zz h) (hr : zRm 8 602 h) : ∃ b g, f_X3_with (some a) (nI r) (nI q) (iI v) h = some (.inl (some b), g) ∧ zGr 8 602 zNo h g ∧ cM m g b (mSet M r q v) := by
  have ok := c.ok
  have hC12 := ok.1.2.2.2
  have hR12 := ok.1.2.1
  unfold f_X3_with
  rw [e_gI c.k3, Option.bind_some, e_gI c.k3, Option.bind_some, c.i0, c.i1]
  obtain ⟨o, g, e, f, hs⟩ := s_lam2 (m := m) (h := h) (i1 := 4) (i2 := 5) (R := mR M) (C := mC M) (A1 := [vR (some a), vI (nI r), vI (nI q)]) (A2 := [vR (some a), vI (nI r), vI (nI q), vI (iI v)]) (μ := fun i j => decide (i = r ∧ j = q) || mF M (12 * i + j)) (γ := fun i j => if i = r ∧ j = q then v else mV M (12 * i + j)) ⟨ok.1.1, ok.1.2.1⟩ ok.1.2.2 hm hr (by decide) (by decide)
    (fun g e k1 z1 z2 i j hi hj => by
      have c' := c.no e
      have z0 : zr g (zz h) 0 = some a := z2 0
      have y1 : zi g (zz h) 1 = nI r := z1 1
      have y2 : zi g (zz h) 2 = nI q := z1 2
      unfold fl_Mask f_X3_lambda_with_0 B_X3_lambda_with_0_11
      simp only [Option.bind_some, k1, z0, y1, y2, e_rv c'.k3, s_X3_stores c' hi (show j < 12 by omega), Nat.reduceAdd, Nat.reduceEqDiff, if_true, if_false]
      rw [nI_eq (by omega) (by omega), nI_eq (by omega) (by omega)]
      by_cases h1 : i = r
      · by_cases h2 : j = q
        · rw [if_pos h1, if_pos h2, decide_eq_true ⟨h1, h2⟩]; rfl
        · rw [if_pos h1, if_neg h2, decide_eq_false (fun z => h2 z.2)]
          cases mF M (12 * i + j) <;> rfl
      · rw [if_neg h1, decide_eq_false (fun z => h1 z.1)]
        cases mF M (12 * i + j) <;> rfl)
    (fun g e k1 z1 z2 i j hi hj _ => by
      have c' := c.no e
      have z0 : zr g (zz h + 1) 0 = some a := z2 0
      have y1 : zi g (zz h + 1) 1 = nI r := z1 1
      have y2 : zi g (zz h + 1) 2 = nI q := z1 2
      have y3 : zi g (zz h + 1) 3 = iI v := z1 3
      unfold fl_Cell f_X3_lambda_with_1
      simp only [Option.bind_some, k1, z0, y1, y2, y3, e_rv c'.k3, s_X3_valueL c' hi (show j < 12 by omega), if_true, if_false, Nat.reduceAdd, Nat.reduceEqDiff]
      rw [nI_eq (by omega) (by omega), nI_eq (by omega) (by omega)]
      by_cases h1 : i = r
      · by_cases h2 : j = q
        · rw [if_pos h1, if_pos h2, if_pos ⟨h1, h2⟩, iI_l (by omega) (by omega)]
        · rw [if_pos h1, if_neg h2, if_neg (fun z => h2 z.2)]
      · rw [if_neg h1, if_neg (fun z => h1 z.1)])
    (fun i j _ _ => by
      dsimp only
      have := ok.vb (12 * i + j)
      split <;> omega)
  have sm : mSm (mR M) (mC M) (fun i j => decide (i = r ∧ j = q) || mF M (12 * i + j)) (fun i j => if i = r ∧ j = q then v else mV M (12 * i + j)) := by
    intro i j _ _ _
    dsimp only
    have := ok.2.2.2 (12 * i + j)
    split <;> omega
  rcases hs with ⟨-, b, rfl, hc⟩ | ⟨hs, -⟩
  · exact ⟨b, g, e, f, hc⟩
  · exact absurd sm hs
theorem s_X3_without (c : cM m h a M) {r q : Nat} (hr1 : r < mR M) (hq1 : q < mC M) (hm : m + 20 ≤ zz h) (hr : zRm 8 602 h) : ∃ b g, f_X3_without (some a) (nI r) (nI q) h = some (.inl (some b), g) ∧ zGr 8 602 zNo h g ∧ cM m g b (mDel M r q) := by
  have ok := c.ok
  have hC12 := ok.1.2.2.2
  have hR12 := ok.1.2.1
  unfold f_X3_without
  rw [e_gI c.k3, Option.bind_some, e_gI c.k3, Option.bind_some, c.i0, c.i1]
  obtain ⟨o, g, e, f, hs⟩ := s_lam2 (m := m) (h := h) (i1 := 17) (i2 := 18) (R := mR M) (C := mC M) (A1 := [vR (some a), vI (nI r), vI (nI q)]) (A2 := [vR (some a)]) (μ := fun i j => !decide (i = r ∧ j = q) && mF M (12 * i + j)) (γ := fun i j => mV M (12 * i + j)) ⟨ok.1.1, ok.1.2.1⟩ ok.1.2.2 hm hr (by decide) (by decide)
    (fun g e k1 z1 z2 i j hi hj => by
      have c' := c.no e
      have z0 : zr g (zz h) 0 = some a := z2 0
      have y1 : zi g (zz h) 1 = nI r := z1 1
      have y2 : zi g (zz h) 2 = nI q := z1 2
      unfold fl_Mask f_X3_lambda_without_2 B_X3_lambda_without_2_11
      simp only [Option.bind_some, k1, z0, y1, y2, e_rv c'.k3, s_X3_stores c' hi (show j < 12 by omega), Nat.reduceAdd, Nat.reduceEqDiff, if_true, if_false]
      rw [nI_eq (by omega) (by omega), nI_eq (by omega) (by omega)]
      by_cases h1 : i = r
      · by_cases h2 : j = q
        · rw [if_pos h1, if_pos h2, decide_eq_true ⟨h1, h2⟩]; rfl
        · rw [if_pos h1, if_neg h2, decide_eq_false (fun z => h2 z.2)]
          cases mF M (12 * i + j) <;> rfl
      · rw [if_neg h1, decide_eq_false (fun z => h1 z.1)]
        cases mF M (12 * i + j) <;> rfl)
    (fun g e k1 _ z2 i j hi hj _ => by
      have c' := c.no e
      have z0 : zr g (zz h + 1) 0 = some a := z2 0
      unfold fl_Cell f_X3_lambda_without_3
      simp only [Option.bind_some, k1, z0, e_rv c'.k3, s_X3_valueL c' hi (show j < 12 by omega), if_true, if_false, Nat.reduceAdd, Nat.reduceEqDiff])
    (fun i j _ _ => ok.vb _)
  rcases hs with ⟨-, b, rfl, hc⟩ | ⟨hs, -⟩
  · exact ⟨b, g, e, f, hc⟩
  · exact absurd (fun i j _ _ _ => ok.2.2.2 _) hs
theorem s_X3_swapped {i r q : Nat} {h : zH} (hi : i < 12) (hr : r < 12) (hq : q < 12) : f_X3_swapped (nI i) (nI r) (nI q) h = some (nI (sw i r q)) := by
  unfold f_X3_swapped sw
  rw [nI_eq (by omega) (by omega), nI_eq (by omega) (by omega)]
  by_cases h1 : i = r
  · rw [if_pos h1, if_pos h1]
  · by_cases h2 : i = q
    · rw [if_neg h1, if_neg h1, if_pos h2, if_pos h2]
    · rw [if_neg h1, if_neg h1, if_neg h2, if_neg h2]
theorem sw_lt {i r q N : Nat} (hi : i < N) (hr : r < N) (hq : q < N) : sw i r q < N := by unfold sw; split; exact hq; split; exact hr; exact hi
theorem s_X3_withSwapped (c : cM m h a M) {r q : Nat} (hr1 : r < mR M) (hq1 : q < mR M) (hm : m + 20 ≤ zz h) (hr : zRm 8 602 h) : ∃ b g, f_X3_withSwapped (some a) (nI r) (nI q) h = some (.inl (some b), g) ∧ zGr 8 602 zNo h g ∧ cM m g b (mSw M r q) := by
  have ok := c.ok
  have hC12 := ok.1.2.2.2
  have hR12 := ok.1.2.1
  unfold f_X3_withSwapped
  rw [e_gI c.k3, Option.bind_some, e_gI c.k3, Option.bind_some, c.i0, c.i1]
  obtain ⟨o, g, e, f, hs⟩ := s_lam2 (m := m) (h := h) (i1 := 20) (i2 := 21) (R := mR M) (C := mC M) (A1 := [vR (some a), vI (nI r), vI (nI q)]) (A2 := [vR (some a), vI (nI r), vI (nI q)]) (μ := fun i j => mF M (12 * sw i r q + j)) (γ := fun i j => mV M (12 * sw i r q + j)) ⟨ok.1.1, ok.1.2.1⟩ ok.1.2.2 hm hr (by decide) (by decide)
    (fun g e k1 z1 z2 i j hi hj => by
      have c' := c.no e
      have z0 : zr g (zz h) 0 = some a := z2 0
      have y1 : zi g (zz h) 1 = nI r := z1 1
      have y2 : zi g (zz h) 2 = nI q := z1 2
      unfold fl_Mask f_X3_lambda_withSwapped_6
      simp only [Option.bind_some, k1, z0, y1, y2, e_rv c'.k3, s_X3_swapped (show i < 12 by omega) (show r < 12 by omega) (show q < 12 by omega), s_X3_stores c' (sw_lt hi hr1 hq1) (show j < 12 by omega), Nat.reduceAdd, Nat.reduceEqDiff, if_true, if_false, if_pos (bI_01 _)])
    (fun g e k1 z1 z2 i j hi hj _ => by
      have c' := c.no e
      have z0 : zr g (zz h + 1) 0 = some a := z2 0
      have y1 : zi g (zz h + 1) 1 = nI r := z1 1
      have y2 : zi g (zz h + 1) 2 = nI q := z1 2
      unfold fl_Cell f_X3_lambda_withSwapped_7
      simp only [Option.bind_some, k1, z0, y1, y2, e_rv c'.k3, s_X3_swapped (show i < 12 by omega) (show r < 12 by omega) (show q < 12 by omega), s_X3_valueL c' (sw_lt hi hr1 hq1) (show j < 12 by omega), if_true, if_false, Nat.reduceAdd, Nat.reduceEqDiff])
    (fun i j _ _ => ok.vb _)
  rcases hs with ⟨-, b, rfl, hc⟩ | ⟨hs, -⟩
  · exact ⟨b, g, e, f, hc⟩
  · exact absurd (fun i j _ _ _ => ok.2.2.2 _) hs
theorem s_X3_scaled (c : cM m h a M) {v : Int} (hv : -10000 ≤ v ∧ v ≤ 10000) (hm : m + 20 ≤ zz h) (hr : zRm 8 602 h) : ∃ o g, f_X3_scaled (some a) (iI v) h = some (o, g) ∧ zGr 8 602 zNo h g ∧
    ((mSm (mR M) (mC M) (fun i j => mF M (12 * i + j)) (fun i j => v * mV M (12 * i + j)) ∧ ∃ b, o = .inl (some b) ∧ cM m g b (mSc M v)) ∨ (¬ mSm (mR M) (mC M) (fun i j => mF M (12 * i + j)) (fun i j => v * mV M (12 * i + j)) ∧ ∃ q, o = .inr q ∧ zk g q = 7)) := by
  have ok := c.ok
  have hC12 := ok.1.2.2.2
  have hb : ∀ k, -9999990000 ≤ v * mV M k ∧ v * mV M k ≤ 9999990000 := fun k => by
    have h1 := ok.2.2.2 k
    have h2 : (v * mV M k).natAbs ≤ 10000 * 999999 := by
      rw [Int.natAbs_mul]
      exact Nat.mul_le_mul (by omega) (by omega)
    omega
  unfold f_X3_scaled
  rw [e_gI c.k3, Option.bind_some, e_gI c.k3, Option.bind_some, c.i0, c.i1]
  exact s_lam2 (m := m) (h := h) (i1 := 8) (i2 := 9) (R := mR M) (C := mC M) (A1 := [vR (some a)]) (A2 := [vR (some a), vI (iI v)]) (μ := fun i j => mF M (12 * i + j)) (γ := fun i j => v * mV M (12 * i + j)) ⟨ok.1.1, ok.1.2.1⟩ ok.1.2.2 hm hr (by decide) (by decide)
    (fun g e k1 _ z2 i j hi hj => by
      have c' := c.no e
      have z0 : zr g (zz h) 0 = some a := z2 0
      unfold fl_Mask f_X3_lambda_scaled_10
      simp only [Option.bind_some, k1, z0, e_rv c'.k3, s_X3_stores c' hi (show j < 12 by omega), if_pos (bI_01 _), Nat.reduceAdd, Nat.reduceEqDiff, if_true, if_false])
    (fun g e k1 z1 z2 i j hi hj _ => by
      have c' := c.no e
      have z0 : zr g (zz h + 1) 0 = some a := z2 0
      have y1 : zi g (zz h + 1) 1 = iI v := z1 1
      have h1 := ok.2.2.2 (12 * i + j)
      unfold fl_Cell f_X3_lambda_scaled_11
      simp only [Option.bind_some, k1, z0, y1, e_rv c'.k3, s_X3_value c' hi (show j < 12 by omega), if_true, if_false, Nat.reduceAdd, Nat.reduceEqDiff]
      rw [iI_l (by omega) (by omega), iI_l (by omega) (by omega), lI_mul])
    (fun i j _ _ => by have := hb (12 * i + j); dsimp only; omega)
theorem s_X3_unit {n l1 l2 : Nat} (hn : 1 ≤ n ∧ n ≤ 12) (h1 : zsv h 56 = some l1) (h2 : zsv h 57 = some l2) (k1 : zk h l1 = 76) (k2 : zk h l2 = 77) (o1 : l1 < zz h) (o2 : l2 < zz h) (hm : m + 20 ≤ zz h) (hr : zRm 8 602 h) : ∃ b g, f_X3_unit (nI n) h = some (.inl (some b), g) ∧ zGr 8 602 zNo h g ∧ cM m g b (mUn n) := by
  unfold f_X3_unit
  rw [h1, Option.bind_some, h2, Option.bind_some]
  obtain ⟨o, g, e, f, hs⟩ := s_X3_build (m := m) (h := h) (R := n) (C := n) (qm := l1) (qc := l2) (μ := fun i j => decide (i = j)) (γ := fun _ _ => 1) hn hn hm (hr.le (by decide) (by decide))
    (fun g e i j hi hj => by
      have q1 : zk g l1 = 76 := (e.2.2.2 l1 o1).1.trans k1
      unfold fl_Mask f_X3_lambda_unit_12
      simp only [Option.bind_some, q1, Nat.reduceEqDiff, if_true, if_false]
      rw [nI_eq (by omega) (by omega)]
      by_cases hij : i = j
      · rw [if_pos hij, decide_eq_true hij]; rfl
      · rw [if_neg hij, decide_eq_false hij]; rfl)
    (fun g e i j hi hj _ => by
      have q1 : zk g l2 = 77 := (e.2.2.2 l2 o2).1.trans k2
      unfold fl_Cell f_X3_lambda_unit_13
      simp only [Option.bind_some, q1, Nat.reduceEqDiff, if_true, if_false]
      rfl) (fun _ _ _ _ => by omega)
  rcases hs with ⟨-, b, rfl, hc⟩ | ⟨hs, -⟩
  · rw [e]
    exact ⟨b, g, rfl, f.mono (by decide) (by decide), hc⟩
  · exact absurd (fun i j _ _ _ => by omega) hs
end OPS
