/-! LAYER C, 6: loops over stored entries -/
theorem ct_next {f : Nat → Bool} {k B : Nat} (h : ct f k < ct f B) : ∃ l, k ≤ l ∧ l < B ∧ f l = true ∧ ct f l = ct f k ∧ ∀ q, k ≤ q → q < l → f q = false := by
  obtain ⟨l, h1, h2, h3, h4⟩ := ct_betw (f := f) (t := ct f k) (Nat.le_refl _) h
  refine ⟨l, h1, h2, h3, h4, fun q q1 q2 => ?_⟩
  cases hq : f q with
  | false => rfl
  | true =>
    have a1 := ct_lt hq q2
    have a2 := ct_mono f q1
    omega
theorem ct_none {f : Nat → Bool} {k B : Nat} (h : ¬ ct f k < ct f B) : ∀ q, k ≤ q → q < B → f q = false := by
  intro q q1 q2
  cases hq : f q with
  | false => rfl
  | true =>
    have a1 := ct_lt hq q2
    have a2 := ct_mono f q1
    omega
theorem cr_pos {f : Nat → Bool} {a n : Nat} : 0 < cr f a n ↔ ∃ t, t < n ∧ f (a + t) = true := by
  induction n with
  | zero => rw [cr_0]; exact ⟨fun h => absurd h (Nat.lt_irrefl 0), fun ⟨t, h, _⟩ => absurd h (Nat.not_lt_zero t)⟩
  | succ n ih =>
    rw [cr_s]
    constructor
    · intro h
      by_cases q : 0 < cr f a n
      · obtain ⟨t, h1, h2⟩ := ih.mp q
        exact ⟨t, by omega, h2⟩
      · refine ⟨n, by omega, ?_⟩
        cases hb : f (a + n) with
        | true => rfl
        | false => rw [hb] at h; have : bN false = 0 := rfl; omega
    · rintro ⟨t, h1, h2⟩
      by_cases q : t < n
      · have := ih.mpr ⟨t, q, h2⟩; omega
      · have : t = n := by omega
        subst this
        rw [bN_t h2]; omega
/-- sums do not feel what is 0 -/
theorem sm_ext0 {g : Nat → Int} {a n m : Nat} (h : n ≤ m) (hz : ∀ q, n ≤ q → q < m → g (a + q) = 0) : sm g a m = sm g a n := by
  obtain ⟨d, rfl⟩ := Nat.exists_eq_add_of_le h
  rw [sm_add, sm_zero (fun t ht => by have := hz (n + t) (by omega) (by omega); rw [← Nat.add_assoc] at this; exact this)]
  omega
theorem cr_ext0 {f : Nat → Bool} {a n m : Nat} (h : n ≤ m) (hz : ∀ q, n ≤ q → q < m → f (a + q) = false) : cr f a m = cr f a n := by
  obtain ⟨d, rfl⟩ := Nat.exists_eq_add_of_le h
  rw [cr_add, cr_zero (fun t ht => by have := hz (n + t) (by omega) (by omega); rw [← Nat.add_assoc] at this; exact this)]
  omega
section CSR2
variable {m : Nat} {h : zH} {a b : Nat} {M N : zMt}
theorem s_X3_rowLength (c : cM m h a M) {i : Nat} (hi : i < mR M) : f_X3_rowLength (some a) (nI i) h = some (nI (cr (mF M) (12 * i) 12)) := by
  obtain ⟨p, x, v, ⟨k0, -, -, r2, -, -⟩, ⟨pk, pn, pp⟩, -, -, -, -, ok⟩ := c
  have hR := ok.1.2.1
  have hP0 : ct (mF M) (12 * i) ≤ ct (mF M) (12 * (i + 1)) := ct_mono _ (by omega)
  unfold f_X3_rowLength
  simp (disch := omega) only [e_gR k0, r2, Option.bind_some, nI_1, e_aI pk, pp]
  rw [nI_sub hP0]
  congr 2
  have := ct_add (mF M) (12 * i) 12
  rw [show 12 * (i + 1) = 12 * i + 12 by omega]
  omega
theorem s_X3_stored (c : cM m h a M) : f_X3_stored (some a) h = some (nI (mN M)) := by
  obtain ⟨p, x, v, ⟨k0, -, -, r2, r3, -⟩, -, ⟨xk, xn⟩, -, -, -, ok⟩ := c
  unfold f_X3_stored
  rw [e_gR k0, r3, Option.bind_some, e_aN (by rw [xk]; decide), xn, Option.bind_some]
theorem s_X3_hasSameShape (c : cM m h a M) (d : cM m h b N) : f_X3_hasSameShape (some a) (some b) h = some (bI (decide (mR M = mR N ∧ mC M = mC N))) := by
  have o1 := c.ok.1
  have o2 := d.ok.1
  unfold f_X3_hasSameShape
  simp only [e_gI c.k3, e_gI d.k3, Option.bind_some, c.i0, c.i1, d.i0, d.i1]
  rw [nI_eq (by omega) (by omega), nI_eq (by omega) (by omega)]
  by_cases h1 : mR M = mR N
  · by_cases h2 : mC M = mC N
    · rw [if_pos h1, if_pos h2, decide_eq_true ⟨h1, h2⟩]; rfl
    · rw [if_pos h1, if_neg h2, decide_eq_false (fun z => h2 z.2)]; rfl
  · rw [if_neg h1, decide_eq_false (fun z => h1 z.1)]; rfl
theorem mOK.col0 (ok : mOK M) {i k : Nat} (hk : mC M ≤ k) (h12 : k < 12) : mF M (12 * i + k) = false := by
  cases q : mF M (12 * i + k) with
  | false => rfl
  | true => have := (ok.2.1 _ q).2; omega
theorem mOK.v0 (ok : mOK M) {k : Nat} (hk : mF M k = false) : mV M k = 0 := ok.2.2.1 k hk
theorem s_X3_meets (c : cM m h a M) (d : cM m h b N) (hMN : mC M = mR N) {i j : Nat} (hi : i < mR M) (hj : j < 12) : f_X3_meets (some a) (some b) (nI i) (nI j) h = some (bI (decide (0 < mMe M N i j))) := by
  have hst := fun {i j : Nat} => s_X3_stores d (i := i) (j := j)
  have dk := d.k3
  obtain ⟨p, x, v, ⟨k0, -, -, r2, r3, -⟩, ⟨pk, pn, pp⟩, ⟨xk, xn⟩, -, hkv, -, ok⟩ := c
  have hR := ok.1.2.1
  have hN := mOK.n144 (M := M)
  have hP1 : ct (mF M) (12 * (i + 1)) ≤ mN M := ok.ptr (i := i + 1) (by omega)
  have e12 : mMe M N i j = cr (fun k => mF M (12 * i + k) && mF N (12 * k + j)) 0 12 := by
    unfold mMe
    refine (cr_ext0 ok.1.2.2.2 fun q q1 q2 => ?_).symm
    show (mF M (12 * i + (0 + q)) && _) = false
    rw [Nat.zero_add, ok.col0 q1 q2]; rfl
  rw [e12]
  unfold f_X3_meets
  simp (disch := omega) only [e_gR k0, r2, Option.bind_some, e_aI pk, pp]
  refine zlF (P := fun n (f : Option Nat → Option Nat → Int32 → Int32 → Int32 → Option Int32) => ∀ q : Nat, q + n = 12 → cr (fun k => mF M (12 * i + k) && mF N (12 * k + j)) 0 q = 0 →
      f (some a) (some b) (nI i) (nI j) (nI (ct (mF M) (12 * i + q))) = some (bI (decide (0 < cr (fun k => mF M (12 * i + k) && mF N (12 * k + j)) 0 12)))) ?_ 12 (by omega) 0 (by omega) rfl
  intro n f ih q hq h0
  have hP0 : ct (mF M) (12 * i + q) ≤ ct (mF M) (12 * (i + 1)) := ct_mono _ (by omega)
  unfold B_X3_meets_8
  simp (disch := omega) only [e_gR k0, r2, Option.bind_some, nI_1, e_aI pk, pp]
  by_cases hlt : ct (mF M) (12 * i + q) < ct (mF M) (12 * (i + 1))
  · rw [ite_f (by rw [nI_leI (by omega) (by omega)]; omega)]
    obtain ⟨l, l1, l2, l3, l4, l5⟩ := ct_next hlt
    have hl : l = 12 * i + l % 12 := by omega
    have hx : zi h x (ct (mF M) (12 * i + q)) = nI (l % 12) := by rw [← l4]; exact (hkv l l3).1
    have hlc : l % 12 < mR N := by rw [← hMN]; exact (ok.2.1 l l3).2
    simp (disch := omega) only [e_gR k0, r3, Option.bind_some, e_aI xk, hx, e_rv dk, hst hlc hj]
    have h00 : cr (fun k => mF M (12 * i + k) && mF N (12 * k + j)) 0 (l % 12) = 0 := by
      rw [cr_ext0 (n := q) (by omega) (fun t t1 t2 => ?_), h0]
      show (mF M (12 * i + (0 + t)) && _) = false
      rw [Nat.zero_add, l5 (12 * i + t) (by omega) (by omega)]; rfl
    cases hF : mF N (12 * (l % 12) + j) with
    | true =>
      rw [ite_f (by decide), decide_eq_true]
      · rfl
      · refine cr_pos.mpr ⟨l % 12, by omega, ?_⟩
        show (mF M (12 * i + (0 + l % 12)) && mF N (12 * (0 + l % 12) + j)) = true
        rw [Nat.zero_add, ← hl, l3, hF]; rfl
    | false =>
      rw [ite_t rfl]
      have e9 : ct (mF M) (12 * i + q) + 1 = ct (mF M) (12 * i + (l % 12 + 1)) := by rw [← Nat.add_assoc, ← hl, ct_s, bN_t l3, l4]
      rw [e9]
      refine ih (12 - (l % 12 + 1)) (by omega) (l % 12 + 1) (by omega) ?_
      rw [cr_s, h00]
      show 0 + bN (mF M (12 * i + (0 + l % 12)) && mF N (12 * (0 + l % 12) + j)) = 0
      rw [Nat.zero_add (l % 12), hF, Bool.and_false]; rfl
  · rw [ite_t (by rw [nI_leI (by omega) (by omega)]; omega)]
    have hz := ct_none hlt
    rw [cr_ext0 (n := q) (by omega) (fun t t1 t2 => ?_), h0]
    · rfl
    · show (mF M (12 * i + (0 + t)) && _) = false
      rw [Nat.zero_add, hz (12 * i + t) (by omega) (by omega)]; rfl
theorem s_X3_dot (c : cM m h a M) (d : cM m h b N) (hMN : mC M = mR N) {i j : Nat} (hi : i < mR M) (hj : j < 12) : f_X3_dot (some a) (some b) (nI i) (nI j) h = some (lI (mDt M N i j)) := by
  have hst := fun {i j : Nat} => s_X3_value d (i := i) (j := j)
  have dk := d.k3
  have dok := d.ok
  obtain ⟨p, x, v, ⟨k0, -, -, r2, r3, r4⟩, ⟨pk, pn, pp⟩, ⟨xk, xn⟩, ⟨vk, vn⟩, hkv, -, ok⟩ := c
  have hR := ok.1.2.1
  have hN := mOK.n144 (M := M)
  have hP1 : ct (mF M) (12 * (i + 1)) ≤ mN M := ok.ptr (i := i + 1) (by omega)
  have hg0 : ∀ q, mF M (12 * i + q) = false → (fun k => mV M (12 * i + k) * mV N (12 * k + j)) (0 + q) = 0 := by
    intro q hq
    show mV M (12 * i + (0 + q)) * _ = 0
    rw [Nat.zero_add, ok.v0 hq, Int.zero_mul]
  have e12 : mDt M N i j = sm (fun k => mV M (12 * i + k) * mV N (12 * k + j)) 0 12 := by
    unfold mDt
    exact (sm_ext0 ok.1.2.2.2 fun q q1 q2 => hg0 q (ok.col0 q1 q2)).symm
  rw [e12]
  unfold f_X3_dot
  simp (disch := omega) only [e_gR k0, r2, Option.bind_some, e_aI pk, pp]
  refine zlF (P := fun n (f : Option Nat → Option Nat → Int32 → Int32 → Int64 → Int32 → Option Int64) => ∀ q : Nat, q + n = 12 →
      f (some a) (some b) (nI i) (nI j) (lI (sm (fun k => mV M (12 * i + k) * mV N (12 * k + j)) 0 q)) (nI (ct (mF M) (12 * i + q))) = some (lI (sm (fun k => mV M (12 * i + k) * mV N (12 * k + j)) 0 12))) ?_ 12 (by omega) 0 (by omega)
  intro n f ih q hq
  have hP0 : ct (mF M) (12 * i + q) ≤ ct (mF M) (12 * (i + 1)) := ct_mono _ (by omega)
  unfold B_X3_dot_11
  simp (disch := omega) only [e_gR k0, r2, Option.bind_some, nI_1, e_aI pk, pp]
  by_cases hlt : ct (mF M) (12 * i + q) < ct (mF M) (12 * (i + 1))
  · rw [ite_f (by rw [nI_leI (by omega) (by omega)]; omega)]
    obtain ⟨l, l1, l2, l3, l4, l5⟩ := ct_next hlt
    have hl : l = 12 * i + l % 12 := by omega
    have hx : zi h x (ct (mF M) (12 * i + q)) = nI (l % 12) := by rw [← l4]; exact (hkv l l3).1
    have hv : zi h v (ct (mF M) (12 * i + q)) = iI (mV M l) := by rw [← l4]; exact (hkv l l3).2
    have hlc : l % 12 < mR N := by rw [← hMN]; exact (ok.2.1 l l3).2
    have b1 := ok.2.2.2 l
    have b2 := dok.2.2.2 (12 * (l % 12) + j)
    simp (disch := omega) only [e_gR k0, r3, r4, Option.bind_some, e_aI xk, e_aI vk, hx, hv, e_rv dk, hst hlc hj, iI_l, lI_mul, lI_add]
    have e9 : ct (mF M) (12 * i + q) + 1 = ct (mF M) (12 * i + (l % 12 + 1)) := by rw [← Nat.add_assoc, ← hl, ct_s, bN_t l3, l4]
    have e8 : sm (fun k => mV M (12 * i + k) * mV N (12 * k + j)) 0 q + mV M l * mV N (12 * (l % 12) + j) = sm (fun k => mV M (12 * i + k) * mV N (12 * k + j)) 0 (l % 12 + 1) := by
      rw [sm_s, sm_ext0 (n := q) (m := l % 12) (by omega) (fun t t1 t2 => hg0 t (l5 _ (by omega) (by omega)))]
      show _ = _ + mV M (12 * i + (0 + l % 12)) * mV N (12 * (0 + l % 12) + j)
      rw [Nat.zero_add, ← hl]
    rw [e9, e8]
    exact ih (12 - (l % 12 + 1)) (by omega) (l % 12 + 1) (by omega)
  · rw [ite_t (by rw [nI_leI (by omega) (by omega)]; omega)]
    have hz := ct_none hlt
    rw [sm_ext0 (n := q) (m := 12) (by omega) (fun t t1 t2 => hg0 t (hz _ (by omega) (by omega)))]
theorem mDt_b (ok : mOK M) (dok : mOK N) (i j : Nat) : -12000000000000 ≤ mDt M N i j ∧ mDt M N i j ≤ 12000000000000 := by
  have h12 := ok.1.2.2.2
  have := sm_bd (g := fun k => mV M (12 * i + k) * mV N (12 * k + j)) (a := 0) (n := mC M) (B := 1000000000000) (fun t _ => by
    dsimp only
    have h1 := ok.2.2.2 (12 * i + (0 + t))
    have h2 := dok.2.2.2 (12 * (0 + t) + j)
    have h3 : (mV M (12 * i + (0 + t)) * mV N (12 * (0 + t) + j)).natAbs ≤ 1000000 * 1000000 := by
      rw [Int.natAbs_mul]
      exact Nat.mul_le_mul (by omega) (by omega)
    omega)
  unfold mDt
  omega
theorem s_X3_times (c : cM m h a M) (d : cM m h b N) (hm : m + 20 ≤ zz h) (hr : zRm 8 602 h) : ∃ o g, f_X3_times (some a) (some b) h = some (o, g) ∧ zGr 8 602 zNo h g ∧
    (((mC M = mR N ∧ mSm (mR M) (mC N) (fun i j => decide (0 < mMe M N i j)) (fun i j => mDt M N i j)) ∧ ∃ b, o = .inl (some b) ∧ cM m g b (mMu M N)) ∨ (¬ (mC M = mR N ∧ mSm (mR M) (mC N) (fun i j => decide (0 < mMe M N i j)) (fun i j => mDt M N i j)) ∧ ∃ q, o = .inr q ∧ zk g q = 7)) := by
  have ok := c.ok
  have dok := d.ok
  have o1 := ok.1
  have o2 := dok.1
  unfold f_X3_times
  simp only [e_gI c.k3, e_gI d.k3, Option.bind_some, c.i0, c.i1, d.i0, d.i1]
  rw [nI_eq (by omega) (by omega)]
  by_cases hMN : mC M = mR N
  · rw [if_pos hMN]
    obtain ⟨o, g, e, f, hs⟩ := s_lam2 (m := m) (h := h) (i1 := 2) (i2 := 3) (R := mR M) (C := mC N) (A1 := [vR (some a), vR (some b)]) (A2 := [vR (some a), vR (some b)]) (μ := fun i j => decide (0 < mMe M N i j)) (γ := fun i j => mDt M N i j) ⟨ok.1.1, ok.1.2.1⟩ dok.1.2.2 hm hr (by decide) (by decide)
      (fun g e k1 _ z2 i j hi hj => by
        have c' := c.no e
        have d' := d.no e
        have z0 : zr g (zz h) 0 = some a := z2 0
        have z1 : zr g (zz h) 1 = some b := z2 1
        unfold fl_Mask f_X3_lambda_times_16
        simp only [Option.bind_some, k1, z0, z1, e_rv c'.k3, s_X3_meets c' d' hMN hi (show j < 12 by omega), if_pos (bI_01 _), Nat.reduceAdd, Nat.reduceEqDiff, if_true, if_false])
      (fun g e k1 _ z2 i j hi hj _ => by
        have c' := c.no e
        have d' := d.no e
        have z0 : zr g (zz h + 1) 0 = some a := z2 0
        have z1 : zr g (zz h + 1) 1 = some b := z2 1
        unfold fl_Cell f_X3_lambda_times_17
        simp only [Option.bind_some, k1, z0, z1, e_rv c'.k3, s_X3_dot c' d' hMN hi (show j < 12 by omega), if_true, if_false, Nat.reduceAdd, Nat.reduceEqDiff])
      (fun i j _ _ => by have := mDt_b ok dok i j; omega)
    refine ⟨o, g, e, f, ?_⟩
    rcases hs with ⟨hs, hc⟩ | ⟨hs, hc⟩
    · exact Or.inl ⟨⟨hMN, hs⟩, hc⟩
    · exact Or.inr ⟨fun z => hs z.2, hc⟩
  · rw [if_neg hMN]
    obtain ⟨q, g', f1, f2, f3⟩ := s_newF (α := Option Nat) (hr.le (by decide) (by decide) : zRm 1 6 h)
    exact ⟨_, _, f1, f2.mono (by decide) (by decide), Or.inr ⟨fun z => hMN z.1, q, rfl, f3⟩⟩
theorem s_X3_joined {jn : Nat} {s : Int} (c : cM m h a M) (d : cM m h b N) (hj : (zk h jn = 23 ∧ s = 1 ∨ zk h jn = 24 ∧ s = -1) ∧ jn < zz h) (hm : m + 20 ≤ zz h) (hr : zRm 8 602 h) : ∃ o g, f_X3_joined (some a) (some jn) (some b) h = some (o, g) ∧ zGr 8 602 zNo h g ∧
    ((((mR M = mR N ∧ mC M = mC N) ∧ mSm (mR M) (mC M) (fun i j => mF M (12 * i + j) || mF N (12 * i + j)) (fun i j => mV M (12 * i + j) + s * mV N (12 * i + j))) ∧ ∃ b, o = .inl (some b) ∧ cM m g b (mJo s M N)) ∨ (¬ ((mR M = mR N ∧ mC M = mC N) ∧ mSm (mR M) (mC M) (fun i j => mF M (12 * i + j) || mF N (12 * i + j)) (fun i j => mV M (12 * i + j) + s * mV N (12 * i + j))) ∧ ∃ q, o = .inr q ∧ zk g q = 7)) := by
  have ok := c.ok
  have dok := d.ok
  have o1 := ok.1
  have o2 := dok.1
  have hs1 : s = 1 ∨ s = -1 := by rcases hj.1 with q | q; exact Or.inl q.2; exact Or.inr q.2
  have hb : ∀ k, -1999998 ≤ mV M k + s * mV N k ∧ mV M k + s * mV N k ≤ 1999998 := fun k => by
    have h1 := ok.2.2.2 k
    have h2 := dok.2.2.2 k
    rcases hs1 with rfl | rfl <;> omega
  unfold f_X3_joined
  simp only [e_gI c.k3, e_rv c.k3, Option.bind_some, c.i0, c.i1, s_X3_hasSameShape c d]
  by_cases hsh : mR M = mR N ∧ mC M = mC N
  · rw [decide_eq_true hsh, ite_f (by decide)]
    obtain ⟨o, g, e, f, hs⟩ := s_lam2 (m := m) (h := h) (i1 := 10) (i2 := 11) (R := mR M) (C := mC M) (A1 := [vR (some a), vR (some b)]) (A2 := [vR (some a), vR (some jn), vR (some b)]) (μ := fun i j => mF M (12 * i + j) || mF N (12 * i + j)) (γ := fun i j => mV M (12 * i + j) + s * mV N (12 * i + j)) ⟨ok.1.1, ok.1.2.1⟩ ok.1.2.2 hm hr (by decide) (by decide)
      (fun g e k1 _ z2 i j hi hj => by
        have c' := c.no e
        have d' := d.no e
        have z0 : zr g (zz h) 0 = some a := z2 0
        have z1 : zr g (zz h) 1 = some b := z2 1
        unfold fl_Mask f_X3_lambda_joined_14
        simp only [Option.bind_some, k1, z0, z1, e_rv c'.k3, e_rv d'.k3, s_X3_stores c' hi (show j < 12 by omega), s_X3_stores d' (show i < mR N by omega) (show j < 12 by omega), Nat.reduceAdd, Nat.reduceEqDiff, if_true, if_false]
        cases mF M (12 * i + j) <;> cases mF N (12 * i + j) <;> rfl)
      (fun g e k1 _ z2 i j hi hj9 _ => by
        have c' := c.no e
        have d' := d.no e
        have z0 : zr g (zz h + 1) 0 = some a := z2 0
        have z1 : zr g (zz h + 1) 1 = some jn := z2 1
        have z3 : zr g (zz h + 1) 2 = some b := z2 2
        have kj : zk g jn = zk h jn := (e.2.2.2 jn hj.2).1
        have h1 := ok.2.2.2 (12 * i + j)
        have h2 := dok.2.2.2 (12 * i + j)
        unfold fl_Cell f_X3_lambda_joined_15 f_X17_of f_X18_of
        simp only [Option.bind_some, k1, z0, z1, z3, kj, e_rv c'.k3, e_rv d'.k3, s_X3_value c' hi (show j < 12 by omega), s_X3_value d' (show i < mR N by omega) (show j < 12 by omega), if_true, if_false, Nat.reduceAdd, Nat.reduceEqDiff]
        rw [iI_l (by omega) (by omega), iI_l (by omega) (by omega), lI_add, lI_sub]
        rcases hj.1 with ⟨q1, rfl⟩ | ⟨q1, rfl⟩
        · rw [q1, if_pos rfl]; congr 2; omega
        · rw [q1, if_neg (by decide), if_pos rfl]; congr 2; omega)
      (fun i j _ _ => by have := hb (12 * i + j); dsimp only; omega)
    refine ⟨o, g, e, f, ?_⟩
    rcases hs with ⟨hs, hc⟩ | ⟨hs, hc⟩
    · exact Or.inl ⟨⟨hsh, hs⟩, hc⟩
    · exact Or.inr ⟨fun z => hs z.2, hc⟩
  · rw [decide_eq_false hsh, ite_t rfl]
    obtain ⟨q, g', f1, f2, f3⟩ := s_newF (α := Option Nat) (hr.le (by decide) (by decide) : zRm 1 6 h)
    exact ⟨_, _, f1, f2.mono (by decide) (by decide), Or.inr ⟨fun z => hsh z.1, q, rfl, f3⟩⟩
end CSR2
