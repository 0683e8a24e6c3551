/-! LAYER C, 3: what becomes of a heap -/
/-- old cells keep kind and length; those outside S, and those that were there at the start, keep what they hold -/
def zFm (S : Nat → Prop) (h g : zH) : Prop := g.1 = h.1 ∧ zz h ≤ zz g ∧ zs h ≤ zs g ∧ ∀ a, a < zz h → zk g a = zk h a ∧ zn g a = zn h a ∧ ((¬ S a ∨ a < zb h) → zi g a = zi h a ∧ zj g a = zj h a ∧ zr g a = zr h a ∧ zd g a = zd h a)
def zNo : Nat → Prop := fun _ => False
def zGr (n s : Nat) (S : Nat → Prop) (h g : zH) : Prop := zFm S h g ∧ zz g ≤ zz h + n ∧ zs g ≤ zs h + s
def zRm (n s : Nat) (h : zH) : Prop := zb h ≤ zz h ∧ zz h + n ≤ zCX h ∧ zs h + s ≤ zSX h
section ZFR
variable {S S' : Nat → Prop} {h g k : zH} {n s n' s' : Nat}
theorem zFm.refl (S : Nat → Prop) (h : zH) : zFm S h h := ⟨rfl, Nat.le_refl _, Nat.le_refl _, fun _ _ => ⟨rfl, rfl, fun _ => ⟨rfl, rfl, rfl, rfl⟩⟩⟩
theorem zFmb (e : zFm S h g) : zb g = zb h := by show g.1.1 = h.1.1; rw [e.1]
theorem zFm.trans (a : zFm S h g) (b : zFm S g k) : zFm S h k := by
  have hb := zFmb a
  obtain ⟨a1, a2, a3, a4⟩ := a
  obtain ⟨b1, b2, b3, b4⟩ := b
  refine ⟨b1.trans a1, Nat.le_trans a2 b2, Nat.le_trans a3 b3, fun q hq => ?_⟩
  obtain ⟨c1, c2, c3⟩ := a4 q hq
  obtain ⟨d1, d2, d3⟩ := b4 q (Nat.lt_of_lt_of_le hq a2)
  refine ⟨d1.trans c1, d2.trans c2, fun hS => ?_⟩
  obtain ⟨x1, x2, x3, x4⟩ := c3 hS
  obtain ⟨y1, y2, y3, y4⟩ := d3 (by rw [hb]; exact hS)
  exact ⟨y1.trans x1, y2.trans x2, y3.trans x3, y4.trans x4⟩
theorem zFm.mono (a : zFm S h g) (hS : ∀ q, q < zz h → S q → S' q) : zFm S' h g := ⟨a.1, a.2.1, a.2.2.1, fun q hq => ⟨(a.2.2.2 q hq).1, (a.2.2.2 q hq).2.1, fun hn => (a.2.2.2 q hq).2.2 (hn.imp (fun z w => z (hS q hq w)) id)⟩⟩
theorem zFm.no (a : zFm zNo h g) (S : Nat → Prop) : zFm S h g := a.mono fun _ _ z => z.elim
theorem zFm.al (a : zFm S h g) (kk n c : Nat) : zFm S h (zAl g kk n c) := by
  refine a.trans ⟨rfl, Nat.le_succ _, Nat.le_add_right _ _, fun q hq => ?_⟩
  have hn : q ≠ zz g := Nat.ne_of_lt hq
  exact ⟨zrw_n hn, zrw_n hn, fun _ => ⟨zrw_n hn, zrw_n hn, zrw_n hn, zrw_n hn⟩⟩
theorem zFm.ne {a q : Nat} (ha : (S a ∧ zb h ≤ a) ∨ zz h ≤ a) (hq : q < zz h) (hS : ¬ S q ∨ q < zb h) : q ≠ a := by
  intro z
  subst z
  rcases ha with ⟨h1, h2⟩ | h1
  · rcases hS with hS | hS
    · exact hS h1
    · omega
  · omega
theorem zFm.wI {a : Nat} {f : Nat → Int32} (e : zFm S h g) (ha : (S a ∧ zb h ≤ a) ∨ zz h ≤ a) : zFm S h (zwI g a f) := by
  obtain ⟨e1, e2, e3, e4⟩ := e
  refine ⟨e1, e2, e3, fun q hq => ⟨(e4 q hq).1, (e4 q hq).2.1, fun hS => ?_⟩⟩
  have hn := zFm.ne ha hq hS
  obtain ⟨x1, x2, x3, x4⟩ := (e4 q hq).2.2 hS
  exact ⟨(zrw_n hn).trans x1, x2, x3, x4⟩
theorem zFm.wR {a : Nat} {f : Nat → Option Nat} (e : zFm S h g) (ha : (S a ∧ zb h ≤ a) ∨ zz h ≤ a) : zFm S h (zwR g a f) := by
  obtain ⟨e1, e2, e3, e4⟩ := e
  refine ⟨e1, e2, e3, fun q hq => ⟨(e4 q hq).1, (e4 q hq).2.1, fun hS => ?_⟩⟩
  have hn := zFm.ne ha hq hS
  obtain ⟨x1, x2, x3, x4⟩ := (e4 q hq).2.2 hS
  exact ⟨x1, x2, (zrw_n hn).trans x3, x4⟩
theorem zFm.U {I : Nat → Nat → Int32} {J : Nat → Nat → Int64} (e : zFm S h g) (hI : ∀ a, a < zz h → (¬ S a ∨ a < zb h) → I a = zi g a ∧ J a = zj g a) : zFm S h (zU g I J) := by
  obtain ⟨e1, e2, e3, e4⟩ := e
  refine ⟨e1, e2, e3, fun q hq => ⟨(e4 q hq).1, (e4 q hq).2.1, fun hS => ?_⟩⟩
  obtain ⟨x1, x2, x3, x4⟩ := (e4 q hq).2.2 hS
  exact ⟨(hI q hq hS).1.trans x1, (hI q hq hS).2.trans x2, x3, x4⟩
theorem zGr.refl (S : Nat → Prop) (h : zH) : zGr 0 0 S h h := ⟨zFm.refl S h, Nat.le_refl _, Nat.le_refl _⟩
theorem zGr.trans (a : zGr n s S h g) (b : zGr n' s' S g k) : zGr (n + n') (s + s') S h k := ⟨a.1.trans b.1, by have := a.2.1; have := b.2.1; omega, by have := a.2.2; have := b.2.2; omega⟩
theorem zGr.mono (a : zGr n s S h g) (hn : n ≤ n') (hs : s ≤ s') : zGr n' s' S h g := ⟨a.1, by have := a.2.1; omega, by have := a.2.2; omega⟩
theorem zGr.no (a : zGr n s zNo h g) (S : Nat → Prop) : zGr n s S h g := ⟨a.1.no S, a.2⟩
theorem zRm.go (r : zRm n s h) (e : zGr n' s' S h g) (h1 : n' ≤ n) (h2 : s' ≤ s) : zRm (n - n') (s - s') g := by
  have e1 : zCX g = zCX h := by show g.1.2.1 = h.1.2.1; rw [e.1.1]
  have e2 : zSX g = zSX h := by show g.1.2.2.1 = h.1.2.2.1; rw [e.1.1]
  have e3 : zb g = zb h := by show g.1.1 = h.1.1; rw [e.1.1]
  have := e.2.1; have := e.2.2; have := e.1.2.1; have := r.1; have := r.2.1; have := r.2.2
  exact ⟨by rw [e3]; omega, by rw [e1]; omega, by rw [e2]; omega⟩
theorem zRm.le (r : zRm n s h) (h1 : n' ≤ n) (h2 : s' ≤ s) : zRm n' s' h := ⟨r.1, by have := r.2.1; omega, by have := r.2.2; omega⟩
end ZFR
/-- an old cell that is none of the reference's -/
def zo (m : Nat) (h : zH) (a : Nat) : Prop := a < zz h ∧ (a < m ∨ m + 20 ≤ a)
/-- a Csr of the component -/
def cM (m : Nat) (h : zH) (a : Nat) (M : zMt) : Prop := ∃ p x v, (zk h a = 3 ∧ zi h a 0 = nI (mR M) ∧ zi h a 1 = nI (mC M) ∧ zr h a 2 = some p ∧ zr h a 3 = some x ∧ zr h a 4 = some v) ∧
  (zk h p = 50 ∧ zn h p = mR M + 1 ∧ ∀ i, i ≤ mR M → zi h p i = nI (ct (mF M) (12 * i))) ∧ (zk h x = 50 ∧ zn h x = mN M) ∧ (zk h v = 50 ∧ zn h v = mN M) ∧
  (∀ k, mF M k = true → zi h x (ct (mF M) k) = nI (k % 12) ∧ zi h v (ct (mF M) k) = iI (mV M k)) ∧ (zo m h a ∧ zo m h p ∧ zo m h x ∧ zo m h v) ∧ mOK M
theorem cM.go {m : Nat} {S : Nat → Prop} {h g : zH} {a : Nat} {M : zMt} (c : cM m h a M) (e : zFm S h g) (hS : ∀ b, zk h b = 3 ∨ zk h b = 50 → zo m h b → ¬ S b) : cM m g a M := by
  obtain ⟨p, x, v, ⟨a1, a2, a3, a4, a5, a6⟩, ⟨p1, p2, p3⟩, ⟨x1, x2⟩, ⟨v1, v2⟩, hkv, ⟨oa, op, ox, ov⟩, ok⟩ := c
  obtain ⟨e1, e2, e3, e4⟩ := e
  have go : ∀ b, zo m h b → zo m g b := fun b q => ⟨Nat.lt_of_lt_of_le q.1 e2, q.2⟩
  obtain ⟨b1, b2, b3⟩ := e4 a oa.1
  obtain ⟨b4, b5, b6, b7⟩ := b3 (Or.inl (hS a (Or.inl a1) oa))
  obtain ⟨c1, c2, c3⟩ := e4 p op.1
  obtain ⟨c4, -, -, -⟩ := c3 (Or.inl (hS p (Or.inr p1) op))
  obtain ⟨d1, d2, d3⟩ := e4 x ox.1
  obtain ⟨d4, -, -, -⟩ := d3 (Or.inl (hS x (Or.inr x1) ox))
  obtain ⟨f1, f2, f3⟩ := e4 v ov.1
  obtain ⟨f4, -, -, -⟩ := f3 (Or.inl (hS v (Or.inr v1) ov))
  refine ⟨p, x, v, ⟨b1.trans a1, by rw [b4]; exact a2, by rw [b4]; exact a3, by rw [b6]; exact a4, by rw [b6]; exact a5, by rw [b6]; exact a6⟩, ⟨c1.trans p1, c2.trans p2, by rw [c4]; exact p3⟩, ⟨d1.trans x1, d2.trans x2⟩, ⟨f1.trans v1, f2.trans v2⟩, fun k hk => by rw [d4, f4]; exact hkv k hk, ⟨go a oa, go p op, go x ox, go v ov⟩, ok⟩
theorem cM.no {m : Nat} {h g : zH} {a : Nat} {M : zMt} (c : cM m h a M) (e : zFm zNo h g) : cM m g a M := c.go e fun _ _ _ z => z
theorem nI_m1 (n : Nat) : nI n - 1 = iI ((n : Int) - 1) := by
  rw [nI_iI, show (1 : Int32) = iI 1 from rfl, iI_sub]
theorem ushr1 : ∀ n, n < 512 → ((nI n).toUInt32 >>> ((1 : Int32).toUInt32 &&& Int32.toUInt32 31)).toInt32 = nI (n / 2) := by decide +kernel
section CSR
variable {m : Nat} {h : zH} {a : Nat} {M : zMt}
theorem cM.ok (c : cM m h a M) : mOK M := by
  obtain ⟨p, x, v, -, -, -, -, -, -, ok⟩ := c
  exact ok
theorem cM.k3 (c : cM m h a M) : zk h a = 3 := by
  obtain ⟨p, x, v, q, -⟩ := c
  exact q.1
theorem cM.oa (c : cM m h a M) : zo m h a := by
  obtain ⟨p, x, v, -, -, -, -, -, q, -⟩ := c
  exact q.1
theorem cM.i0 (c : cM m h a M) : zi h a 0 = nI (mR M) := by
  obtain ⟨p, x, v, q, -⟩ := c
  exact q.2.1
theorem cM.i1 (c : cM m h a M) : zi h a 1 = nI (mC M) := by
  obtain ⟨p, x, v, q, -⟩ := c
  exact q.2.2.1
theorem s_X3_find (c : cM m h a M) {i j : Nat} (hi : i < mR M) (hj : j < 12) : f_X3_find (some a) (nI i) (nI j) h = some (if mF M (12 * i + j) = true then nI (ct (mF M) (12 * i + j)) else -1) := by
  obtain ⟨p, x, v, ⟨k0, -, -, r2, r3, -⟩, ⟨pk, pn, pp⟩, ⟨xk, xn⟩, -, hkv, -, ok⟩ := c
  have hR := ok.1.2.1
  have hN := mOK.n144 (M := M)
  have hP1 : ct (mF M) (12 * (i + 1)) ≤ mN M := ok.ptr (i := i + 1) (by omega)
  have hP0 : ct (mF M) (12 * i) ≤ ct (mF M) (12 * (i + 1)) := ct_mono _ (by omega)
  unfold f_X3_find
  simp (disch := omega) only [e_gR k0, r2, Option.bind_some, nI_1, e_aI pk, pp, nI_m1]
  refine zlF (P := fun n (f : Option Nat → Int32 → Int32 → Int32 → Option Int32) => ∀ lo hi : Nat, hi - lo = n → ct (mF M) (12 * i) ≤ lo → lo ≤ hi → hi ≤ ct (mF M) (12 * (i + 1)) →
      (∀ k, 12 * i ≤ k → k < 12 * (i + 1) → mF M k = true → ct (mF M) k < lo → k % 12 < j) → (∀ k, 12 * i ≤ k → k < 12 * (i + 1) → mF M k = true → hi ≤ ct (mF M) k → j < k % 12) →
      f (some a) (nI j) (nI lo) (iI ((hi : Int) - 1)) = some (if mF M (12 * i + j) = true then nI (ct (mF M) (12 * i + j)) else -1)) ?_ (ct (mF M) (12 * (i + 1)) - ct (mF M) (12 * i)) (by omega) _ _ rfl (Nat.le_refl _) hP0 (Nat.le_refl _) (fun k q1 _ q3 q4 => by have := ct_mono (mF M) q1; omega) (fun k _ q2 q3 q4 => by have := ct_lt q3 q2; omega)
  intro n f ih lo hi e1 e2 e3 e4 hlo hhi
  have hk0 : mF M (12 * i + j) = true → lo ≤ ct (mF M) (12 * i + j) ∧ ct (mF M) (12 * i + j) < hi := by
    intro hF
    constructor
    · apply Nat.le_of_not_lt
      intro q
      have := hlo (12 * i + j) (by omega) (by omega) hF q
      omega
    · apply Nat.lt_of_not_le
      intro q
      have := hhi (12 * i + j) (by omega) (by omega) hF q
      omega
  unfold B_X3_find_19
  by_cases hlh : hi ≤ lo
  · rw [ite_t (by rw [nI_iI, iI_lt (by omega) (by omega) (by omega) (by omega)]; omega)]
    rw [if_neg (fun hF => by have := hk0 hF; omega)]
  · rw [ite_f (by rw [nI_iI, iI_lt (by omega) (by omega) (by omega) (by omega)]; omega)]
    have hsum : nI lo + iI ((hi : Int) - 1) = nI (lo + (hi - 1)) := by
      rw [nI_iI, nI_iI, iI_add]; congr 1; omega
    have hmid1 : lo ≤ (lo + (hi - 1)) / 2 := by omega
    have hmid2 : (lo + (hi - 1)) / 2 < hi := by omega
    rw [hsum, ushr1 _ (by omega)]
    generalize hmm : (lo + (hi - 1)) / 2 = mid at hmid1 hmid2 ⊢
    obtain ⟨k, k1, k2, k3, k4⟩ := ct_betw (f := mF M) (t := mid) (a := 12 * i) (b := 12 * (i + 1)) (by omega) (by omega)
    have hx : zi h x mid = nI (k % 12) := by rw [← k4]; exact (hkv k k3).1
    have hkm : k = 12 * i + k % 12 := by omega
    simp (disch := omega) only [e_gR k0, r3, Option.bind_some, e_aI xk, hx]
    by_cases hkj : k % 12 = j
    · rw [ite_t (by rw [hkj])]
      have hkk : 12 * i + j = k := by omega
      rw [hkk, if_pos k3, k4]
    · rw [ite_f (by rw [nI_eq (by omega) (by omega)]; exact hkj)]
      by_cases hjk : j ≤ k % 12
      · rw [ite_t (by rw [nI_leI (by omega) (by omega)]; exact hjk), nI_m1]
        refine ih (mid - lo) (by omega) lo mid rfl e2 hmid1 (by omega) hlo (fun l l1 l2 l3 l4 => ?_)
        have : k ≤ l := Nat.le_of_not_lt fun q => by have := (ct_lt_iff l3 k3).mpr q; omega
        omega
      · rw [ite_f (by rw [nI_leI (by omega) (by omega)]; exact hjk), nI_1]
        refine ih (hi - (mid + 1)) (by omega) (mid + 1) hi rfl (by omega) (by omega) e4 (fun l l1 l2 l3 l4 => ?_) hhi
        have : l ≤ k := Nat.le_of_not_lt fun q => by have := (ct_lt_iff k3 l3).mpr q; omega
        omega
theorem s_X3_stores (c : cM m h a M) {i j : Nat} (hi : i < mR M) (hj : j < 12) : f_X3_stores (some a) (nI i) (nI j) h = some (bI (mF M (12 * i + j))) := by
  have hn : ct (mF M) (12 * i + j) < 2147483648 := by have := ct_le (mF M) (12 * i + j); have := c.ok.1.2.1; omega
  unfold f_X3_stores
  simp only [e_rv c.k3, Option.bind_some, s_X3_find c hi hj]
  cases hF : mF M (12 * i + j) with
  | true =>
    simp only [if_true]
    rw [ite_f (fun e => by
      have := congrArg Int32.toInt e
      rw [nI_toInt hn, show (-1 : Int32).toInt = -1 from rfl] at this
      omega)]
    rfl
  | false => rfl
theorem s_X3_value (c : cM m h a M) {i j : Nat} (hi : i < mR M) (hj : j < 12) : f_X3_value (some a) (nI i) (nI j) h = some (iI (mV M (12 * i + j))) := by
  have hf := s_X3_find c hi hj
  obtain ⟨p, x, v, ⟨k0, -, -, -, -, r4⟩, -, -, ⟨vk, vn⟩, hkv, -, ok⟩ := c
  have hR := ok.1.2.1
  have hn : ct (mF M) (12 * i + j) < 2147483648 := by have := ct_le (mF M) (12 * i + j); omega
  unfold f_X3_value
  simp only [e_rv k0, Option.bind_some, hf]
  cases hF : mF M (12 * i + j) with
  | true =>
    simp only [if_true]
    have hlt : ct (mF M) (12 * i + j) < mN M := ct_lt hF (ok.lt hF)
    rw [ite_f (fun e => by
      have := congrArg Int32.toInt e
      rw [nI_toInt hn, show (-1 : Int32).toInt = -1 from rfl] at this
      omega)]
    simp (disch := omega) only [e_gR k0, r4, Option.bind_some, e_aI vk, (hkv _ hF).2]
  | false => 
    rw [ok.2.2.1 _ hF]
    rfl
end CSR
