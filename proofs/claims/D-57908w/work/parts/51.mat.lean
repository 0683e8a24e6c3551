/-! LAYER C, 2: counting and sums -/
/-- how many of the places a, a + 1, .. a + n - 1 are marked -/
def cr (f : Nat → Bool) (a : Nat) : Nat → Nat
  | 0 => 0
  | n + 1 => cr f a n + bN (f (a + n))
def ct (f : Nat → Bool) (n : Nat) : Nat := cr f 0 n
def sm (g : Nat → Int) (a : Nat) : Nat → Int
  | 0 => 0
  | n + 1 => sm g a n + g (a + n)
theorem bN_le (b : Bool) : bN b ≤ 1 := by cases b <;> decide
theorem bN_t {b : Bool} (h : b = true) : bN b = 1 := by rw [h]; rfl
theorem bN_f {b : Bool} (h : b = false) : bN b = 0 := by rw [h]; rfl
theorem cr_s (f : Nat → Bool) (a n : Nat) : cr f a (n + 1) = cr f a n + bN (f (a + n)) := rfl
theorem cr_0 (f : Nat → Bool) (a : Nat) : cr f a 0 = 0 := rfl
theorem ct_s (f : Nat → Bool) (n : Nat) : ct f (n + 1) = ct f n + bN (f n) := by
  show cr f 0 (n + 1) = _
  rw [cr_s, Nat.zero_add]; rfl
theorem ct_0 (f : Nat → Bool) : ct f 0 = 0 := rfl
theorem cr_le (f : Nat → Bool) (a n : Nat) : cr f a n ≤ n := by
  induction n with
  | zero => exact Nat.le_refl 0
  | succ n ih => rw [cr_s]; have := bN_le (f (a + n)); omega
theorem ct_le (f : Nat → Bool) (n : Nat) : ct f n ≤ n := cr_le f 0 n
theorem cr_add (f : Nat → Bool) (a n m : Nat) : cr f a (n + m) = cr f a n + cr f (a + n) m := by
  induction m with
  | zero => rfl
  | succ m ih => rw [← Nat.add_assoc, cr_s, cr_s, ih, Nat.add_assoc a n m]; omega
theorem ct_add (f : Nat → Bool) (a n : Nat) : ct f (a + n) = ct f a + cr f a n := by
  show cr f 0 (a + n) = _
  rw [cr_add, Nat.zero_add]; rfl
theorem cr_zero {f : Nat → Bool} {a n : Nat} (h : ∀ t, t < n → f (a + t) = false) : cr f a n = 0 := by
  induction n with
  | zero => rfl
  | succ n ih => rw [cr_s, ih (fun t ht => h t (by omega)), bN_f (h n (by omega))]
theorem cr_congr {f g : Nat → Bool} {a b n : Nat} (h : ∀ t, t < n → f (a + t) = g (b + t)) : cr f a n = cr g b n := by
  induction n with
  | zero => rfl
  | succ n ih => rw [cr_s, cr_s, ih (fun t ht => h t (by omega)), h n (by omega)]
theorem ct_congr {f g : Nat → Bool} {n : Nat} (h : ∀ t, t < n → f t = g t) : ct f n = ct g n := cr_congr fun t ht => by rw [Nat.zero_add]; exact h t ht
theorem ct_mono (f : Nat → Bool) {n m : Nat} (h : n ≤ m) : ct f n ≤ ct f m := by
  obtain ⟨d, rfl⟩ := Nat.exists_eq_add_of_le h
  rw [ct_add]; omega
theorem ct_lt {f : Nat → Bool} {k n : Nat} (hk : f k = true) (h : k < n) : ct f k < ct f n := by
  have h1 : ct f (k + 1) ≤ ct f n := ct_mono f h
  rw [ct_s, bN_t hk] at h1
  omega
theorem ct_inj {f : Nat → Bool} {k l : Nat} (hk : f k = true) (hl : f l = true) (h : ct f k = ct f l) : k = l := by
  rcases Nat.lt_trichotomy k l with q | q | q
  · have := ct_lt hk q; omega
  · exact q
  · have := ct_lt hl q; omega
theorem ct_lt_iff {f : Nat → Bool} {k l : Nat} (hk : f k = true) (hl : f l = true) : ct f k < ct f l ↔ k < l := by
  rcases Nat.lt_trichotomy k l with q | q | q
  · have := ct_lt hk q; omega
  · subst q; omega
  · have := ct_lt hl q; omega
/-- the place that is the t-th one marked -/
theorem ct_surj {f : Nat → Bool} {t n : Nat} (h : t < ct f n) : ∃ k, k < n ∧ f k = true ∧ ct f k = t := by
  induction n with
  | zero => exact absurd h (Nat.not_lt_zero t)
  | succ n ih =>
    rw [ct_s] at h
    by_cases q : t < ct f n
    · obtain ⟨k, a, b, c⟩ := ih q
      exact ⟨k, by omega, b, c⟩
    · have hb : f n = true := by
        cases hn : f n with
        | true => rfl
        | false => rw [bN_f hn] at h; omega
      exact ⟨n, by omega, hb, by rw [bN_t hb] at h; omega⟩
theorem ct_betw {f : Nat → Bool} {t a b : Nat} (h1 : ct f a ≤ t) (h2 : t < ct f b) : ∃ k, a ≤ k ∧ k < b ∧ f k = true ∧ ct f k = t := by
  obtain ⟨k, q1, q2, q3⟩ := ct_surj h2
  refine ⟨k, ?_, q1, q2, q3⟩
  by_cases q : a ≤ k
  · exact q
  · have := ct_lt q2 (show k < a by omega); omega
theorem sm_s (g : Nat → Int) (a n : Nat) : sm g a (n + 1) = sm g a n + g (a + n) := rfl
theorem sm_0 (g : Nat → Int) (a : Nat) : sm g a 0 = 0 := rfl
theorem sm_congr {f g : Nat → Int} {a b n : Nat} (h : ∀ t, t < n → f (a + t) = g (b + t)) : sm f a n = sm g b n := by
  induction n with
  | zero => rfl
  | succ n ih => rw [sm_s, sm_s, ih (fun t ht => h t (by omega)), h n (by omega)]
theorem sm_add (g : Nat → Int) (a n m : Nat) : sm g a (n + m) = sm g a n + sm g (a + n) m := by
  induction m with
  | zero => rw [sm_0]; simp
  | succ m ih => rw [← Nat.add_assoc, sm_s, sm_s, ih, Nat.add_assoc a n m]; omega
theorem sm_zero {g : Nat → Int} {a n : Nat} (h : ∀ t, t < n → g (a + t) = 0) : sm g a n = 0 := by
  induction n with
  | zero => rfl
  | succ n ih => rw [sm_s, ih (fun t ht => h t (by omega)), h n (by omega)]; rfl
theorem sm_bd {g : Nat → Int} {a n : Nat} {B : Int} (h : ∀ t, t < n → -B ≤ g (a + t) ∧ g (a + t) ≤ B) : -(B * n) ≤ sm g a n ∧ sm g a n ≤ B * n := by
  induction n with
  | zero => rw [sm_0]; simp
  | succ n ih =>
    have h1 := ih (fun t ht => h t (by omega))
    have h2 := h n (by omega)
    rw [sm_s, show ((n + 1 : Nat) : Int) = (n : Int) + 1 by omega, Int.mul_add, Int.mul_one]
    omega
/-! matrices: rows, columns, which places are stored, values; a place is 12 * row + column -/
abbrev zMt : Type := Nat × Nat × (Nat → Bool) × (Nat → Int)
def mR (M : zMt) : Nat := M.1
def mC (M : zMt) : Nat := M.2.1
def mF (M : zMt) : Nat → Bool := M.2.2.1
def mV (M : zMt) : Nat → Int := M.2.2.2
def mOK (M : zMt) : Prop := (1 ≤ mR M ∧ mR M ≤ 12 ∧ 1 ≤ mC M ∧ mC M ≤ 12) ∧ (∀ k, mF M k = true → k / 12 < mR M ∧ k % 12 < mC M) ∧ (∀ k, mF M k = false → mV M k = 0) ∧ ∀ k, -999999 ≤ mV M k ∧ mV M k ≤ 999999
/-- how many entries are stored -/
def mN (M : zMt) : Nat := ct (mF M) 144
section MT
variable {M : zMt}
theorem mOK.lt (h : mOK M) {k : Nat} (hk : mF M k = true) : k < 144 := by
  have := (h.2.1 k hk).1
  have := h.1.2.1
  omega
theorem mOK.row (h : mOK M) (i : Nat) : ct (mF M) (12 * i + mC M) = ct (mF M) (12 * (i + 1)) := by
  have h12 : mC M ≤ 12 := h.1.2.2.2
  have e : 12 * (i + 1) = 12 * i + mC M + (12 - mC M) := by omega
  rw [e, ct_add _ (12 * i + mC M), cr_zero]
  · rfl
  · intro t ht
    cases q : mF M (12 * i + mC M + t) with
    | false => rfl
    | true =>
      have := (h.2.1 _ q).2
      omega
theorem mOK.all (h : mOK M) : ct (mF M) (12 * mR M) = mN M := by
  have h12 : mR M ≤ 12 := h.1.2.1
  have e : 144 = 12 * mR M + (144 - 12 * mR M) := by omega
  unfold mN
  rw [e, ct_add _ (12 * mR M), cr_zero]
  · rfl
  · intro t ht
    cases q : mF M (12 * mR M + t) with
    | false => rfl
    | true =>
      have := (h.2.1 _ q).1
      omega
theorem mOK.n144 : mN M ≤ 144 := ct_le _ _
theorem mOK.ptr (h : mOK M) {i : Nat} (hi : i ≤ mR M) : ct (mF M) (12 * i) ≤ mN M := by
  rw [← h.all]
  exact ct_mono _ (by omega)
end MT
/-- a matrix by a mask and a cell's value -/
def mB (R C : Nat) (μ : Nat → Nat → Bool) (γ : Nat → Nat → Int) : zMt := (R, C, fun k => decide (k / 12 < R ∧ k % 12 < C) && μ (k / 12) (k % 12), fun k => if (decide (k / 12 < R ∧ k % 12 < C) && μ (k / 12) (k % 12)) = true then γ (k / 12) (k % 12) else 0)
def mSm (R C : Nat) (μ : Nat → Nat → Bool) (γ : Nat → Nat → Int) : Prop := ∀ i j, i < R → j < C → μ i j = true → -999999 ≤ γ i j ∧ γ i j ≤ 999999
theorem mB_ok {R C : Nat} {μ : Nat → Nat → Bool} {γ : Nat → Nat → Int} (hR : 1 ≤ R ∧ R ≤ 12) (hC : 1 ≤ C ∧ C ≤ 12) (h : mSm R C μ γ) : mOK (mB R C μ γ) := by
  refine ⟨⟨hR.1, hR.2, hC.1, hC.2⟩, fun k hk => ?_, fun k hk => ?_, fun k => ?_⟩
  · have hk' : (decide (k / 12 < R ∧ k % 12 < C) && μ (k / 12) (k % 12)) = true := hk
    rw [Bool.and_eq_true, decide_eq_true_eq] at hk'
    exact hk'.1
  · have hk' : (decide (k / 12 < R ∧ k % 12 < C) && μ (k / 12) (k % 12)) = false := hk
    show (if (decide (k / 12 < R ∧ k % 12 < C) && μ (k / 12) (k % 12)) = true then _ else _) = (0 : Int)
    rw [hk', if_neg (by decide)]
  · show -999999 ≤ (if (decide (k / 12 < R ∧ k % 12 < C) && μ (k / 12) (k % 12)) = true then γ (k / 12) (k % 12) else 0) ∧ (if (decide (k / 12 < R ∧ k % 12 < C) && μ (k / 12) (k % 12)) = true then γ (k / 12) (k % 12) else 0) ≤ 999999
    by_cases q : (decide (k / 12 < R ∧ k % 12 < C) && μ (k / 12) (k % 12)) = true
    · rw [if_pos q]
      rw [Bool.and_eq_true, decide_eq_true_eq] at q
      exact h _ _ q.1.1 q.1.2 q.2
    · rw [if_neg q]; omega
