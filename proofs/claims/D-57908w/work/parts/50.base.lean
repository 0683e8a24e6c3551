/-! LAYER C, 1: numbers, loops -/
def iI (z : Int) : Int32 := Int32.ofInt z
def lI (z : Int) : Int64 := Int64.ofInt z
def bI (b : Bool) : Int32 := if b = true then 1 else 0
def bN (b : Bool) : Nat := if b = true then 1 else 0
theorem nI_iI (n : Nat) : nI n = iI (n : Int) := (Int32.ofInt_eq_ofNat).symm
theorem iI_add (a b : Int) : iI a + iI b = iI (a + b) := (Int32.ofInt_add a b).symm
theorem iI_sub (a b : Int) : iI a - iI b = iI (a - b) := (Int32.ofInt_sub a b).symm
theorem iI_mul (a b : Int) : iI a * iI b = iI (a * b) := (Int32.ofInt_mul a b).symm
theorem iI_neg (a : Int) : -iI a = iI (-a) := (Int32.ofInt_neg a).symm
theorem lI_add (a b : Int) : lI a + lI b = lI (a + b) := (Int64.ofInt_add a b).symm
theorem lI_sub (a b : Int) : lI a - lI b = lI (a - b) := (Int64.ofInt_sub a b).symm
theorem lI_mul (a b : Int) : lI a * lI b = lI (a * b) := (Int64.ofInt_mul a b).symm
theorem nI_mul (a b : Nat) : nI a * nI b = nI (a * b) := (Int32.ofNat_mul a b).symm
theorem nI_sub {a b : Nat} (h : b ≤ a) : nI a - nI b = nI (a - b) := (Int32.ofNat_sub a b h).symm
theorem iI_toInt {z : Int} (h1 : -2147483648 ≤ z) (h2 : z < 2147483648) : (iI z).toInt = z := Int32.toInt_ofInt_of_le (by omega) (by omega)
theorem lI_toInt {z : Int} (h1 : -9223372036854775808 ≤ z) (h2 : z < 9223372036854775808) : (lI z).toInt = z := Int64.toInt_ofInt_of_le (by omega) (by omega)
theorem iI_le {a b : Int} (a1 : -2147483648 ≤ a) (a2 : a < 2147483648) (b1 : -2147483648 ≤ b) (b2 : b < 2147483648) : iI a ≤ iI b ↔ a ≤ b := by
  rw [Int32.le_iff_toInt_le, iI_toInt a1 a2, iI_toInt b1 b2]
theorem iI_lt {a b : Int} (a1 : -2147483648 ≤ a) (a2 : a < 2147483648) (b1 : -2147483648 ≤ b) (b2 : b < 2147483648) : iI a < iI b ↔ a < b := by
  rw [Int32.lt_iff_toInt_lt, iI_toInt a1 a2, iI_toInt b1 b2]
theorem iI_eq {a b : Int} (a1 : -2147483648 ≤ a) (a2 : a < 2147483648) (b1 : -2147483648 ≤ b) (b2 : b < 2147483648) : iI a = iI b ↔ a = b := by
  rw [← Int32.toInt_inj, iI_toInt a1 a2, iI_toInt b1 b2]
theorem lI_le {a b : Int} (a1 : -9223372036854775808 ≤ a) (a2 : a < 9223372036854775808) (b1 : -9223372036854775808 ≤ b) (b2 : b < 9223372036854775808) : lI a ≤ lI b ↔ a ≤ b := by
  rw [Int64.le_iff_toInt_le, lI_toInt a1 a2, lI_toInt b1 b2]
theorem lI_lt {a b : Int} (a1 : -9223372036854775808 ≤ a) (a2 : a < 9223372036854775808) (b1 : -9223372036854775808 ≤ b) (b2 : b < 9223372036854775808) : lI a < lI b ↔ a < b := by
  rw [Int64.lt_iff_toInt_lt, lI_toInt a1 a2, lI_toInt b1 b2]
theorem lI_eq {a b : Int} (a1 : -9223372036854775808 ≤ a) (a2 : a < 9223372036854775808) (b1 : -9223372036854775808 ≤ b) (b2 : b < 9223372036854775808) : lI a = lI b ↔ a = b := by
  rw [← Int64.toInt_inj, lI_toInt a1 a2, lI_toInt b1 b2]
theorem iI_of (x : Int32) : ∃ z : Int, x = iI z ∧ -2147483648 ≤ z ∧ z < 2147483648 := ⟨x.toInt, (Int32.ofInt_toInt x).symm, by have := x.le_toInt; omega, by have := x.toInt_lt; omega⟩
theorem iI_l {z : Int} (h1 : -2147483648 ≤ z) (h2 : z < 2147483648) : (iI z).toInt64 = lI z := by
  rw [← Int64.toInt_inj, Int32.toInt_toInt64, iI_toInt h1 h2, lI_toInt (by omega) (by omega)]
theorem lI_i {z : Int} (h1 : -2147483648 ≤ z) (h2 : z < 2147483648) : (lI z).toInt32 = iI z := by
  rw [← iI_l h1 h2]
  exact Int32.toInt32_toInt64 _
theorem nI_lI {n : Nat} (h : n < 2147483648) : (nI n).toInt64 = lI (n : Int) := by
  rw [nI_iI, iI_l (by omega) (by omega)]
theorem bI_01 (b : Bool) : bI b = 0 ∨ bI b = 1 := by cases b <;> decide
theorem bI_0 {b : Bool} : bI b = 0 ↔ b = false := by cases b <;> decide
theorem bI_1 {b : Bool} : bI b = 1 ↔ b = true := by cases b <;> decide
theorem bI_t : bI true = 1 := rfl
theorem bI_f : bI false = 0 := rfl
theorem bI_n (b : Bool) : bI b = nI (bN b) := by cases b <;> rfl
/-! loops -/
theorem zlM {α : Type} {body : α → α} {bot : α} (P : Nat → α → Prop) (step : ∀ n f, (∀ m, m < n → P m f) → P n (body f)) : ∀ (fuel n : Nat), n < fuel → P n (zloop body bot fuel) := by
  intro fuel
  induction fuel with
  | zero => intro n h; exact absurd h (Nat.not_lt_zero n)
  | succ fuel ih =>
    intro n h
    rw [zloop_s]
    exact step n _ fun m hm => ih m (by omega)
theorem zlFU {n : Nat} (h : n < 100000000) : n < zFU := h
/-- a loop from a state whose measure is n -/
theorem zlF {α : Type} {body : α → α} {bot : α} (P : Nat → α → Prop) (step : ∀ n f, (∀ m, m < n → P m f) → P n (body f)) (n : Nat) (h : n < 100000000) : P n (zloop body bot zFU) := zlM P step zFU n h
/-! words for what a picture answers -/
def zP {α : Type} (o : Option α) (Q : α → Prop) : Prop := ∃ x, o = some x ∧ Q x
theorem zP_some {α : Type} {x : α} {Q : α → Prop} : zP (some x) Q ↔ Q x := ⟨fun ⟨_, e, q⟩ => by cases e; exact q, fun q => ⟨x, rfl, q⟩⟩
theorem zP_bind {α β : Type} {o : Option α} {f : α → Option β} {Q : β → Prop} : zP (o.bind f) Q ↔ zP o (fun x => zP (f x) Q) := by
  cases o with
  | none => exact ⟨fun ⟨_, e, _⟩ => (by cases e), fun ⟨_, e, _⟩ => (by cases e)⟩
  | some x => rw [zP_some]; exact Iff.rfl
theorem zP_b2 {α β γ : Type} {o : Option (α × β)} {f : α → β → Option γ} {Q : γ → Prop} : zP (zb2 o f) Q ↔ zP o (fun q => zP (f q.1 q.2) Q) := zP_bind
theorem zP_mono {α : Type} {o : Option α} {Q Q' : α → Prop} (h : zP o Q) (k : ∀ x, Q x → Q' x) : zP o Q' := by
  obtain ⟨x, e, q⟩ := h
  exact ⟨x, e, k x q⟩
/-! heaps by rows of ints and longs -/
def zU (h : zH) (I : Nat → Nat → Int32) (J : Nat → Nat → Int64) : zH := (h.1, zz h, zs h, zk h, zn h, I, J, zr h, zd h)
theorem zU_self (h : zH) : zU h (zi h) (zj h) = h := rfl
theorem zU_U (h : zH) (I I' : Nat → Nat → Int32) (J J' : Nat → Nat → Int64) : zU (zU h I J) I' J' = zU h I' J' := rfl
def zu2 {α : Type} (I : Nat → Nat → α) (a t : Nat) (x : α) : Nat → Nat → α := zrw I a (zup (I a) t x)
theorem zu2_s {α : Type} (I : Nat → Nat → α) (a t : Nat) (x : α) : zu2 I a t x a t = x := by unfold zu2; rw [zrw_s, zup_s]
theorem zu2_n {α : Type} {I : Nat → Nat → α} {a t b i : Nat} {x : α} (h : b ≠ a ∨ i ≠ t) : zu2 I a t x b i = I b i := by
  unfold zu2
  by_cases hb : b = a
  · subst hb
    rw [zrw_s, zup_n (by rcases h with h | h; exact absurd rfl h; exact h)]
  · rw [zrw_n hb]
theorem zu2_r {α : Type} {I : Nat → Nat → α} {a t b : Nat} {x : α} (h : b ≠ a) : zu2 I a t x b = I b := zrw_n h
theorem zu2_f {α : Type} {I : Nat → Nat → α} {a t b i : Nat} {x : α} : zu2 I a t x b i = if b = a ∧ i = t then x else I b i := by
  by_cases h : b = a ∧ i = t
  · rw [if_pos h, h.1, h.2, zu2_s]
  · rw [if_neg h, zu2_n (by omega)]
section ZRD
variable {h : zH} {I : Nat → Nat → Int32} {J : Nat → Nat → Int64} {a k j t : Nat}
theorem e_gI (hk : zk h a = k) : zgI k j (some a) h = some (zi h a j) := by show (if zk h a = k then _ else _) = _; rw [if_pos hk]
theorem e_gJ (hk : zk h a = k) : zgJ k j (some a) h = some (zj h a j) := by show (if zk h a = k then _ else _) = _; rw [if_pos hk]
theorem e_gR (hk : zk h a = k) : zgR k j (some a) h = some (zr h a j) := by show (if zk h a = k then _ else _) = _; rw [if_pos hk]
theorem e_rv (hk : zk h a = k) : zrv k (some a) h = some a := by show (if zk h a = k then _ else _) = _; rw [if_pos hk]
theorem e_pI {x : Int32} (hk : zk h a = k) (hb : zb h ≤ a) : zpI k j (some a) x h = some (zwI h a (zup (zi h a) j x)) := by show (if zk h a = k ∧ zb h ≤ a then _ else _) = _; rw [if_pos ⟨hk, hb⟩]; rfl
theorem e_pZ {x : Int32} (hk : zk h a = k) (hb : zb h ≤ a) (hx : x = 0 ∨ x = 1) : zpZ k j (some a) x h = some (zwI h a (zup (zi h a) j x)) := by show (if (zk h a = k ∧ zb h ≤ a) ∧ (x = 0 ∨ x = 1) then _ else _) = _; rw [if_pos ⟨⟨hk, hb⟩, hx⟩]; rfl
theorem e_pJ {x : Int64} (hk : zk h a = k) (hb : zb h ≤ a) : zpJ k j (some a) x h = some (zwJ h a (zup (zj h a) j x)) := by show (if zk h a = k ∧ zb h ≤ a then _ else _) = _; rw [if_pos ⟨hk, hb⟩]; rfl
theorem e_pR {x : Option Nat} (hk : zk h a = k) (hb : zb h ≤ a) : zpR k j (some a) x h = some (zwR h a (zup (zr h a) j x)) := by show (if zk h a = k ∧ zb h ≤ a then _ else _) = _; rw [if_pos ⟨hk, hb⟩]; rfl
theorem e_in {t N : Nat} (h : t < N) (hN : t < 2147483648) : ¬ (nI t < 0 ∨ N ≤ (nI t).toNatClampNeg) := by
  rw [nI_clamp hN]
  have := nI_pos hN
  rintro (q | q)
  · exact this q
  · omega
theorem e_aI (hk : zk h a = k) (ht : t < zn h a) (hs : t < 2147483648) : zaI k (some a) (nI t) h = some (zi h a t) := by
  show (if zk h a = k ∧ ¬ (nI t < 0 ∨ zn h a ≤ (nI t).toNatClampNeg) then _ else _) = _
  rw [if_pos ⟨hk, e_in ht hs⟩, nI_clamp hs]
theorem e_aR (hk : zk h a = k) (ht : t < zn h a) (hs : t < 2147483648) : zaR k (some a) (nI t) h = some (zr h a t) := by
  show (if zk h a = k ∧ ¬ (nI t < 0 ∨ zn h a ≤ (nI t).toNatClampNeg) then _ else _) = _
  rw [if_pos ⟨hk, e_in ht hs⟩, nI_clamp hs]
theorem e_aN (hk : zk h a ∈ zarrs) : zaN (some a) h = some (nI (zn h a)) := by show (if zk h a ∈ zarrs then _ else _) = _; rw [if_pos hk]
theorem e_sI {x : Int32} (hk : zk h a = 50) (hb : zb h ≤ a) (ht : t < zn h a) (hs : t < 2147483648) : zsI (some a) (nI t) x h = some (zwI h a (zup (zi h a) t x)) := by
  show (if (zk h a = 50 ∧ zb h ≤ a) ∧ ¬ (nI t < 0 ∨ zn h a ≤ (nI t).toNatClampNeg) then _ else _) = _
  rw [if_pos ⟨⟨hk, hb⟩, e_in ht hs⟩, nI_clamp hs]
  rfl
theorem e_sB {x : Int32} (hk : zk h a = 53) (hb : zb h ≤ a) (ht : t < zn h a) (hs : t < 2147483648) : zsB (some a) (nI t) x h = some (zwI h a (zup (zi h a) t x.toInt8.toInt32)) := by
  show (if (zk h a = 53 ∧ zb h ≤ a) ∧ ¬ (nI t < 0 ∨ zn h a ≤ (nI t).toNatClampNeg) then _ else _) = _
  rw [if_pos ⟨⟨hk, hb⟩, e_in ht hs⟩, nI_clamp hs]
  rfl
theorem e_sR {x : Option Nat} (hk : zk h a = k) (hb : zb h ≤ a) (ht : t < zn h a) (hs : t < 2147483648) (hx : (x.elim true (fun y => (zcanL k).contains (zk h y))) = true) : zsR k (some a) (nI t) x h = some (zwR h a (zup (zr h a) t x)) := by
  show (if ((zk h a = k ∧ zb h ≤ a) ∧ ¬ (nI t < 0 ∨ zn h a ≤ (nI t).toNatClampNeg)) ∧ _ then _ else _) = _
  rw [if_pos ⟨⟨⟨hk, hb⟩, e_in ht hs⟩, hx⟩, nI_clamp hs]
  rfl
theorem e_nw (hc : zz h + 1 ≤ zCX h) (hs : zs h + zN k ≤ zSX h) : znw k h = some (zz h, zAl h k (zN k) (zN k)) := by show (if zz h + 1 ≤ zCX h ∧ zs h + zN k ≤ zSX h then _ else _) = _; rw [if_pos ⟨hc, hs⟩]
theorem e_na {n : Nat} (hn : n < 2147483648) (hc : zz h + 1 ≤ zCX h) (hs : zs h + n ≤ zSX h) : zna k (nI n) h = some (zz h, zAl h k n n) := by
  show (if ¬ nI n < 0 ∧ zz h + 1 ≤ zCX h ∧ zs h + (nI n).toNatClampNeg ≤ zSX h then _ else _) = _
  rw [nI_clamp hn, if_pos ⟨nI_pos hn, hc, hs⟩]
end ZRD
theorem ite_t {α : Type} {c : Prop} {d : Decidable c} {x y : α} (h : c) : @ite α c d x y = x := if_pos h
theorem ite_f {α : Type} {c : Prop} {d : Decidable c} {x y : α} (h : ¬ c) : @ite α c d x y = y := if_neg h
theorem s_isIn {v a b : Int64} {h : zH} : f_X1_isIn v a b h = some (bI (decide (a.toInt ≤ v.toInt ∧ v.toInt ≤ b.toInt))) := by
  unfold f_X1_isIn
  by_cases h1 : v < a
  · rw [if_pos h1, decide_eq_false]; rfl
    rw [Int64.lt_iff_toInt_lt] at h1; omega
  · rw [if_neg h1]
    by_cases h2 : b < v
    · rw [if_pos h2, decide_eq_false]; rfl
      rw [Int64.lt_iff_toInt_lt] at h2; omega
    · rw [if_neg h2, decide_eq_true]; rfl
      rw [Int64.lt_iff_toInt_lt] at h1 h2; omega
