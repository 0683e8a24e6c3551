/-! THE z LAYER, 17: rows for the printed proofs -/
theorem zgd {α : Type} {c : Prop} [Decidable c] {a : Option α} {y : α} (h : (if c then a else none) = some y) : c ∧ a = some y := by
  by_cases q : c
  · rw [if_pos q] at h; exact ⟨q, h⟩
  · rw [if_neg q] at h; cases h
/-- a loop, with fuel -/
def zloop {α : Type} (body : α → α) (bot : α) : Nat → α
  | 0 => bot
  | n + 1 => body (zloop body bot n)
theorem zloop_s {α : Type} (body : α → α) (bot : α) (n : Nat) : zloop body bot (n + 1) = body (zloop body bot n) := rfl
theorem zloop_ind {α : Type} {body : α → α} {bot : α} {P : α → Prop} (n : Nat) (hb : P bot) (hs : ∀ f, P f → P (body f)) : P (zloop body bot n) := by
  induction n with
  | zero => exact hb
  | succ n ih => exact hs _ ih
def zFU : Nat := 100000000
def zoI (q : Int32 ⊕ Nat) : zO := q.elim (fun x => .inl (some (vI x))) .inr
def zoJ (q : Int64 ⊕ Nat) : zO := q.elim (fun x => .inl (some (vJ x))) .inr
def zoD (q : UInt64 ⊕ Nat) : zO := q.elim (fun x => .inl (some (vD x))) .inr
def zoF (q : UInt32 ⊕ Nat) : zO := q.elim (fun x => .inl (some (vF x))) .inr
def zoR (q : Option Nat ⊕ Nat) : zO := q.elim (fun x => .inl (some (vR x))) .inr
def zoU (q : Unit ⊕ Nat) : zO := q.elim (fun _ => .inl none) .inr
theorem lgc_eq {a b : Int64} : lg_cmp a b = 0 ↔ a = b := lg_cmp_eq a b
theorem lgc_lt {a b : Int64} : lg_cmp a b < 0 ↔ a < b := lg_cmp_lt a b
theorem lgc_le {a b : Int64} : lg_cmp a b ≤ 0 ↔ a ≤ b := lg_cmp_le a b
theorem lgc_gt {a b : Int64} : 0 < lg_cmp a b ↔ b < a := lg_cmp_gt a b
theorem lgc_ge {a b : Int64} : 0 ≤ lg_cmp a b ↔ b ≤ a := lg_cmp_ge a b
theorem zkq {h : zH} {a k : Nat} {cn : String} (hk : zk h a = k) (e : zkn k = some cn) : zkn (zk h a) = some cn := by rw [hk]; exact e
theorem zne {x : Int32} {k : Int32} (h : ¬ x = k) : ¬ (x.toInt = k.toInt) := fun e => h (Int32.toInt_inj.mp e)
theorem ztb {x : Int32} (lo : Int) (n : Nat) {hi : Int} (e : hi = lo + n - 1) (h : ∀ j, j < n → ¬ x.toInt = lo + j) : x.toInt < lo ∨ hi < x.toInt := by
  by_cases q : x.toInt < lo ∨ hi < x.toInt
  · exact q
  · exfalso
    have h1 : lo ≤ x.toInt := by omega
    have h2 : x.toInt ≤ hi := by omega
    exact h (x.toInt - lo).toNat (by omega) (by omega)
theorem znarZ {x : Int32} (h : x = 0 ∨ x = 1) : narrow .boolean (.int x) = .int x := by
  rcases h with rfl | rfl <;> decide +kernel
theorem znarV {t : FieldType} {x : Int32} (h : vp_nar t x = x) : narrow t (.int x) = .int x := by
  have : narrow t (.int x) = .int (vp_nar t x) := by cases t <;> rfl
  rw [this, h]
section ZW
variable {G : zG} {M : zM} {d : Nat} {h0 h9 h h1 h2 : zH} {o : zO} {pc pc2 : Nat} {lv : zL} {st rest : List zV} {r r0 : Option Nat}
theorem zkv {v : zV} (k : zW G M d h0 o h9 pc2 lv (v :: rest) h2) : ∀ w, (.inl (some v) : zO) = .inl w → zW G M d h0 o h9 pc2 lv (w.toList ++ rest) h2 := by
  intro w hw
  cases hw
  exact k
theorem zku (k : zW G M d h0 o h9 pc2 lv rest h2) : ∀ w, (.inl none : zO) = .inl w → zW G M d h0 o h9 pc2 lv (w.toList ++ rest) h2 := by
  intro w hw
  cases hw
  exact k
theorem zkn9 {v : Option zV} : ∀ q, (.inl v : zO) = .inr q → zX G M d h0 o h9 pc lv q h2 := fun q hq => nomatch hq
theorem zkv0 {q : Nat} : ∀ w, (.inr q : zO) = .inl w → zW G M d h0 o h9 pc2 lv (w.toList ++ rest) h2 := fun w hw => nomatch hw
theorem zkx {q : Nat} (k : zX G M d h0 o h9 pc lv q h2) : ∀ q', (.inr q : zO) = .inr q' → zX G M d h0 o h9 pc lv q' h2 := by
  intro q' hq
  cases hq
  exact k
theorem zy_athrow {q : Nat} (hd : decode M.2.1 pc = .ok (.athrow, 1)) (e : r = some q) (kk : zX G M d h0 o h9 pc lv q h) : zW G M d h0 o h9 pc lv (vR r :: st) h := by
  subst e
  exact zw_athrow hd kk
theorem zy_objInit {idx a : Nat} (hd : decode M.2.1 pc = .ok (.invokespecial idx, 3)) (w1 : Cond.methodLink M.1.cls idx Lib.objectInit ∈ lw_all) (e : r = some a) (hdd : 1 ≤ d) (hw : (st.map zc).sum ≤ 8) (kk : zW G M d h0 o h9 (pc + 3) lv st h) : zW G M d h0 o h9 pc lv (vR r :: st) h := by
  subst e
  exact zw_objInit hd w1 q228 q229 hdd hw kk
theorem zval_cpyI {t : FieldType} {a0 a sp dp n j : Nat} (ht : t = .int ∨ t = .byte) : zval t (zwI h a (zcpy (zi h a0) (zi h a) sp dp n)) a j = zcpy (fun j => zval t h a0 j) (fun j => zval t h a j) sp dp n j := by
  rcases ht with rfl | rfl <;>
  · show Value.int (zrw (zi h) a _ a j) = _
    rw [zrw_s]
    unfold zcpy
    split <;> rfl
theorem zval_cpyR {c : String} {a0 a sp dp n j : Nat} : zval (.object c) (zwR h a (zcpy (zr h a0) (zr h a) sp dp n)) a j = zcpy (fun j => zval (.object c) h a0 j) (fun j => zval (.object c) h a j) sp dp n j := by
  show va_rf (zrw (zr h) a _ a j) = _
  rw [zrw_s]
  unfold zcpy
  split <;> rfl
theorem zy_copyI {k idx : Nat} {sp dp n : Int32} (hd : decode M.2.1 pc = .ok (.invokestatic idx, 3)) (hl : zlc M.1.cls idx) (hdd : 1 ≤ d) (hk : k ∈ [50, 53]) (e : zcpI k r0 sp r dp n h = some h2) (hw : (st.map zc).sum ≤ 8) (kk : zW G M d h0 o h9 (pc + 3) lv st h2) : zW G M d h0 o h9 pc lv (vI n :: vI dp :: vR r :: vI sp :: vR r0 :: st) h := by
  obtain ⟨a0, rfl, e⟩ := zbind e
  obtain ⟨a, rfl, ⟨⟨k0, k1, kb⟩, ⟨s1, s2, s3⟩, b1, b2, bb⟩, rfl⟩ := zg_okc (r := r) e
  have hm : k ∈ zarrs := by
    simp only [List.mem_cons, List.not_mem_nil, or_false] at hk
    rcases hk with rfl | rfl <;> decide
  have ht : zAt k = .int ∧ k = 50 ∨ zAt k = .byte ∧ k = 53 := by
    simp only [List.mem_cons, List.not_mem_nil, or_false] at hk
    rcases hk with rfl | rfl
    · exact Or.inl ⟨rfl, rfl⟩
    · exact Or.inr ⟨rfl, rfl⟩
  refine zw_copy (h2 := zwI h a (zcpy (zi h a0) (zi h a) sp.toNatClampNeg dp.toNatClampNeg n.toNatClampNeg)) hd hl hdd k0 k1 hm kb s1 s2 s3 b1 b2 (fun i hi => ?_) rfl rfl rfl rfl rfl (fun j => zval_cpyI (by rcases ht with q | q; exact Or.inl q.1; exact Or.inr q.1)) (fun t b i hb => ?_) hw kk
  · rcases ht with ⟨q, q2⟩ | ⟨q, q2⟩
    · rw [q]
      exact ⟨zfitI, fun y hy => nomatch hy⟩
    · rw [q]
      refine ⟨?_, fun y hy => nomatch hy⟩
      have := @zfitB (zi h a0 (sp.toNatClampNeg + i))
      rw [bb q2 i hi] at this
      exact this
  · cases t <;> first | rfl | (show Value.int (zrw (zi h) a _ b i) = _; rw [zrw_n hb]; rfl)
theorem zy_copyR {idx : Nat} {sp dp n : Int32} (hd : decode M.2.1 pc = .ok (.invokestatic idx, 3)) (hl : zlc M.1.cls idx) (hdd : 1 ≤ d) (e : zcpR r0 sp r dp n h = some h2) (hw : (st.map zc).sum ≤ 8) (kk : zW G M d h0 o h9 (pc + 3) lv st h2) : zW G M d h0 o h9 pc lv (vI n :: vI dp :: vR r :: vI sp :: vR r0 :: st) h := by
  obtain ⟨a0, rfl, e⟩ := zbind e
  obtain ⟨a, rfl, ⟨⟨k0, k1, kb⟩, ⟨s1, s2, s3⟩, b1, b2, bb⟩, rfl⟩ := zg_okc (r := r) e
  refine zw_copy (h2 := zwR h a (zcpy (zr h a0) (zr h a) sp.toNatClampNeg dp.toNatClampNeg n.toNatClampNeg)) hd hl hdd k0 k1 (by decide) kb s1 s2 s3 b1 b2 (fun i hi => ⟨rfl, fun y hy => ?_⟩) rfl rfl rfl rfl rfl (fun j => zval_cpyR (c := "java/lang/Object")) (fun t b i hb => ?_) hw kk
  · have hy2 : zr h a0 (sp.toNatClampNeg + i) = some y := by
      have : vR (zr h a0 (sp.toNatClampNeg + i)) = vR (some y) := hy
      cases hz : zr h a0 (sp.toNatClampNeg + i) with
      | none => rw [hz] at this; cases this
      | some z => rw [hz] at this; cases this; rfl
    have := bb i hi
    rw [hy2] at this
    exact zcan_of (by decide) this
  · cases t <;> first | rfl | (show va_rf (zrw (zr h) a _ b i) = _; rw [zrw_n hb]; rfl)
end ZW
