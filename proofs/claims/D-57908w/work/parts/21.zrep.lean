/-! THE z LAYER, 2: the relation to the machine's heap -/
/-- the types of the values that a lambda of kind 70 + i has caught -/
def zLc : Nat → List FieldType := fun i => zlamTs.getD i []
def zT (k : Nat) : Nat → FieldType := if zarr k = true then fun _ => zAt k else if 70 ≤ k then fun j => (zLc (k - 70)).getD j .int else zTc k
/-- how many places a cell of a kind has that is no array -/
def zN (k : Nat) : Nat := if 70 ≤ k then (zLc (k - 70)).length else if k = 23 ∨ k = 24 then 1 else match zcl[k - 1]? with
  | some q => q.2.2
  | none => 0
def zval (t : FieldType) (h : zH) (a j : Nat) : Value := match t with
  | .long => .long (zj h a j)
  | .double => .double (zd h a j)
  | .object _ => va_rf (zr h a j)
  | .array _ => va_rf (zr h a j)
  | _ => .int (zi h a j)
/-- launch, class of a kind, slots of a kind, the heap at the start -/
abbrev zG : Type := Launch × (Nat → ClassId) × (Nat → Nat → Nat) × Heap
/-- what a cell of the machine holds -/
def zCell (G : zG) (h : zH) (H : Heap) (a : Nat) : Prop := ∃ cell : Cell, H[a]? = some cell ∧ cell.cls = G.2.1 (zk h a) ∧ cell.vm = .none ∧ (if zarr (zk h a) = true then cell.slots.size = zn h a else zn h a = zN (zk h a)) ∧ ∀ j, j < zn h a → cell.slots[G.2.2.1 (zk h a) j]? = some (zval (zT (zk h a) j) h a j)
def zRep (G : zG) (h : zH) (H : Heap) : Prop := H.size = zz h ∧ (zb h ≤ zz h ∧ zz h ≤ zCX h ∧ zs h ≤ zSX h) ∧ G.2.2.2.size = zb h ∧ (∀ q : Nat, q < zb h → H[q]? = G.2.2.2[q]?) ∧ ∀ a, zk h a ≠ 0 → zCell G h H a
theorem zCell.lt {G : zG} {h : zH} {H : Heap} {a : Nat} (c : zCell G h H a) : a < H.size := by
  obtain ⟨cell, h1, -⟩ := c
  exact (Array.getElem?_eq_some_iff.mp h1).1
theorem zRep.lt {G : zG} {h : zH} {H : Heap} (r : zRep G h H) {a : Nat} (hk : zk h a ≠ 0) : a < zz h := by
  rw [← r.1]
  exact (r.2.2.2.2 a hk).lt
theorem zRep.out {G : zG} {h : zH} {H : Heap} (r : zRep G h H) {a : Nat} (hk : zz h ≤ a) : zk h a = 0 := by
  by_cases q : zk h a = 0
  · exact q
  · have := r.lt q
    omega
/-- the heap grows or keeps: same kinds and contents, all old cells as they were -/
theorem zRep.same {G : zG} {h : zH} {H H' : Heap} (r : zRep G h H) (e : ∀ q : Nat, H'[q]? = H[q]?) (es : H'.size = H.size) : zRep G h H' := by
  obtain ⟨r1, r2, r3, r4, r5⟩ := r
  refine ⟨es.trans r1, r2, r3, fun q hq => (e q).trans (r4 q hq), fun a ha => ?_⟩
  obtain ⟨cell, h1, h2⟩ := r5 a ha
  exact ⟨cell, (e a).trans h1, h2⟩
/-- one slot of one cell is written -/
theorem zRep.put {G : zG} {h h' : zH} {H H' : Heap} {a j : Nat} {cell : Cell} {v : Value} (r : zRep G h H) (hk : zk h a ≠ 0) (hj : j < zn h a) (hb : zb h ≤ a)
    (hcell : H[a]? = some cell) (hinj : ∀ i, i < zn h a → i ≠ j → G.2.2.1 (zk h a) i ≠ G.2.2.1 (zk h a) j)
    (e1 : H'[a]? = some (cell.setSlot (G.2.2.1 (zk h a) j) v)) (e2 : H'.size = H.size) (e3 : ∀ q, q ≠ a → H'[q]? = H[q]?)
    (g1 : h'.1 = h.1) (g2 : zz h' = zz h) (g9 : zs h' = zs h) (g3 : zk h' = zk h) (g4 : zn h' = zn h) (g5 : zval (zT (zk h a) j) h' a j = v)
    (g6 : ∀ b i, (b ≠ a ∨ (b = a ∧ i ≠ j)) → zval (zT (zk h b) i) h' b i = zval (zT (zk h b) i) h b i) : zRep G h' H' := by
  obtain ⟨r1, r2, r3, r4, r5⟩ := r
  have hbb : zb h' = zb h := by show h'.1.1 = h.1.1; rw [g1]
  have hcx : zCX h' = zCX h := by show h'.1.2.1 = h.1.2.1; rw [g1]
  have hsx : zSX h' = zSX h := by show h'.1.2.2.1 = h.1.2.2.1; rw [g1]
  refine ⟨by rw [e2, g2]; exact r1, by rw [hbb, g2, g9, hcx, hsx]; exact r2, by rw [hbb]; exact r3, fun q hq => ?_, fun b hb2 => ?_⟩
  · rw [hbb] at hq
    rw [e3 q (by omega)]
    exact r4 q hq
  · rw [g3] at hb2
    unfold zCell
    rw [g3, g4]
    by_cases hba : b = a
    · subst hba
      obtain ⟨c1, h1, h2, h3, h4, h5⟩ := r5 b hk
      cases Option.some.inj (h1.symm.trans hcell)
      refine ⟨_, e1, h2, h3, ?_, fun i hi => ?_⟩
      · simpa [Cell.setSlot] using h4
      · by_cases hij : i = j
        · subst hij
          have hlt := (Array.getElem?_eq_some_iff.mp (h5 i hi)).1
          simp only [Cell.setSlot]
          rw [Array.getElem?_setIfInBounds, if_pos rfl, if_pos hlt, g5]
        · simp only [Cell.setSlot]
          rw [Array.getElem?_setIfInBounds, if_neg (Ne.symm (hinj i hi hij)), g6 b i (Or.inr ⟨rfl, hij⟩)]
          exact h5 i hi
    · obtain ⟨c1, h1, h2, h3, h4, h5⟩ := r5 b hb2
      refine ⟨c1, by rw [e3 b hba]; exact h1, h2, h3, h4, fun i hi => ?_⟩
      rw [g6 b i (Or.inl hba)]
      exact h5 i hi
theorem zval_al_old {t : FieldType} {h : zH} {k n c b i : Nat} (hb : b ≠ zz h) : zval t (zAl h k n c) b i = zval t h b i := by
  cases t <;> simp [zval, zAl, zi, zj, zr, zd, zrw_n hb]
theorem zval_al_new {t : FieldType} {h : zH} {k n c i : Nat} (ht : t ≠ .float) : zval t (zAl h k n c) (zz h) i = defaultValue t := by
  cases t <;> simp [zval, zAl, zi, zj, zr, zd, zrw_s, defaultValue, va_rf] at ht ⊢
/-- a cell is made -/
theorem zRep.al {G : zG} {h : zH} {H H' : Heap} {k n c : Nat} {cell : Cell} (r : zRep G h H) (hk : k ≠ 0) (hc9 : zz h + 1 ≤ zCX h) (hs9 : zs h + c ≤ zSX h)
    (e1 : H'[zz h]? = some cell) (e2 : H'.size = H.size + 1) (e3 : ∀ q, q < zz h → H'[q]? = H[q]?)
    (c1 : cell.cls = G.2.1 k) (c2 : cell.vm = .none) (c3 : if zarr k = true then cell.slots.size = n else n = zN k) (ht : ∀ j, j < n → zT k j ≠ .float)
    (c4 : ∀ j, j < n → cell.slots[G.2.2.1 k j]? = some (defaultValue (zT k j))) : zRep G (zAl h k n c) H' := by
  have r' := r
  obtain ⟨r1, r2, r3, r4, r5⟩ := r
  refine ⟨by rw [e2, r1]; rfl, ⟨Nat.le_succ_of_le r2.1, hc9, hs9⟩, r3, fun q hq => ?_, fun b hb => ?_⟩
  · have hq' : q < zb h := hq
    rw [e3 q (Nat.lt_of_lt_of_le hq' r2.1)]
    exact r4 q hq'
  · by_cases hbz : b = zz h
    · subst hbz
      refine ⟨cell, e1, ?_, c2, ?_, fun j hj => ?_⟩
      · show cell.cls = G.2.1 (zrw (zk h) (zz h) k (zz h)); rw [zrw_s]; exact c1
      · show if zarr (zrw (zk h) (zz h) k (zz h)) = true then cell.slots.size = zrw (zn h) (zz h) n (zz h) else zrw (zn h) (zz h) n (zz h) = zN (zrw (zk h) (zz h) k (zz h))
        rw [zrw_s, zrw_s]; exact c3
      · have hj' : j < n := by
          have : j < zrw (zn h) (zz h) n (zz h) := hj
          rwa [zrw_s] at this
        show cell.slots[G.2.2.1 (zrw (zk h) (zz h) k (zz h)) j]? = some (zval (zT (zrw (zk h) (zz h) k (zz h)) j) (zAl h k n c) (zz h) j)
        rw [zrw_s, zval_al_new (ht j hj')]
        exact c4 j hj'
    · have hk1 : zk (zAl h k n c) b = zk h b := zrw_n hbz
      have hn1 : zn (zAl h k n c) b = zn h b := zrw_n hbz
      rw [hk1] at hb
      obtain ⟨c9, h1, h2, h3, h4, h5⟩ := r5 b hb
      refine ⟨c9, by rw [e3 b (r'.lt hb)]; exact h1, by rw [hk1]; exact h2, h3, by rw [hk1, hn1]; exact h4, fun j hj => ?_⟩
      rw [hn1] at hj
      rw [hk1, zval_al_old hbz]
      exact h5 j hj
