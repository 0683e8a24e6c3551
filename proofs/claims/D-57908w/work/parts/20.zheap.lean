/-! THE z LAYER, 1: typed heaps, and how the machine's heap holds one -/
/-- base, most cells, most slots, places of String constants, values of reference statics -/
abbrev zE : Type := Nat × Nat × Nat × (Nat → Nat) × (Nat → Option Nat)
/-- environment, size, slots made, kinds, lengths, ints, longs, references, doubles -/
abbrev zH : Type := zE × Nat × Nat × (Nat → Nat) × (Nat → Nat) × (Nat → Nat → Int32) × (Nat → Nat → Int64) × (Nat → Nat → Option Nat) × (Nat → Nat → UInt64)
def zb (h : zH) : Nat := h.1.1
def zCX (h : zH) : Nat := h.1.2.1
def zSX (h : zH) : Nat := h.1.2.2.1
def zst (h : zH) : Nat → Nat := h.1.2.2.2.1
def zsv (h : zH) : Nat → Option Nat := h.1.2.2.2.2
def zz (h : zH) : Nat := h.2.1
def zs (h : zH) : Nat := h.2.2.1
def zk (h : zH) : Nat → Nat := h.2.2.2.1
def zn (h : zH) : Nat → Nat := h.2.2.2.2.1
def zi (h : zH) : Nat → Nat → Int32 := h.2.2.2.2.2.1
def zj (h : zH) : Nat → Nat → Int64 := h.2.2.2.2.2.2.1
def zr (h : zH) : Nat → Nat → Option Nat := h.2.2.2.2.2.2.2.1
def zd (h : zH) : Nat → Nat → UInt64 := h.2.2.2.2.2.2.2.2
/-- one row (a cell's contents) by another -/
def zrw {α : Type} (f : Nat → α) (a : Nat) (v : α) : Nat → α := fun b => if b = a then v else f b
theorem zrw_s {α : Type} {f : Nat → α} {a : Nat} {v : α} : zrw f a v a = v := if_pos rfl
theorem zrw_n {α : Type} {f : Nat → α} {a b : Nat} {v : α} (h : b ≠ a) : zrw f a v b = f b := if_neg h
/-- a cell's ints, longs, references, doubles become others -/
def zwI (h : zH) (a : Nat) (f : Nat → Int32) : zH := (h.1, zz h, zs h, zk h, zn h, zrw (zi h) a f, zj h, zr h, zd h)
def zwJ (h : zH) (a : Nat) (f : Nat → Int64) : zH := (h.1, zz h, zs h, zk h, zn h, zi h, zrw (zj h) a f, zr h, zd h)
def zwR (h : zH) (a : Nat) (f : Nat → Option Nat) : zH := (h.1, zz h, zs h, zk h, zn h, zi h, zj h, zrw (zr h) a f, zd h)
def zwD (h : zH) (a : Nat) (f : Nat → UInt64) : zH := (h.1, zz h, zs h, zk h, zn h, zi h, zj h, zr h, zrw (zd h) a f)
/-- a new cell of kind k with n places, all of them 0; it costs c slots -/
def zAl (h : zH) (k n c : Nat) : zH := (h.1, zz h + 1, zs h + c, zrw (zk h) (zz h) k, zrw (zn h) (zz h) n, zrw (zi h) (zz h) (fun _ => 0), zrw (zj h) (zz h) (fun _ => 0), zrw (zr h) (zz h) (fun _ => none), zrw (zd h) (zz h) (fun _ => 0))
/-- a place of a row -/
def zup {α : Type} (f : Nat → α) (j : Nat) (v : α) : Nat → α := fun i => if i = j then v else f i
theorem zup_s {α : Type} {f : Nat → α} {a : Nat} {v : α} : zup f a v a = v := if_pos rfl
theorem zup_n {α : Type} {f : Nat → α} {a b : Nat} {v : α} (h : b ≠ a) : zup f a v b = f b := if_neg h
/-! kinds: 1..24 objects of the classes in their order, 50.. arrays, 70.. lambdas -/
def zcl : List vw_C := [(RX1, TX1, 9), (RX2, TX2, 2), (RX3, TX3, 5), (RX4, TX4, 46), (RX5, TX5, 12), (RX6, TX6, 8), (RX7, TX7, 6), (RX8, TX8, 2), (RX9, TX9, 1), (RX10, TX10, 1), (RX11, TX11, 1), (RX12, TX12, 1), (RX13, TX13, 2), (RX15, TX15, 2), (RX16, TX16, 4), (RJ18, TJ18, 3), (RJ1, TJ1, 3), (RJ3, TJ3, 4), (RJ4, TJ4, 4), (RJ20, TJ20, 0), (RJ10, TJ10, 0), (RJ9, TJ9, 0)]
def zarr (k : Nat) : Bool := decide (50 ≤ k ∧ k < 70)
/-- the component of an array kind -/
def zAt : Nat → FieldType := fun k => match k with
  | 50 => .int
  | 51 => .long
  | 52 => .double
  | 53 => .byte
  | 60 => .object "java/lang/Object"
  | 61 => .object "CsrCalculator$Csr"
  | 62 => .object "CsrCalculator$Join"
  | _ => .boolean
def zTc : Nat → Nat → FieldType := fun k => match k with
  | 1 => tyX1
  | 2 => tyX2
  | 3 => tyX3
  | 4 => tyX4
  | 5 => tyX5
  | 6 => tyX6
  | 7 => tyX7
  | 8 => tyX8
  | 9 => tyX9
  | 10 => tyX10
  | 11 => tyX11
  | 12 => tyX12
  | 13 => tyX13
  | 14 => tyX15
  | 15 => tyX16
  | 16 => tyJ18
  | 17 => tyJ1
  | 18 => tyJ3
  | 19 => tyJ4
  | 20 => tyJ20
  | 21 => tyJ10
  | 22 => tyJ9
  | _ => fun _ => .object "java/lang/String"
/-- what the lambdas of the 26 sites have caught, in the order of siteWord_1_1 .. -/
def zlamTs : List (List FieldType) := [[(.object "CsrCalculator$Csr")], [(.object "CsrCalculator$Csr")], [(.object "CsrCalculator$Csr"), (.object "CsrCalculator$Csr")], [(.object "CsrCalculator$Csr"), (.object "CsrCalculator$Csr")], [(.object "CsrCalculator$Csr"), .int, .int], [(.object "CsrCalculator$Csr"), .int, .int, .int], [], [], [(.object "CsrCalculator$Csr")], [(.object "CsrCalculator$Csr"), .int], [(.object "CsrCalculator$Csr"), (.object "CsrCalculator$Csr")], [(.object "CsrCalculator$Csr"), (.object "CsrCalculator$Join"), (.object "CsrCalculator$Csr")], [(.object "CsrCalculator$Csr")], [(.object "CsrCalculator$Csr")], [(.object "CsrCalculator$Csr"), .int, .int, .int], [(.object "CsrCalculator$Csr")], [(.object "CsrCalculator$Csr"), .int, .int], [(.object "CsrCalculator$Csr"), .int, .int], [(.object "CsrCalculator$Csr")], [(.object "CsrCalculator$Csr"), .int, .int], [(.object "CsrCalculator$Csr"), .int, .int], [(.object "CsrCalculator$Csr"), .int, .int], [(.object "CsrCalculator$Csr"), .int], [(.object "CsrCalculator$Csr")], [(.object "CsrCalculator$Csr"), (.object "CsrCalculator$Csr")], [(.object "CsrCalculator$Csr"), (.object "CsrCalculator$Csr")]]
