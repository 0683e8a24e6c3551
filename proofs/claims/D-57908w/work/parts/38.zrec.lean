/-! THE z LAYER, 18: recursion over methods; joins of the switch rows -/
def zFR : Nat := 64
theorem zloopD {α : Type} {body : α → α} {bot : α} {P : Nat → α → Prop} (n : Nat) (hb : P 0 bot) (hs : ∀ n f, P n f → P (n + 1) (body f)) : P n (zloop body bot n) := by
  induction n with
  | zero => exact hb
  | succ n ih => exact hs _ _ ih
theorem zlkD {dflt k : Int} {ps : List (Int × Int)} (h : ∀ p ∈ ps, ¬ k = p.1) : Op.lookupswitch.offset ps dflt k = dflt := by
  induction ps with
  | nil => rfl
  | cons p r ih =>
    show (if p.1 = k then p.2 else Op.lookupswitch.offset r dflt k) = dflt
    rw [if_neg (fun e => h p List.mem_cons_self e.symm)]
    exact ih fun q hq => h q (List.mem_cons_of_mem _ hq)
