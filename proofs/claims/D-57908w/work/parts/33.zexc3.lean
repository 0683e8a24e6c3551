/-! THE z LAYER, 14: new X() of an exception class; copies of arrays; a clone; getClass -/
section ZX3
variable {G : zG} {M : zM} {d : Nat} {h0 h9 h : zH} {o : zO} {pc : Nat} {lv : zL} {st : List zV}
theorem zw_make0 {k ik ic : Nat} (hM : M.1.cls = "CsrCalculator") (hk : (k = 20 ∧ ik = 68 ∧ ic = 138) ∨ (k = 21 ∧ ik = 70 ∧ ic = 139) ∨ (k = 22 ∧ ik = 72 ∧ ic = 140)) (d0 : decode M.2.1 pc = .ok (.new ik, 3)) (d3 : decode M.2.1 (pc + 3) = .ok (.dup, 1)) (d4 : decode M.2.1 (pc + 4) = .ok (.invokespecial ic, 3))
    (hdd : 6 ≤ d) (hw : (st.map zc).sum ≤ 8) (hc : zz h + 1 ≤ zCX h) (hs9 : zs h + 6 ≤ zSX h) (kk : zW G M d h0 o h9 (pc + 7) lv (vR (some (zz h)) :: st) (zAl h k 0 6)) : zW G M d h0 o h9 pc lv st h := by
  intro p e R s m args below meth c Q H locs ls C hr h1 hz hs hL hlv
  have hts := C.2.2.2.2.2.1
  have hF := C.2.2.2.2.2.2.2.2.2.1
  obtain ⟨rf, rl, rc, rs⟩ := C.2.2.2.2.2.2.2.2.2.2.2.1
  have eCX : zCX h = zCX h0 := by show h.1.2.1 = h0.1.2.1; rw [h1]
  have eSX : zSX h = zSX h0 := by show h.1.2.2.1 = h0.1.2.2.1; rw [h1]
  have hown := C.2.2.2.2.1
  rw [hM] at hown
  have hall : (∀ w ∈ vx_at0 "CsrCalculator" ic (zEx k).1 (zEx k).2, w.before args s = true) ∧ (∀ w ∈ Cond.classLink "CsrCalculator" ik (zEx k).1 :: Cond.initialized (zEx k).1 :: vx_at0 "CsrCalculator" ic (zEx k).1 (zEx k).2, vx_ot w = true) ∧ Bundle.fit (zEx k).1 = true ∧ (∀ n ∈ (zEx k).2, Bundle.fit n = true) ∧ Cond.classLink "CsrCalculator" ik (zEx k).1 ∈ lw_all ∧ Cond.initialized (zEx k).1 ∈ lw_all ∧ s.vm.findClass (zEx k).1 = some (G.2.1 k) ∧ (zEx k).2.length = 2 ∧ zarr k = false ∧ zN k = 0 ∧ k ≠ 0 := by
    have split : ∀ (X : String) (L : List Cond), (∀ w ∈ L.filter goodWord, w ∈ lw_all) → (∀ w ∈ L.filter (fun w => !goodWord w), w = Cond.castable X X ∨ ∃ q ∈ zDE, w = Cond.declares q) → (X, X) ∈ zCA → ∀ w ∈ L, w.before args s = true := by
      intro X L g1 g2 g3 w hw
      by_cases g : goodWord w = true
      · exact hts _ (g1 w (List.mem_filter.mpr ⟨hw, g⟩))
      · rcases g2 w (List.mem_filter.mpr ⟨hw, by simpa using g⟩) with rfl | ⟨q, hq, rfl⟩
        · exact va_Nw.use rfl (hF.1.2.2.2.2.1 _ g3)
        · exact va_Nw.use rfl (hF.1.2.2.2.2.2.2.2.2.1 _ hq)
    rcases hk with ⟨rfl, rfl, rfl⟩ | ⟨rfl, rfl, rfl⟩ | ⟨rfl, rfl, rfl⟩
    · exact ⟨split _ _ zat20 zbt20 (by decide), zot20, by decide, by decide, q1540, q219, (hF.1.1 19 _ rfl).2.1, rfl, rfl, rfl, by decide⟩
    · exact ⟨split _ _ zat21 zbt21 (by decide), zot21, by decide, by decide, q607, q194, (hF.1.1 20 _ rfl).2.1, rfl, rfl, rfl, by decide⟩
    · exact ⟨split _ _ zat22 zbt22 (by decide), zot22, by decide, by decide, q568, q193, (hF.1.1 21 _ rfl).2.1, rfl, rfl, rfl, by decide⟩
  obtain ⟨a1, a2, a3, a4, a5, a6, a7, a8, a9, a10, a11⟩ := hall
  have hZ := hF.2.2.2.2.1
  rw [← h1] at hZ
  refine zmake0 C.1 C.2.1 C.2.2.2.2.2.2.2.2.2.2.2.2.2.1 hown a3 a4 (hts _ a5) (hts _ a6) a1 a2 (hZ.1.kept (zkeep hr)) (hZ.2.kept (zkeep hr)) (by rw [hr.1, C.2.2.2.2.2.2.2.2.2.2.1.1]; exact hz) (by rw [C.2.2.2.1]; exact hlv.1) d0 d3 d4 a7 (by rw [a8]; omega) (by rw [a8, zcats]; unfold zlo at rl; omega) (by omega) (by omega) (fun H1 ce e1 e2 e3 e4 e5 => ?_)
  rw [hr.1] at e1 e4 e5
  have hr' : zRep G (zAl h k 0 6) H1 := hr.al a11 hc hs9 e1 (by rw [e4, hr.1]) e5 e2 e3 (by rw [a9, if_neg (by decide), a10]) (fun j hj => absurd hj (Nat.not_lt_zero j)) (fun j hj => absurd hj (Nat.not_lt_zero j))
  have := kk p e R s m args below meth c Q H1 locs ls C hr' h1 (Nat.le_succ_of_le hz) (Nat.le_trans hs (Nat.le_add_right _ _)) hL hlv
  have x1 : zz (zAl h k 0 6) = zz h + 1 := rfl
  have x2 : zs (zAl h k 0 6) = zs h + 6 := rfl
  rw [x1, x2] at this
  rw [show zz h - zz h0 + 1 = zz h + 1 - zz h0 by omega, show zs h - zs h0 + 6 = zs h + 6 - zs h0 by omega, hr.1]
  exact this
end ZX3
