/-! THE z LAYER, 6: instructions of stack and locals (written by gen/rules.py) -/
/-- locals behind a store -/
def zs1 (i : Nat) (v : zV) (lv : zL) : zL := (i, v) :: lv.filter (fun q => !(q.1 == i) && !(q.1 + 1 == i && zc q.2 == 2))
def zs2 (i : Nat) (v : zV) (lv : zL) : zL := (i, v) :: lv.filter (fun q => !(q.1 == i) && (!(q.1 == i + 1) && !(q.1 + 1 == i && zc q.2 == 2)))
theorem zs1_ok (i : Nat) (v : zV) (lv : zL) : (zs1 i v lv).map zvl = (i, zv v) :: (lv.map zvl).filter (fun q => !(q.1 == i) && !(q.1 + 1 == i && q.2.category == 2)) := by
  unfold zs1
  rw [List.map_cons, List.filter_map]
  congr 3
  funext q
  simp [zvl, zc_ok]
theorem zs2_ok (i : Nat) (v : zV) (lv : zL) : (zs2 i v lv).map zvl = (i, zv v) :: (lv.map zvl).filter (fun q => !(q.1 == i) && (!(q.1 == i + 1) && !(q.1 + 1 == i && q.2.category == 2))) := by
  unfold zs2
  rw [List.map_cons, List.filter_map]
  congr 3
  funext q
  simp [zvl, zc_ok]
theorem zat {ls : Array Slot} {nL : Nat} {lv : zL} (h : lv_has ls nL (lv.map zvl)) (k : Nat) {i : Nat} {v : zV} (hk : lv[k]? = some (i, v)) : ls[i]? = some (.val (zv v)) := lv_at h k (by rw [List.getElem?_map, hk]; rfl)
section ZP
variable {G : zG} {M : zM} {d : Nat} {h0 h9 h : zH} {o : zO} {pc : Nat} {lv : zL} {st : List zV}
theorem zw_iconst {n : Int} {v : Int32} (hd : decode M.2.1 pc = .ok (.iconst n, 1)) (hv : Int32.ofInt n = v) (k : zW G M d h0 o h9 (pc + 1) lv (vI v :: st) h) : zW G M d h0 o h9 pc lv (st) h := by
  intro p e R s m args below meth c Q H locs ls C hr h1 hz hs hL hlv
  exact lv_iconst C.1 C.2.1  hd hv (k p e R s m args below meth c Q H locs ls C hr h1 hz hs hL hlv)
theorem zw_bipush {n : Int} {v : Int32} (hd : decode M.2.1 pc = .ok (.bipush n, 2)) (hv : (Int8.ofInt n).toInt32 = v) (k : zW G M d h0 o h9 (pc + 2) lv (vI v :: st) h) : zW G M d h0 o h9 pc lv (st) h := by
  intro p e R s m args below meth c Q H locs ls C hr h1 hz hs hL hlv
  exact lv_bipush C.1 C.2.1  hd hv (k p e R s m args below meth c Q H locs ls C hr h1 hz hs hL hlv)
theorem zw_sipush {n : Int} {v : Int32} (hd : decode M.2.1 pc = .ok (.sipush n, 3)) (hv : (Int16.ofInt n).toInt32 = v) (k : zW G M d h0 o h9 (pc + 3) lv (vI v :: st) h) : zW G M d h0 o h9 pc lv (st) h := by
  intro p e R s m args below meth c Q H locs ls C hr h1 hz hs hL hlv
  exact lv_sipush C.1 C.2.1  hd hv (k p e R s m args below meth c Q H locs ls C hr h1 hz hs hL hlv)
theorem zw_lconst {n : Fin 2} {v : Int64} (hd : decode M.2.1 pc = .ok (.lconst n, 1)) (hv : Int64.ofNat (n : Nat) = v) (k : zW G M d h0 o h9 (pc + 1) lv (vJ v :: st) h) : zW G M d h0 o h9 pc lv (st) h := by
  intro p e R s m args below meth c Q H locs ls C hr h1 hz hs hL hlv
  exact lv_lconst C.1 C.2.1  hd hv (k p e R s m args below meth c Q H locs ls C hr h1 hz hs hL hlv)
theorem zw_iload {i : Nat} {x : Int32} (hd : decode M.2.1 pc = .ok (.iload i, 2)) (n : Nat) (hk : lv[n]? = some (i, vI x)) (k : zW G M d h0 o h9 (pc + 2) lv (vI x :: st) h) : zW G M d h0 o h9 pc lv st h := by
  intro p e R s m args below meth c Q H locs ls C hr h1 hz hs hL hlv
  exact lv_iload C.1 C.2.1 hd (zat hlv n hk) (k p e R s m args below meth c Q H locs ls C hr h1 hz hs hL hlv)
theorem zw_iload_n {j : Fin 4} {i : Nat} {x : Int32} (hd : decode M.2.1 pc = .ok (.iload_n j, 1)) (hi : (j : Nat) = i) (n : Nat) (hk : lv[n]? = some (i, vI x)) (k : zW G M d h0 o h9 (pc + 1) lv (vI x :: st) h) : zW G M d h0 o h9 pc lv st h := by
  intro p e R s m args below meth c Q H locs ls C hr h1 hz hs hL hlv
  exact lv_iload_n C.1 C.2.1 hd hi (zat hlv n hk) (k p e R s m args below meth c Q H locs ls C hr h1 hz hs hL hlv)
theorem zw_lload {i : Nat} {x : Int64} (hd : decode M.2.1 pc = .ok (.lload i, 2)) (n : Nat) (hk : lv[n]? = some (i, vJ x)) (k : zW G M d h0 o h9 (pc + 2) lv (vJ x :: st) h) : zW G M d h0 o h9 pc lv st h := by
  intro p e R s m args below meth c Q H locs ls C hr h1 hz hs hL hlv
  exact lv_lload C.1 C.2.1 hd (zat hlv n hk) (k p e R s m args below meth c Q H locs ls C hr h1 hz hs hL hlv)
theorem zw_lload_n {j : Fin 4} {i : Nat} {x : Int64} (hd : decode M.2.1 pc = .ok (.lload_n j, 1)) (hi : (j : Nat) = i) (n : Nat) (hk : lv[n]? = some (i, vJ x)) (k : zW G M d h0 o h9 (pc + 1) lv (vJ x :: st) h) : zW G M d h0 o h9 pc lv st h := by
  intro p e R s m args below meth c Q H locs ls C hr h1 hz hs hL hlv
  exact lv_lload_n C.1 C.2.1 hd hi (zat hlv n hk) (k p e R s m args below meth c Q H locs ls C hr h1 hz hs hL hlv)
theorem zw_fload {i : Nat} {x : UInt32} (hd : decode M.2.1 pc = .ok (.fload i, 2)) (n : Nat) (hk : lv[n]? = some (i, vF x)) (k : zW G M d h0 o h9 (pc + 2) lv (vF x :: st) h) : zW G M d h0 o h9 pc lv st h := by
  intro p e R s m args below meth c Q H locs ls C hr h1 hz hs hL hlv
  exact lv_fload C.1 C.2.1 hd (zat hlv n hk) (k p e R s m args below meth c Q H locs ls C hr h1 hz hs hL hlv)
theorem zw_fload_n {j : Fin 4} {i : Nat} {x : UInt32} (hd : decode M.2.1 pc = .ok (.fload_n j, 1)) (hi : (j : Nat) = i) (n : Nat) (hk : lv[n]? = some (i, vF x)) (k : zW G M d h0 o h9 (pc + 1) lv (vF x :: st) h) : zW G M d h0 o h9 pc lv st h := by
  intro p e R s m args below meth c Q H locs ls C hr h1 hz hs hL hlv
  exact lv_fload_n C.1 C.2.1 hd hi (zat hlv n hk) (k p e R s m args below meth c Q H locs ls C hr h1 hz hs hL hlv)
theorem zw_dload {i : Nat} {x : UInt64} (hd : decode M.2.1 pc = .ok (.dload i, 2)) (n : Nat) (hk : lv[n]? = some (i, vD x)) (k : zW G M d h0 o h9 (pc + 2) lv (vD x :: st) h) : zW G M d h0 o h9 pc lv st h := by
  intro p e R s m args below meth c Q H locs ls C hr h1 hz hs hL hlv
  exact lv_dload C.1 C.2.1 hd (zat hlv n hk) (k p e R s m args below meth c Q H locs ls C hr h1 hz hs hL hlv)
theorem zw_dload_n {j : Fin 4} {i : Nat} {x : UInt64} (hd : decode M.2.1 pc = .ok (.dload_n j, 1)) (hi : (j : Nat) = i) (n : Nat) (hk : lv[n]? = some (i, vD x)) (k : zW G M d h0 o h9 (pc + 1) lv (vD x :: st) h) : zW G M d h0 o h9 pc lv st h := by
  intro p e R s m args below meth c Q H locs ls C hr h1 hz hs hL hlv
  exact lv_dload_n C.1 C.2.1 hd hi (zat hlv n hk) (k p e R s m args below meth c Q H locs ls C hr h1 hz hs hL hlv)
theorem zw_aload {i : Nat} {x : Option Nat} (hd : decode M.2.1 pc = .ok (.aload i, 2)) (n : Nat) (hk : lv[n]? = some (i, vR x)) (k : zW G M d h0 o h9 (pc + 2) lv (vR x :: st) h) : zW G M d h0 o h9 pc lv st h := by
  intro p e R s m args below meth c Q H locs ls C hr h1 hz hs hL hlv
  cases x with
  | none => exact lv_aloadN C.1 C.2.1 hd (zat hlv n hk) (k p e R s m args below meth c Q H locs ls C hr h1 hz hs hL hlv)
  | some a => exact lv_aload C.1 C.2.1 hd (zat hlv n hk) (k p e R s m args below meth c Q H locs ls C hr h1 hz hs hL hlv)
theorem zw_aload_n {j : Fin 4} {i : Nat} {x : Option Nat} (hd : decode M.2.1 pc = .ok (.aload_n j, 1)) (hi : (j : Nat) = i) (n : Nat) (hk : lv[n]? = some (i, vR x)) (k : zW G M d h0 o h9 (pc + 1) lv (vR x :: st) h) : zW G M d h0 o h9 pc lv st h := by
  intro p e R s m args below meth c Q H locs ls C hr h1 hz hs hL hlv
  cases x with
  | none => exact lv_aload_nN C.1 C.2.1 hd hi (zat hlv n hk) (k p e R s m args below meth c Q H locs ls C hr h1 hz hs hL hlv)
  | some a => exact lv_aload_n C.1 C.2.1 hd hi (zat hlv n hk) (k p e R s m args below meth c Q H locs ls C hr h1 hz hs hL hlv)
theorem zw_istore {i : Nat} {x : Int32} {lv' : zL} (hd : decode M.2.1 pc = .ok (.istore i, 2)) (hn : i < M.2.2.1) (hl : zs1 i (vI x) lv = lv') (k : zW G M d h0 o h9 (pc + 2) lv' st h) : zW G M d h0 o h9 pc lv (vI x :: st) h := by
  intro p e R s m args below meth c Q H locs ls C hr h1 hz hs hL hlv
  exact lv_istore C.1 C.2.1 hd hlv hn rfl (fun ls' hlv' => (k p e R s m args below meth c Q H locs ls' C hr h1 hz hs hL (by rw [← hl, zs1_ok]; exact hlv')))
theorem zw_fstore {i : Nat} {x : UInt32} {lv' : zL} (hd : decode M.2.1 pc = .ok (.fstore i, 2)) (hn : i < M.2.2.1) (hl : zs1 i (vF x) lv = lv') (k : zW G M d h0 o h9 (pc + 2) lv' st h) : zW G M d h0 o h9 pc lv (vF x :: st) h := by
  intro p e R s m args below meth c Q H locs ls C hr h1 hz hs hL hlv
  exact lv_fstore C.1 C.2.1 hd hlv hn rfl (fun ls' hlv' => (k p e R s m args below meth c Q H locs ls' C hr h1 hz hs hL (by rw [← hl, zs1_ok]; exact hlv')))
theorem zw_lstore {i : Nat} {x : Int64} {lv' : zL} (hd : decode M.2.1 pc = .ok (.lstore i, 2)) (hn : i + 1 < M.2.2.1) (hl : zs2 i (vJ x) lv = lv') (k : zW G M d h0 o h9 (pc + 2) lv' st h) : zW G M d h0 o h9 pc lv (vJ x :: st) h := by
  intro p e R s m args below meth c Q H locs ls C hr h1 hz hs hL hlv
  exact lv_lstore C.1 C.2.1 hd hlv hn rfl (fun ls' hlv' => (k p e R s m args below meth c Q H locs ls' C hr h1 hz hs hL (by rw [← hl, zs2_ok]; exact hlv')))
theorem zw_dstore {i : Nat} {x : UInt64} {lv' : zL} (hd : decode M.2.1 pc = .ok (.dstore i, 2)) (hn : i + 1 < M.2.2.1) (hl : zs2 i (vD x) lv = lv') (k : zW G M d h0 o h9 (pc + 2) lv' st h) : zW G M d h0 o h9 pc lv (vD x :: st) h := by
  intro p e R s m args below meth c Q H locs ls C hr h1 hz hs hL hlv
  exact lv_dstore C.1 C.2.1 hd hlv hn rfl (fun ls' hlv' => (k p e R s m args below meth c Q H locs ls' C hr h1 hz hs hL (by rw [← hl, zs2_ok]; exact hlv')))
theorem zw_astore {i : Nat} {x : Option Nat} {lv' : zL} (hd : decode M.2.1 pc = .ok (.astore i, 2)) (hn : i < M.2.2.1) (hl : zs1 i (vR x) lv = lv') (k : zW G M d h0 o h9 (pc + 2) lv' st h) : zW G M d h0 o h9 pc lv (vR x :: st) h := by
  intro p e R s m args below meth c Q H locs ls C hr h1 hz hs hL hlv
  cases x with
  | none => exact lv_astoreN C.1 C.2.1 hd hlv hn rfl (fun ls' hlv' => (k p e R s m args below meth c Q H locs ls' C hr h1 hz hs hL (by rw [← hl, zs1_ok]; exact hlv')))
  | some a => exact lv_astore C.1 C.2.1 hd hlv hn rfl (fun ls' hlv' => (k p e R s m args below meth c Q H locs ls' C hr h1 hz hs hL (by rw [← hl, zs1_ok]; exact hlv')))
theorem zw_istore_n {j : Fin 4} {i : Nat} {x : Int32} {lv' : zL} (hd : decode M.2.1 pc = .ok (.istore_n j, 1)) (hi : (j : Nat) = i) (hn : i < M.2.2.1) (hl : zs1 i (vI x) lv = lv') (k : zW G M d h0 o h9 (pc + 1) lv' st h) : zW G M d h0 o h9 pc lv (vI x :: st) h := by
  intro p e R s m args below meth c Q H locs ls C hr h1 hz hs hL hlv
  exact lv_istore_n C.1 C.2.1 hd hi hlv hn rfl (fun ls' hlv' => (k p e R s m args below meth c Q H locs ls' C hr h1 hz hs hL (by rw [← hl, zs1_ok]; exact hlv')))
theorem zw_fstore_n {j : Fin 4} {i : Nat} {x : UInt32} {lv' : zL} (hd : decode M.2.1 pc = .ok (.fstore_n j, 1)) (hi : (j : Nat) = i) (hn : i < M.2.2.1) (hl : zs1 i (vF x) lv = lv') (k : zW G M d h0 o h9 (pc + 1) lv' st h) : zW G M d h0 o h9 pc lv (vF x :: st) h := by
  intro p e R s m args below meth c Q H locs ls C hr h1 hz hs hL hlv
  exact lv_fstore_n C.1 C.2.1 hd hi hlv hn rfl (fun ls' hlv' => (k p e R s m args below meth c Q H locs ls' C hr h1 hz hs hL (by rw [← hl, zs1_ok]; exact hlv')))
theorem zw_lstore_n {j : Fin 4} {i : Nat} {x : Int64} {lv' : zL} (hd : decode M.2.1 pc = .ok (.lstore_n j, 1)) (hi : (j : Nat) = i) (hn : i + 1 < M.2.2.1) (hl : zs2 i (vJ x) lv = lv') (k : zW G M d h0 o h9 (pc + 1) lv' st h) : zW G M d h0 o h9 pc lv (vJ x :: st) h := by
  intro p e R s m args below meth c Q H locs ls C hr h1 hz hs hL hlv
  exact lv_lstore_n C.1 C.2.1 hd hi hlv hn rfl (fun ls' hlv' => (k p e R s m args below meth c Q H locs ls' C hr h1 hz hs hL (by rw [← hl, zs2_ok]; exact hlv')))
theorem zw_dstore_n {j : Fin 4} {i : Nat} {x : UInt64} {lv' : zL} (hd : decode M.2.1 pc = .ok (.dstore_n j, 1)) (hi : (j : Nat) = i) (hn : i + 1 < M.2.2.1) (hl : zs2 i (vD x) lv = lv') (k : zW G M d h0 o h9 (pc + 1) lv' st h) : zW G M d h0 o h9 pc lv (vD x :: st) h := by
  intro p e R s m args below meth c Q H locs ls C hr h1 hz hs hL hlv
  exact lv_dstore_n C.1 C.2.1 hd hi hlv hn rfl (fun ls' hlv' => (k p e R s m args below meth c Q H locs ls' C hr h1 hz hs hL (by rw [← hl, zs2_ok]; exact hlv')))
theorem zw_astore_n {j : Fin 4} {i : Nat} {x : Option Nat} {lv' : zL} (hd : decode M.2.1 pc = .ok (.astore_n j, 1)) (hi : (j : Nat) = i) (hn : i < M.2.2.1) (hl : zs1 i (vR x) lv = lv') (k : zW G M d h0 o h9 (pc + 1) lv' st h) : zW G M d h0 o h9 pc lv (vR x :: st) h := by
  intro p e R s m args below meth c Q H locs ls C hr h1 hz hs hL hlv
  cases x with
  | none => exact lv_astore_nN C.1 C.2.1 hd hi hlv hn rfl (fun ls' hlv' => (k p e R s m args below meth c Q H locs ls' C hr h1 hz hs hL (by rw [← hl, zs1_ok]; exact hlv')))
  | some a => exact lv_astore_n C.1 C.2.1 hd hi hlv hn rfl (fun ls' hlv' => (k p e R s m args below meth c Q H locs ls' C hr h1 hz hs hL (by rw [← hl, zs1_ok]; exact hlv')))
theorem zw_iinc {i : Nat} {n : Int} {x v : Int32} {lv' : zL} (hd : decode M.2.1 pc = .ok (.iinc i n, 3)) (q : Nat) (hk : lv[q]? = some (i, vI x)) (hv : x + Int32.ofInt n = v) (hn : i < M.2.2.1) (hl : zs1 i (vI v) lv = lv') (k : zW G M d h0 o h9 (pc + 3) lv' st h) : zW G M d h0 o h9 pc lv st h := by
  intro p e R s m args below meth c Q H locs ls C hr h1 hz hs hL hlv
  exact lv_iinc C.1 C.2.1 hd hlv (k := q) (by rw [List.getElem?_map, hk]; rfl) hv hn rfl (fun ls' hlv' => (k p e R s m args below meth c Q H locs ls' C hr h1 hz hs hL (by rw [← hl, zs1_ok]; exact hlv')))
theorem zw_iadd {x y : Int32} (hd : decode M.2.1 pc = .ok (.iadd, 1))  (k : zW G M d h0 o h9 (pc + 1) lv (vI (x + y) :: st) h) : zW G M d h0 o h9 pc lv (vI y :: vI x :: st) h := by
  intro p e R s m args below meth c Q H locs ls C hr h1 hz hs hL hlv
  exact lv_iadd C.1 C.2.1  hd  (k p e R s m args below meth c Q H locs ls C hr h1 hz hs hL hlv)
theorem zw_isub {x y : Int32} (hd : decode M.2.1 pc = .ok (.isub, 1))  (k : zW G M d h0 o h9 (pc + 1) lv (vI (x - y) :: st) h) : zW G M d h0 o h9 pc lv (vI y :: vI x :: st) h := by
  intro p e R s m args below meth c Q H locs ls C hr h1 hz hs hL hlv
  exact lv_isub C.1 C.2.1  hd  (k p e R s m args below meth c Q H locs ls C hr h1 hz hs hL hlv)
theorem zw_imul {x y : Int32} (hd : decode M.2.1 pc = .ok (.imul, 1))  (k : zW G M d h0 o h9 (pc + 1) lv (vI (x * y) :: st) h) : zW G M d h0 o h9 pc lv (vI y :: vI x :: st) h := by
  intro p e R s m args below meth c Q H locs ls C hr h1 hz hs hL hlv
  exact lv_imul C.1 C.2.1  hd  (k p e R s m args below meth c Q H locs ls C hr h1 hz hs hL hlv)
theorem zw_iand {x y : Int32} (hd : decode M.2.1 pc = .ok (.iand, 1))  (k : zW G M d h0 o h9 (pc + 1) lv (vI (x &&& y) :: st) h) : zW G M d h0 o h9 pc lv (vI y :: vI x :: st) h := by
  intro p e R s m args below meth c Q H locs ls C hr h1 hz hs hL hlv
  exact lv_iand C.1 C.2.1  hd  (k p e R s m args below meth c Q H locs ls C hr h1 hz hs hL hlv)
theorem zw_ior {x y : Int32} (hd : decode M.2.1 pc = .ok (.ior, 1))  (k : zW G M d h0 o h9 (pc + 1) lv (vI (x ||| y) :: st) h) : zW G M d h0 o h9 pc lv (vI y :: vI x :: st) h := by
  intro p e R s m args below meth c Q H locs ls C hr h1 hz hs hL hlv
  exact lv_ior C.1 C.2.1  hd  (k p e R s m args below meth c Q H locs ls C hr h1 hz hs hL hlv)
theorem zw_ixor {x y : Int32} (hd : decode M.2.1 pc = .ok (.ixor, 1))  (k : zW G M d h0 o h9 (pc + 1) lv (vI (x ^^^ y) :: st) h) : zW G M d h0 o h9 pc lv (vI y :: vI x :: st) h := by
  intro p e R s m args below meth c Q H locs ls C hr h1 hz hs hL hlv
  exact lv_ixor C.1 C.2.1  hd  (k p e R s m args below meth c Q H locs ls C hr h1 hz hs hL hlv)
theorem zw_ishl {x y : Int32} (hd : decode M.2.1 pc = .ok (.ishl, 1))  (k : zW G M d h0 o h9 (pc + 1) lv (vI (x <<< (y &&& 31)) :: st) h) : zW G M d h0 o h9 pc lv (vI y :: vI x :: st) h := by
  intro p e R s m args below meth c Q H locs ls C hr h1 hz hs hL hlv
  exact lv_ishl C.1 C.2.1  hd  (k p e R s m args below meth c Q H locs ls C hr h1 hz hs hL hlv)
theorem zw_ishr {x y : Int32} (hd : decode M.2.1 pc = .ok (.ishr, 1))  (k : zW G M d h0 o h9 (pc + 1) lv (vI (x >>> (y &&& 31)) :: st) h) : zW G M d h0 o h9 pc lv (vI y :: vI x :: st) h := by
  intro p e R s m args below meth c Q H locs ls C hr h1 hz hs hL hlv
  exact lv_ishr C.1 C.2.1  hd  (k p e R s m args below meth c Q H locs ls C hr h1 hz hs hL hlv)
theorem zw_idiv {x y : Int32} (hd : decode M.2.1 pc = .ok (.idiv, 1)) (hne : ¬ y = 0) (k : zW G M d h0 o h9 (pc + 1) lv (vI (x / y) :: st) h) : zW G M d h0 o h9 pc lv (vI y :: vI x :: st) h := by
  intro p e R s m args below meth c Q H locs ls C hr h1 hz hs hL hlv
  exact lv_idiv C.1 C.2.1  hd hne (k p e R s m args below meth c Q H locs ls C hr h1 hz hs hL hlv)
theorem zw_irem {x y : Int32} (hd : decode M.2.1 pc = .ok (.irem, 1)) (hne : ¬ y = 0) (k : zW G M d h0 o h9 (pc + 1) lv (vI (x - x / y * y) :: st) h) : zW G M d h0 o h9 pc lv (vI y :: vI x :: st) h := by
  intro p e R s m args below meth c Q H locs ls C hr h1 hz hs hL hlv
  exact lv_irem C.1 C.2.1  hd hne (k p e R s m args below meth c Q H locs ls C hr h1 hz hs hL hlv)
theorem zw_iushr {x y : Int32} (hd : decode M.2.1 pc = .ok (.iushr, 1))  (k : zW G M d h0 o h9 (pc + 1) lv (vI ((x.toUInt32 >>> (y.toUInt32 &&& Int32.toUInt32 31)).toInt32) :: st) h) : zW G M d h0 o h9 pc lv (vI y :: vI x :: st) h := by
  intro p e R s m args below meth c Q H locs ls C hr h1 hz hs hL hlv
  exact lv_iushr C.1 C.2.1  hd rfl (k p e R s m args below meth c Q H locs ls C hr h1 hz hs hL hlv)
theorem zw_ineg {x : Int32} (hd : decode M.2.1 pc = .ok (.ineg, 1))  (k : zW G M d h0 o h9 (pc + 1) lv (vI (-x) :: st) h) : zW G M d h0 o h9 pc lv (vI x :: st) h := by
  intro p e R s m args below meth c Q H locs ls C hr h1 hz hs hL hlv
  exact lv_ineg C.1 C.2.1  hd  (k p e R s m args below meth c Q H locs ls C hr h1 hz hs hL hlv)
theorem zw_ladd {x y : Int64} (hd : decode M.2.1 pc = .ok (.ladd, 1))  (k : zW G M d h0 o h9 (pc + 1) lv (vJ (x + y) :: st) h) : zW G M d h0 o h9 pc lv (vJ y :: vJ x :: st) h := by
  intro p e R s m args below meth c Q H locs ls C hr h1 hz hs hL hlv
  exact lv_ladd C.1 C.2.1  hd  (k p e R s m args below meth c Q H locs ls C hr h1 hz hs hL hlv)
theorem zw_lsub {x y : Int64} (hd : decode M.2.1 pc = .ok (.lsub, 1))  (k : zW G M d h0 o h9 (pc + 1) lv (vJ (x - y) :: st) h) : zW G M d h0 o h9 pc lv (vJ y :: vJ x :: st) h := by
  intro p e R s m args below meth c Q H locs ls C hr h1 hz hs hL hlv
  exact lv_lsub C.1 C.2.1  hd  (k p e R s m args below meth c Q H locs ls C hr h1 hz hs hL hlv)
theorem zw_lmul {x y : Int64} (hd : decode M.2.1 pc = .ok (.lmul, 1))  (k : zW G M d h0 o h9 (pc + 1) lv (vJ (x * y) :: st) h) : zW G M d h0 o h9 pc lv (vJ y :: vJ x :: st) h := by
  intro p e R s m args below meth c Q H locs ls C hr h1 hz hs hL hlv
  exact lv_lmul C.1 C.2.1  hd  (k p e R s m args below meth c Q H locs ls C hr h1 hz hs hL hlv)
theorem zw_lor {x y : Int64} (hd : decode M.2.1 pc = .ok (.lor, 1))  (k : zW G M d h0 o h9 (pc + 1) lv (vJ (x ||| y) :: st) h) : zW G M d h0 o h9 pc lv (vJ y :: vJ x :: st) h := by
  intro p e R s m args below meth c Q H locs ls C hr h1 hz hs hL hlv
  exact lv_lor C.1 C.2.1  hd  (k p e R s m args below meth c Q H locs ls C hr h1 hz hs hL hlv)
theorem zw_land {x y : Int64} (hd : decode M.2.1 pc = .ok (.land, 1))  (k : zW G M d h0 o h9 (pc + 1) lv (vJ (x &&& y) :: st) h) : zW G M d h0 o h9 pc lv (vJ y :: vJ x :: st) h := by
  intro p e R s m args below meth c Q H locs ls C hr h1 hz hs hL hlv
  exact lv_land C.1 C.2.1  hd  (k p e R s m args below meth c Q H locs ls C hr h1 hz hs hL hlv)
theorem zw_lshl {x : Int64} {y : Int32} (hd : decode M.2.1 pc = .ok (.lshl, 1))  (k : zW G M d h0 o h9 (pc + 1) lv (vJ (x <<< (y.toInt64 &&& 63)) :: st) h) : zW G M d h0 o h9 pc lv (vI y :: vJ x :: st) h := by
  intro p e R s m args below meth c Q H locs ls C hr h1 hz hs hL hlv
  exact lv_lshl C.1 C.2.1  hd rfl (k p e R s m args below meth c Q H locs ls C hr h1 hz hs hL hlv)
theorem zw_i2l {x : Int32} (hd : decode M.2.1 pc = .ok (.i2l, 1))  (k : zW G M d h0 o h9 (pc + 1) lv (vJ x.toInt64 :: st) h) : zW G M d h0 o h9 pc lv (vI x :: st) h := by
  intro p e R s m args below meth c Q H locs ls C hr h1 hz hs hL hlv
  exact lv_i2l C.1 C.2.1  hd rfl (k p e R s m args below meth c Q H locs ls C hr h1 hz hs hL hlv)
theorem zw_l2i {x : Int64} (hd : decode M.2.1 pc = .ok (.l2i, 1))  (k : zW G M d h0 o h9 (pc + 1) lv (vI x.toInt32 :: st) h) : zW G M d h0 o h9 pc lv (vJ x :: st) h := by
  intro p e R s m args below meth c Q H locs ls C hr h1 hz hs hL hlv
  exact lv_l2i C.1 C.2.1  hd rfl (k p e R s m args below meth c Q H locs ls C hr h1 hz hs hL hlv)
theorem zw_i2b {x : Int32} (hd : decode M.2.1 pc = .ok (.i2b, 1))  (k : zW G M d h0 o h9 (pc + 1) lv (vI x.toInt8.toInt32 :: st) h) : zW G M d h0 o h9 pc lv (vI x :: st) h := by
  intro p e R s m args below meth c Q H locs ls C hr h1 hz hs hL hlv
  exact lv_i2b C.1 C.2.1  hd rfl (k p e R s m args below meth c Q H locs ls C hr h1 hz hs hL hlv)
theorem zw_i2c {x : Int32} (hd : decode M.2.1 pc = .ok (.i2c, 1))  (k : zW G M d h0 o h9 (pc + 1) lv (vI (x.toUInt32 % 65536).toInt32 :: st) h) : zW G M d h0 o h9 pc lv (vI x :: st) h := by
  intro p e R s m args below meth c Q H locs ls C hr h1 hz hs hL hlv
  exact lv_i2c C.1 C.2.1  hd rfl (k p e R s m args below meth c Q H locs ls C hr h1 hz hs hL hlv)
theorem zw_i2f {x : Int32} (hd : decode M.2.1 pc = .ok (.i2f, 1))  (k : zW G M d h0 o h9 (pc + 1) lv (vF (FP.i2f x) :: st) h) : zW G M d h0 o h9 pc lv (vI x :: st) h := by
  intro p e R s m args below meth c Q H locs ls C hr h1 hz hs hL hlv
  exact lv_i2f C.1 C.2.1  hd  (k p e R s m args below meth c Q H locs ls C hr h1 hz hs hL hlv)
theorem zw_i2d {x : Int32} (hd : decode M.2.1 pc = .ok (.i2d, 1))  (k : zW G M d h0 o h9 (pc + 1) lv (vD (FP.i2d x) :: st) h) : zW G M d h0 o h9 pc lv (vI x :: st) h := by
  intro p e R s m args below meth c Q H locs ls C hr h1 hz hs hL hlv
  exact lv_i2d C.1 C.2.1  hd  (k p e R s m args below meth c Q H locs ls C hr h1 hz hs hL hlv)
theorem zw_l2d {x : Int64} (hd : decode M.2.1 pc = .ok (.l2d, 1))  (k : zW G M d h0 o h9 (pc + 1) lv (vD (FP.l2d x) :: st) h) : zW G M d h0 o h9 pc lv (vJ x :: st) h := by
  intro p e R s m args below meth c Q H locs ls C hr h1 hz hs hL hlv
  exact lv_l2d C.1 C.2.1  hd  (k p e R s m args below meth c Q H locs ls C hr h1 hz hs hL hlv)
theorem zw_f2d {x : UInt32} (hd : decode M.2.1 pc = .ok (.f2d, 1)) (hne : vf_n64 (FP.f2d x)) (k : zW G M d h0 o h9 (pc + 1) lv (vD (FP.f2d x) :: st) h) : zW G M d h0 o h9 pc lv (vF x :: st) h := by
  intro p e R s m args below meth c Q H locs ls C hr h1 hz hs hL hlv
  exact lv_f2d C.1 C.2.1  hd hne (k p e R s m args below meth c Q H locs ls C hr h1 hz hs hL hlv)
theorem zw_fdiv {x y : UInt32} (hd : decode M.2.1 pc = .ok (.fdiv, 1)) (hne : vf_n32 (FP.fdiv x y)) (k : zW G M d h0 o h9 (pc + 1) lv (vF (FP.fdiv x y) :: st) h) : zW G M d h0 o h9 pc lv (vF y :: vF x :: st) h := by
  intro p e R s m args below meth c Q H locs ls C hr h1 hz hs hL hlv
  exact lv_fdiv C.1 C.2.1  hd hne (k p e R s m args below meth c Q H locs ls C hr h1 hz hs hL hlv)
theorem zw_ddiv {x y : UInt64} (hd : decode M.2.1 pc = .ok (.ddiv, 1)) (hne : vf_n64 (FP.ddiv x y)) (k : zW G M d h0 o h9 (pc + 1) lv (vD (FP.ddiv x y) :: st) h) : zW G M d h0 o h9 pc lv (vD y :: vD x :: st) h := by
  intro p e R s m args below meth c Q H locs ls C hr h1 hz hs hL hlv
  exact lv_ddiv C.1 C.2.1  hd hne (k p e R s m args below meth c Q H locs ls C hr h1 hz hs hL hlv)
theorem zw_fcmp {x y : UInt32} {op : CmpOp} (hd : decode M.2.1 pc = .ok (.fcmp op, 1))  (k : zW G M d h0 o h9 (pc + 1) lv (vI (Op.cmpValue (FP.fcmp x y) op) :: st) h) : zW G M d h0 o h9 pc lv (vF y :: vF x :: st) h := by
  intro p e R s m args below meth c Q H locs ls C hr h1 hz hs hL hlv
  exact lv_fcmp C.1 C.2.1  hd  (k p e R s m args below meth c Q H locs ls C hr h1 hz hs hL hlv)
theorem zw_dcmp {x y : UInt64} {op : CmpOp} (hd : decode M.2.1 pc = .ok (.dcmp op, 1))  (k : zW G M d h0 o h9 (pc + 1) lv (vI (Op.cmpValue (FP.dcmp x y) op) :: st) h) : zW G M d h0 o h9 pc lv (vD y :: vD x :: st) h := by
  intro p e R s m args below meth c Q H locs ls C hr h1 hz hs hL hlv
  exact lv_dcmp C.1 C.2.1  hd  (k p e R s m args below meth c Q H locs ls C hr h1 hz hs hL hlv)
theorem zw_dup {x : zV} (hd : decode M.2.1 pc = .ok (.dup, 1)) (hx : zc x = 1) (k : zW G M d h0 o h9 (pc + 1) lv (x :: x :: st) h) : zW G M d h0 o h9 pc lv (x :: st) h := by
  intro p e R s m args below meth c Q H locs ls C hr h1 hz hs hL hlv
  exact lv_dup C.1 C.2.1  hd ((zc_ok x).trans hx) (k p e R s m args below meth c Q H locs ls C hr h1 hz hs hL hlv)
theorem zw_pop {x : zV} (hd : decode M.2.1 pc = .ok (.pop, 1)) (hx : zc x = 1) (k : zW G M d h0 o h9 (pc + 1) lv (st) h) : zW G M d h0 o h9 pc lv (x :: st) h := by
  intro p e R s m args below meth c Q H locs ls C hr h1 hz hs hL hlv
  exact lv_pop C.1 C.2.1  hd ((zc_ok x).trans hx) (k p e R s m args below meth c Q H locs ls C hr h1 hz hs hL hlv)
theorem zw_dup_x1 {x y : zV} (hd : decode M.2.1 pc = .ok (.dup_x1, 1)) (hx : zc x = 1) (hy : zc y = 1) (k : zW G M d h0 o h9 (pc + 1) lv (x :: y :: x :: st) h) : zW G M d h0 o h9 pc lv (x :: y :: st) h := by
  intro p e R s m args below meth c Q H locs ls C hr h1 hz hs hL hlv
  exact lv_dup_x1 C.1 C.2.1  hd ((zc_ok x).trans hx) ((zc_ok y).trans hy) (k p e R s m args below meth c Q H locs ls C hr h1 hz hs hL hlv)
theorem zw_dup2 {x y : zV} (hd : decode M.2.1 pc = .ok (.dup2, 1)) (hx : zc x = 1) (hy : zc y = 1) (k : zW G M d h0 o h9 (pc + 1) lv (x :: y :: x :: y :: st) h) : zW G M d h0 o h9 pc lv (x :: y :: st) h := by
  intro p e R s m args below meth c Q H locs ls C hr h1 hz hs hL hlv
  exact lv_dup2_11 C.1 C.2.1  hd ((zc_ok x).trans hx) ((zc_ok y).trans hy) (k p e R s m args below meth c Q H locs ls C hr h1 hz hs hL hlv)
theorem zw_if_eq {x : Int32} {off : Int} {tgt : Nat} (hd : decode M.2.1 pc = .ok (.ifCond .eq off, 3)) (ht : (pc : Int) + off = (tgt : Int)) (kt : x = 0 → zW G M d h0 o h9 tgt lv st h) (kf : ¬ x = 0 → zW G M d h0 o h9 (pc + 3) lv st h) : zW G M d h0 o h9 pc lv (vI x :: st) h := by
  intro p e R s m args below meth c Q H locs ls C hr h1 hz hs hL hlv
  exact lv_if_eq C.1 C.2.1 hd ht (fun q => kt q p e R s m args below meth c Q H locs ls C hr h1 hz hs hL hlv) (fun q => kf q p e R s m args below meth c Q H locs ls C hr h1 hz hs hL hlv)
theorem zw_icmp_eq {x y : Int32} {off : Int} {tgt : Nat} (hd : decode M.2.1 pc = .ok (.if_icmp .eq off, 3)) (ht : (pc : Int) + off = (tgt : Int)) (kt : x = y → zW G M d h0 o h9 tgt lv st h) (kf : ¬ x = y → zW G M d h0 o h9 (pc + 3) lv st h) : zW G M d h0 o h9 pc lv (vI y :: vI x :: st) h := by
  intro p e R s m args below meth c Q H locs ls C hr h1 hz hs hL hlv
  exact lv_icmp_eq C.1 C.2.1 hd ht (fun q => kt q p e R s m args below meth c Q H locs ls C hr h1 hz hs hL hlv) (fun q => kf q p e R s m args below meth c Q H locs ls C hr h1 hz hs hL hlv)
theorem zw_if_ne {x : Int32} {off : Int} {tgt : Nat} (hd : decode M.2.1 pc = .ok (.ifCond .ne off, 3)) (ht : (pc : Int) + off = (tgt : Int)) (kt : ¬ x = 0 → zW G M d h0 o h9 tgt lv st h) (kf : x = 0 → zW G M d h0 o h9 (pc + 3) lv st h) : zW G M d h0 o h9 pc lv (vI x :: st) h := by
  intro p e R s m args below meth c Q H locs ls C hr h1 hz hs hL hlv
  exact lv_if_ne C.1 C.2.1 hd ht (fun q => kt q p e R s m args below meth c Q H locs ls C hr h1 hz hs hL hlv) (fun q => kf q p e R s m args below meth c Q H locs ls C hr h1 hz hs hL hlv)
theorem zw_icmp_ne {x y : Int32} {off : Int} {tgt : Nat} (hd : decode M.2.1 pc = .ok (.if_icmp .ne off, 3)) (ht : (pc : Int) + off = (tgt : Int)) (kt : ¬ x = y → zW G M d h0 o h9 tgt lv st h) (kf : x = y → zW G M d h0 o h9 (pc + 3) lv st h) : zW G M d h0 o h9 pc lv (vI y :: vI x :: st) h := by
  intro p e R s m args below meth c Q H locs ls C hr h1 hz hs hL hlv
  exact lv_icmp_ne C.1 C.2.1 hd ht (fun q => kt q p e R s m args below meth c Q H locs ls C hr h1 hz hs hL hlv) (fun q => kf q p e R s m args below meth c Q H locs ls C hr h1 hz hs hL hlv)
theorem zw_if_lt {x : Int32} {off : Int} {tgt : Nat} (hd : decode M.2.1 pc = .ok (.ifCond .lt off, 3)) (ht : (pc : Int) + off = (tgt : Int)) (kt : x < 0 → zW G M d h0 o h9 tgt lv st h) (kf : ¬ x < 0 → zW G M d h0 o h9 (pc + 3) lv st h) : zW G M d h0 o h9 pc lv (vI x :: st) h := by
  intro p e R s m args below meth c Q H locs ls C hr h1 hz hs hL hlv
  exact lv_if_lt C.1 C.2.1 hd ht (fun q => kt q p e R s m args below meth c Q H locs ls C hr h1 hz hs hL hlv) (fun q => kf q p e R s m args below meth c Q H locs ls C hr h1 hz hs hL hlv)
theorem zw_icmp_lt {x y : Int32} {off : Int} {tgt : Nat} (hd : decode M.2.1 pc = .ok (.if_icmp .lt off, 3)) (ht : (pc : Int) + off = (tgt : Int)) (kt : x < y → zW G M d h0 o h9 tgt lv st h) (kf : ¬ x < y → zW G M d h0 o h9 (pc + 3) lv st h) : zW G M d h0 o h9 pc lv (vI y :: vI x :: st) h := by
  intro p e R s m args below meth c Q H locs ls C hr h1 hz hs hL hlv
  exact lv_icmp_lt C.1 C.2.1 hd ht (fun q => kt q p e R s m args below meth c Q H locs ls C hr h1 hz hs hL hlv) (fun q => kf q p e R s m args below meth c Q H locs ls C hr h1 hz hs hL hlv)
theorem zw_if_ge {x : Int32} {off : Int} {tgt : Nat} (hd : decode M.2.1 pc = .ok (.ifCond .ge off, 3)) (ht : (pc : Int) + off = (tgt : Int)) (kt : 0 ≤ x → zW G M d h0 o h9 tgt lv st h) (kf : ¬ 0 ≤ x → zW G M d h0 o h9 (pc + 3) lv st h) : zW G M d h0 o h9 pc lv (vI x :: st) h := by
  intro p e R s m args below meth c Q H locs ls C hr h1 hz hs hL hlv
  exact lv_if_ge C.1 C.2.1 hd ht (fun q => kt q p e R s m args below meth c Q H locs ls C hr h1 hz hs hL hlv) (fun q => kf q p e R s m args below meth c Q H locs ls C hr h1 hz hs hL hlv)
theorem zw_icmp_ge {x y : Int32} {off : Int} {tgt : Nat} (hd : decode M.2.1 pc = .ok (.if_icmp .ge off, 3)) (ht : (pc : Int) + off = (tgt : Int)) (kt : y ≤ x → zW G M d h0 o h9 tgt lv st h) (kf : ¬ y ≤ x → zW G M d h0 o h9 (pc + 3) lv st h) : zW G M d h0 o h9 pc lv (vI y :: vI x :: st) h := by
  intro p e R s m args below meth c Q H locs ls C hr h1 hz hs hL hlv
  exact lv_icmp_ge C.1 C.2.1 hd ht (fun q => kt q p e R s m args below meth c Q H locs ls C hr h1 hz hs hL hlv) (fun q => kf q p e R s m args below meth c Q H locs ls C hr h1 hz hs hL hlv)
theorem zw_if_gt {x : Int32} {off : Int} {tgt : Nat} (hd : decode M.2.1 pc = .ok (.ifCond .gt off, 3)) (ht : (pc : Int) + off = (tgt : Int)) (kt : 0 < x → zW G M d h0 o h9 tgt lv st h) (kf : ¬ 0 < x → zW G M d h0 o h9 (pc + 3) lv st h) : zW G M d h0 o h9 pc lv (vI x :: st) h := by
  intro p e R s m args below meth c Q H locs ls C hr h1 hz hs hL hlv
  exact lv_if_gt C.1 C.2.1 hd ht (fun q => kt q p e R s m args below meth c Q H locs ls C hr h1 hz hs hL hlv) (fun q => kf q p e R s m args below meth c Q H locs ls C hr h1 hz hs hL hlv)
theorem zw_icmp_gt {x y : Int32} {off : Int} {tgt : Nat} (hd : decode M.2.1 pc = .ok (.if_icmp .gt off, 3)) (ht : (pc : Int) + off = (tgt : Int)) (kt : y < x → zW G M d h0 o h9 tgt lv st h) (kf : ¬ y < x → zW G M d h0 o h9 (pc + 3) lv st h) : zW G M d h0 o h9 pc lv (vI y :: vI x :: st) h := by
  intro p e R s m args below meth c Q H locs ls C hr h1 hz hs hL hlv
  exact lv_icmp_gt C.1 C.2.1 hd ht (fun q => kt q p e R s m args below meth c Q H locs ls C hr h1 hz hs hL hlv) (fun q => kf q p e R s m args below meth c Q H locs ls C hr h1 hz hs hL hlv)
theorem zw_if_le {x : Int32} {off : Int} {tgt : Nat} (hd : decode M.2.1 pc = .ok (.ifCond .le off, 3)) (ht : (pc : Int) + off = (tgt : Int)) (kt : x ≤ 0 → zW G M d h0 o h9 tgt lv st h) (kf : ¬ x ≤ 0 → zW G M d h0 o h9 (pc + 3) lv st h) : zW G M d h0 o h9 pc lv (vI x :: st) h := by
  intro p e R s m args below meth c Q H locs ls C hr h1 hz hs hL hlv
  exact lv_if_le C.1 C.2.1 hd ht (fun q => kt q p e R s m args below meth c Q H locs ls C hr h1 hz hs hL hlv) (fun q => kf q p e R s m args below meth c Q H locs ls C hr h1 hz hs hL hlv)
theorem zw_icmp_le {x y : Int32} {off : Int} {tgt : Nat} (hd : decode M.2.1 pc = .ok (.if_icmp .le off, 3)) (ht : (pc : Int) + off = (tgt : Int)) (kt : x ≤ y → zW G M d h0 o h9 tgt lv st h) (kf : ¬ x ≤ y → zW G M d h0 o h9 (pc + 3) lv st h) : zW G M d h0 o h9 pc lv (vI y :: vI x :: st) h := by
  intro p e R s m args below meth c Q H locs ls C hr h1 hz hs hL hlv
  exact lv_icmp_le C.1 C.2.1 hd ht (fun q => kt q p e R s m args below meth c Q H locs ls C hr h1 hz hs hL hlv) (fun q => kf q p e R s m args below meth c Q H locs ls C hr h1 hz hs hL hlv)
theorem zw_acmp_ne {x y : Option Nat} {off : Int} {tgt : Nat} (hd : decode M.2.1 pc = .ok (.if_acmp .ne off, 3)) (ht : (pc : Int) + off = (tgt : Int)) (kt : ¬ x = y → zW G M d h0 o h9 tgt lv st h) (kf : x = y → zW G M d h0 o h9 (pc + 3) lv st h) : zW G M d h0 o h9 pc lv (vR y :: vR x :: st) h := by
  intro p e R s m args below meth c Q H locs ls C hr h1 hz hs hL hlv
  exact lv_acmp_ne C.1 C.2.1 hd ht (fun q => kt q p e R s m args below meth c Q H locs ls C hr h1 hz hs hL hlv) (fun q => kf q p e R s m args below meth c Q H locs ls C hr h1 hz hs hL hlv)
theorem zw_acmp_eq {x y : Option Nat} {off : Int} {tgt : Nat} (hd : decode M.2.1 pc = .ok (.if_acmp .eq off, 3)) (ht : (pc : Int) + off = (tgt : Int)) (kt : x = y → zW G M d h0 o h9 tgt lv st h) (kf : ¬ x = y → zW G M d h0 o h9 (pc + 3) lv st h) : zW G M d h0 o h9 pc lv (vR y :: vR x :: st) h := by
  intro p e R s m args below meth c Q H locs ls C hr h1 hz hs hL hlv
  exact lv_acmp_eq C.1 C.2.1 hd ht (fun q => kt q p e R s m args below meth c Q H locs ls C hr h1 hz hs hL hlv) (fun q => kf q p e R s m args below meth c Q H locs ls C hr h1 hz hs hL hlv)
theorem zw_goto {off : Int} {tgt : Nat} (hd : decode M.2.1 pc = .ok (.goto off, 3)) (ht : (pc : Int) + off = (tgt : Int)) (k : zW G M d h0 o h9 tgt lv st h) : zW G M d h0 o h9 pc lv st h := by
  intro p e R s m args below meth c Q H locs ls C hr h1 hz hs hL hlv
  exact lv_goto C.1 C.2.1 hd ht (k p e R s m args below meth c Q H locs ls C hr h1 hz hs hL hlv)
theorem zw_ifnull {x : Option Nat} {off : Int} {tgt : Nat} (hd : decode M.2.1 pc = .ok (.ifnull off, 3)) (ht : (pc : Int) + off = (tgt : Int)) (kt : x = none → zW G M d h0 o h9 tgt lv st h) (kf : ¬ x = none → zW G M d h0 o h9 (pc + 3) lv st h) : zW G M d h0 o h9 pc lv (vR x :: st) h := by
  intro p e R s m args below meth c Q H locs ls C hr h1 hz hs hL hlv
  cases x with
  | none => exact lv_ifnullN C.1 C.2.1 hd ht (kt rfl p e R s m args below meth c Q H locs ls C hr h1 hz hs hL hlv)
  | some a => exact lv_ifnull C.1 C.2.1 hd (kf (fun q => nomatch q) p e R s m args below meth c Q H locs ls C hr h1 hz hs hL hlv)
theorem zw_ifnonnull {x : Option Nat} {off : Int} {tgt : Nat} (hd : decode M.2.1 pc = .ok (.ifnonnull off, 3)) (ht : (pc : Int) + off = (tgt : Int)) (kt : ¬ x = none → zW G M d h0 o h9 tgt lv st h) (kf : x = none → zW G M d h0 o h9 (pc + 3) lv st h) : zW G M d h0 o h9 pc lv (vR x :: st) h := by
  intro p e R s m args below meth c Q H locs ls C hr h1 hz hs hL hlv
  cases x with
  | none => exact lv_ifnonnullN C.1 C.2.1 hd (kf rfl p e R s m args below meth c Q H locs ls C hr h1 hz hs hL hlv)
  | some a => exact lv_ifnonnull C.1 C.2.1 hd ht (kt (fun q => nomatch q) p e R s m args below meth c Q H locs ls C hr h1 hz hs hL hlv)
theorem zw_lookup {dflt : Int} {ps : Array (Int × Int)} {len : Nat} {x : Int32} (off : Int) (tgt : Nat) (hd : decode M.2.1 pc = .ok (.lookupswitch dflt ps, len)) (hp : (ps.toList.zip (ps.toList.drop 1)).all (fun (a, next) => a.1 < next.1) = true) (ho : Op.lookupswitch.offset ps.toList dflt x.toInt = off) (ht : (pc : Int) + off = (tgt : Int)) (k : zW G M d h0 o h9 tgt lv st h) : zW G M d h0 o h9 pc lv (vI x :: st) h := by
  intro p e R s m args below meth c Q H locs ls C hr h1 hz hs hL hlv
  exact lv_lookup C.1 C.2.1 hd hp ho ht (k p e R s m args below meth c Q H locs ls C hr h1 hz hs hL hlv)
theorem zw_tableIn {dflt lo hi : Int} {offs : Array Int} {len : Nat} {x : Int32} (off : Int) (tgt : Nat) (hd : decode M.2.1 pc = .ok (.tableswitch dflt lo hi offs, len)) (g1 : ¬ x.toInt < lo) (g2 : ¬ hi < x.toInt) (ho : offs[(x.toInt - lo).toNat]? = some off) (ht : (pc : Int) + off = (tgt : Int)) (k : zW G M d h0 o h9 tgt lv st h) : zW G M d h0 o h9 pc lv (vI x :: st) h := by
  intro p e R s m args below meth c Q H locs ls C hr h1 hz hs hL hlv
  exact lv_tableIn C.1 C.2.1 hd g1 g2 ho ht (k p e R s m args below meth c Q H locs ls C hr h1 hz hs hL hlv)
theorem zw_tableOut {dflt lo hi : Int} {offs : Array Int} {len : Nat} {x : Int32} (tgt : Nat) (hd : decode M.2.1 pc = .ok (.tableswitch dflt lo hi offs, len)) (g1 : x.toInt < lo ∨ hi < x.toInt) (ht : (pc : Int) + dflt = (tgt : Int)) (k : zW G M d h0 o h9 tgt lv st h) : zW G M d h0 o h9 pc lv (vI x :: st) h := by
  intro p e R s m args below meth c Q H locs ls C hr h1 hz hs hL hlv
  exact lv_tableOut C.1 C.2.1 hd g1 ht (k p e R s m args below meth c Q H locs ls C hr h1 hz hs hL hlv)
theorem zw_lcmp {x y : Int64} (hd : decode M.2.1 pc = .ok (.lcmp, 1)) (k : zW G M d h0 o h9 (pc + 1) lv (vI (lg_cmp x y) :: st) h) : zW G M d h0 o h9 pc lv (vJ y :: vJ x :: st) h := by
  intro p e R s m args below meth c Q H locs ls C hr h1 hz hs hL hlv
  exact W.lcmp C.1 C.2.1 hd (k p e R s m args below meth c Q H locs ls C hr h1 hz hs hL hlv)
theorem zw_null (hd : decode M.2.1 pc = .ok (.aconst_null, 1)) (k : zW G M d h0 o h9 (pc + 1) lv (vR none :: st) h) : zW G M d h0 o h9 pc lv st h := by
  intro p e R s m args below meth c Q H locs ls C hr h1 hz hs hL hlv
  exact lv_null C.1 C.2.1 hd (k p e R s m args below meth c Q H locs ls C hr h1 hz hs hL hlv)
theorem zw_fconst0 (hd : decode M.2.1 pc = .ok (.fconst 0, 1)) (k : zW G M d h0 o h9 (pc + 1) lv (vF 0 :: st) h) : zW G M d h0 o h9 pc lv st h := by
  intro p e R s m args below meth c Q H locs ls C hr h1 hz hs hL hlv
  exact lv_fconst0 C.1 C.2.1 hd (k p e R s m args below meth c Q H locs ls C hr h1 hz hs hL hlv)
theorem zw_dconst0 (hd : decode M.2.1 pc = .ok (.dconst 0, 1)) (k : zW G M d h0 o h9 (pc + 1) lv (vD 0 :: st) h) : zW G M d h0 o h9 pc lv st h := by
  intro p e R s m args below meth c Q H locs ls C hr h1 hz hs hL hlv
  exact lv_dconst0 C.1 C.2.1 hd (k p e R s m args below meth c Q H locs ls C hr h1 hz hs hL hlv)
end ZP
