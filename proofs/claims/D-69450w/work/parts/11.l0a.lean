/-! ===== L0: arrays (written by mk_arr.py) ===== -/
set_option maxRecDepth 100000
theorem zar_obj {s0 : State} (h : zT s0) {U : State} (hW : s0.WarmedH U.vm) {t : Nat} {ty : FieldType} (ht : zar[t]? = some ty) : ∃ k comp, U.vm.findClass ("[" ++ ty.toString) = some (zac s0 ty) ∧ U.vm.classes[zac s0 ty]? = some k ∧ k.kind = .array comp ty ∧ (∀ C, ty = .object C → U.vm.findClass C = some comp) ∧ (∀ t, ty = .array t → U.vm.findClass ty.toString = some comp) := by
  obtain ⟨k, comp, h1, h2, h3, h4, h5⟩ := zAk h (zar_ok ty (List.mem_of_getElem? ht))
  have hvm := hW.alike
  obtain ⟨k', hk', he⟩ := hvm.2.2 _ _ h2
  exact ⟨k', comp, by rw [hvm.findClass]; exact h1, hk', by rw [he]; exact h3, fun C hC => by rw [hvm.findClass]; exact h4 C hC, fun t hC => by rw [hvm.findClass]; exact h5 t hC⟩
theorem zarr_is {s0 : State} (h : zT s0) {U : State} (hW : s0.WarmedH U.vm) {t : Nat} {ty : FieldType} (ht : zar[t]? = some ty) {cell : Cell} (hv : ∀ z, cell.vm ≠ .statics z) (hc : cell.cls = zac s0 ty) : U.isArrayOf cell ty := by
  obtain ⟨k, comp, -, h2, h3, -⟩ := zar_obj h hW ht
  exact ⟨hv, k, by rw [hc]; exact h2, comp, h3⟩
/-- an array of the abstract heap, in the machine's -/
theorem zAt.arr {s0 : State} {n t : Nat} {ty : FieldType} {xs : List Value} {H : Heap} (h : zAt s0 n (1000 + t, xs) H) (ht : zar[t]? = some ty) : ∃ (a : Nat) (cell : Cell), n = a + 1 ∧ H[a]? = some cell ∧ cell.vm ≠ .unknown ∧ (∀ z, cell.vm ≠ .statics z) ∧ (s0.heap.size ≤ a → cell.vm = .none) ∧ cell.cls = zac s0 ty ∧ cell.slots.toList = xs := by
  obtain ⟨a, cell, h1, h2, h3, h4, h5, hc⟩ := h
  rcases hc with ⟨r, hr, -⟩ | ⟨ty', -, -, h7, h8, h9⟩ | ⟨r9, h9, -⟩
  · have h71 := (List.getElem?_eq_some_iff.mp hr).1
    rw [zcl_len] at h71
    omega
  · rw [show 1000 + t - 1000 = t by omega] at h7
    cases ht.symm.trans h7
    exact ⟨a, cell, h1, h2, h3, h4, h5, h8, h9⟩
  · have := (List.getElem?_eq_some_iff.mp ht).1
    have h2 : zar.length = 23 := rfl
    simp only at h9
    omega
/-- an index in range -/
def zin (j : Int32) (n : Nat) : Prop := ¬ (j < 0 ∨ n ≤ j.toNatClampNeg)
section ZA1
variable {s0 : zE} {M : zM} {d pc : Nat} {ls : List (Option Value)} {st : List Value} {h : zH} {Q : Value → zH → Prop} {E : Nat → zH → Prop}
theorem z_alen {n t : Nat} {ty : FieldType} {xs : List Value} (ht : zar[t]? = some ty) (hd : decode M.2.1 pc = .ok (.arraylength, 1)) (hn : h.1 n = some (1000 + t, xs)) (K : zP s0 M d (pc + 1) ls (.int (Int32.ofNat xs.length) :: st) h Q E) : zP s0 M d pc ls (zr n :: st) h Q E := by
  intro p l e R s m args below meth c H locs LS C hR h1 h2 hL
  have kk := K _ _ _ _ _ _ args below _ _ _ _ _ C hR h1 h2 hL
  obtain ⟨a, cell, rfl, hcell, -, hst, -, hcls, hxs⟩ := ((C.ro.at hR hn).1).arr ht
  exact W.alen C.1 C.2.1 hcell (zarr_is C.tt C.wm ht hst hcls) (by rw [← hxs, Array.length_toList]) rfl rfl hd kk
theorem zR_putA {H H' : Heap} {a j t : Nat} {ty : FieldType} {cell : Cell} {xs : List Value} {v : Value} (O : zRO s0) (hR : s0.2 h H) (ht : zar[t]? = some ty) (hn : h.1 (a + 1) = some (1000 + t, xs)) (hlo : s0.1.heap.size ≤ a) (hcell : H[a]? = some cell) (v1 : cell.vm ≠ .unknown) (v2 : ∀ z, cell.vm ≠ .statics z) (v3 : s0.1.heap.size ≤ a → cell.vm = .none) (hcls : cell.cls = zac s0.1 ty) (hxs : cell.slots.toList = xs)
    (e1 : H'[a]? = some (cell.setSlot j v)) (e2 : H'.size = H.size) (e3 : ∀ q, q ≠ a → H'[q]? = H[q]?) : s0.2 (zput h (a + 1) j v) H' := by
  have h23 := (List.getElem?_eq_some_iff.mp ht).1
  have h2 : zar.length = 23 := rfl
  refine O.2.2.1 h H H' _ j v a cell _ hR hn (by show 1000 + t < 2000; omega) hlo hcell e1 (by simp [Cell.setSlot]) e2 e3 ?_
  refine ⟨a, _, rfl, e1, v1, v2, v3, Or.inr (Or.inl ⟨ty, by simp, by show 1000 + t < 2000; omega, by show zar[1000 + t - 1000]? = _; rw [show 1000 + t - 1000 = t by omega]; exact ht, hcls, ?_⟩)⟩
  simp [Cell.setSlot, hxs]
theorem z_iaload {n : Nat} {xs : List Value} {j : Int32} {v : Value} (hd : decode M.2.1 pc = .ok (.iaload, 1)) (hn : h.1 n = some (1001, xs)) (hj : zin j xs.length) (hv : xs[j.toNatClampNeg]? = some v) (K : zP s0 M d (pc + 1) ls (v :: st) h Q E) : zP s0 M d pc ls (.int j :: zr n :: st) h Q E := by
  intro p l e R s m args below meth c H locs LS C hR h1 h2 hL
  have kk := K _ _ _ _ _ _ args below _ _ _ _ _ C hR h1 h2 hL
  obtain ⟨a, cell, rfl, hcell, v1, v2, -, hcls, hxs⟩ := zAt.arr (t := 1) ((C.ro.at hR hn).1) rfl
  exact W.iald C.1 C.2.1 hcell (zarr_is (t := 1) C.tt C.wm rfl v2 hcls) v1 (by rw [← Array.length_toList, hxs]; exact hj) (by rw [← Array.getElem?_toList, hxs]; exact hv) rfl rfl hd kk
theorem z_baload {n : Nat} {xs : List Value} {j : Int32} {v : Value} (hd : decode M.2.1 pc = .ok (.baload, 1)) (hn : h.1 n = some (1000, xs)) (hj : zin j xs.length) (hv : xs[j.toNatClampNeg]? = some v) (K : zP s0 M d (pc + 1) ls (v :: st) h Q E) : zP s0 M d pc ls (.int j :: zr n :: st) h Q E := by
  intro p l e R s m args below meth c H locs LS C hR h1 h2 hL
  have kk := K _ _ _ _ _ _ args below _ _ _ _ _ C hR h1 h2 hL
  obtain ⟨a, cell, rfl, hcell, v1, v2, -, hcls, hxs⟩ := zAt.arr (t := 0) ((C.ro.at hR hn).1) rfl
  exact W.bald C.1 C.2.1 hcell (zarr_is (t := 0) C.tt C.wm rfl v2 hcls) v1 (by rw [← Array.length_toList, hxs]; exact hj) (by rw [← Array.getElem?_toList, hxs]; exact hv) rfl rfl hd kk
theorem z_zaload {n : Nat} {xs : List Value} {j : Int32} {v : Value} (hd : decode M.2.1 pc = .ok (.baload, 1)) (hn : h.1 n = some (1003, xs)) (hj : zin j xs.length) (hv : xs[j.toNatClampNeg]? = some v) (K : zP s0 M d (pc + 1) ls (v :: st) h Q E) : zP s0 M d pc ls (.int j :: zr n :: st) h Q E := by
  intro p l e R s m args below meth c H locs LS C hR h1 h2 hL
  have kk := K _ _ _ _ _ _ args below _ _ _ _ _ C hR h1 h2 hL
  obtain ⟨a, cell, rfl, hcell, v1, v2, -, hcls, hxs⟩ := zAt.arr (t := 3) ((C.ro.at hR hn).1) rfl
  exact W.zald C.1 C.2.1 hcell (zarr_is (t := 3) C.tt C.wm rfl v2 hcls) v1 (by rw [← Array.length_toList, hxs]; exact hj) (by rw [← Array.getElem?_toList, hxs]; exact hv) rfl rfl hd kk
theorem z_laload {n : Nat} {xs : List Value} {j : Int32} {v : Value} (hd : decode M.2.1 pc = .ok (.laload, 1)) (hn : h.1 n = some (1002, xs)) (hj : zin j xs.length) (hv : xs[j.toNatClampNeg]? = some v) (K : zP s0 M d (pc + 1) ls (v :: st) h Q E) : zP s0 M d pc ls (.int j :: zr n :: st) h Q E := by
  intro p l e R s m args below meth c H locs LS C hR h1 h2 hL
  have kk := K _ _ _ _ _ _ args below _ _ _ _ _ C hR h1 h2 hL
  obtain ⟨a, cell, rfl, hcell, v1, v2, -, hcls, hxs⟩ := zAt.arr (t := 2) ((C.ro.at hR hn).1) rfl
  exact W.lald C.1 C.2.1 hcell (zarr_is (t := 2) C.tt C.wm rfl v2 hcls) v1 (by rw [← Array.length_toList, hxs]; exact hj) (by rw [← Array.getElem?_toList, hxs]; exact hv) rfl rfl hd kk
theorem z_caload {n : Nat} {xs : List Value} {j : Int32} {v : Value} (hd : decode M.2.1 pc = .ok (.caload, 1)) (hn : h.1 n = some (1004, xs)) (hj : zin j xs.length) (hv : xs[j.toNatClampNeg]? = some v) (K : zP s0 M d (pc + 1) ls (v :: st) h Q E) : zP s0 M d pc ls (.int j :: zr n :: st) h Q E := by
  intro p l e R s m args below meth c H locs LS C hR h1 h2 hL
  have kk := K _ _ _ _ _ _ args below _ _ _ _ _ C hR h1 h2 hL
  obtain ⟨a, cell, rfl, hcell, v1, v2, -, hcls, hxs⟩ := zAt.arr (t := 4) ((C.ro.at hR hn).1) rfl
  exact W.cald C.1 C.2.1 hcell (zarr_is (t := 4) C.tt C.wm rfl v2 hcls) v1 (by rw [← Array.length_toList, hxs]; exact hj) (by rw [← Array.getElem?_toList, hxs]; exact hv) rfl rfl hd kk
theorem z_aaload {n t : Nat} {ty : FieldType} {xs : List Value} {j : Int32} {v : Value} (ht : zar[t]? = some ty) (hty : ty.isReference = true) (hd : decode M.2.1 pc = .ok (.aaload, 1)) (hn : h.1 n = some (1000 + t, xs)) (hj : zin j xs.length) (hv : xs[j.toNatClampNeg]? = some v) (K : zP s0 M d (pc + 1) ls (v :: st) h Q E) : zP s0 M d pc ls (.int j :: zr n :: st) h Q E := by
  intro p l e R s m args below meth c H locs LS C hR h1 h2 hL
  have kk := K _ _ _ _ _ _ args below _ _ _ _ _ C hR h1 h2 hL
  obtain ⟨a, cell, rfl, hcell, v1, v2, -, hcls, hxs⟩ := ((C.ro.at hR hn).1).arr ht
  exact W.aald C.1 C.2.1 hcell (zarr_is C.tt C.wm ht v2 hcls) hty v1 (by rw [← Array.length_toList, hxs]; exact hj) (by rw [← Array.getElem?_toList, hxs]; exact hv) rfl rfl hd kk
theorem z_iastore {n : Nat} {xs : List Value} {j : Int32} {x : Int32} (hd : decode M.2.1 pc = .ok (.iastore, 1)) (hn : h.1 n = some (1001, xs)) (hnew : s0.1.heap.size < n) (hj : zin j xs.length) (K : zP s0 M d (pc + 1) ls st (zput h n j.toNatClampNeg (.int x)) Q E) : zP s0 M d pc ls (.int x :: .int j :: zr n :: st) h Q E := by
  intro p l e R s m args below meth c H locs LS C hR h1 h2 hL
  obtain ⟨a, cell, rfl, hcell, v1, v2, v3, hcls, hxs⟩ := zAt.arr (t := 1) ((C.ro.at hR hn).1) rfl
  have hlo : s0.1.heap.size ≤ a := by omega
  refine W.iast C.1 C.2.1 hcell (zarr_is (t := 1) C.tt C.wm rfl v2 hcls) v1 (by rw [← Array.length_toList, hxs]; exact hj) rfl rfl hd fun H' e1 e2 e3 => ?_
  have hR' : s0.2 (zput h (a + 1) j.toNatClampNeg (.int x)) H' := zR_putA (t := 1) C.ro hR rfl hn hlo hcell v1 v2 v3 hcls hxs e1 e2 e3
  have hw : zwt s0.1 H' = zwt s0.1 H := zwt_put hcell e1 (by simp [Cell.setSlot]) e2 e3
  have kk := K p l e R s m args below meth c H' (locs ++ [⟨a, j.toNatClampNeg⟩]) LS C hR' ⟨by omega, by omega⟩ (fun z hz => by
    rcases List.mem_append.mp hz with hz | hz
    · exact h2 z hz
    · rw [List.mem_singleton.mp hz]; exact hlo) hL
  rw [e2, hw] at kk
  exact kk
theorem z_bastore {n : Nat} {xs : List Value} {j : Int32} {x : Int32} (hd : decode M.2.1 pc = .ok (.bastore, 1)) (hn : h.1 n = some (1000, xs)) (hnew : s0.1.heap.size < n) (hj : zin j xs.length) (K : zP s0 M d (pc + 1) ls st (zput h n j.toNatClampNeg (narrow .byte (.int x))) Q E) : zP s0 M d pc ls (.int x :: .int j :: zr n :: st) h Q E := by
  intro p l e R s m args below meth c H locs LS C hR h1 h2 hL
  obtain ⟨a, cell, rfl, hcell, v1, v2, v3, hcls, hxs⟩ := zAt.arr (t := 0) ((C.ro.at hR hn).1) rfl
  have hlo : s0.1.heap.size ≤ a := by omega
  refine W.bast C.1 C.2.1 hcell (zarr_is (t := 0) C.tt C.wm rfl v2 hcls) v1 (by rw [← Array.length_toList, hxs]; exact hj) rfl rfl hd fun H' e1 e2 e3 => ?_
  have hR' : s0.2 (zput h (a + 1) j.toNatClampNeg (narrow .byte (.int x))) H' := zR_putA (t := 0) C.ro hR rfl hn hlo hcell v1 v2 v3 hcls hxs e1 e2 e3
  have hw : zwt s0.1 H' = zwt s0.1 H := zwt_put hcell e1 (by simp [Cell.setSlot]) e2 e3
  have kk := K p l e R s m args below meth c H' (locs ++ [⟨a, j.toNatClampNeg⟩]) LS C hR' ⟨by omega, by omega⟩ (fun z hz => by
    rcases List.mem_append.mp hz with hz | hz
    · exact h2 z hz
    · rw [List.mem_singleton.mp hz]; exact hlo) hL
  rw [e2, hw] at kk
  exact kk
theorem z_zastore {n : Nat} {xs : List Value} {j : Int32} {x : Int32} (hd : decode M.2.1 pc = .ok (.bastore, 1)) (hn : h.1 n = some (1003, xs)) (hnew : s0.1.heap.size < n) (hj : zin j xs.length) (K : zP s0 M d (pc + 1) ls st (zput h n j.toNatClampNeg (narrow .boolean (.int x))) Q E) : zP s0 M d pc ls (.int x :: .int j :: zr n :: st) h Q E := by
  intro p l e R s m args below meth c H locs LS C hR h1 h2 hL
  obtain ⟨a, cell, rfl, hcell, v1, v2, v3, hcls, hxs⟩ := zAt.arr (t := 3) ((C.ro.at hR hn).1) rfl
  have hlo : s0.1.heap.size ≤ a := by omega
  refine W.zast C.1 C.2.1 hcell (zarr_is (t := 3) C.tt C.wm rfl v2 hcls) v1 (by rw [← Array.length_toList, hxs]; exact hj) rfl rfl hd fun H' e1 e2 e3 => ?_
  have hR' : s0.2 (zput h (a + 1) j.toNatClampNeg (narrow .boolean (.int x))) H' := zR_putA (t := 3) C.ro hR rfl hn hlo hcell v1 v2 v3 hcls hxs e1 e2 e3
  have hw : zwt s0.1 H' = zwt s0.1 H := zwt_put hcell e1 (by simp [Cell.setSlot]) e2 e3
  have kk := K p l e R s m args below meth c H' (locs ++ [⟨a, j.toNatClampNeg⟩]) LS C hR' ⟨by omega, by omega⟩ (fun z hz => by
    rcases List.mem_append.mp hz with hz | hz
    · exact h2 z hz
    · rw [List.mem_singleton.mp hz]; exact hlo) hL
  rw [e2, hw] at kk
  exact kk
theorem z_lastore {n : Nat} {xs : List Value} {j : Int32} {x : Int64} (hd : decode M.2.1 pc = .ok (.lastore, 1)) (hn : h.1 n = some (1002, xs)) (hnew : s0.1.heap.size < n) (hj : zin j xs.length) (K : zP s0 M d (pc + 1) ls st (zput h n j.toNatClampNeg (.long x)) Q E) : zP s0 M d pc ls (.long x :: .int j :: zr n :: st) h Q E := by
  intro p l e R s m args below meth c H locs LS C hR h1 h2 hL
  obtain ⟨a, cell, rfl, hcell, v1, v2, v3, hcls, hxs⟩ := zAt.arr (t := 2) ((C.ro.at hR hn).1) rfl
  have hlo : s0.1.heap.size ≤ a := by omega
  refine W.last C.1 C.2.1 hcell (zarr_is (t := 2) C.tt C.wm rfl v2 hcls) v1 (by rw [← Array.length_toList, hxs]; exact hj) rfl rfl hd fun H' e1 e2 e3 => ?_
  have hR' : s0.2 (zput h (a + 1) j.toNatClampNeg (.long x)) H' := zR_putA (t := 2) C.ro hR rfl hn hlo hcell v1 v2 v3 hcls hxs e1 e2 e3
  have hw : zwt s0.1 H' = zwt s0.1 H := zwt_put hcell e1 (by simp [Cell.setSlot]) e2 e3
  have kk := K p l e R s m args below meth c H' (locs ++ [⟨a, j.toNatClampNeg⟩]) LS C hR' ⟨by omega, by omega⟩ (fun z hz => by
    rcases List.mem_append.mp hz with hz | hz
    · exact h2 z hz
    · rw [List.mem_singleton.mp hz]; exact hlo) hL
  rw [e2, hw] at kk
  exact kk
/-- the cell at m may stand in an array of the type ty: the class of that name, or castable to it, or the array type itself -/
def zAsg (h : zH) (m : Nat) (ty : FieldType) : Prop := ∃ c fs, h.1 m = some (c, fs) ∧ ((∃ r C, zcl[c]? = some r ∧ ty = .object C ∧ (r.1 = C ∨ Cond.castable r.1 C ∈ lw_tbl)) ∨ (∃ t ty2, c = 1000 + t ∧ zar[t]? = some ty2 ∧ ty = .array ty2))
theorem zself (vm : Vm) (c : ClassId) : vm.assignable c c = true := by
  show vm.assignableAux (255 + 1) c c = true
  rw [Vm.assignableAux]
  simp only [beq_self_eq_true, Bool.true_or]
theorem z_aastore {n m t : Nat} {ty : FieldType} {xs : List Value} {j : Int32} (ht : zar[t]? = some ty) (hC : (∃ C, ty = .object C) ∨ (∃ t2, ty = .array t2)) (hd : decode M.2.1 pc = .ok (.aastore, 1)) (hn : h.1 n = some (1000 + t, xs)) (hnew : s0.1.heap.size < n) (hj : zin j xs.length) (hm : (m = 0 ∧ ∃ C, ty = .object C) ∨ zAsg h m ty) (K : zP s0 M d (pc + 1) ls st (zput h n j.toNatClampNeg (zr m)) Q E) : zP s0 M d pc ls (zr m :: .int j :: zr n :: st) h Q E := by
  intro p l e R s m9 args below meth c H locs LS C hR h1 h2 hL
  obtain ⟨a, cell, rfl, hcell, v1, v2, v3, hcls, hxs⟩ := zAt.arr ((C.ro.at hR hn).1) ht
  have hlo : s0.1.heap.size ≤ a := by omega
  have fin : ∀ H' : Heap, H'[a]? = some (cell.setSlot j.toNatClampNeg (zr m)) → H'.size = H.size → (∀ q, q ≠ a → H'[q]? = H[q]?) →
      W p l e R s m9 args below meth c H' (locs ++ [⟨a, j.toNatClampNeg⟩]) (H.size - s.heap.size) (zwt s0.1 H - zwt s0.1 s.heap) (vx_MQ below (zQc s0 M.2.2.2.1 Q) (zXc s0 E) args s R.cells R.slots (fun a => s0.1.heap.size ≤ a)) (F0 m9 (pc + 1) LS st) := by
    intro H' e1 e2 e3
    have hR' : s0.2 (zput h (a + 1) j.toNatClampNeg (zr m)) H' := zR_putA C.ro hR ht hn hlo hcell v1 v2 v3 hcls hxs e1 e2 e3
    have hw : zwt s0.1 H' = zwt s0.1 H := zwt_put hcell e1 (by simp [Cell.setSlot]) e2 e3
    have kk := K p l e R s m9 args below meth c H' (locs ++ [⟨a, j.toNatClampNeg⟩]) LS C hR' ⟨by omega, by omega⟩ (fun z hz => by
      rcases List.mem_append.mp hz with hz | hz
      · exact h2 z hz
      · rw [List.mem_singleton.mp hz]; exact hlo) hL
    rw [e2, hw] at kk
    exact kk
  have hj2 : ¬ (j < 0 ∨ cell.slots.size ≤ j.toNatClampNeg) := by rw [← Array.length_toList, hxs]; exact hj
  rcases hm with ⟨rfl, C1, rfl⟩ | ⟨cv, fv, hv, hcase⟩
  · exact va_WaastN C.1 C.2.1 hcell (zarr_is C.tt C.wm ht v2 hcls) v1 hj2 rfl rfl hd fin
  · obtain ⟨k, comp, -, k2, k3, k4, k5⟩ := zar_obj C.tt C.wm ht
    obtain ⟨b, cellv, rfl, w1, w2, w3, -, wc⟩ := (C.ro.at hR hv).1
    have href : ty.isReference = true := by rcases hC with ⟨_, rfl⟩ | ⟨_, rfl⟩ <;> rfl
    have hcomp : ∃ kc, s.vm.classes[comp]? = some kc := by
      rcases hC with ⟨C1, rfl⟩ | ⟨t2, rfl⟩
      · obtain ⟨kc, hk, -⟩ := Vm.findClass_spec (k4 _ rfl); exact ⟨kc, hk⟩
      · obtain ⟨kc, hk, -⟩ := Vm.findClass_spec (k5 _ rfl); exact ⟨kc, hk⟩
    obtain ⟨kc, hkc⟩ := hcomp
    have hasg : ∃ kv, s.vm.classes[cellv.cls]? = some kv ∧ s.vm.assignable cellv.cls comp = true := by
      rcases hcase with ⟨r, C1, hr, rfl, hcast⟩ | ⟨t2, ty2, rfl, ht2, rfl⟩
      · have hKn := zKU C.tt C.wm hr
        rcases wc with ⟨r', hr', -, wcls, -⟩ | ⟨ty', h9, -⟩ | ⟨r9, h9, -⟩
        · cases hr.symm.trans hr'
          obtain ⟨hfc, kC, hkC, -⟩ := hKn.2
          refine ⟨kC, by rw [wcls]; exact hkC, ?_⟩
          rcases hcast with rfl | hcast
          · cases hfc.symm.trans (k4 _ rfl)
            rw [wcls]
            exact zself _ _
          · obtain ⟨c1, t1, g1, g2, g3⟩ := Cond.castable_spec (va_Nw.use (A := args) rfl ((C.tt.nw hcast rfl).warmC C.wm))
            cases g1.symm.trans hfc
            cases g2.symm.trans (k4 _ rfl)
            rw [wcls]
            exact g3
        · have h71 := zcases hr
          omega
        · have h71 := zcases hr
          omega
      · obtain ⟨a', cell', e1, e2, -, -, -, wcls, -⟩ := zAt.arr ((C.ro.at hR hv).1) ht2
        cases e1
        cases w1.symm.trans e2
        obtain ⟨kv, compv, g1, g2, -⟩ := zar_obj C.tt C.wm ht2
        have e3 : s.vm.findClass ("[" ++ ty2.toString) = some comp := k5 ty2 rfl
        cases g1.symm.trans e3
        exact ⟨kv, by rw [wcls]; exact g2, by rw [wcls]; exact zself _ _⟩
    obtain ⟨kv, hkv, hinst⟩ := hasg
    refine W.aast C.1 C.2.1 hcell v2 v1 (by rw [hcls]; exact k2) k3 href hkc ⟨fun z => hj2 (Or.inl z), Nat.not_le.mp fun z => hj2 (Or.inr z)⟩ w1 w3 hkv hinst rfl rfl hd fin
theorem zAO {U : State} (hT : zT s0.1) (hW : s0.1.WarmedH U.vm) {ty : FieldType} (hw : Cond.arrayOver ty ∈ lw_tbl) {A : Array Value} : (Cond.arrayOver ty).before A U = true := by
  obtain ⟨b0, h9, -⟩ := hT
  have h1 : (Cond.arrayOver ty).before #[Value.ref b0] (s0.1.setVm U.vm) = true := by
    rw [Cond.arrayOver_setVmC hW.alike]
    exact h9 _ hw
  exact h1
theorem zR_newA {H : Heap} {t N : Nat} {ty : FieldType} (O : zRO s0) (hR : s0.2 h H) (ht : zar[t]? = some ty) (hroom : zroom s0 h N) (v : Value) :
    s0.2 (znew h (1000 + t) (List.replicate N v) N) (H.push { cls := zac s0.1 ty, slots := Array.replicate N v, vm := .none }) := by
  have e1 := (O.sz hR).1
  have h23 := (List.getElem?_eq_some_iff.mp ht).1
  have h2 : zar.length = 23 := rfl
  refine O.2.2.2 h H _ { cls := zac s0.1 ty, slots := Array.replicate N v, vm := .none } (1000 + t) _ N hR hroom (by show 1000 + t < 2000; omega) (by simp) (by simp) (fun q hq => by rw [Array.getElem?_push, if_neg (Nat.ne_of_lt hq)]) (by simp) ?_
  exact ⟨H.size, { cls := zac s0.1 ty, slots := Array.replicate N v, vm := .none }, e1.symm, by simp, (fun z => by cases z), (fun z q => by cases q), fun _ => rfl, Or.inr (Or.inl ⟨ty, by simp, by show 1000 + t < 2000; omega, by show zar[1000 + t - 1000]? = _; rw [show 1000 + t - 1000 = t by omega]; exact ht, rfl, by simp⟩)⟩
theorem z_newarray {atype : ArrayType} {t : Nat} {n : Int32} (ht : zar[t]? = some (newarray.typeOf atype)) (harr : Cond.arrayClass (newarray.typeOf atype) ∈ lw_all) (hcb : componentBytes (newarray.typeOf atype) ≤ 8) (hd : decode M.2.1 pc = .ok (.newarray atype, 2)) (hn : ¬ n < 0) (hroom : zroom s0 h n.toNatClampNeg)
    (K : zP s0 M d (pc + 2) ls (zr h.2.1 :: st) (znew h (1000 + t) (List.replicate n.toNatClampNeg (defaultValue (newarray.typeOf atype))) n.toNatClampNeg) Q E) : zP s0 M d pc ls (.int n :: st) h Q E := by
  intro p l e R s m args below meth c H locs LS C hR h1 h2 hL
  obtain ⟨-, -, -, -, -, -, -, -, -, -, -, -, b1, b2, b3, b4⟩ := id C
  have e1 := (C.ro.sz hR).1
  have e4 := (C.ro.sz hR).2.2.2.1
  have hb : n.toNatClampNeg * componentBytes (newarray.typeOf atype) ≤ 536870912 := by
    have q1 := hroom.2
    have q2 : n.toNatClampNeg ≤ 6224387 := by omega
    calc n.toNatClampNeg * componentBytes (newarray.typeOf atype) ≤ 6224387 * 8 := Nat.mul_le_mul q2 hcb
      _ ≤ 536870912 := by decide
  refine W.newa C.1 C.2.1 (C.tt.w harr C.wm) rfl hd rfl hn hb (by have := hroom.1; omega) (by have := hroom.2; omega) fun cA kA comp f1 f2 f3 => ?_
  obtain ⟨k, comp2, g1, -⟩ := zar_obj C.tt C.wm ht
  cases g1.symm.trans f1
  have hR' := zR_newA C.ro hR ht hroom (defaultValue (newarray.typeOf atype))
  have kk := K p l e R s m args below meth c _ locs LS C hR' ⟨by simp; omega, by have := (C.ro.sz hR').2.2.2.1; simp only [znew] at this; omega⟩ h2 hL
  have hx : zr h.2.1 = .ref H.size := by rw [← e1]; rfl
  rw [hx] at kk
  exact zW.tight b4.2.1 kk
theorem z_anewarray {idx t : Nat} {C1 : String} {n : Int32} (ht : zar[t]? = some (.object C1)) (hl : Cond.classLink M.1.cls idx C1 ∈ lw_all) (hov : Cond.arrayOver (.object C1) ∈ lw_tbl) (hd : decode M.2.1 pc = .ok (.anewarray idx, 3)) (hn : ¬ n < 0) (hroom : zroom s0 h n.toNatClampNeg)
    (K : zP s0 M d (pc + 3) ls (zr h.2.1 :: st) (znew h (1000 + t) (List.replicate n.toNatClampNeg (zr 0)) n.toNatClampNeg) Q E) : zP s0 M d pc ls (.int n :: st) h Q E := by
  intro p l e R s m args below meth c H locs LS C hR h1 h2 hL
  obtain ⟨-, -, -, -, -, -, -, -, -, -, -, -, b1, b2, b3, b4⟩ := id C
  have e1 := (C.ro.sz hR).1
  have e4 := (C.ro.sz hR).2.2.2.1
  have hb : n.toNatClampNeg * 4 ≤ 536870912 := by
    have q1 := hroom.2
    omega
  refine W.anew C.1 C.2.1 C.own (C.tt.w hl C.wm) (zAO C.tt C.wm hov) rfl hd rfl hn hb (by have := hroom.1; omega) (by have := hroom.2; omega) fun cA kA comp f1 f2 f3 f4 => ?_
  obtain ⟨k, comp2, g1, -⟩ := zar_obj C.tt C.wm ht
  cases g1.symm.trans f1
  have hR' := zR_newA C.ro hR ht hroom (.null)
  have kk := K p l e R s m args below meth c _ locs LS C hR' ⟨by simp; omega, by have := (C.ro.sz hR').2.2.2.1; simp only [znew] at this; omega⟩ h2 hL
  have hx : zr h.2.1 = .ref H.size := by rw [← e1]; rfl
  rw [hx] at kk
  exact zW.tight b4.2.1 kk
theorem z_anewarrayA {idx t : Nat} {t1 : FieldType} {n : Int32} (ht : zar[t]? = some (.array t1)) (hl : Cond.classLink M.1.cls idx (FieldType.array t1).toString ∈ lw_all) (hov : Cond.arrayOver (.array t1) ∈ lw_tbl) (hd : decode M.2.1 pc = .ok (.anewarray idx, 3)) (hn : ¬ n < 0) (hroom : zroom s0 h n.toNatClampNeg)
    (K : zP s0 M d (pc + 3) ls (zr h.2.1 :: st) (znew h (1000 + t) (List.replicate n.toNatClampNeg (zr 0)) n.toNatClampNeg) Q E) : zP s0 M d pc ls (.int n :: st) h Q E := by
  intro p l e R s m args below meth c H locs LS C hR h1 h2 hL
  obtain ⟨-, -, -, -, -, -, -, -, -, -, -, -, b1, b2, b3, b4⟩ := id C
  have e1 := (C.ro.sz hR).1
  have e4 := (C.ro.sz hR).2.2.2.1
  have hb : n.toNatClampNeg * 4 ≤ 536870912 := by
    have q1 := hroom.2
    omega
  refine W.anewA C.1 C.2.1 C.own (C.tt.w hl C.wm) (zAO C.tt C.wm hov) rfl hd rfl hn hb (by have := hroom.1; omega) (by have := hroom.2; omega) fun cA kA comp f1 f2 f3 f4 => ?_
  obtain ⟨k, comp2, g1, -⟩ := zar_obj C.tt C.wm ht
  cases g1.symm.trans f1
  have hR' := zR_newA C.ro hR ht hroom (.null)
  have kk := K p l e R s m args below meth c _ locs LS C hR' ⟨by simp; omega, by have := (C.ro.sz hR').2.2.2.1; simp only [znew] at this; omega⟩ h2 hL
  have hx : zr h.2.1 = .ref H.size := by rw [← e1]; rfl
  rw [hx] at kk
  exact zW.tight b4.2.1 kk
end ZA1

