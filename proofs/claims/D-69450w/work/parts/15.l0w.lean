/-! ===== L0: typed readers, wrappers ===== -/
set_option maxRecDepth 100000
/-- a cell's field, by value, whole number, long, reference -/
def gV (h : zH) (n k : Nat) : Value := match h.1 n with
  | some q => q.2.getD k .null
  | none => .null
def gI (h : zH) (n k : Nat) : Int32 := zI (gV h n k)
def gJ (h : zH) (n k : Nat) : Int64 := zJ (gV h n k)
def gR (h : zH) (n k : Nat) : Nat := zN (gV h n k)
/-- the cell n is of one of the classes cs, and its field k is v -/
def fV (h : zH) (n : Nat) (cs : List Nat) (k : Nat) (v : Value) : Prop := ∃ q : zC, h.1 n = some q ∧ q.1 ∈ cs ∧ q.2[k]? = some v
abbrev fI (h : zH) (n : Nat) (cs : List Nat) (k : Nat) : Prop := fV h n cs k (.int (gI h n k))
abbrev fJ (h : zH) (n : Nat) (cs : List Nat) (k : Nat) : Prop := fV h n cs k (.long (gJ h n k))
abbrev fR (h : zH) (n : Nat) (cs : List Nat) (k : Nat) : Prop := fV h n cs k (zr (gR h n k))
/-- it is of the class c (any of whose fields may be written) -/
def fC (h : zH) (n : Nat) (c : Nat) : Prop := ∃ fs, h.1 n = some (c, fs)
/-- arrays: the elements, one of them -/
def gA (h : zH) (n : Nat) : List Value := match h.1 n with
  | some q => q.2
  | none => []
def eV (h : zH) (n : Nat) (j : Int32) : Value := (gA h n).getD j.toNatClampNeg .null
def eI (h : zH) (n : Nat) (j : Int32) : Int32 := zI (eV h n j)
def eJ (h : zH) (n : Nat) (j : Int32) : Int64 := zJ (eV h n j)
def eR (h : zH) (n : Nat) (j : Int32) : Nat := zN (eV h n j)
/-- the cell n is an array of type t, j an index of it, and the element v stands there -/
def fE (h : zH) (n t : Nat) (j : Int32) (v : Value) : Prop := fC h n (1000 + t) ∧ zin j (gA h n).length ∧ (gA h n)[j.toNatClampNeg]? = some v
theorem fC.get {h : zH} {n c : Nat} (H : fC h n c) : h.1 n = some (c, gA h n) := by
  obtain ⟨fs, e⟩ := H
  unfold gA
  rw [e]
theorem gV_of {h : zH} {n k : Nat} {q : zC} {v : Value} (e : h.1 n = some q) (hv : q.2[k]? = some v) : gV h n k = v := by
  unfold gV
  rw [e]
  show q.2.getD k .null = v
  rw [List.getD_eq_getElem?_getD, hv]
  rfl
theorem gI_of {h : zH} {n k : Nat} {q : zC} {x : Int32} (e : h.1 n = some q) (hv : q.2[k]? = some (.int x)) : gI h n k = x := by
  unfold gI; rw [gV_of e hv]; rfl
theorem gJ_of {h : zH} {n k : Nat} {q : zC} {x : Int64} (e : h.1 n = some q) (hv : q.2[k]? = some (.long x)) : gJ h n k = x := by
  unfold gJ; rw [gV_of e hv]; rfl
theorem gR_of {h : zH} {n k : Nat} {q : zC} {x : Nat} (e : h.1 n = some q) (hv : q.2[k]? = some (zr x)) : gR h n k = x := by
  unfold gR; rw [gV_of e hv]; exact zN_zr x
theorem fI_of {h : zH} {n k : Nat} {cs : List Nat} {q : zC} {x : Int32} (e : h.1 n = some q) (hc : q.1 ∈ cs) (hv : q.2[k]? = some (.int x)) : fI h n cs k := ⟨q, e, hc, by rw [gI_of e hv]; exact hv⟩
theorem fJ_of {h : zH} {n k : Nat} {cs : List Nat} {q : zC} {x : Int64} (e : h.1 n = some q) (hc : q.1 ∈ cs) (hv : q.2[k]? = some (.long x)) : fJ h n cs k := ⟨q, e, hc, by rw [gJ_of e hv]; exact hv⟩
theorem fR_of {h : zH} {n k : Nat} {cs : List Nat} {q : zC} {x : Nat} (e : h.1 n = some q) (hc : q.1 ∈ cs) (hv : q.2[k]? = some (zr x)) : fR h n cs k := ⟨q, e, hc, by rw [gR_of e hv]; exact hv⟩
theorem zfit_i {c k : Nat} {x : Int32} {r : vw_C} (hr : zcl[c]? = some r) (hd : (r.2.1 k).2.2.1 = "I") : zFit c k (.int x) := ⟨r, .int, hr, by rw [hd]; rfl, rfl, rfl⟩
theorem zfit_j {c k : Nat} {x : Int64} {r : vw_C} (hr : zcl[c]? = some r) (hd : (r.2.1 k).2.2.1 = "J") : zFit c k (.long x) := ⟨r, .long, hr, by rw [hd]; rfl, rfl, rfl⟩
theorem zfit_z {c k : Nat} {x : Int32} {r : vw_C} (hr : zcl[c]? = some r) (hd : (r.2.1 k).2.2.1 = "Z") (hx : x = 0 ∨ x = 1) : zFit c k (.int x) := ⟨r, .boolean, hr, by rw [hd]; rfl, by rcases hx with rfl | rfl <;> rfl, by rcases hx with rfl | rfl <;> rfl⟩
theorem zfit_b {c k : Nat} {x : Int32} {r : vw_C} (hr : zcl[c]? = some r) (hd : (r.2.1 k).2.2.1 = "B") (hx : narrow .byte (.int x) = .int x) (hf : fits .byte (.int x) = true) : zFit c k (.int x) := ⟨r, .byte, hr, by rw [hd]; rfl, hx, hf⟩
theorem zfit_f {c k : Nat} {x : UInt32} {r : vw_C} (hr : zcl[c]? = some r) (hd : (r.2.1 k).2.2.1 = "F") (hx : narrow .float (.float x) = .float x) (hf : fits .float (.float x) = true) : zFit c k (.float x) := ⟨r, .float, hr, by rw [hd]; rfl, hx, hf⟩
theorem zfit_r {c k n : Nat} {r : vw_C} {ty : FieldType} (hr : zcl[c]? = some r) (hd : parseFieldDescriptor (r.2.1 k).2.2.1 = some ty) (ht : ty.isReference = true) : zFit c k (zr n) := by
  refine ⟨r, ty, hr, hd, ?_, ?_⟩
  · cases ty with
    | object s => cases n <;> rfl
    | array t => cases n <;> rfl
    | _ => cases ht
  · cases ty with
    | object s => cases n <;> rfl
    | array t => cases n <;> rfl
    | _ => cases ht
theorem zFw1 {own ref name desc : String} {idx c k : Nat} {r : vw_C} (hl : Cond.fieldLink own idx ref name desc ∈ lw_all ∨ ∃ host, Cond.fieldLinkNest own idx ref name desc host ∈ lw_tbl) (hr : zcl[c]? = some r) (hk : k < r.2.2) (h1 : (r.2.1 k).2.1 = name) (h2 : (r.2.1 k).2.2.1 = desc) (h3 : (r.2.1 k).1 = ref ∨ Cond.sameField ref (r.2.1 k).1 name desc ∈ lw_all) : zFw own idx [c] k :=
  ⟨ref, name, desc, hl, fun c' hc => by rw [List.mem_singleton.mp hc]; exact ⟨r, hr, hk, h1, h2, h3⟩⟩
section ZW
variable {s0 : zE} {M : zM} {d pc idx k : Nat} {cs : List Nat} {ls : List (Option Value)} {st : List Value} {h : zH} {Q : Value → zH → Prop} {E : Nat → zH → Prop}
/-- fewer locals -/
theorem zP.weak {ls' : List (Option Value)} (hl : ls'.length ≤ ls.length) (hw : ∀ (i : Nat) (v : Value), ls'[i]? = some (some v) → ls[i]? = some (some v)) (K : zP s0 M d pc ls' st h Q E) : zP s0 M d pc ls st h Q E :=
  fun p l e R s m args below meth c H locs LS C hR h1 h2 hL => K p l e R s m args below meth c H locs LS C hR h1 h2 ⟨hL.1, hL.2.1, Nat.le_trans hl hL.2.2.1, fun i v hi => hL.2.2.2 i v (hw i v hi)⟩
theorem zsub_nil {ls : List (Option Value)} : ∀ (i : Nat) (v : Value), ([] : List (Option Value))[i]? = some (some v) → ls[i]? = some (some v) := fun i v h => by simp at h
theorem zsub_no {a ls : List (Option Value)} {o : Option Value} (hh : ∀ (i : Nat) (v : Value), a[i]? = some (some v) → ls[i]? = some (some v)) : ∀ (i : Nat) (v : Value), (none :: a)[i]? = some (some v) → (o :: ls)[i]? = some (some v) := fun i v h => by
  cases i with
  | zero => simp at h
  | succ j => simpa using hh j v (by simpa using h)
theorem zsub_so {a ls : List (Option Value)} {w : Value} (hh : ∀ (i : Nat) (v : Value), a[i]? = some (some v) → ls[i]? = some (some v)) : ∀ (i : Nat) (v : Value), (some w :: a)[i]? = some (some v) → (some w :: ls)[i]? = some (some v) := fun i v h => by
  cases i with
  | zero => simpa using h
  | succ j => simpa using hh j v (by simpa using h)
theorem z_get {v : Value} (hf : zFw M.1.cls idx cs k) (hd : decode M.2.1 pc = .ok (.getfield idx, 3)) {n : Nat} (g : fV h n cs k v) (K : zP s0 M d (pc + 3) ls (v :: st) h Q E) : zP s0 M d pc ls (zr n :: st) h Q E := by
  obtain ⟨q, e1, e2, e3⟩ := g
  exact z_getf hf hd e1 e2 e3 K
theorem z_put {c : Nat} {v : Value} (hf : zFw M.1.cls idx [c] k) (hd : decode M.2.1 pc = .ok (.putfield idx, 3)) (hold : zold c = false) (hfin : zFin M.1 idx c k) {n : Nat} (g : fC h n c) (hfit : zFit c k v) (K : zP s0 M d (pc + 3) ls st (zput h n k v) Q E) : zP s0 M d pc ls (v :: zr n :: st) h Q E := by
  obtain ⟨fs, e⟩ := g
  exact z_putf hf hd e (List.mem_singleton.mpr rfl) (Or.inl hold) hfin hfit K
theorem z_putO {c : Nat} {v : Value} (hf : zFw M.1.cls idx [c] k) (hd : decode M.2.1 pc = .ok (.putfield idx, 3)) (hfin : zFin M.1 idx c k) {n : Nat} (hn : s0.1.heap.size < n) (g : fC h n c) (hfit : zFit c k v) (K : zP s0 M d (pc + 3) ls st (zput h n k v) Q E) : zP s0 M d pc ls (v :: zr n :: st) h Q E := by
  obtain ⟨fs, e⟩ := g
  exact z_putf hf hd e (List.mem_singleton.mpr rfl) (Or.inr hn) hfin hfit K
theorem z_putM {v : Value} (hf : zFw M.1.cls idx cs k) (hd : decode M.2.1 pc = .ok (.putfield idx, 3)) (hold : ∀ c ∈ cs, zold c = false) (hfin : ∀ c ∈ cs, zFin M.1 idx c k) {n : Nat} (g : ∃ c ∈ cs, fC h n c) (hfit : ∀ c ∈ cs, zFit c k v) (K : zP s0 M d (pc + 3) ls st (zput h n k v) Q E) : zP s0 M d pc ls (v :: zr n :: st) h Q E := by
  obtain ⟨c, hc, fs, e⟩ := g
  exact z_putf hf hd e hc (Or.inl (hold c hc)) (hfin c hc) (hfit c hc) K
theorem z_len {n t : Nat} {ty : FieldType} (ht : zar[t]? = some ty) (hd : decode M.2.1 pc = .ok (.arraylength, 1)) (g : fC h n (1000 + t)) (K : zP s0 M d (pc + 1) ls (.int (Int32.ofNat (gA h n).length) :: st) h Q E) : zP s0 M d pc ls (zr n :: st) h Q E := z_alen ht hd g.get K
theorem z_ildI {n : Nat} {j : Int32} {v : Value} (hd : decode M.2.1 pc = .ok (.iaload, 1)) (g : fE h n 1 j v) (K : zP s0 M d (pc + 1) ls (v :: st) h Q E) : zP s0 M d pc ls (.int j :: zr n :: st) h Q E := z_iaload hd g.1.get g.2.1 g.2.2 K
theorem z_ildB {n : Nat} {j : Int32} {v : Value} (hd : decode M.2.1 pc = .ok (.baload, 1)) (g : fE h n 0 j v) (K : zP s0 M d (pc + 1) ls (v :: st) h Q E) : zP s0 M d pc ls (.int j :: zr n :: st) h Q E := z_baload hd g.1.get g.2.1 g.2.2 K
theorem z_ildZ {n : Nat} {j : Int32} {v : Value} (hd : decode M.2.1 pc = .ok (.baload, 1)) (g : fE h n 3 j v) (K : zP s0 M d (pc + 1) ls (v :: st) h Q E) : zP s0 M d pc ls (.int j :: zr n :: st) h Q E := z_zaload hd g.1.get g.2.1 g.2.2 K
theorem z_ildJ {n : Nat} {j : Int32} {v : Value} (hd : decode M.2.1 pc = .ok (.laload, 1)) (g : fE h n 2 j v) (K : zP s0 M d (pc + 1) ls (v :: st) h Q E) : zP s0 M d pc ls (.int j :: zr n :: st) h Q E := z_laload hd g.1.get g.2.1 g.2.2 K
theorem z_ildA {n t : Nat} {ty : FieldType} {j : Int32} {v : Value} (ht : zar[t]? = some ty) (hty : ty.isReference = true) (hd : decode M.2.1 pc = .ok (.aaload, 1)) (g : fE h n t j v) (K : zP s0 M d (pc + 1) ls (v :: st) h Q E) : zP s0 M d pc ls (.int j :: zr n :: st) h Q E := z_aaload ht hty hd g.1.get g.2.1 g.2.2 K
/-- the cell n is an array of type t made since the start, and j an index of it -/
def fS (s0 : zE) (h : zH) (n t : Nat) (j : Int32) : Prop := fC h n (1000 + t) ∧ s0.1.heap.size < n ∧ zin j (gA h n).length
theorem z_istI {n : Nat} {j x : Int32} (hd : decode M.2.1 pc = .ok (.iastore, 1)) (g : fS s0 h n 1 j) (K : zP s0 M d (pc + 1) ls st (zput h n j.toNatClampNeg (.int x)) Q E) : zP s0 M d pc ls (.int x :: .int j :: zr n :: st) h Q E := z_iastore hd g.1.get g.2.1 g.2.2 K
theorem z_istB {n : Nat} {j x : Int32} (hd : decode M.2.1 pc = .ok (.bastore, 1)) (g : fS s0 h n 0 j) (K : zP s0 M d (pc + 1) ls st (zput h n j.toNatClampNeg (narrow .byte (.int x))) Q E) : zP s0 M d pc ls (.int x :: .int j :: zr n :: st) h Q E := z_bastore hd g.1.get g.2.1 g.2.2 K
theorem z_istZ {n : Nat} {j x : Int32} (hd : decode M.2.1 pc = .ok (.bastore, 1)) (g : fS s0 h n 3 j) (K : zP s0 M d (pc + 1) ls st (zput h n j.toNatClampNeg (narrow .boolean (.int x))) Q E) : zP s0 M d pc ls (.int x :: .int j :: zr n :: st) h Q E := z_zastore hd g.1.get g.2.1 g.2.2 K
theorem z_istJ {n : Nat} {j : Int32} {x : Int64} (hd : decode M.2.1 pc = .ok (.lastore, 1)) (g : fS s0 h n 2 j) (K : zP s0 M d (pc + 1) ls st (zput h n j.toNatClampNeg (.long x)) Q E) : zP s0 M d pc ls (.long x :: .int j :: zr n :: st) h Q E := z_lastore hd g.1.get g.2.1 g.2.2 K
theorem z_istA {n m t : Nat} {C1 : String} {j : Int32} (ht : zar[t]? = some (.object C1)) (hd : decode M.2.1 pc = .ok (.aastore, 1)) (g : fS s0 h n t j) (hm : m = 0 ∨ zAsg h m (.object C1)) (K : zP s0 M d (pc + 1) ls st (zput h n j.toNatClampNeg (zr m)) Q E) : zP s0 M d pc ls (zr m :: .int j :: zr n :: st) h Q E := z_aastore ht (Or.inl ⟨_, rfl⟩) hd g.1.get g.2.1 g.2.2 (hm.elim (fun e => Or.inl ⟨e, _, rfl⟩) Or.inr) K
theorem z_istAA {n m t : Nat} {t1 : FieldType} {j : Int32} (ht : zar[t]? = some (.array t1)) (hd : decode M.2.1 pc = .ok (.aastore, 1)) (g : fS s0 h n t j) (hm : zAsg h m (.array t1)) (K : zP s0 M d (pc + 1) ls st (zput h n j.toNatClampNeg (zr m)) Q E) : zP s0 M d pc ls (zr m :: .int j :: zr n :: st) h Q E := z_aastore ht (Or.inr ⟨_, rfl⟩) hd g.1.get g.2.1 g.2.2 (Or.inr hm) K
end ZW
