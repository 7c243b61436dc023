/-! ===== L0: rows with names for what is new, as the decompiler (dec.py) uses them ===== -/
set_option maxRecDepth 100000
theorem zlay_len : ∀ (a : List Value) (ls : List (Option Value)), zlay a ls → (lg_sl a).length ≤ ls.length
  | [], ls, _ => Nat.zero_le _
  | v :: vs, ls, h => by
    match ls, h with
    | some w :: r, h =>
      obtain ⟨rfl, h⟩ := h
      rcases h with ⟨hc, h⟩ | ⟨hc, h⟩
      · have := zlay_len vs r h
        have e : lg_sl (w :: vs) = .val w :: lg_sl vs := by simp [lg_sl, hc]
        rw [e]
        simp only [List.length_cons]
        omega
      · match r, h with
        | none :: r2, h =>
          have := zlay_len vs r2 h
          have e : lg_sl (w :: vs) = .val w :: .second :: lg_sl vs := by simp [lg_sl, hc]
          rw [e]
          simp only [List.length_cons]
          omega
theorem zX.of2 {s0 : zE} {M : zM} {d : Nat} {a : List Value} {h : zH} {Q : Value → zH → Prop} {E : Nat → zH → Prop} {ls0 : List (Option Value)} (hh : M.2.2.2.2 = []) (hplain : plainName M.1.cls = true) (hlay : zlay a ls0) (hlen : ls0.length ≤ M.2.2.1)
    (K : zP s0 M d 0 ls0 [] h Q E) : zX s0 M d a h Q E := zX.of hh hplain hlay hlen (Nat.le_trans (zlay_len a ls0 hlay) hlen) K
theorem zlay_n {ls : List (Option Value)} (h : ∀ o ∈ ls, o = none) : zlay [] ls := h
theorem zlay_r {n : Nat} {a : List Value} {ls : List (Option Value)} (h : zlay a ls) : zlay (zr n :: a) (some (zr n) :: ls) := ⟨rfl, Or.inl ⟨zr_cat n, h⟩⟩
theorem zlay_i {x : Int32} {a : List Value} {ls : List (Option Value)} (h : zlay a ls) : zlay (.int x :: a) (some (.int x) :: ls) := ⟨rfl, Or.inl ⟨rfl, h⟩⟩
theorem zlay_j {x : Int64} {a : List Value} {ls : List (Option Value)} (h : zlay a ls) : zlay (.long x :: a) (some (.long x) :: none :: ls) := ⟨rfl, Or.inr ⟨rfl, h⟩⟩
theorem zsw_ne {x y : Int32} (h : ¬ x = y) : ¬ y.toInt = x.toInt := fun e => h (Int32.toInt_inj.mp e.symm)
/-- a thrown cell's class is one of the tables' -/
def zExc (h : zH) (n : Nat) : Prop := ∃ c fs r, h.1 n = some (c, fs) ∧ zcl[c]? = some r
/-- whether the cell at n is of class nm -/
def zIns (s0 : zE) (h : zH) (n : Nat) (nm : String) (b : Int32) : Prop := (n = 0 ∧ b = 0) ∨ (zCast h n nm ∧ b = 1) ∨ (zNot s0 h n nm ∧ b = 0)
theorem qObjI : Cond.instanceMethod Lib.objectInit ∈ lw_all := q348
theorem qObjC : Cond.code Lib.objectInit ⟨#[0xb1]⟩ 1 none ∈ lw_all := q349
section ZX9
variable {s0 : zE} {M : zM} {d pc idx k : Nat} {cs : List Nat} {ls : List (Option Value)} {st : List Value} {h : zH} {Q : Value → zH → Prop} {E : Nat → zH → Prop}
theorem z_inc (i : Nat) {n : Int} {x : Int32} (v : Int32) (k : Int32) (hk : Int32.ofInt n = k) (hl : ls[i]? = some (some (.int x))) (hv : x + k = v) (hp : zpre ls i) (hd : decode M.2.1 pc = .ok (.iinc i n, 3)) (K : zP s0 M d (pc + 3) (ls.set i (some (.int v))) st h Q E) : zP s0 M d pc ls st h Q E := z_iinc i v hl (by rw [hk]; exact hv) hp hd K
theorem zz_put {c : Nat} {v : Value} (hf : zFw M.1.cls idx [c] k) (hd : decode M.2.1 pc = .ok (.putfield idx, 3)) (hold : zold c = false) (hfin : zFin M.1 idx c k) {n : Nat} (g : fC h n c) (hfit : zFit c k v) (K : ∀ h1, h1 = zput h n k v → zP s0 M d (pc + 3) ls st h1 Q E) : zP s0 M d pc ls (v :: zr n :: st) h Q E := z_put hf hd hold hfin g hfit (K _ rfl)
theorem zz_putO {c : Nat} {v : Value} (hf : zFw M.1.cls idx [c] k) (hd : decode M.2.1 pc = .ok (.putfield idx, 3)) (hfin : zFin M.1 idx c k) {n : Nat} (hn : s0.1.heap.size < n) (g : fC h n c) (hfit : zFit c k v) (K : ∀ h1, h1 = zput h n k v → zP s0 M d (pc + 3) ls st h1 Q E) : zP s0 M d pc ls (v :: zr n :: st) h Q E := z_putO hf hd hfin hn g hfit (K _ rfl)
theorem zz_putM {v : Value} (hf : zFw M.1.cls idx cs k) (hd : decode M.2.1 pc = .ok (.putfield idx, 3)) (hold : ∀ c ∈ cs, zold c = false) (hfin : ∀ c ∈ cs, zFin M.1 idx c k) {n : Nat} (g : ∃ c ∈ cs, fC h n c) (hfit : ∀ c ∈ cs, zFit c k v) (K : ∀ h1, h1 = zput h n k v → zP s0 M d (pc + 3) ls st h1 Q E) : zP s0 M d pc ls (v :: zr n :: st) h Q E := z_putM hf hd hold hfin g hfit (K _ rfl)
theorem zz_new {c w : Nat} {r : vw_C} {fs : List Value} (hr : zcl[c]? = some r) (hl : Cond.classLink M.1.cls idx r.1 ∈ lw_all) (hw : Cond.instantiable r.1 w ∈ lw_all) (hlen : fs.length = r.2.2) (hfs : ∀ k, k < r.2.2 → ∃ ty, parseFieldDescriptor (r.2.1 k).2.2.1 = some ty ∧ fs[k]? = some (defaultValue ty))
    (hd : decode M.2.1 pc = .ok (.new idx, 3)) (hroom : zroom s0 h w) (K : ∀ n1, n1 = h.2.1 → ∀ h1, h1 = znew h c fs w → zP s0 M d (pc + 3) ls (zr n1 :: st) h1 Q E) : zP s0 M d pc ls st h Q E := z_new hr hl hw hlen hfs hd hroom (K _ rfl _ rfl)
theorem zz_newarray {atype : ArrayType} {t : Nat} {n : Int32} (ht : zar[t]? = some (newarray.typeOf atype)) (harr : Cond.arrayClass (newarray.typeOf atype) ∈ lw_all) (hcb : componentBytes (newarray.typeOf atype) ≤ 8) (hd : decode M.2.1 pc = .ok (.newarray atype, 2)) (hn : ¬ n < 0) (hroom : zroom s0 h n.toNatClampNeg)
    (K : ∀ n1, n1 = h.2.1 → ∀ h1, h1 = znew h (1000 + t) (List.replicate n.toNatClampNeg (defaultValue (newarray.typeOf atype))) n.toNatClampNeg → zP s0 M d (pc + 2) ls (zr n1 :: st) h1 Q E) : zP s0 M d pc ls (.int n :: st) h Q E := z_newarray ht harr hcb hd hn hroom (K _ rfl _ rfl)
theorem zz_anewarray {t : Nat} {C1 : String} {n : Int32} (ht : zar[t]? = some (.object C1)) (hl : Cond.classLink M.1.cls idx C1 ∈ lw_all) (hov : Cond.arrayOver (.object C1) ∈ lw_tbl) (hd : decode M.2.1 pc = .ok (.anewarray idx, 3)) (hn : ¬ n < 0) (hroom : zroom s0 h n.toNatClampNeg)
    (K : ∀ n1, n1 = h.2.1 → ∀ h1, h1 = znew h (1000 + t) (List.replicate n.toNatClampNeg (zr 0)) n.toNatClampNeg → zP s0 M d (pc + 3) ls (zr n1 :: st) h1 Q E) : zP s0 M d pc ls (.int n :: st) h Q E := z_anewarray ht hl hov hd hn hroom (K _ rfl _ rfl)
theorem zz_anewarrayA {t : Nat} {t1 : FieldType} {n : Int32} (ht : zar[t]? = some (.array t1)) (hl : Cond.classLink M.1.cls idx (FieldType.array t1).toString ∈ lw_all) (hov : Cond.arrayOver (.array t1) ∈ lw_tbl) (hd : decode M.2.1 pc = .ok (.anewarray idx, 3)) (hn : ¬ n < 0) (hroom : zroom s0 h n.toNatClampNeg)
    (K : ∀ n1, n1 = h.2.1 → ∀ h1, h1 = znew h (1000 + t) (List.replicate n.toNatClampNeg (zr 0)) n.toNatClampNeg → zP s0 M d (pc + 3) ls (zr n1 :: st) h1 Q E) : zP s0 M d pc ls (.int n :: st) h Q E := z_anewarrayA ht hl hov hd hn hroom (K _ rfl _ rfl)
theorem zz_istI {n : Nat} {j x : Int32} (hd : decode M.2.1 pc = .ok (.iastore, 1)) (g : fS s0 h n 1 j) (K : ∀ h1, h1 = zput h n j.toNatClampNeg (.int x) → zP s0 M d (pc + 1) ls st h1 Q E) : zP s0 M d pc ls (.int x :: .int j :: zr n :: st) h Q E := z_istI hd g (K _ rfl)
theorem zz_istB {n : Nat} {j x : Int32} (hd : decode M.2.1 pc = .ok (.bastore, 1)) (g : fS s0 h n 0 j) (K : ∀ h1, h1 = zput h n j.toNatClampNeg (narrow .byte (.int x)) → zP s0 M d (pc + 1) ls st h1 Q E) : zP s0 M d pc ls (.int x :: .int j :: zr n :: st) h Q E := z_istB hd g (K _ rfl)
theorem zz_istZ {n : Nat} {j x : Int32} (hd : decode M.2.1 pc = .ok (.bastore, 1)) (g : fS s0 h n 3 j) (K : ∀ h1, h1 = zput h n j.toNatClampNeg (narrow .boolean (.int x)) → zP s0 M d (pc + 1) ls st h1 Q E) : zP s0 M d pc ls (.int x :: .int j :: zr n :: st) h Q E := z_istZ hd g (K _ rfl)
theorem zz_istJ {n : Nat} {j : Int32} {x : Int64} (hd : decode M.2.1 pc = .ok (.lastore, 1)) (g : fS s0 h n 2 j) (K : ∀ h1, h1 = zput h n j.toNatClampNeg (.long x) → zP s0 M d (pc + 1) ls st h1 Q E) : zP s0 M d pc ls (.long x :: .int j :: zr n :: st) h Q E := z_istJ hd g (K _ rfl)
theorem zz_istA {n m t : Nat} {C1 : String} {j : Int32} (ht : zar[t]? = some (.object C1)) (hd : decode M.2.1 pc = .ok (.aastore, 1)) (g : fS s0 h n t j) (hm : m = 0 ∨ zAsg h m (.object C1)) (K : ∀ h1, h1 = zput h n j.toNatClampNeg (zr m) → zP s0 M d (pc + 1) ls st h1 Q E) : zP s0 M d pc ls (zr m :: .int j :: zr n :: st) h Q E := z_istA ht hd g hm (K _ rfl)
theorem zz_istAA {n m t : Nat} {t1 : FieldType} {j : Int32} (ht : zar[t]? = some (.array t1)) (hd : decode M.2.1 pc = .ok (.aastore, 1)) (g : fS s0 h n t j) (hm : zAsg h m (.array t1)) (K : ∀ h1, h1 = zput h n j.toNatClampNeg (zr m) → zP s0 M d (pc + 1) ls st h1 Q E) : zP s0 M d pc ls (zr m :: .int j :: zr n :: st) h Q E := z_istAA ht hd g hm (K _ rfl)
theorem z_instof {n : Nat} {nm : String} {b : Int32} (hl : Cond.classLink M.1.cls idx nm ∈ lw_all) (hd : decode M.2.1 pc = .ok (.instanceof idx, 3)) (g : zIns s0 h n nm b) (K : zP s0 M d (pc + 3) ls (.int b :: st) h Q E) : zP s0 M d pc ls (zr n :: st) h Q E := by
  rcases g with ⟨rfl, rfl⟩ | ⟨g, rfl⟩ | ⟨g, rfl⟩
  · exact z_instof0 hd K
  · exact z_instof1 hl hd g K
  · exact z_instofN hl hd g K
theorem zCx.nz {p : Program} {l : Launch} {e : Env} {R : Room} {s : State} {m : MethodId} {meth : Method} {c : Code} {H : Heap} {n cn : Nat} (C : zCx s0 M d p l e R s m meth c) (hR : s0.2 h H) (g : fC h n cn) : n ≠ 0 := by
  obtain ⟨fs, g⟩ := g
  obtain ⟨a, -, rfl, -⟩ := (C.ro.at hR g).1
  omega
theorem zz_objInit {n cn : Nat} (hl : Cond.methodLink M.1.cls idx Lib.objectInit ∈ lw_all) (hd : decode M.2.1 pc = .ok (.invokespecial idx, 3)) (g : fC h n cn) (hcat : (st.map fun v => v.category).sum ≤ 8)
    (K : zP s0 M (d + 1) (pc + 3) ls st h Q E) : zP s0 M (d + 1) pc ls (zr n :: st) h Q E :=
  fun p l e R s m args below meth c H locs LS C hR h1 h2 hL => z_objInit hl qObjI qObjC hd (C.nz hR g) (Nat.succ_le_succ (Nat.zero_le d)) hcat K p l e R s m args below meth c H locs LS C hR h1 h2 hL
theorem zz_invI {M' : zM} {n cn : Nat} {a : List Value} {Q1 : Value → zH → Prop} {E1 : Nat → zH → Prop} (hok : zMok M' a.length) (hret : M'.2.2.2.1 = none) (hnm : M'.1.name = "<init>") (hl : Cond.methodLink M.1.cls idx M'.1 ∈ lw_all) (hi : Cond.instanceMethod M'.1 ∈ lw_all) (hd : decode M.2.1 pc = .ok (.invokespecial idx, 3)) (g : fC h n cn)
    (hcat : (st.map fun v => v.category).sum ≤ 8) {st' : List Value} (hst : st' = a.reverse ++ zr n :: st) (X : zX s0 M' d (zr n :: a) h Q1 E1)
    (K : ∀ v h1, Q1 v h1 → zP s0 M (d + 1) (pc + 3) ls st h1 Q E) (KE : ∀ n h1, E1 n h1 → zPx s0 M (d + 1) pc ls n h1 Q E) : zP s0 M (d + 1) pc ls st' h Q E :=
  fun p l e R s m args below meth c H locs LS C hR h1 h2 hL => z_invI hok hret hnm hl hi hd (C.nz hR g) (Nat.le_refl _) hcat hst X K KE p l e R s m args below meth c H locs LS C hR h1 h2 hL
theorem zz_invIN {M' : zM} {n cn : Nat} {a : List Value} {host : String} {Q1 : Value → zH → Prop} {E1 : Nat → zH → Prop} (hok : zMok M' a.length) (hret : M'.2.2.2.1 = none) (hnm : M'.1.name = "<init>") (hl : Cond.methodLinkNest M.1.cls idx M'.1 host ∈ lw_tbl) (hi : Cond.instanceMethod M'.1 ∈ lw_all) (hd : decode M.2.1 pc = .ok (.invokespecial idx, 3)) (g : fC h n cn)
    (hcat : (st.map fun v => v.category).sum ≤ 8) {st' : List Value} (hst : st' = a.reverse ++ zr n :: st) (X : zX s0 M' d (zr n :: a) h Q1 E1)
    (K : ∀ v h1, Q1 v h1 → zP s0 M (d + 1) (pc + 3) ls st h1 Q E) (KE : ∀ n h1, E1 n h1 → zPx s0 M (d + 1) pc ls n h1 Q E) : zP s0 M (d + 1) pc ls st' h Q E :=
  fun p l e R s m args below meth c H locs LS C hR h1 h2 hL => z_invIN hok hret hnm hl hi hd (C.nz hR g) (Nat.le_refl _) hcat hst X K KE p l e R s m args below meth c H locs LS C hR h1 h2 hL
end ZX9
