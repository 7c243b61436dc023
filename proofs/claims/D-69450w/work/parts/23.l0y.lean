/-! ===== L0: contracts of methods whose class has natives (Math, Object), of methods with handlers; a throw caught ===== -/
set_option maxRecDepth 100000
theorem vx_ofWF {l : Launch} {y : MethodName} {ws ws' : List Cond} {rm : Room} {Pc : Array Value → State → Prop} {Qc : Array Value → State → Outcome → State → Prop} {XC : String → Addr → State → State → Prop} {mc ms : Nat} {free : Addr → Prop} {cc : ByteArray} {maxL : Nat} {ret : Option FieldType}
    (hy : plainFor y = true) (hw : ws = Cond.code y cc maxL ret :: ws')
    (body : ∀ p e s m args below meth c s₁, BodyLoose p l y (headSpec ws rm) cc maxL ret e s m args below meth c s₁ → c.maxLocals = maxL → (∀ x ∈ c.exceptionTable.toList, False) → Pc args s →
      W p l e (headSpec ws rm).room s m args below meth c s.heap [] 0 0 (vx_MQ below Qc XC args s mc ms free) (entryFrame m args maxL)) : vx_Met l y ws rm Pc Qc XC mc ms free := by
  refine MetFree.of_bodySF (code := cc) (maxLocals := maxL) (ret := ret) hy ?_ ?_
  · intro args s m h hn
    obtain ⟨meth, c, h1, h2, h3, h4, h5, h6, -, -⟩ := Cond.code_spec hn (atoms_spec (ws := ws) h _ (by rw [hw]; exact List.mem_cons_self))
    exact ⟨meth, c, h1, h2, h3, h4, h5, h6⟩
  · intro p e s m args below meth c s₁ B hml hP _
    have hh0 : s₁.heap = s.heap := by rw [B.state]; rfl
    have ht : ∀ x ∈ c.exceptionTable.toList, False := by
      obtain ⟨meth9, c9, h1, h2, -, -, -, -, h7, -⟩ := Cond.code_spec B.named (atoms_spec (ws := ws) B.pre _ (by rw [hw]; exact List.mem_cons_self))
      cases Option.some.inj (h1.symm.trans B.method)
      cases Option.some.inj (h2.symm.trans (Stand.of_body B).code)
      intro x hx
      rw [Array.isEmpty_iff.mp h7] at hx
      cases hx
    obtain ⟨t, a1, o, b1, b2, b3⟩ := body p e s m args below meth c s₁ B hml ht hP s₁ hh0 (Stand.of_body B)
    exact ⟨t, o, a1, b1, b2, b3⟩
theorem zX.ofF {s0 : zE} {M : zM} {d : Nat} {a : List Value} {h : zH} {Q : Value → zH → Prop} {E : Nat → zH → Prop} {ls0 : List (Option Value)} (hh : M.2.2.2.2 = []) (hplain : plainFor M.1 = true) (hlay : zlay a ls0) (hlen : ls0.length ≤ M.2.2.1)
    (K : zP s0 M d 0 ls0 [] h Q E) : zX s0 M d a h Q E := by
  have hsl : (lg_sl a).length ≤ M.2.2.1 := Nat.le_trans (zlay_len a ls0 hlay) hlen
  intro l hflags
  have hz : zcode M = .code M.1 M.2.1 M.2.2.1 M.2.2.2.1 := by unfold zcode; rw [hh]
  rw [hz]
  refine vx_ofWF (cc := M.2.1) (maxL := M.2.2.1) (ret := M.2.2.2.1) (ws' := []) hplain rfl ?_
  intro p e s m args below meth c s₁ B hml hno hv
  obtain ⟨rfl, hR, hW, hT, hO⟩ := hv
  have hl := lv_entry a hsl
  rw [lg_entry_eq]
  have hb := zcells (d := d) hO hR
  have htab : c.exceptionTable.toList = tableOf M.2.2.2.2 := by
    rw [hh]
    cases hx : c.exceptionTable.toList with
    | nil => rfl
    | cons x xs => exact (hno x (by rw [hx]; exact List.mem_cons_self)).elim
  have C : zCx s0 M d p l e (headSpec [Cond.code M.1 M.2.1 M.2.2.1 M.2.2.2.1] (zrm s0 d h)).room s m meth c := ⟨B.exec, B.bytes, B.returns, B.notSynchronized, hml, findClass_of_methodNamed B.named, (name_of_methodNamed B.named B.method).1, hW, hflags, htab, rfl, rfl, hb.1, hb.2, by have := hb.2; omega, (hO.sz hR).2.2.1, (hO.sz hR).2.1, hT, hO⟩
  have kk := K p l e _ s m a.toArray below meth c s.heap [] _ C hR ⟨Nat.le_refl _, Nat.le_refl _⟩ (fun q hq => by cases hq) ⟨hl.1, hl.2.1, hlen, fun i v hi => hl.2.2 (i, v) (by have := zlay_args a ls0 0 hlay i v hi; simpa using this)⟩
  rw [Nat.sub_self, Nat.sub_self] at kk
  exact kk
/-- the contract of a method with handlers -/
theorem zX.ofH {s0 : zE} {M : zM} {d : Nat} {a : List Value} {h : zH} {Q : Value → zH → Prop} {E : Nat → zH → Prop} {ls0 : List (Option Value)} (hh : M.2.2.2.2 ≠ []) (hplain : plainName M.1.cls = true) (hlay : zlay a ls0) (hlen : ls0.length ≤ M.2.2.1)
    (K : zP s0 M d 0 ls0 [] h Q E) : zX s0 M d a h Q E := by
  have hsl : (lg_sl a).length ≤ M.2.2.1 := Nat.le_trans (zlay_len a ls0 hlay) hlen
  intro l hflags
  have hz : zcode M = .codeWith M.1 M.2.1 M.2.2.1 M.2.2.2.1 M.2.2.2.2 := by
    unfold zcode
    split
    · rename_i e; exact absurd e hh
    · rfl
  rw [hz]
  refine vx_ofWH (cc := M.2.1) (maxL := M.2.2.1) (ret := M.2.2.2.1) (hh := M.2.2.2.2) (ws' := []) hplain rfl ?_
  intro p e s m args below meth c s₁ B hml hv
  obtain ⟨rfl, hR, hW, hT, hO⟩ := hv
  have hl := lv_entry a hsl
  rw [lg_entry_eq]
  have hb := zcells (d := d) hO hR
  have htab : c.exceptionTable.toList = tableOf M.2.2.2.2 := vx_table (x := M.1) B (atoms_spec (ws := [Cond.codeWith M.1 M.2.1 M.2.2.1 M.2.2.2.1 M.2.2.2.2]) B.pre _ List.mem_cons_self)
  have C : zCx s0 M d p l e (headSpec [Cond.codeWith M.1 M.2.1 M.2.2.1 M.2.2.2.1 M.2.2.2.2] (zrm s0 d h)).room s m meth c := ⟨B.exec, B.bytes, B.returns, B.notSynchronized, hml, findClass_of_methodNamed B.named, (name_of_methodNamed B.named B.method).1, hW, hflags, htab, rfl, rfl, hb.1, hb.2, by have := hb.2; omega, (hO.sz hR).2.2.1, (hO.sz hR).2.1, hT, hO⟩
  have kk := K p l e _ s m a.toArray below meth c s.heap [] _ C hR ⟨Nat.le_refl _, Nat.le_refl _⟩ (fun q hq => by cases hq) ⟨hl.1, hl.2.1, hlen, fun i v hi => hl.2.2 (i, v) (by have := zlay_args a ls0 0 hlay i v hi; simpa using this)⟩
  rw [Nat.sub_self, Nat.sub_self] at kk
  exact kk
section ZY
variable {s0 : zE} {M : zM} {d pc : Nat} {ls : List (Option Value)} {st : List Value} {h : zH} {Q : Value → zH → Prop} {E : Nat → zH → Prop}
/-- a throw goes out where no handler covers pc -/
theorem zPx.out2 {n : Nat} (hcov : ∀ x ∈ tableOf M.2.2.2.2, covers x pc = false) (K : E n h) : zPx s0 M d pc ls n h Q E := by
  intro p l e R s m args below meth cd H locs LS En q ce rest C hR h1 h2 hL hn hce hcv hcl ⟨c, fs, r, g1, g2, g3⟩
  have hw := C.wide hR h1
  subst hn
  refine vx_out (E := En) (ce := ce) (fun x hx => ?_) C.2.2.2.1 hce hcv hcl (fun t ht hW => ⟨c, fs, r, h, g1, g2, g3, by rw [ht]; exact hR, K⟩) h2 hw.1 hw.2
  have ht := C.2.2.2.2.2.2.2.2.2.1
  rw [ht] at hx
  exact hcov x hx
/-- a throw is caught by the row x of the table -/
theorem zPx.catch {n : Nat} {nm : String} (pre : List ExceptionTableEntry) (x : ExceptionTableEntry) (suf : List ExceptionTableEntry) (hsplit : tableOf M.2.2.2.2 = pre ++ x :: suf)
    (hpass : ∀ z ∈ pre, covers z pc = false ∨ (z.catchType ≠ 0 ∧ ∃ nm1, Cond.classLink M.1.cls z.catchType nm1 ∈ lw_all ∧ zNot s0 h n nm1)) (hx : covers x pc = true) (h0 : x.catchType ≠ 0)
    (hl : Cond.classLink M.1.cls x.catchType nm ∈ lw_all) (hc : ∃ c fs r, h.1 n = some (c, fs) ∧ zcl[c]? = some r ∧ Cond.castable r.1 nm ∈ lw_tbl) (K : zP s0 M d x.handlerPc ls [zr n] h Q E) : zPx s0 M d pc ls n h Q E := by
  intro p l e R s m args below meth cd H locs LS En q ce rest C hR h1 h2 hL hn hce hcv hcl ⟨c, fs, r, g1, g2, g3⟩
  subst hn
  have kk := K _ _ _ _ _ _ args below _ _ _ _ _ C hR h1 h2 hL
  have ht := C.2.2.2.2.2.2.2.2.2.1
  obtain ⟨c', fs', r', e1, e2, e3⟩ := hc
  cases g3.symm.trans e1
  cases g1.symm.trans e2
  subst g2
  refine vx_catch (args := args) C.own pre x suf (ht.trans hsplit) (fun z hz => ?_) hx h0 (C.tt.w hl C.wm) (va_Nw.use rfl ((C.tt.nw e3 rfl).warmC C.wm)) hce hcv hcl kk
  rcases hpass z hz with e | ⟨e, nm1, f1, f2⟩
  · exact Or.inl e
  · obtain ⟨cn, fs2, r2, j1, j2, j3⟩ := f2
    cases g3.symm.trans j1
    have h71 := zcases g1
    have e9 : zrc c = c := by unfold zrc; rw [if_neg (by omega)]
    rw [e9] at j2
    cases g1.symm.trans j2
    exact Or.inr ⟨e, nm1, C.tt.w f1 C.wm, j3.moved C.wm.alike⟩
/-- throwing in a method with handlers, where none covers pc -/
theorem z_athrowO {n : Nat} {c : Nat} {fs : List Value} {r : vw_C} (hcov : ∀ x ∈ tableOf M.2.2.2.2, covers x pc = false) (hn : h.1 n = some (c, fs)) (hc : zcl[c]? = some r) (hnew : s0.1.heap.size < n) (hd : decode M.2.1 pc = .ok (.athrow, 1)) (K : E n h) : zP s0 M d pc ls (zr n :: st) h Q E := by
  intro p l e R s m args below meth cd H locs LS C hR h1 h2 hL
  have hw := C.wide hR h1
  obtain ⟨a, cell, rfl, hcell, v1, v2, v3, hcase⟩ := (C.ro.at hR hn).1
  have hKn := zKU C.tt C.wm hc
  rcases hcase with ⟨r', hr', hlen, hcls, hsl⟩ | ⟨ty, h9, -⟩ | ⟨r9, h9, -⟩
  · cases hc.symm.trans hr'
    refine vx_athrow C.1 C.2.1 hd (vx_out (E := r.1) (ce := cell) ?_ C.2.2.2.1 hcell (v3 (by omega)) (by rw [hcls]; exact hKn.2.1) (fun t ht hW => ⟨c, fs, r, h, hc, rfl, hn, by rw [ht]; exact hR, K⟩) h2 hw.1 hw.2)
    intro x hx
    have ht := C.2.2.2.2.2.2.2.2.2.1
    rw [ht] at hx
    exact hcov x hx
  · have h71 := zcases hc
    omega
  · have h71 := zcases hc
    omega
end ZY
