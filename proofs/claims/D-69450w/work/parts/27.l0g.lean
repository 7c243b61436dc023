/-! ===== L0: getClass ===== -/
set_option maxRecDepth 100000
/-- the cell at n is of class C and no other -/
def zIs (h : zH) (n : Nat) (C : String) : Prop := ∃ c fs, h.1 n = some (c, fs) ∧ ((∃ r, zcl[zrc c]? = some r ∧ r.1 = C) ∨ (∃ t ty, c = 1000 + t ∧ zar[t]? = some ty ∧ "[" ++ ty.toString = C))
abbrev getClassName : MethodName := ⟨"java/lang/Object", "getClass", "()Ljava/lang/Class;"⟩
section ZG
variable {s0 : zE} {M : zM} {d pc idx : Nat} {ls : List (Option Value)} {st : List Value} {h : zH} {Q : Value → zH → Prop} {E : Nat → zH → Prop}
theorem zCx.isx {p : Program} {l : Launch} {e : Env} {R : Room} {s : State} {m : MethodId} {meth : Method} {c : Code} {H : Heap} (C : zCx s0 M d p l e R s m meth c) (hR : s0.2 h H) {n : Nat} {nm : String} (hc : zIs h n nm) : ∃ b, n = b + 1 ∧ ∃ cell : Cell, H[b]? = some cell ∧ cell.vm.isStatics = false ∧ s.vm.findClass nm = some cell.cls := by
  obtain ⟨cn, fs, hn, hcase⟩ := hc
  rcases hcase with ⟨r, hr, rfl⟩ | ⟨t, ty, rfl, ht, rfl⟩
  · obtain ⟨b, rfl, cell, h1, h2, h3⟩ := C.recv hR hn hr
    exact ⟨b, rfl, cell, h1, h2, h3⟩
  · obtain ⟨a, cell, rfl, h1, v1, v2, v3, hcls, -⟩ := ((C.ro.at hR hn).1).arr ht
    obtain ⟨k, comp, g1, -⟩ := zar_obj C.tt C.wm ht
    refine ⟨a, rfl, cell, h1, ?_, by rw [hcls]; exact g1⟩
    cases hv : cell.vm with
    | statics z => exact absurd hv (v2 z)
    | _ => rfl
theorem z_getClass {n : Nat} (C0 : String) (hl : Cond.methodLink M.1.cls idx getClassName ∈ lw_all) (hdecl : Cond.declares getClassName ∈ lw_tbl) (hsel : Cond.selects C0 getClassName getClassName ∈ lw_all) (hinst : Cond.instanceMethod getClassName ∈ lw_all) (hnat : Cond.native getClassName ∈ lw_all) (K0 : zZm s0 C0)
    (hd : decode M.2.1 pc = .ok (.invokevirtual idx, 3)) (hcat : (st.map fun v => v.category).sum ≤ 8) (g : zIs h n C0) (K : zP s0 M (d + 1) (pc + 3) ls (zr (zmi s0 C0) :: st) h Q E) : zP s0 M (d + 1) pc ls (zr n :: st) h Q E := by
  intro p l e R s m args below meth c H locs LS C hR h1 h2 hL
  have kk := K p l e R s m args below meth c H locs LS C hR h1 h2 hL
  obtain ⟨a, e1, e2⟩ := K0 C.tt
  rw [e1] at kk
  obtain ⟨b, rfl, hb⟩ := C.isx hR g
  have hb1 := C.2.2.2.2.2.2.2.2.2.2.1
  have hb2 := C.2.2.2.2.2.2.2.2.2.2.2.1
  refine va_getC C.1 C.2.1 (by show c.maxLocals = LS.size; rw [hL.1, C.2.2.2.2.1]) C.own (C.tt.w hl C.wm) (va_Dc.use (va_Dc.moved C.wm.alike (va_Dc.of (A := #[]) ?_))) (C.tt.w hsel C.wm) (C.tt.w hinst C.wm) (C.tt.w hnat C.wm) (e2.moved C.wm.alike) hb (by omega) (by omega) hd kk
  obtain ⟨b0, h9, -⟩ := C.tt
  exact va_any rfl (h9 _ hdecl)
end ZG
