/-! ===== L0: calls of methods with handlers ===== -/
set_option maxRecDepth 100000
def zMokH (M : zM) (n : Nat) : Prop := M.2.2.2.2 ≠ [] ∧ Cond.codeWith M.1 M.2.1 M.2.2.1 M.2.2.2.1 M.2.2.2.2 ∈ lw_all ∧ Cond.initialized M.1.cls ∈ lw_all ∧ (M.1.cls ≠ "java/lang/invoke/MethodHandle" ∧ M.1.cls ≠ "java/lang/invoke/VarHandle") ∧ (parseMethodDescriptor M.1.desc).map (fun d => d.parameters.length) = some n ∧ M.2.2.1 ≤ 81
theorem zMokH.code {M : zM} {n : Nat} (h : zMokH M n) : zcode M = .codeWith M.1 M.2.1 M.2.2.1 M.2.2.2.1 M.2.2.2.2 := by
  unfold zcode
  split
  · rename_i e; exact absurd e h.1
  · rfl
theorem zMokH.len {M : zM} {n : Nat} (h : zMokH M n) : ∀ sig, parseMethodDescriptor M.1.desc = some sig → n = sig.parameters.length := by
  intro sig hs
  have h2 := h.2.2.2.2.1
  rw [hs] at h2
  exact (Option.some.inj h2).symm
section ZK
variable {s0 : zE} {M M' : zM} {d d' pc idx np : Nat} {ls : List (Option Value)} {st : List Value} {h : zH} {Q Q1 : Value → zH → Prop} {E E1 : Nat → zH → Prop}
theorem zCx.rmH {p : Program} {l : Launch} {e : Env} {R : Room} {s : State} {m : MethodId} {meth : Method} {c : Code} (C : zCx s0 M d p l e R s m meth c) (hok : zMokH M' np) (hd : d' + 1 ≤ d) : (zrm s0 d' h).frames + 1 ≤ R.frames ∧ 8 + (M'.2.2.1 + 11) + (zrm s0 d' h).locals ≤ R.locals := by
  obtain ⟨-, -, -, -, -, -, -, -, -, -, b1, b2, -⟩ := C
  rw [b1, b2]
  have := hok.2.2.2.2.2
  simp only [zrm]
  constructor <;> omega
/-- a virtual call of the class's own method, one with handlers -/
theorem z_invVH {n cn : Nat} {fs a : List Value} {r : vw_C} (hok : zMokH M' a.length) (hl : Cond.methodLink M.1.cls idx M'.1 ∈ lw_all) (hi : Cond.instanceMethod M'.1 ∈ lw_all) (hsel : Cond.selects r.1 M'.1 M'.1 ∈ lw_all) (hr : zcl[zrc cn]? = some r) (hd : decode M.2.1 pc = .ok (.invokevirtual idx, 3))
    (hn : h.1 n = some (cn, fs)) (hd' : d' + 1 ≤ d) (hcat : (st.map fun v => v.category).sum ≤ 8) {st' : List Value} (hst : st' = a.reverse ++ zr n :: st) (X : zX s0 M' d' (zr n :: a) h Q1 E1)
    (K : ∀ v h1, Q1 v h1 → zP s0 M d (pc + 3) ls ((zret M'.2.2.2.1 v).toList ++ st) h1 Q E) (KE : ∀ n h1, E1 n h1 → zPx s0 M d pc ls n h1 Q E) : zP s0 M d pc ls st' h Q E := by
  intro p l e R s m args below meth c H locs LS C hR h1 h2 hL
  subst hst
  obtain ⟨b, rfl, hb⟩ := C.recv hR hn hr
  have hr2 := C.rmH (h := h) hok hd'
  have hX := X l C.2.2.2.2.2.2.2.2.1
  rw [hok.code] at hX
  refine z_after C h2 hL (mc := (zrm s0 d' h).cells) (ms := (zrm s0 d' h).slots) (r1 := M'.2.2.2.1) (a := (Value.ref b :: a).toArray) ?_ K KE
  exact vx_runVX (hh := M'.2.2.2.2) (C := r.1) (own := M.1.cls) (nL := M.2.2.1) (Ts := []) (As := a) (b := b) ⟨C.1, C.2.1, C.2.2.2.2.1, C.own, fun w hw => by cases hw⟩ hX
    ⟨⟨rfl, rfl, hr2.1, hr2.2, C.ws hok.2.1, List.mem_singleton.mpr rfl⟩, C.tt.w hok.2.1 C.wm, C.tt.w hok.2.2.1 C.wm, hok.2.2.2.1, hok.len, C.tt.w hl C.wm, C.tt.w hi C.wm, C.tt.w hsel C.wm⟩ ⟨zblind, hb, fun U hU hW => ⟨rfl, by rw [hU]; exact hR, State.WarmedH.trans C.wm hW, C.tt, C.ro⟩⟩ rfl rfl hL.1 rfl (lv_room hcat) hd (C.fit hR h1)
/-- a static call of a method with handlers -/
theorem z_invSH {a : List Value} (hok : zMokH M' a.length) (hl : Cond.methodLink M.1.cls idx M'.1 ∈ lw_all) (hs : Cond.static M'.1 ∈ lw_all) (hd : decode M.2.1 pc = .ok (.invokestatic idx, 3))
    (hd' : d' + 1 ≤ d) (hcat : (st.map fun v => v.category).sum ≤ 8) {st' : List Value} (hst : st' = a.reverse ++ st) (X : zX s0 M' d' a h Q1 E1)
    (K : ∀ v h1, Q1 v h1 → zP s0 M d (pc + 3) ls ((zret M'.2.2.2.1 v).toList ++ st) h1 Q E) (KE : ∀ n h1, E1 n h1 → zPx s0 M d pc ls n h1 Q E) : zP s0 M d pc ls st' h Q E := by
  intro p l e R s m args below meth c H locs LS C hR h1 h2 hL
  subst hst
  have hr2 := C.rmH (h := h) hok hd'
  have hX := X l C.2.2.2.2.2.2.2.2.1
  rw [hok.code] at hX
  refine z_after C h2 hL (mc := (zrm s0 d' h).cells) (ms := (zrm s0 d' h).slots) (r1 := M'.2.2.2.1) (a := a.toArray) ?_ K KE
  exact vx_runSX (hh := M'.2.2.2.2) (own := M.1.cls) (nL := M.2.2.1) (Ts := []) (As := a) ⟨C.1, C.2.1, C.2.2.2.2.1, C.own, fun w hw => by cases hw⟩ hX
    ⟨⟨rfl, rfl, hr2.1, hr2.2, C.ws hok.2.1, List.mem_singleton.mpr rfl⟩, C.tt.w hok.2.1 C.wm, C.tt.w hok.2.2.1 C.wm, hok.2.2.2.1, hok.len, C.tt.w hl C.wm, C.tt.w hs C.wm⟩ ⟨zblind, fun U hU hW => ⟨rfl, by rw [hU]; exact hR, State.WarmedH.trans C.wm hW, C.tt, C.ro⟩⟩ rfl rfl hL.1 rfl (lv_room hcat) hd (C.fit hR h1)
/-- an interface call of a method with handlers -/
theorem z_invFH {x : MethodName} {n cn count : Nat} {fs a : List Value} {r : vw_C} (hok : zMokH M' a.length) (hdesc : (parseMethodDescriptor x.desc).map (fun d => d.parameters.length) = some a.length) (hx : x.cls ≠ "java/lang/invoke/MethodHandle" ∧ x.cls ≠ "java/lang/invoke/VarHandle") (hl : Cond.methodLink M.1.cls idx x ∈ lw_all)
    (hdc : Cond.declares x ∈ lw_tbl) (hif : Cond.interfaceMethod x.cls x.cls x.name x.desc ∈ lw_tbl) (hpub : Cond.publicMethod M'.1 ∈ lw_tbl) (hun : Cond.unhidden r.1 x.name x.desc ∈ lw_tbl) (hca : Cond.castable r.1 x.cls ∈ lw_tbl)
    (hi : Cond.instanceMethod M'.1 ∈ lw_all) (hsel : Cond.selects r.1 x M'.1 ∈ lw_all) (hr : zcl[zrc cn]? = some r) (hd : decode M.2.1 pc = .ok (.invokeinterface idx count, 5))
    (hn : h.1 n = some (cn, fs)) (hd' : d' + 1 ≤ d) (hcat : (st.map fun v => v.category).sum ≤ 8) {st' : List Value} (hst : st' = a.reverse ++ zr n :: st) (X : zX s0 M' d' (zr n :: a) h Q1 E1)
    (K : ∀ v h1, Q1 v h1 → zP s0 M d (pc + 5) ls ((zret M'.2.2.2.1 v).toList ++ st) h1 Q E) (KE : ∀ n h1, E1 n h1 → zPx s0 M d pc ls n h1 Q E) : zP s0 M d pc ls st' h Q E := by
  intro p l e R s m args below meth c H locs LS C hR h1 h2 hL
  subst hst
  obtain ⟨b, rfl, hb⟩ := C.recv hR hn hr
  refine z_after C h2 hL (mc := (zrm s0 d' h).cells) (ms := (zrm s0 d' h).slots) (r1 := M'.2.2.2.1) (a := (Value.ref b :: a).toArray) ?_ K KE
  have hX := X l C.2.2.2.2.2.2.2.2.1
  rw [hok.code] at hX
  have hrm := C.rmH (h := h) hok hd'
  have hlen : ∀ sig, parseMethodDescriptor x.desc = some sig → a.length = sig.parameters.length := by
    intro sig hs
    rw [hs] at hdesc
    exact (Option.some.inj hdesc).symm
  obtain ⟨b0, hw, -⟩ := id C.tt
  have hf : va_Fw r.1 x M'.1 s := va_Fw.moved hx C.wm.alike (va_Fw.of (hw _ hdc) (hw _ hif) (hw _ hpub) (hw _ hun) (hw _ hca))
  obtain ⟨f1, f2, f3, f4, f5⟩ := hf
  exact vx_runFW (hh := M'.2.2.2.2) (C := r.1) (own := M.1.cls) (x := x) (zKU C.tt C.wm hr).2 (nL := M.2.2.1) (Ts := []) (As := a) (b := b) (n := a.length) ⟨C.1, C.2.1, C.2.2.2.2.1, C.own, fun w hw => by cases hw⟩ hX
    ⟨⟨rfl, rfl, hrm.1, hrm.2, C.ws hok.2.1, List.mem_singleton.mpr rfl⟩, C.tt.w hl C.wm, va_any rfl f1, va_any rfl f2, C.tt.w hsel C.wm, C.tt.w hi C.wm, va_any rfl f3, va_any rfl f4, va_any rfl f5, C.tt.w hok.2.2.1 C.wm, C.tt.w hok.2.1 C.wm, hx, hlen⟩
    ⟨zblind, hb, fun U hU hW => ⟨rfl, by rw [hU]; exact hR, State.WarmedH.trans C.wm hW, C.tt, C.ro⟩⟩ rfl rfl hL.1 rfl (lv_room hcat) hd (C.fit hR h1)
end ZK
