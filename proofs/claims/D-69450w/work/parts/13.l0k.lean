/-! ===== L0: calls ===== -/
set_option maxRecDepth 100000
/-- what is asked of a callee: n its parameters -/
def zMok (M : zM) (n : Nat) : Prop := M.2.2.2.2 = [] ∧ Cond.code M.1 M.2.1 M.2.2.1 M.2.2.2.1 ∈ lw_all ∧ Cond.initialized M.1.cls ∈ lw_all ∧ (M.1.cls ≠ "java/lang/invoke/MethodHandle" ∧ M.1.cls ≠ "java/lang/invoke/VarHandle") ∧ (parseMethodDescriptor M.1.desc).map (fun d => d.parameters.length) = some n ∧ M.2.2.1 ≤ 81
theorem zMok.code {M : zM} {n : Nat} (h : zMok M n) : zcode M = .code M.1 M.2.1 M.2.2.1 M.2.2.2.1 := by
  unfold zcode; rw [h.1]
theorem zMok.len {M : zM} {n : Nat} (h : zMok M n) : ∀ sig, parseMethodDescriptor M.1.desc = some sig → n = sig.parameters.length := by
  intro sig hs
  have h2 := h.2.2.2.2.1
  rw [hs] at h2
  exact (Option.some.inj h2).symm
theorem zblind {s0 : zE} {h : zH} {a : List Value} : FrameBlind (fun v U => v = a.toArray ∧ s0.2 h U.heap ∧ s0.1.WarmedH U.vm ∧ zT s0.1 ∧ zRO s0) := fun _ _ _ _ h => h
section ZK
variable {s0 : zE} {M M' : zM} {d d' pc idx np : Nat} {ls : List (Option Value)} {st : List Value} {h : zH} {Q Q1 : Value → zH → Prop} {E E1 : Nat → zH → Prop}
variable {p : Program} {l : Launch} {e : Env} {R : Room} {s : State} {m : MethodId} {args : Array Value} {meth : Method} {c : Code}
theorem zCx.ws (C : zCx s0 M d p l e R s m meth c) {w : Cond} (hw : w ∈ lw_all) : ∀ x ∈ [w], ∀ (a' : Array Value) (U : State), s.WarmedH U.vm → x.before a' U = true := by
  intro x hx a' U hU
  rw [List.mem_singleton.mp hx]
  exact C.tt.w hw (State.WarmedH.trans C.wm hU)
theorem zCx.rm (C : zCx s0 M d p l e R s m meth c) (hok : zMok M' np) (hd : d' + 1 ≤ d) : (zrm s0 d' h).frames + 1 ≤ R.frames ∧ 8 + (M'.2.2.1 + 11) + (zrm s0 d' h).locals ≤ R.locals := by
  obtain ⟨-, -, -, -, -, -, -, -, -, -, b1, b2, -⟩ := C
  rw [b1, b2]
  have := hok.2.2.2.2.2
  simp only [zrm]
  constructor <;> omega
theorem zCx.fit {H : Heap} (C : zCx s0 M d p l e R s m meth c) (hR : s0.2 h H) (h1 : s.heap.size ≤ H.size ∧ zwt s0.1 s.heap ≤ zwt s0.1 H) : (H.size - s.heap.size) + (zrm s0 d' h).cells ≤ R.cells ∧ (zwt s0.1 H - zwt s0.1 s.heap) + (zrm s0 d' h).slots ≤ R.slots := by
  have hb := zcells (d := d') C.ro hR
  obtain ⟨-, -, -, -, -, -, -, -, -, -, -, -, b1, b2, b3, -⟩ := C
  constructor <;> omega
theorem zCx.callB (C : zCx s0 M d p l e R s m meth c) (hok : zMok M' np) (hl : Cond.methodLink M.1.cls idx M'.1 ∈ lw_all) (hd : d' + 1 ≤ d) :
    CallB R s args M.1.cls idx M'.1 M'.2.1 M'.2.2.1 M'.2.2.2.1 [zcode M'] (zrm s0 d' h) (zrm s0 d' h).cells (zrm s0 d' h).slots np := by
  have hr := C.rm (h := h) hok hd
  rw [hok.code]
  exact ⟨rfl, rfl, hr.1, hr.2, C.ws hok.2.1, List.mem_singleton.mpr rfl, C.tt.w hok.2.1 C.wm, C.tt.w hok.2.2.1 C.wm, hok.2.2.2.1, hok.len, C.tt.w hl C.wm⟩
/-- the machine's class of a cell's number -/
def zrc (c : Nat) : Nat := if 2000 ≤ c then c - 2000 else c
theorem zCx.recv {H : Heap} (C : zCx s0 M d p l e R s m meth c) (hR : s0.2 h H) {n cn : Nat} {fs : List Value} {r : vw_C} (hn : h.1 n = some (cn, fs)) (hr : zcl[zrc cn]? = some r) : ∃ b, n = b + 1 ∧ ∃ cellB : Cell, H[b]? = some cellB ∧ cellB.vm.isStatics = false ∧ s.vm.findClass r.1 = some cellB.cls := by
  obtain ⟨a, cell, rfl, hcell, v1, v2, v3, hcase⟩ := (C.ro.at hR hn).1
  have hst : cell.vm.isStatics = false := by
    cases hv : cell.vm with
    | statics z => exact absurd hv (v2 z)
    | _ => rfl
  have h71 := zcases hr
  rcases hcase with ⟨r', hr', -, hcls, -⟩ | ⟨ty, h9, h10, -⟩ | ⟨r', h9, hr', hcls⟩
  · have h72 := zcases hr'
    simp only at h72 hr' hcls
    have e : zrc cn = cn := by unfold zrc; rw [if_neg (by omega)]
    rw [e] at hr
    exact ⟨a, rfl, cell, hcell, hst, by rw [hcls]; exact (zKU C.tt C.wm hr).2.1⟩
  · simp only at h9 h10
    unfold zrc at h71
    rw [if_neg (by omega)] at h71
    omega
  · simp only at h9 hcls
    have e : zrc cn = cn - 2000 := by unfold zrc; rw [if_pos h9]
    rw [e] at hr
    exact ⟨a, rfl, cell, hcell, hst, by rw [hcls]; exact (zKU C.tt C.wm hr).2.1⟩
/-- a virtual call of the class's own method -/
theorem z_invV {n cn : Nat} {fs a : List Value} {r : vw_C} (hok : zMok M' a.length) (hl : Cond.methodLink M.1.cls idx M'.1 ∈ lw_all) (hi : Cond.instanceMethod M'.1 ∈ lw_all) (hsel : Cond.selects r.1 M'.1 M'.1 ∈ lw_all) (hr : zcl[zrc cn]? = some r) (hd : decode M.2.1 pc = .ok (.invokevirtual idx, 3))
    (hn : h.1 n = some (cn, fs)) (hd' : d' + 1 ≤ d) (hcat : (st.map fun v => v.category).sum ≤ 8) {st' : List Value} (hst : st' = a.reverse ++ zr n :: st) (X : zX s0 M' d' (zr n :: a) h Q1 E1)
    (K : ∀ v h1, Q1 v h1 → zP s0 M d (pc + 3) ls ((zret M'.2.2.2.1 v).toList ++ st) h1 Q E) (KE : ∀ n h1, E1 n h1 → zPx s0 M d pc ls n h1 Q E) : zP s0 M d pc ls st' h Q E := by
  intro p l e R s m args below meth c H locs LS C hR h1 h2 hL
  subst hst
  obtain ⟨b, rfl, hb⟩ := C.recv hR hn hr
  refine z_after C h2 hL (mc := (zrm s0 d' h).cells) (ms := (zrm s0 d' h).slots) (r1 := M'.2.2.2.1) (a := (Value.ref b :: a).toArray) ?_ K KE
  exact vx_runV (C := r.1) (own := M.1.cls) (nL := M.2.2.1) (Ts := []) (As := a) (b := b) ⟨C.1, C.2.1, C.2.2.2.2.1, C.own, fun w hw => by cases hw⟩ (X l C.2.2.2.2.2.2.2.2.1)
    ⟨C.callB hok hl hd', C.tt.w hi C.wm, C.tt.w hsel C.wm⟩ ⟨zblind, hb, fun U hU hW => ⟨rfl, by rw [hU]; exact hR, State.WarmedH.trans C.wm hW, C.tt, C.ro⟩⟩ rfl rfl hL.1 rfl (lv_room hcat) hd (C.fit hR h1)
/-- a static call -/
theorem z_invS {a : List Value} (hok : zMok M' a.length) (hl : Cond.methodLink M.1.cls idx M'.1 ∈ lw_all) (hs : Cond.static M'.1 ∈ lw_all) (hd : decode M.2.1 pc = .ok (.invokestatic idx, 3))
    (hd' : d' + 1 ≤ d) (hcat : (st.map fun v => v.category).sum ≤ 8) {st' : List Value} (hst : st' = a.reverse ++ st) (X : zX s0 M' d' a h Q1 E1)
    (K : ∀ v h1, Q1 v h1 → zP s0 M d (pc + 3) ls ((zret M'.2.2.2.1 v).toList ++ st) h1 Q E) (KE : ∀ n h1, E1 n h1 → zPx s0 M d pc ls n h1 Q E) : zP s0 M d pc ls st' h Q E := by
  intro p l e R s m args below meth c H locs LS C hR h1 h2 hL
  subst hst
  refine z_after C h2 hL (mc := (zrm s0 d' h).cells) (ms := (zrm s0 d' h).slots) (r1 := M'.2.2.2.1) (a := a.toArray) ?_ K KE
  exact vx_runS (own := M.1.cls) (nL := M.2.2.1) (Ts := []) (As := a) ⟨C.1, C.2.1, C.2.2.2.2.1, C.own, fun w hw => by cases hw⟩ (X l C.2.2.2.2.2.2.2.2.1)
    ⟨C.callB hok hl hd', C.tt.w hs C.wm⟩ ⟨zblind, fun U hU hW => ⟨rfl, by rw [hU]; exact hR, State.WarmedH.trans C.wm hW, C.tt, C.ro⟩⟩ rfl rfl hL.1 rfl (lv_room hcat) hd (C.fit hR h1)
/-- a constructor's call (this(..), super(..), or behind new) -/
theorem z_invI {n : Nat} {a : List Value} (hok : zMok M' a.length) (hret : M'.2.2.2.1 = none) (hnm : M'.1.name = "<init>") (hl : Cond.methodLink M.1.cls idx M'.1 ∈ lw_all) (hi : Cond.instanceMethod M'.1 ∈ lw_all) (hd : decode M.2.1 pc = .ok (.invokespecial idx, 3)) (hn : n ≠ 0)
    (hd' : d' + 1 ≤ d) (hcat : (st.map fun v => v.category).sum ≤ 8) {st' : List Value} (hst : st' = a.reverse ++ zr n :: st) (X : zX s0 M' d' (zr n :: a) h Q1 E1)
    (K : ∀ v h1, Q1 v h1 → zP s0 M d (pc + 3) ls st h1 Q E) (KE : ∀ n h1, E1 n h1 → zPx s0 M d pc ls n h1 Q E) : zP s0 M d pc ls st' h Q E := by
  intro p l e R s m args below meth c H locs LS C hR h1 h2 hL
  subst hst
  obtain ⟨b, rfl⟩ := Nat.exists_eq_succ_of_ne_zero hn
  refine z_after C h2 hL (mc := (zrm s0 d' h).cells) (ms := (zrm s0 d' h).slots) (r1 := none) (a := (Value.ref b :: a).toArray) ?_ K KE
  have hcb := C.callB (args := args) (h := h) hok hl hd'
  have hX := X l C.2.2.2.2.2.2.2.2.1
  rw [hret] at hcb hX
  exact vx_runI (own := M.1.cls) (nL := M.2.2.1) (Ts := []) (As := a) (b := b) ⟨C.1, C.2.1, C.2.2.2.2.1, C.own, fun w hw => by cases hw⟩ hX
    ⟨hcb, hnm, C.tt.w hi C.wm⟩ ⟨zblind, fun U hU hW => ⟨rfl, by rw [hU]; exact hR, State.WarmedH.trans C.wm hW, C.tt, C.ro⟩⟩ rfl rfl hL.1 rfl (lv_room hcat) hd (C.fit hR h1)
/-- Object.<init> -/
theorem z_objInit {n : Nat} (hl : Cond.methodLink M.1.cls idx Lib.objectInit ∈ lw_all) (hi : Cond.instanceMethod Lib.objectInit ∈ lw_all) (hc : Cond.code Lib.objectInit ⟨#[0xb1]⟩ 1 none ∈ lw_all) (hd : decode M.2.1 pc = .ok (.invokespecial idx, 3)) (hn : n ≠ 0) (hd' : 1 ≤ d) (hcat : (st.map fun v => v.category).sum ≤ 8)
    (K : zP s0 M d (pc + 3) ls st h Q E) : zP s0 M d pc ls (zr n :: st) h Q E := by
  intro p l e R s m args below meth c H locs LS C hR h1 h2 hL
  obtain ⟨b, rfl⟩ := Nat.exists_eq_succ_of_ne_zero hn
  have kk := K p l e R s m args below meth c H locs LS C hR h1 h2 hL
  obtain ⟨-, -, -, -, -, -, -, -, -, -, b1, b2, -⟩ := id C
  refine W.objInit C.1 C.2.1 C.own (C.tt.w hl C.wm) (C.tt.w hi C.wm) (C.tt.w hc C.wm) rfl (hL.1.trans C.2.2.2.2.1.symm) rfl hd (by omega) (by have := lv_room (m := m) (pc := pc) (ls := LS) (rest := zr b.succ :: st) hcat; rw [b2]; omega) ?_
  exact kk
end ZK
