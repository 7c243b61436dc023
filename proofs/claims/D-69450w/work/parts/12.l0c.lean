/-! ===== L0: ends, calls ===== -/
set_option maxRecDepth 100000
section ZE
variable {s0 : zE} {M : zM} {d pc : Nat} {ls : List (Option Value)} {st : List Value} {h : zH} {Q : Value → zH → Prop} {E : Nat → zH → Prop}
theorem zCx.wide {p : Program} {l : Launch} {e : Env} {R : Room} {s : State} {m : MethodId} {meth : Method} {c : Code} {H : Heap} (C : zCx s0 M d p l e R s m meth c) (hR : s0.2 h H) (h1 : s.heap.size ≤ H.size ∧ zwt s0.1 s.heap ≤ zwt s0.1 H) : H.size - s.heap.size ≤ R.cells ∧ zwt s0.1 H - zwt s0.1 s.heap ≤ R.slots := by
  have hO := C.ro
  obtain ⟨-, -, -, -, -, -, -, -, -, -, -, -, b1, b2, b3, b4⟩ := C
  obtain ⟨r1, r2, r3, r4, r7, r8⟩ := hO.sz hR
  constructor <;> omega
theorem z_ireturn {x : Int32} {ty : FieldType} (hr : M.2.2.2.1 = some ty) (hn : narrow ty (.int x) = .int x) (hd : decode M.2.1 pc = .ok (.ireturn, 1)) (K : Q (.int x) h) : zP s0 M d pc ls [.int x] h Q E := by
  intro p l e R s m args below meth c H locs LS C hR h1 h2 hL
  have hw := C.wide hR h1
  exact W.widen hw.1 hw.2 (vx_ret (W.zret C.1 C.2.1 (C.2.2.1.trans hr) hn (fun t ht hW => ⟨.int x, h, by rw [hr]; rfl, by rw [ht]; exact hR, K⟩) h2 hd C.2.2.2.1))
theorem z_lreturn {x : Int64} (hr : M.2.2.2.1 = some .long) (hd : decode M.2.1 pc = .ok (.lreturn, 1)) (K : Q (.long x) h) : zP s0 M d pc ls [.long x] h Q E := by
  intro p l e R s m args below meth c H locs LS C hR h1 h2 hL
  have hw := C.wide hR h1
  exact W.widen hw.1 hw.2 (vx_ret (W.lret C.1 C.2.1 (C.2.2.1.trans hr) (fun t ht hW => ⟨.long x, h, by rw [hr]; rfl, by rw [ht]; exact hR, K⟩) h2 hd C.2.2.2.1))
theorem z_return (hr : M.2.2.2.1 = none) (hd : decode M.2.1 pc = .ok (.return_, 1)) (K : Q .null h) : zP s0 M d pc ls [] h Q E := by
  intro p l e R s m args below meth c H locs LS C hR h1 h2 hL
  have hw := C.wide hR h1
  exact W.widen hw.1 hw.2 (vx_ret (W.vret C.1 C.2.1 (C.2.2.1.trans hr) (fun t ht hW => ⟨.null, h, by rw [hr]; rfl, by rw [ht]; exact hR, K⟩) h2 hd C.2.2.2.1))
theorem z_areturn {n : Nat} {rt : FieldType} (hr : M.2.2.2.1 = some rt) (hrt : (∃ n, rt = .object n) ∨ ∃ t, rt = .array t) (hd : decode M.2.1 pc = .ok (.areturn, 1)) (K : Q (zr n) h) : zP s0 M d pc ls [zr n] h Q E := by
  intro p l e R s m args below meth c H locs LS C hR h1 h2 hL
  have hw := C.wide hR h1
  exact W.widen hw.1 hw.2 (vx_ret (W.aret C.1 C.2.1 (C.2.2.1.trans hr) hrt (by cases n with | zero => exact Or.inl rfl | succ a => exact Or.inr ⟨a, rfl⟩) (fun t ht hW => ⟨zr n, h, by rw [hr]; rfl, by rw [ht]; exact hR, K⟩) h2 hd C.2.2.2.1))
/-- throwing, where no handler stands -/
theorem z_athrow {n : Nat} {c : Nat} {fs : List Value} {r : vw_C} (hh : M.2.2.2.2 = []) (hn : h.1 n = some (c, fs)) (hc : zcl[c]? = some r) (hnew : s0.1.heap.size < n) (hd : decode M.2.1 pc = .ok (.athrow, 1)) (K : E n h) : zP s0 M d pc ls (zr n :: st) h Q E := by
  intro p l e R s m args below meth cd H locs LS C hR h1 h2 hL
  have hw := C.wide hR h1
  obtain ⟨a, cell, rfl, hcell, v1, v2, v3, hcase⟩ := (C.ro.at hR hn).1
  have hKn := zKU C.tt C.wm hc
  rcases hcase with ⟨r', hr', hlen, hcls, hsl⟩ | ⟨ty, h9, -⟩ | ⟨r9, h9, -⟩
  · cases hc.symm.trans hr'
    refine vx_athrow C.1 C.2.1 hd (vx_out (E := r.1) (ce := cell) ?_ C.2.2.2.1 hcell (v3 (by omega)) (by rw [hcls]; exact hKn.2.1) (fun t ht hW => ⟨c, fs, r, h, hc, rfl, hn, by rw [ht]; exact hR, K⟩) h2 hw.1 hw.2)
    intro x hx
    have ht := C.2.2.2.2.2.2.2.2.2.1
    rw [ht, hh] at hx
    cases hx
  · have h71 := zcases hc
    omega
  · have h71 := zcases hc
    omega
end ZE
/-- a whole call of method M on these arguments, with d frames left below it -/
def zcode (M : zM) : Cond := match M.2.2.2.2 with
  | [] => .code M.1 M.2.1 M.2.2.1 M.2.2.2.1
  | hh => .codeWith M.1 M.2.1 M.2.2.1 M.2.2.2.1 hh
def zrm (s0 : zE) (d : Nat) (h : zH) : Room := { frames := d, cells := s0.1.heap.size + 953998 - h.2.1, slots := 6224387 - h.2.2, locals := 100 * d }
def zX (s0 : zE) (M : zM) (d : Nat) (a : List Value) (h : zH) (Q : Value → zH → Prop) (E : Nat → zH → Prop) : Prop :=
  ∀ l : Launch, l.flags = flags0 → vx_Met l M.1 [zcode M] (zrm s0 d h) (fun v U => v = a.toArray ∧ s0.2 h U.heap ∧ s0.1.WarmedH U.vm ∧ zT s0.1 ∧ zRO s0) (zQc s0 M.2.2.2.1 Q) (zXc s0 E) (zrm s0 d h).cells (zrm s0 d h).slots (fun x => s0.1.heap.size ≤ x)
/-- the arguments in their places -/
def zlay : List Value → List (Option Value) → Prop
  | [], ls => ∀ o ∈ ls, o = none
  | v :: vs, ls => match ls with
    | some w :: r => w = v ∧ ((v.category = 1 ∧ zlay vs r) ∨ (v.category = 2 ∧ match r with
      | none :: r2 => zlay vs r2
      | _ => False))
    | _ => False
theorem zlay_args : ∀ (a : List Value) (ls : List (Option Value)) (k : Nat), zlay a ls → ∀ (i : Nat) (v : Value), ls[i]? = some (some v) → (k + i, v) ∈ lv_args k a
  | [], ls, k, h, i, v, hi => by
    have := h _ (List.mem_of_getElem? hi)
    cases this
  | w :: vs, ls, k, h, i, v, hi => by
    match ls, h with
    | some w' :: r, h =>
      obtain ⟨rfl, h⟩ := h
      show (k + i, v) ∈ (k, w') :: lv_args (if w'.category = 2 then k + 2 else k + 1) vs
      cases i with
      | zero =>
        simp at hi
        subst hi
        exact List.mem_cons_self
      | succ j =>
        refine List.mem_cons_of_mem _ ?_
        have hj : r[j]? = some (some v) := by simpa using hi
        rcases h with ⟨hc, h⟩ | ⟨hc, h⟩
        · rw [if_neg (by omega), show k + (j + 1) = k + 1 + j by omega]
          exact zlay_args vs r (k + 1) h j v hj
        · rw [if_pos hc]
          match r, h with
          | none :: r2, h =>
            cases j with
            | zero => simp at hj
            | succ j2 =>
              rw [show k + (j2 + 1 + 1) = k + 2 + j2 by omega]
              exact zlay_args vs r2 (k + 2) h j2 v (by simpa using hj)
theorem zcells {s0 : zE} {h : zH} {H : Heap} {d : Nat} (O : zRO s0) (hR : s0.2 h H) : H.size + (zrm s0 d h).cells = s0.1.heap.size + 953997 ∧ zwt s0.1 H + (zrm s0 d h).slots = 6224387 := by
  obtain ⟨r1, r2, r3, r4, r7, r8⟩ := O.sz hR
  simp only [zrm]
  constructor <;> omega
/-- a method's contract out of its walk -/
theorem zX.of {s0 : zE} {M : zM} {d : Nat} {a : List Value} {h : zH} {Q : Value → zH → Prop} {E : Nat → zH → Prop} {ls0 : List (Option Value)} (hh : M.2.2.2.2 = []) (hplain : plainName M.1.cls = true) (hlay : zlay a ls0) (hlen : ls0.length ≤ M.2.2.1) (hsl : (lg_sl a).length ≤ M.2.2.1)
    (K : zP s0 M d 0 ls0 [] h Q E) : zX s0 M d a h Q E := by
  intro l hflags
  have hz : zcode M = .code M.1 M.2.1 M.2.2.1 M.2.2.2.1 := by unfold zcode; rw [hh]
  rw [hz]
  refine vx_ofW (cc := M.2.1) (maxL := M.2.2.1) (ret := M.2.2.2.1) (ws' := []) hplain rfl ?_
  intro p e s m args below meth c s₁ B hml hno hv
  obtain ⟨rfl, hR, hW, hT, hO⟩ := hv
  have hl := lv_entry a hsl
  rw [lg_entry_eq]
  have hb := zcells (d := d) hO hR
  have htab : c.exceptionTable.toList = tableOf M.2.2.2.2 := by
    rw [hh]
    cases hx : c.exceptionTable.toList with
    | nil => rfl
    | cons x xs => exact (hno x (by rw [hx]; exact List.mem_cons_self)).elim
  have C : zCx s0 M d p l e (headSpec [Cond.code M.1 M.2.1 M.2.2.1 M.2.2.2.1] (zrm s0 d h)).room s m meth c := ⟨B.exec, B.bytes, B.returns, B.notSynchronized, hml, findClass_of_methodNamed B.named, (name_of_methodNamed B.named B.method).1, hW, hflags, htab, rfl, rfl, hb.1, hb.2, by have := hb.2; omega, (hO.sz hR).2.2.1, (hO.sz hR).2.1, hT, hO⟩
  have kk := K p l e _ s m a.toArray below meth c s.heap [] _ C hR ⟨Nat.le_refl _, Nat.le_refl _⟩ (fun q hq => by cases hq) ⟨hl.1, hl.2.1, hlen, fun i v hi => hl.2.2 (i, v) (by have := zlay_args a ls0 0 hlay i v hi; simpa using this)⟩
  rw [Nat.sub_self, Nat.sub_self] at kk
  exact kk
/-- a throw under way, at pc -/
def zPx (s0 : zE) (M : zM) (d pc : Nat) (ls : List (Option Value)) (n : Nat) (h : zH) (Q : Value → zH → Prop) (E : Nat → zH → Prop) : Prop :=
  ∀ (p : Program) (l : Launch) (e : Env) (R : Room) (s : State) (m : MethodId) (args : Array Value) (below : List Frame) (meth : Method) (c : Code) (H : Heap) (locs : List Loc) (LS : Array Slot) (En : String) (q : Addr) (ce : Cell) (rest : List Value),
    zCx s0 M d p l e R s m meth c → s0.2 h H → (s.heap.size ≤ H.size ∧ zwt s0.1 s.heap ≤ zwt s0.1 H) → (∀ q ∈ locs, s0.1.heap.size ≤ q.base) → zL LS M.2.2.1 ls →
    n = q + 1 → H[q]? = some ce → ce.vm = .none → s.vm.findClass En = some ce.cls → (∃ c fs r, zcl[c]? = some r ∧ r.1 = En ∧ h.1 n = some (c, fs)) →
    vx_W p l e R s m args below meth c H locs (H.size - s.heap.size) (zwt s0.1 H - zwt s0.1 s.heap) (vx_MQ below (zQc s0 M.2.2.2.1 Q) (zXc s0 E) args s R.cells R.slots (fun a => s0.1.heap.size ≤ a)) (F0 m pc LS rest) q
theorem zPx.out {s0 : zE} {M : zM} {d pc : Nat} {ls : List (Option Value)} {n : Nat} {h : zH} {Q : Value → zH → Prop} {E : Nat → zH → Prop} (hh : M.2.2.2.2 = []) (K : E n h) : zPx s0 M d pc ls n h Q E := by
  intro p l e R s m args below meth cd H locs LS En q ce rest C hR h1 h2 hL hn hce hcv hcl ⟨c, fs, r, g1, g2, g3⟩
  have hw := C.wide hR h1
  subst hn
  refine vx_out (E := En) (ce := ce) (fun x hx => ?_) C.2.2.2.1 hce hcv hcl (fun t ht hW => ⟨c, fs, r, h, g1, g2, g3, by rw [ht]; exact hR, K⟩) h2 hw.1 hw.2
  have ht := C.2.2.2.2.2.2.2.2.2.1
  rw [ht, hh] at hx
  cases hx
/-- behind a call -/
theorem z_after {s0 : zE} {M : zM} {d pc k : Nat} {ls : List (Option Value)} {st : List Value} {Q Q1 : Value → zH → Prop} {E E1 : Nat → zH → Prop} {r1 : Option FieldType} {p : Program} {l : Launch} {e : Env} {R : Room} {s : State} {m : MethodId} {args a : Array Value} {below : List Frame} {meth : Method} {c : Code} {H : Heap} {locs : List Loc} {LS : Array Slot} {cells slots mc ms : Nat} {st0 : List Value}
    (C : zCx s0 M d p l e R s m meth c) (h2 : ∀ q ∈ locs, s0.1.heap.size ≤ q.base) (hL : zL LS M.2.2.1 ls)
    (hrun : ∀ T : State, T.heap = H → Stand p l e R s m args below meth c T locs cells slots →
      (∃ (v : Option Value) (st₀ t T' : State) (L : List Loc), st₀.heap = H ∧ Stand p l e R s m args below meth c T' (locs ++ L) (cells + mc) (slots + ms) ∧ (∀ q ∈ L, s0.1.heap.size ≤ q.base) ∧ T'.heap = t.heap ∧ T'.vm = t.vm ∧ zQc s0 r1 Q1 a st₀ (.returned v) t ∧
        Goes p e below T (F0 m pc LS st0) T' { (F0 m pc LS st0) with pc := pc + k, stack := v.toList ++ st }) ∨
      (∃ (q : Addr) (st₀ t T' : State) (L : List Loc) (En : String) (ce : Cell), st₀.heap = H ∧ Stand p l e R s m args below meth c T' (locs ++ L) (cells + mc) (slots + ms) ∧ (∀ z ∈ L, s0.1.heap.size ≤ z.base) ∧ T'.heap = t.heap ∧ T'.vm = t.vm ∧ zXc s0 E1 En q st₀ t ∧ t.heap[q]? = some ce ∧ ce.vm = .none ∧ s.vm.findClass En = some ce.cls ∧
        Steps p.tables e below (T.setTop (F0 m pc LS st0)) ((T'.setTop { (F0 m pc LS st0) with stack := st }).pushFrame (.throwing q))))
    (K : ∀ v h1, Q1 v h1 → zP s0 M d (pc + k) ls ((zret r1 v).toList ++ st) h1 Q E) (KE : ∀ n h1, E1 n h1 → zPx s0 M d pc ls n h1 Q E) :
    W p l e R s m args below meth c H locs cells slots (vx_MQ below (zQc s0 M.2.2.2.1 Q) (zXc s0 E) args s R.cells R.slots (fun a => s0.1.heap.size ≤ a)) (F0 m pc LS st0) := by
  intro T hT X
  have hlo := C.old.2
  rcases hrun T hT X with ⟨v, st₀, t, T', L, h0, X', hLl, e1, e2, ⟨v', h1, hv, hR1, hQ⟩, st9⟩ | ⟨q, st₀, t, T', L, En, ce, h0, X', hLl, e1, e2, ⟨c9, fs9, r9, h1, g1, g2, g3, g4, g5⟩, hce, hcv, hcl, stp⟩
  · cases hv
    have hs := zstand_wt hlo X'
    rw [← e1] at hR1
    have kk := K v' h1 hQ p l e R s m args below meth c T'.heap (locs ++ L) LS C hR1 ⟨hs.1, by omega⟩ (fun z hz => by
      rcases List.mem_append.mp hz with hz | hz
      · exact h2 z hz
      · exact hLl z hz) hL
    obtain ⟨t2, a1, b1⟩ := (zW.tight hlo kk) T' rfl X'
    exact ⟨t2, st9 t2 a1, b1⟩
  · have hs := zstand_wt hlo X'
    rw [← e1] at g4 hce
    have kk := KE (q + 1) h1 g5 p l e R s m args below meth c T'.heap (locs ++ L) LS En q ce st C g4 ⟨hs.1, by omega⟩ (fun z hz => by
      rcases List.mem_append.mp hz with hz | hz
      · exact h2 z hz
      · exact hLl z hz) hL rfl hce hcv hcl ⟨c9, fs9, r9, g1, g2, g3⟩
    have X2 : Stand p l e R s m args below meth c T' (locs ++ L) (T'.heap.size - s.heap.size) (zwt s0.1 T'.heap - zwt s0.1 s.heap) := by
      refine { X' with same := ?_ }
      obtain ⟨a1, a2, a3, a4, a5, a6⟩ := X'.same
      have e9 : (T'.setVm s.vm).heap = T'.heap := rfl
      refine ⟨a1, a2, ?_, a4, ?_, a6⟩
      · rw [e9]; omega
      · rw [e9]; omega
    obtain ⟨t2, a1, b1⟩ := kk T' rfl X2
    exact ⟨t2, stp.trans a1, b1⟩
