/-! ===== L0: an abstract heap, and a judgement over it for the rest of a method (zP); one law an opcode ===== -/
set_option maxRecDepth 100000
/-- a cell: the number of its class in zcl and its fields, or 1000 and the number of its component's type in zar and its elements -/
abbrev zC : Type := Nat × List Value
/-- the heap: references are numbers from 1 on (0: null); the next number; the slots used since the start -/
abbrev zH : Type := (Nat → Option zC) × Nat × Nat
/-- a method: name, code, places for locals, answer, handlers -/
abbrev zM : Type := MethodName × ByteArray × Nat × Option FieldType × List (Nat × Nat × Nat × Nat)
def zr : Nat → Value
  | 0 => .null
  | a + 1 => .ref a
theorem zr_cat (n : Nat) : (zr n).category = 1 := by cases n <;> rfl
theorem zr_inj {a b : Nat} : zr a = zr b ↔ a = b := by
  cases a <;> cases b <;> simp [zr]
theorem zr_rf (n : Nat) : ∃ o : Option Nat, zr n = va_rf o := by
  cases n with
  | zero => exact ⟨none, rfl⟩
  | succ a => exact ⟨some a, rfl⟩
def zI : Value → Int32
  | .int x => x
  | _ => 0
def zJ : Value → Int64
  | .long x => x
  | _ => 0
def zN : Value → Nat
  | .ref a => a + 1
  | _ => 0
theorem zI_int (x : Int32) : zI (.int x) = x := rfl
theorem zJ_long (x : Int64) : zJ (.long x) = x := rfl
theorem zN_zr (n : Nat) : zN (zr n) = n := by cases n <;> rfl
/-- the tables' words, at the start -/
def zT (s0 : State) : Prop := ∃ b0 : Addr, (∀ w ∈ lw_tbl, w.before #[Value.ref b0] s0 = true) ∧ (Jvm.Cond.and given_1 narrow_1).before #[Value.ref b0] s0 = true
theorem zT.w {s0 : State} (h : zT s0) {w : Cond} (hw : w ∈ lw_all) {A : Array Value} {U : State} (hW : s0.WarmedH U.vm) : w.before A U = true := by
  obtain ⟨b0, h, -⟩ := h
  exact word_at hW (lw_self w hw).2 (h w (lw_all_tbl hw))
theorem zT.nw {s0 : State} (h : zT s0) {w : Cond} (hw : w ∈ lw_tbl) (ht : w.onTables = true) : va_Nw w s0 := by
  obtain ⟨b0, h, -⟩ := h
  exact va_Nw.of ht (h w hw)
theorem zT.all {s0 : State} (h : zT s0) : ∀ w ∈ lw_all, w.before #[] s0 = true := fun w hw => h.w hw (State.WarmedH.refl s0)
theorem zKn1 {s0 : State} (h : zT s0) {q : vw_C} (hq : zCf q) : ∃ (cC : ClassId) (iS : Nat → Nat), u_Kn s0 q.1 q.2.1 q.2.2 cC iS := by
  obtain ⟨h1, ⟨n, h2⟩, -⟩ := hq
  exact u_known (ws := lw_all) (args := #[]) h.all h1 (h.all _ h2)
theorem zK_ex {s0 : State} (h : zT s0) : ∃ D : va_G, va_K D zcl [] s0 := by
  have h1 : ∀ c : Nat, ∃ x : ClassId × (Nat → Nat), ∀ q, zcl[c]? = some q → u_Kn s0 q.1 q.2.1 q.2.2 x.1 x.2 := by
    intro c
    cases hc : zcl[c]? with
    | none => exact ⟨(0, fun _ => 0), fun q hq => by cases hq⟩
    | some q =>
      obtain ⟨a, b, h2⟩ := zKn1 h (zcl_ok q (List.mem_of_getElem? hc))
      exact ⟨(a, b), fun q' hq => by cases hq; exact h2⟩
  exact ⟨(fun c => (Classical.choose (h1 c)).1, fun c => (Classical.choose (h1 c)).2), fun c q hq => Classical.choose_spec (h1 c) q hq, fun k q hk => by simp at hk⟩
noncomputable def zD (s0 : State) : va_G := Classical.epsilon (fun D => va_K D zcl [] s0)
theorem zK {s0 : State} (h : zT s0) : va_K (zD s0) zcl [] s0 := Classical.epsilon_spec (zK_ex h)
theorem zKU {s0 U : State} (h : zT s0) (hW : s0.WarmedH U.vm) {c : Nat} {q : vw_C} (hc : zcl[c]? = some q) : u_Kn U q.1 q.2.1 q.2.2 ((zD s0).1 c) ((zD s0).2 c) :=
  u_Kn_moved hW.alike ((zK h).1 c q hc)
/-- an array's class, by its component's type -/
noncomputable def zac (s0 : State) (ty : FieldType) : ClassId := (s0.vm.findClass ("[" ++ ty.toString)).getD 0
theorem zAk {s0 : State} (h : zT s0) {ty : FieldType} (ht : zAf ty) : ∃ k comp, s0.vm.findClass ("[" ++ ty.toString) = some (zac s0 ty) ∧ s0.vm.classes[zac s0 ty]? = some k ∧ k.kind = .array comp ty ∧ (∀ C, ty = .object C → s0.vm.findClass C = some comp) ∧ (∀ t, ty = .array t → s0.vm.findClass ty.toString = some comp) := by
  rcases ht with ⟨ht, n1, n2⟩ | ⟨ht, ⟨C, rfl⟩ | ⟨t, rfl⟩⟩
  · obtain ⟨c, k, comp, h1, h2, h3⟩ := Cond.arrayClass_spec (h.all _ ht)
    have e : zac s0 ty = c := by unfold zac; rw [h1]; rfl
    exact ⟨k, comp, by rw [e]; exact h1, by rw [e]; exact h2, h3, fun C hC => absurd hC (n1 C), fun t hC => absurd hC (n2 t)⟩
  · obtain ⟨b0, h, -⟩ := h
    obtain ⟨comp, c, k, h1, -, h2, h3, h4⟩ := Cond.arrayOver_spec (h _ ht)
    have e : zac s0 (.object C) = c := by unfold zac; rw [h4]; rfl
    exact ⟨k, comp, by rw [e]; exact h4, by rw [e]; exact h2, h3, fun C' hC => (by cases hC; exact h1), fun t hC => (by cases hC)⟩
  · obtain ⟨b0, h, -⟩ := h
    obtain ⟨comp, c, k, h1, h2, h3, h4⟩ := Cond.arrayOver_specA (h _ ht)
    have e : zac s0 (.array t) = c := by unfold zac; rw [h4]; rfl
    exact ⟨k, comp, by rw [e]; exact h4, by rw [e]; exact h2, h3, fun C' hC => (by cases hC), fun t hC => h1⟩
/-- a cell of the machine's holds what the abstract one says -/
def zAt (s0 : State) (n : Nat) (q : zC) (H : Heap) : Prop :=
  ∃ (a : Nat) (cell : Cell), n = a + 1 ∧ H[a]? = some cell ∧ cell.vm ≠ .unknown ∧ (∀ z, cell.vm ≠ .statics z) ∧ (s0.heap.size ≤ a → cell.vm = .none) ∧
    ((∃ r : vw_C, zcl[q.1]? = some r ∧ q.2.length = r.2.2 ∧ cell.cls = (zD s0).1 q.1 ∧ (∀ k : Nat, k < r.2.2 → cell.slots[(zD s0).2 q.1 k]? = q.2[k]?)) ∨
     (∃ ty : FieldType, 1000 ≤ q.1 ∧ q.1 < 2000 ∧ zar[q.1 - 1000]? = some ty ∧ cell.cls = zac s0 ty ∧ cell.slots.toList = q.2) ∨
     (∃ r : vw_C, 2000 ≤ q.1 ∧ zcl[q.1 - 2000]? = some r ∧ cell.cls = (zD s0).1 (q.1 - 2000)))
/-- the slots in use since the start -/
def zwt (s0 : State) (H : Heap) : Nat := ((H.toList.drop s0.heap.size).map (·.slots.size)).sum
/-- the classes of which a cell may have been there at the start: String, Integer, arrays -/
def zold (c : Nat) : Bool := c == 48 || c == 52 || Nat.ble 1000 c
/-- the machine's heap is as the abstract one says; what was there at the start is as it was -/
def zR (s0 : State) (h : zH) (H : Heap) : Prop :=
  H.size + 1 = h.2.1 ∧ s0.heap.size ≤ H.size ∧ (∀ a : Nat, a < s0.heap.size → H[a]? = s0.heap[a]?) ∧ zwt s0 H = h.2.2 ∧ (∀ n q, h.1 n = some q → zAt s0 n q H) ∧ (∀ n q, h.1 n = some q → n ≤ s0.heap.size → zold q.1 = true) ∧ h.2.1 ≤ s0.heap.size + 953998 ∧ h.2.2 ≤ 6224387
/-- a state at the start, and what it is for the machine's heap to be as the abstract one says -/
abbrev zE : Type := State × (zH → Heap → Prop)
/-- a field or an element is written -/
def zput (h : zH) (n k : Nat) (v : Value) : zH := (fun x => if x = n then (h.1 n).map (fun q => (q.1, q.2.set k v)) else h.1 x, h.2.1, h.2.2)
theorem zput_self {h : zH} {n k : Nat} {v : Value} {c : Nat} {fs : List Value} (hn : h.1 n = some (c, fs)) : (zput h n k v).1 n = some (c, fs.set k v) := by
  simp [zput, hn]
theorem zput_ne {h : zH} {n k x : Nat} {v : Value} (hx : x ≠ n) : (zput h n k v).1 x = h.1 x := by
  simp [zput, hx]
theorem zput_2 {h : zH} {n k : Nat} {v : Value} : (zput h n k v).2 = h.2 := rfl
/-- a new cell -/
def znew (h : zH) (c : Nat) (fs : List Value) (w : Nat) : zH := (fun x => if x = h.2.1 then some (c, fs) else h.1 x, h.2.1 + 1, h.2.2 + w)
theorem znew_self {h : zH} {c : Nat} {fs : List Value} {w : Nat} : (znew h c fs w).1 h.2.1 = some (c, fs) := by simp [znew]
theorem znew_ne {h : zH} {c : Nat} {fs : List Value} {w x : Nat} (hx : x ≠ h.2.1) : (znew h c fs w).1 x = h.1 x := by simp [znew, hx]
/-- there is room for one more cell of w slots -/
def zroom (s0 : zE) (h : zH) (w : Nat) : Prop := h.2.1 ≤ s0.1.heap.size + 953997 ∧ h.2.2 + w ≤ 6224387
/-- classes whose cells are as the machine's -/
def zpl (c : Nat) : Prop := c < 2000
/-- what is asked of a reading of the heap -/
def zRO (s0 : zE) : Prop :=
  (∀ h H, s0.2 h H → H.size + 1 = h.2.1 ∧ s0.1.heap.size ≤ H.size ∧ (∀ a : Nat, a < s0.1.heap.size → H[a]? = s0.1.heap[a]?) ∧ zwt s0.1 H = h.2.2 ∧ h.2.1 ≤ s0.1.heap.size + 953998 ∧ h.2.2 ≤ 6224387) ∧
  (∀ h H n q, s0.2 h H → h.1 n = some q → zAt s0.1 n q H ∧ (n ≤ s0.1.heap.size → zold q.1 = true)) ∧
  (∀ h H H' q k v a cell cell', s0.2 h H → h.1 (a + 1) = some q → zpl q.1 → s0.1.heap.size ≤ a → H[a]? = some cell → H'[a]? = some cell' → cell'.slots.size = cell.slots.size → H'.size = H.size → (∀ x, x ≠ a → H'[x]? = H[x]?) → zAt s0.1 (a + 1) (q.1, q.2.set k v) H' → s0.2 (zput h (a + 1) k v) H') ∧
  (∀ h H H' cell c fs w, s0.2 h H → zroom s0 h w → zpl c → H'[H.size]? = some cell → H'.size = H.size + 1 → (∀ x, x < H.size → H'[x]? = H[x]?) → cell.slots.size = w → zAt s0.1 h.2.1 (c, fs) H' → s0.2 (znew h c fs w) H')
theorem zRO.sz {s0 : zE} {h : zH} {H : Heap} (O : zRO s0) (hR : s0.2 h H) : H.size + 1 = h.2.1 ∧ s0.1.heap.size ≤ H.size ∧ (∀ a : Nat, a < s0.1.heap.size → H[a]? = s0.1.heap[a]?) ∧ zwt s0.1 H = h.2.2 ∧ h.2.1 ≤ s0.1.heap.size + 953998 ∧ h.2.2 ≤ 6224387 := O.1 h H hR
theorem zRO.at {s0 : zE} {h : zH} {H : Heap} (O : zRO s0) (hR : s0.2 h H) {n : Nat} {q : zC} (hn : h.1 n = some q) : zAt s0.1 n q H ∧ (n ≤ s0.1.heap.size → zold q.1 = true) := O.2.1 h H n q hR hn
/-- where a method's walk stands -/
def zCx (s0 : zE) (M : zM) (d : Nat) (p : Program) (l : Launch) (e : Env) (R : Room) (s : State) (m : MethodId) (meth : Method) (c : Code) : Prop :=
  p.tables.exec = Jvm.exec ∧ c.code = M.2.1 ∧ meth.sig.returnType = M.2.2.2.1 ∧ meth.locks = false ∧ c.maxLocals = M.2.2.1 ∧ s.vm.findClass M.1.cls = some m.cls ∧ meth.name = M.1.name ∧ s0.1.WarmedH s.vm ∧ l.flags = flags0 ∧
  c.exceptionTable.toList = tableOf M.2.2.2.2 ∧ R.frames = d ∧ R.locals = 100 * d ∧ s.heap.size + R.cells = s0.1.heap.size + 953997 ∧ zwt s0.1 s.heap + R.slots = 6224387 ∧ zwt s0.1 s.heap ≤ 6224387 ∧ (∀ a : Nat, a < s0.1.heap.size → s.heap[a]? = s0.1.heap[a]?) ∧ s0.1.heap.size ≤ s.heap.size ∧ zT s0.1 ∧ zRO s0
/-- the locals -/
def zL (LS : Array Slot) (n : Nat) (ls : List (Option Value)) : Prop := LS.size = n ∧ lv_wf LS ∧ ls.length ≤ n ∧ ∀ (i : Nat) (v : Value), ls[i]? = some (some v) → LS[i]? = some (.val v)
def zret (r : Option FieldType) (v : Value) : Option Value := match r with
  | none => none
  | some _ => some v
/-- what a method owes at its end: Q, where it answers, E, where it throws -/
def zQc (s0 : zE) (r : Option FieldType) (Q : Value → zH → Prop) : Array Value → State → Outcome → State → Prop := fun _ _ o t => ∃ v h, o = .returned (zret r v) ∧ s0.2 h t.heap ∧ Q v h
def zXc (s0 : zE) (E : Nat → zH → Prop) : String → Addr → State → State → Prop := fun En q _ t => ∃ c fs r h, zcl[c]? = some r ∧ r.1 = En ∧ h.1 (q + 1) = some (c, fs) ∧ s0.2 h t.heap ∧ E (q + 1) h
/-- from here on, in method M, with d frames left: it comes to an answer with Q or a throw with E -/
def zP (s0 : zE) (M : zM) (d pc : Nat) (ls : List (Option Value)) (st : List Value) (h : zH) (Q : Value → zH → Prop) (E : Nat → zH → Prop) : Prop :=
  ∀ (p : Program) (l : Launch) (e : Env) (R : Room) (s : State) (m : MethodId) (args : Array Value) (below : List Frame) (meth : Method) (c : Code) (H : Heap) (locs : List Loc) (LS : Array Slot),
    zCx s0 M d p l e R s m meth c → s0.2 h H → (s.heap.size ≤ H.size ∧ zwt s0.1 s.heap ≤ zwt s0.1 H) → (∀ q ∈ locs, s0.1.heap.size ≤ q.base) → zL LS M.2.2.1 ls →
    W p l e R s m args below meth c H locs (H.size - s.heap.size) (zwt s0.1 H - zwt s0.1 s.heap) (vx_MQ below (zQc s0 M.2.2.2.1 Q) (zXc s0 E) args s R.cells R.slots (fun a => s0.1.heap.size ≤ a)) (F0 m pc LS st)
theorem zP.step {s0 : zE} {M : zM} {d pc pc' : Nat} {ls ls' : List (Option Value)} {st st' : List Value} {h : zH} {Q : Value → zH → Prop} {E : Nat → zH → Prop}
    (f : ∀ (p : Program) (l : Launch) (e : Env) (R : Room) (s : State) (m : MethodId) (args : Array Value) (below : List Frame) (meth : Method) (c : Code) (H : Heap) (locs : List Loc) (cells slots : Nat) (Qf : State → Prop) (LS : Array Slot),
      zCx s0 M d p l e R s m meth c → zL LS M.2.2.1 ls → (∀ LS', zL LS' M.2.2.1 ls' → W p l e R s m args below meth c H locs cells slots Qf (F0 m pc' LS' st')) → W p l e R s m args below meth c H locs cells slots Qf (F0 m pc LS st))
    (K : zP s0 M d pc' ls' st' h Q E) : zP s0 M d pc ls st h Q E := by
  intro p l e R s m args below meth c H locs LS C hR h1 h2 hL
  exact f _ _ _ _ _ _ _ _ _ _ _ _ _ _ _ _ C hL (fun LS' hL' => K _ _ _ _ _ _ _ _ _ _ _ _ _ C hR h1 h2 hL')
theorem zP.br {s0 : zE} {M : zM} {d pc p1 p2 : Nat} {ls : List (Option Value)} {st st' : List Value} {h : zH} {Q : Value → zH → Prop} {E : Nat → zH → Prop} {cnd cnd' : Prop}
    (f : ∀ (p : Program) (l : Launch) (e : Env) (R : Room) (s : State) (m : MethodId) (args : Array Value) (below : List Frame) (meth : Method) (c : Code) (H : Heap) (locs : List Loc) (cells slots : Nat) (Qf : State → Prop) (LS : Array Slot),
      zCx s0 M d p l e R s m meth c → (cnd → W p l e R s m args below meth c H locs cells slots Qf (F0 m p1 LS st')) → (cnd' → W p l e R s m args below meth c H locs cells slots Qf (F0 m p2 LS st')) → W p l e R s m args below meth c H locs cells slots Qf (F0 m pc LS st))
    (K1 : cnd → zP s0 M d p1 ls st' h Q E) (K2 : cnd' → zP s0 M d p2 ls st' h Q E) : zP s0 M d pc ls st h Q E := by
  intro p l e R s m args below meth c H locs LS C hR h1 h2 hL
  exact f _ _ _ _ _ _ _ _ _ _ _ _ _ _ _ _ C (fun hc => K1 hc _ _ _ _ _ _ _ _ _ _ _ _ _ C hR h1 h2 hL) (fun hc => K2 hc _ _ _ _ _ _ _ _ _ _ _ _ _ C hR h1 h2 hL)
/-- the books of cells and slots may be taken at their true count -/
theorem zsum_old {A B : List Cell} {n lo : Nat} (hn : A.length = n) (hlo : lo ≤ n) (h : ∀ (i : Nat) (c : Cell), A[i]? = some c → ∃ c' : Cell, B[i]? = some c' ∧ c'.slots.size = c.slots.size) :
    ((B.drop lo).map (·.slots.size)).sum = ((A.drop lo).map (·.slots.size)).sum + ((B.drop n).map (·.slots.size)).sum := by
  have e1 : B.drop lo = (B.drop lo).take (n - lo) ++ B.drop n := by
    have h2 := (List.take_append_drop (n - lo) (B.drop lo)).symm
    rw [List.drop_drop, show lo + (n - lo) = n by omega] at h2
    exact h2
  rw [e1, List.map_append, List.sum_append]
  congr 2
  apply List.ext_getElem?
  intro i
  rw [List.getElem?_map, List.getElem?_map, List.getElem?_take, List.getElem?_drop, List.getElem?_drop]
  by_cases hi : i < n - lo
  · rw [if_pos hi]
    have hl : lo + i < A.length := by omega
    obtain ⟨c', h1, h2⟩ := h (lo + i) _ (List.getElem?_eq_getElem hl)
    rw [h1, List.getElem?_eq_getElem hl]
    simp [h2]
  · rw [if_neg hi]
    rw [List.getElem?_eq_none (by omega)]
theorem zstand_wt {s1 : State} {p : Program} {l : Launch} {e : Env} {R : Room} {s : State} {m : MethodId} {args : Array Value} {below : List Frame} {meth : Method} {c : Code} {T : State} {locs : List Loc} {cells slots : Nat} (hlo : s1.heap.size ≤ s.heap.size) (X : Stand p l e R s m args below meth c T locs cells slots) :
    s.heap.size ≤ T.heap.size ∧ zwt s1 T.heap = zwt s1 s.heap + ((T.heap.toList.drop s.heap.size).map (·.slots.size)).sum := by
  obtain ⟨a1, a2, a3, a4, a5, a6⟩ := X.same
  refine ⟨a2, ?_⟩
  unfold zwt
  refine zsum_old (A := s.heap.toList) (B := T.heap.toList) (n := s.heap.size) Array.length_toList hlo fun i c hc => ?_
  rw [Array.getElem?_toList] at hc
  obtain ⟨c', h1, -, h3, -⟩ := a6 i c hc
  refine ⟨c', ?_, h3⟩
  rw [Array.getElem?_toList]
  exact h1
theorem zW.tight {s1 : State} {p : Program} {l : Launch} {e : Env} {R : Room} {s : State} {m : MethodId} {args : Array Value} {below : List Frame} {meth : Method} {c : Code} {H : Heap} {locs : List Loc} {cells slots : Nat} {Q : State → Prop} {g : JFrame} (hlo : s1.heap.size ≤ s.heap.size)
    (k : W p l e R s m args below meth c H locs (H.size - s.heap.size) (zwt s1 H - zwt s1 s.heap) Q g) : W p l e R s m args below meth c H locs cells slots Q g := by
  intro T hT X
  refine k T hT { X with same := ?_ }
  obtain ⟨a1, a2, a3, a4, a5, a6⟩ := X.same
  have e2 : (T.setVm s.vm).heap = H := hT
  have hs := (zstand_wt hlo X).2
  rw [hT] at hs
  refine ⟨a1, a2, ?_, a4, ?_, a6⟩
  · rw [e2]
    rw [e2] at a2
    omega
  · rw [e2]
    omega
theorem zCx.tt {s0 : zE} {M : zM} {d : Nat} {p : Program} {l : Launch} {e : Env} {R : Room} {s : State} {m : MethodId} {meth : Method} {c : Code} (C : zCx s0 M d p l e R s m meth c) : zT s0.1 := C.2.2.2.2.2.2.2.2.2.2.2.2.2.2.2.2.2.1
theorem zCx.ro {s0 : zE} {M : zM} {d : Nat} {p : Program} {l : Launch} {e : Env} {R : Room} {s : State} {m : MethodId} {meth : Method} {c : Code} (C : zCx s0 M d p l e R s m meth c) : zRO s0 := C.2.2.2.2.2.2.2.2.2.2.2.2.2.2.2.2.2.2
theorem zCx.wm {s0 : zE} {M : zM} {d : Nat} {p : Program} {l : Launch} {e : Env} {R : Room} {s : State} {m : MethodId} {meth : Method} {c : Code} (C : zCx s0 M d p l e R s m meth c) : s0.1.WarmedH s.vm := C.2.2.2.2.2.2.2.1
theorem zCx.own {s0 : zE} {M : zM} {d : Nat} {p : Program} {l : Launch} {e : Env} {R : Room} {s : State} {m : MethodId} {meth : Method} {c : Code} (C : zCx s0 M d p l e R s m meth c) : s.vm.findClass M.1.cls = some m.cls := C.2.2.2.2.2.1
theorem zCx.old {s0 : zE} {M : zM} {d : Nat} {p : Program} {l : Launch} {e : Env} {R : Room} {s : State} {m : MethodId} {meth : Method} {c : Code} (C : zCx s0 M d p l e R s m meth c) : (∀ a : Nat, a < s0.1.heap.size → s.heap[a]? = s0.1.heap[a]?) ∧ s0.1.heap.size ≤ s.heap.size := ⟨C.2.2.2.2.2.2.2.2.2.2.2.2.2.2.2.1, C.2.2.2.2.2.2.2.2.2.2.2.2.2.2.2.2.1⟩
def zo : Nat → Option Nat
  | 0 => none
  | a + 1 => some a
theorem zr_zo (n : Nat) : zr n = va_rf (zo n) := by cases n <;> rfl
theorem zo_inj {a b : Nat} : zo a = zo b ↔ a = b := by
  cases a <;> cases b <;> simp [zo]
section ZA
variable {p : Program} {l : Launch} {e : Env} {R : Room} {s : State} {m : MethodId} {args : Array Value} {below : List Frame} {meth : Method} {c : Code} {H : Heap} {locs : List Loc} {cells slots : Nat} {Q : State → Prop}
variable {cc : ByteArray} {pc : Nat} {ls : Array Slot} {rest : List Value}
theorem zacmp_eq (hexec : p.tables.exec = Jvm.exec) (hb : c.code = cc) {x y : Nat} {off : Int} {tgt : Nat} (hdg : decode cc pc = .ok (.if_acmp .eq off, 3)) (ht : (pc : Int) + off = (tgt : Int))
    (kt : x = y → W p l e R s m args below meth c H locs cells slots Q (F0 m tgt ls rest)) (kf : ¬ x = y → W p l e R s m args below meth c H locs cells slots Q (F0 m (pc + 3) ls rest)) : W p l e R s m args below meth c H locs cells slots Q (F0 m pc ls (zr y :: zr x :: rest)) := by
  rw [zr_zo x, zr_zo y]
  exact lv_acmp_eq hexec hb hdg ht (fun h => kt (zo_inj.mp h)) (fun h => kf (fun h2 => h (zo_inj.mpr h2)))
theorem zacmp_ne (hexec : p.tables.exec = Jvm.exec) (hb : c.code = cc) {x y : Nat} {off : Int} {tgt : Nat} (hdg : decode cc pc = .ok (.if_acmp .ne off, 3)) (ht : (pc : Int) + off = (tgt : Int))
    (kt : ¬ x = y → W p l e R s m args below meth c H locs cells slots Q (F0 m tgt ls rest)) (kf : x = y → W p l e R s m args below meth c H locs cells slots Q (F0 m (pc + 3) ls rest)) : W p l e R s m args below meth c H locs cells slots Q (F0 m pc ls (zr y :: zr x :: rest)) := by
  rw [zr_zo x, zr_zo y]
  exact lv_acmp_ne hexec hb hdg ht (fun h => kt (fun h2 => h (zo_inj.mpr h2))) (fun h => kf (zo_inj.mp h))
end ZA
/-- the locals as the kit lists them -/
def zal (ls : List (Option Value)) : List (Nat × Value) := (List.range ls.length).filterMap (fun i => match ls[i]? with
  | some (some v) => some (i, v)
  | _ => none)
theorem zal_mem {ls : List (Option Value)} {i : Nat} {v : Value} : (i, v) ∈ zal ls ↔ ls[i]? = some (some v) := by
  unfold zal
  rw [List.mem_filterMap]
  constructor
  · rintro ⟨j, hj, h⟩
    split at h
    · rename_i w hw
      cases h
      exact hw
    · cases h
  · intro h
    refine ⟨i, List.mem_range.mpr (List.getElem?_eq_some_iff.mp h).1, ?_⟩
    rw [h]
theorem zal_has {LS : Array Slot} {n : Nat} {ls : List (Option Value)} (h : zL LS n ls) : lv_has LS n (zal ls) :=
  ⟨h.1, h.2.1, fun q hq => h.2.2.2 q.1 q.2 (zal_mem.mp hq)⟩
/-- the place ahead of i holds no long -/
def zpre (ls : List (Option Value)) : Nat → Prop
  | 0 => True
  | j + 1 => match ls[j]? with
    | some (some w) => w.category = 1
    | _ => True
theorem zL_set1 {LS' : Array Slot} {n i : Nat} {ls : List (Option Value)} {v : Value} (hlen : ls.length ≤ n) (hp : zpre ls i)
    (h : lv_has LS' n ((i, v) :: (zal ls).filter (fun q => !(q.1 == i) && !(q.1 + 1 == i && q.2.category == 2)))) : zL LS' n (ls.set i (some v)) := by
  refine ⟨h.1, h.2.1, by rw [List.length_set]; exact hlen, fun j w hj => ?_⟩
  by_cases e : j = i
  · subst e
    rw [List.getElem?_set_self'] at hj
    cases hl : ls[j]? with
    | none => rw [hl] at hj; cases hj
    | some z =>
      rw [hl] at hj
      cases hj
      exact h.2.2 _ List.mem_cons_self
  · rw [List.getElem?_set_ne (fun q => e q.symm)] at hj
    refine h.2.2 (j, w) (List.mem_cons_of_mem _ (List.mem_filter.mpr ⟨zal_mem.mpr hj, ?_⟩))
    have h1 : (j == i) = false := by simpa using e
    by_cases e2 : j + 1 = i
    · subst e2
      have h2 : w.category = 1 := by
        simp only [zpre, hj] at hp
        exact hp
      simp [h2]
    · simp [e, e2]
theorem zL_set2 {LS' : Array Slot} {n i : Nat} {ls : List (Option Value)} {v : Value} (hlen : ls.length ≤ n) (hp : zpre ls i)
    (h : lv_has LS' n ((i, v) :: (zal ls).filter (fun q => !(q.1 == i) && (!(q.1 == i + 1) && !(q.1 + 1 == i && q.2.category == 2))))) : zL LS' n ((ls.set i (some v)).set (i + 1) none) := by
  refine ⟨h.1, h.2.1, by rw [List.length_set, List.length_set]; exact hlen, fun j w hj => ?_⟩
  by_cases e3 : j = i + 1
  · subst e3
    rw [List.getElem?_set_self'] at hj
    cases hl : (ls.set i (some v))[i + 1]? with
    | none => rw [hl] at hj; cases hj
    | some z => rw [hl] at hj; cases hj
  rw [List.getElem?_set_ne (fun q => e3 q.symm)] at hj
  by_cases e : j = i
  · subst e
    rw [List.getElem?_set_self'] at hj
    cases hl : ls[j]? with
    | none => rw [hl] at hj; cases hj
    | some z =>
      rw [hl] at hj
      cases hj
      exact h.2.2 _ List.mem_cons_self
  · rw [List.getElem?_set_ne (fun q => e q.symm)] at hj
    refine h.2.2 (j, w) (List.mem_cons_of_mem _ (List.mem_filter.mpr ⟨zal_mem.mpr hj, ?_⟩))
    by_cases e2 : j + 1 = i
    · subst e2
      have h2 : w.category = 1 := by
        simp only [zpre, hj] at hp
        exact hp
      simp [h2]
      omega
    · simp [e, e2, e3]
