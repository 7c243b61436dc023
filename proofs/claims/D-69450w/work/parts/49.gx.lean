/-! ===== the twin: cells that become things, arrays that are replaced ===== -/
set_option maxRecDepth 100000
/-- but for the thing (c0, i0), all is as it was, and perhaps more is frozen -/
def gX (g g' : sG) (c0 i0 : Nat) : Prop :=
  (∀ c i, c ≠ 0 → ¬ (c = c0 ∧ i = i0) → gA1 g c i → gA1 g' c i) ∧ (∀ c i, ¬ (c = c0 ∧ i = i0) → g'.ref c i = g.ref c i) ∧ (∀ c i, ¬ (c = c0 ∧ i = i0) → g'.ar c i = g.ar c i) ∧ (∀ n q, gF g n q → gF g' n q) ∧ g'.rf = g.rf
section GX
variable {s0 : zE} {F : Nat → Option zC} {b : Nat} {s s' : sSt} {w w' : tW} {g g' : sG} {h h' : zH} {d x0 c0 i0 : Nat}
theorem gX.B (X : gX g g' c0 i0) {n : Nat} {x : sBy} (hk : gB g n x) : gB g' n x := X.2.2.2.1 _ _ hk
theorem gX.Bo (X : gX g g' c0 i0) {n : Nat} {x : Option sBy} (hk : gBo g n x) : gBo g' n x := by
  cases x with
  | none => exact hk
  | some y => exact X.B hk
theorem gX.Tab (X : gX g g' c0 i0) {n : Nat} {x : sTab} (hk : gTab g n x) : gTab g' n x := by
  obtain ⟨a1, a2, a3, a4, r, l1, l2, l3, l4, e1, e2, e3, e4, e5, e6, e7, e8, e9, e10, e11, e12⟩ := hk
  refine ⟨a1, a2, a3, a4, r, l1, l2, l3, l4, X.2.2.2.1 _ _ e1, X.2.2.2.1 _ _ e2, X.2.2.2.1 _ _ e3, X.2.2.2.1 _ _ e4, X.2.2.2.1 _ _ e5, X.B e6, e7, e8, e9, e10, e11, fun j x hx => ?_⟩
  obtain ⟨n1, n4, f1, f2, f3, f4, f5, f6⟩ := e12 j x hx
  exact ⟨n1, n4, f1, X.B f2, f3, f4, f5, fun e => X.B (f6 e)⟩
theorem gX.To (X : gX g g' c0 i0) {n : Nat} {x : Option sTab} (hk : gTo g n x) : gTo g' n x := by
  cases x with
  | none => exact hk
  | some y => exact X.Tab hk
theorem gX.Cont (X : gX g g' c0 i0) {n : Nat} {x : sCont} (hk : gCont g n x) : gCont g' n x := by
  obtain ⟨e, k, hd, bd, got, f1, f2, f3, f4, f5⟩ := hk
  exact ⟨e, k, hd, bd, got, X.2.2.2.1 _ _ f1, X.B f2, X.B f3, X.To f4, X.B f5⟩
theorem gX.Ke (X : gX g g' c0 i0) (hc : c0 ≠ 37) {n : Nat} {x : sKe} (hk : gKe g n x) : gKe g' n x := by
  obtain ⟨c, t, f1, f2⟩ := hk
  refine ⟨c, t, X.2.2.2.1 _ _ f1, ?_⟩
  revert f2
  cases x.cont with
  | none =>
    intro f2
    refine ⟨f2.1, ?_⟩
    rw [show (fun i => zr (g'.ref 37 i)) = (fun i => zr (g.ref 37 i)) from funext fun i => by rw [X.2.1 37 i fun e => hc e.1.symm]]
    exact X.2.2.2.1 _ _ f2.2
  | some y => exact fun f2 => X.Cont f2
theorem gX.De (X : gX g g' c0 i0) (hc : c0 ≠ 36) {n : Nat} {x : sDe} (hk : gDe g n x) : gDe g' n x := by
  obtain ⟨e, k, f1, f2, f3⟩ := hk
  refine ⟨e, k, ?_, X.B f2, X.Bo f3⟩
  rw [X.2.1 36 _ fun e => hc e.1.symm]
  exact X.2.2.2.1 _ _ f1
theorem gX.Fa (X : gX g g' c0 i0) (hc : c0 ≠ 32 ∧ c0 ≠ 33 ∧ c0 ≠ 34 ∧ c0 ≠ 36) {n : Nat} {x : sFa} (hk : gFa g n x) : gFa g' n x := by
  obtain ⟨e, q, bb, m, f1, f2, f3, f4, f5, f6⟩ := hk
  refine ⟨e, q, bb, m, X.2.2.2.1 _ _ f1, ?_, ?_, ?_, ?_, f6⟩
  · rw [X.2.1 32 _ fun e => hc.1 e.1.symm]; exact f2
  · rw [X.2.1 33 _ fun e => hc.2.1 e.1.symm]; exact f3
  · rw [X.2.1 34 _ fun e => hc.2.2.1 e.1.symm]; exact f4
  · rw [X.2.1 36 _ fun e => hc.2.2.2 e.1.symm]; exact f5
theorem gX.Ar (X : gX g g' c0 i0) {c i n : Nat} {xs : List Value} (hne : ¬ (c = c0 ∧ i = i0)) (A : gAr g c i n xs) (h0 : c ≠ 0 := by decide) : gAr g' c i n xs :=
  ⟨X.1 c i h0 hne A.1, by rw [X.2.2.1 c i hne]; exact A.2.1, by rw [X.2.2.1 c i hne]; exact A.2.2⟩
/-- .. of references to things -/
theorem gX.Am (X : gX g g' c0 i0) {c i n k : Nat} {l : List Nat} (hne : ¬ (c = c0 ∧ i = i0)) (hk : k ≠ c0) (A : gAr g c i n (l.map (fun x => zr (g.ref k x)))) (h0 : c ≠ 0 := by decide) : gAr g' c i n (l.map (fun x => zr (g'.ref k x))) := by
  rw [show (fun x => zr (g'.ref k x)) = (fun x => zr (g.ref k x)) from funext fun x => by rw [X.2.1 k x fun e => hk e.1]]
  exact X.Ar hne A h0
theorem gX.AF {α : Type} {P : sG → Nat → α → Prop} (X : gX g g' c0 i0) {c i n : Nat} {xs : List α} (hne : ¬ (c = c0 ∧ i = i0)) (hP : ∀ r x, P g r x → P g' r x) (A : gArF g c i n P xs) (h0 : c ≠ 0 := by decide) : gArF g' c i n P xs := by
  obtain ⟨a1, a2, a3, a4⟩ := A
  refine ⟨X.1 c i h0 hne a1, by rw [X.2.2.1 c i hne]; exact a2, a3, fun j x hx => ?_⟩
  obtain ⟨r, h1, h2⟩ := a4 j x hx
  exact ⟨r, by rw [X.2.2.1 c i hne]; exact h1, hP r x h2⟩
theorem gX.gar (X : gX g g' c0 i0) (hc : c0 = 0 ∨ c0 = 10 ∨ c0 = 28 ∨ c0 = 30) (G : tGar s w g) : tGar s w g' := by
  obtain ⟨b4, b5, b6, b7, b8, b11, b12, b13, b14, b15, b16, b17, b24, bz⟩ := G
  exact ⟨X.Am (by omega) (by omega) b4, X.Am (by omega) (by omega) b5, X.Am (by omega) (by omega) b6, X.Am (by omega) (by omega) b7, X.Am (by omega) (by omega) b8, X.Am (by omega) (by omega) b11, X.Am (by omega) (by omega) b12,
    X.Am (by omega) (by omega) b13, X.Am (by omega) (by omega) b14, X.Ar (by omega) b15, X.Ar (by omega) b16, X.Ar (by omega) b17, X.Am (by omega) (by omega) b24, bz⟩
theorem gX.gsc (X : gX g g' c0 i0) (hc : c0 = 0 ∨ c0 = 10 ∨ c0 = 28 ∨ c0 = 30) (G : tGsc g) : tGsc g' :=
  ⟨X.Ar (by omega) G.1, X.Ar (by omega) G.2.1, X.Ar (by omega) G.2.2.1, X.Ar (by omega) G.2.2.2.1, X.Ar (by omega) G.2.2.2.2.1, X.Ar (by omega) G.2.2.2.2.2⟩
theorem gX.gcn (X : gX g g' c0 i0) (hc : c0 = 0 ∨ c0 = 10 ∨ c0 = 28 ∨ c0 = 30) (G : tGcn s g) : tGcn s g' := fun c hc4 => by
  obtain ⟨a1, ⟨a2, a3⟩, a4⟩ := G c hc4
  refine ⟨X.Ar (by omega) a1, ⟨X.1 26 c (by decide) (by omega) a2, by rw [X.2.2.1 26 c (by omega)]; exact a3⟩, ?_⟩
  rw [show (fun k => zr (g'.ref 3 (4 * c + k))) = (fun k => zr (g.ref 3 (4 * c + k))) from funext fun k => by rw [X.2.1 3 _ (by omega)]]
  exact X.Ar (by omega) a4
theorem gX.gun (X : gX g g' c0 i0) (hc : c0 = 0 ∨ c0 = 10 ∨ c0 = 28 ∨ c0 = 30) {k : sCh} {j : Nat} (G : gUn k g j) : gUn k g' j := fun hj => by
  have := G hj
  revert this
  rw [X.2.2.2.2]
  cases k.cont with
  | none => exact id
  | some x => exact fun ⟨a1, a2, a3, a4, a5, a6⟩ => ⟨by rw [X.2.1 38 j (by omega)]; exact a1, X.1 38 j (by decide) (by omega) a2, X.B a3, X.B a4, X.To a5, fun e => X.Ar (by omega) (a6 e)⟩
theorem gX.gqu (X : gX g g' c0 i0) (hc : c0 = 0 ∨ c0 = 10 ∨ c0 = 28 ∨ c0 = 30) (G : tGqu s g) : tGqu s g' := fun j hj => by
  obtain ⟨a1, a2, a3, a4⟩ := G j hj
  rw [X.2.2.2.2]
  exact ⟨X.B a1, X.Bo a2, X.Bo a3, X.Am (by omega) (by omega) a4⟩
theorem gX.gex (X : gX g g' c0 i0) (G : tGex s g) : tGex s g' := fun j hj => by rw [X.2.2.2.2]; exact ⟨X.B (G j hj).1, X.Bo (G j hj).2⟩
theorem gX.gbi (X : gX g g' c0 i0) (G : tGbi s g) : tGbi s g' := fun j hj => by rw [X.2.2.2.2]; exact ⟨X.B (G j hj).1, X.Tab (G j hj).2⟩
theorem gX.gco (X : gX g g' c0 i0) (G : tGco s g) : tGco s g' := fun j hj => by rw [X.2.2.2.2]; exact X.B (G j hj)
theorem gX.gen (X : gX g g' c0 i0) (G : tGen s g) : tGen s g' := fun j hj => by rw [X.2.2.2.2]; exact ⟨X.Cont (G j hj).1, X.B (G j hj).2.1, X.B (G j hj).2.2⟩
/-- one more cell is frozen -/
def gFz (g : sG) (n : Nat) (q : zC) : sG := (g.w_kind (fun m => if m = n then (40, n) else g.kind m)).w_frz (fun m => if m = n then q else g.frz m)
theorem gFz.x {n : Nat} {q : zC} (hk : (g.kind n).1 = 0) : gX g (gFz g n q) 0 0 := by
  refine ⟨fun c i h0 hne hA => ?_, fun _ _ _ => rfl, fun _ _ _ => rfl, fun m q' hm => ?_, rfl⟩
  · show (if g.ref c i = n then _ else g.kind (g.ref c i)) = _
    by_cases e : g.ref c i = n
    · rw [← e, hA] at hk
      exact absurd hk h0
    · rw [if_neg e]; exact hA
  · have hne : m ≠ n := fun e => by rw [← e, hm.1] at hk; cases hk
    exact ⟨by show (if m = n then _ else _) = _; rw [if_neg hne]; exact hm.1, by show (if m = n then _ else _) = _; rw [if_neg hne]; exact hm.2⟩
theorem tG.freeze {n : Nat} {q : zC} (G : tG s w g) (hk : (g.kind n).1 = 0) : tG s w (gFz g n q) := by
  have X : gX g (gFz g n q) 0 0 := gFz.x hk
  obtain ⟨⟨a1, a2, a3, a4, a5, a6, a7⟩, b2, b3, ⟨b4, n4, c4, d4, e4⟩, b5, b6, b7, b8, b9, b10, b11, b12⟩ := G
  refine ⟨⟨X.1 1 0 (by decide) (by decide) a1, fun m i e => ?_, a3, fun c hc => X.1 2 c (by decide) (by omega) (a4 c hc), fun j hj => X.1 3 j (by decide) (by omega) (a5 j hj), fun c i h1 h2 h3 => X.1 c i (by omega) (by omega) (a6 c i h1 h2 h3), fun c i m h1 h2 e => ?_⟩,
    X.gar (Or.inl rfl) b2, X.gsc (Or.inl rfl) b3, ⟨X.AF (by omega) (fun r x => X.De (by decide)) b4, n4, c4, d4, X.AF (by omega) (fun r x => X.Fa (by decide)) e4⟩, X.gcn (Or.inl rfl) b5, fun j hj => ?_, X.gex b7, X.gqu (Or.inl rfl) b8, X.gbi b9, X.gco b10, X.gen b11, b12⟩
  · have e' : (if m = n then (40, n) else g.kind m) = (1, i) := e
    by_cases em : m = n
    · rw [if_pos em] at e'; cases e'
    · rw [if_neg em] at e'; exact a2 m i e'
  · have e' : (if m = n then (40, n) else g.kind m) = (c, i) := e
    by_cases em : m = n
    · rw [if_pos em] at e'
      have : 40 = c := congrArg Prod.fst e'
      omega
    · rw [if_neg em] at e'; exact a7 c i m h1 h2 e'
  · obtain ⟨f1, f2, ⟨n5, f3, f4, f5⟩, f6, n6, pre, f7, f8, f9, f10⟩ := b6 j hj
    exact ⟨X.Bo f1, X.gun (Or.inl rfl) f2, ⟨n5, f3, f4, X.Am (by omega) (by omega) f5⟩, X.AF (by omega) (fun r x => X.Ke (by decide)) f6, n6, pre, f7, f8, f9, X.Ar (by omega) f10⟩
theorem tcell_frz {n : Nat} {q : zC} {c i : Nat} (hc : c ≠ 40) : tcell s w (gFz g n q) c i = tcell s w g c i := by
  unfold tcell
  split <;> first | rfl | exact absurd rfl hc
theorem gFz_F {n : Nat} {q : zC} : gF (gFz g n q) n q := ⟨if_pos rfl, if_pos rfl⟩
theorem gL.frz {n : Nat} {q : zC} (hk : (g.kind n).1 = 0) : gL g (gFz g n q) := fun m hm => by
  have hne : m ≠ n := fun e => by
    rw [e, hk] at hm
    rcases hm with e | e | e | e | e <;> omega
  exact ⟨if_neg hne, if_neg hne⟩
theorem tR.freeze (R : tR s0 F b s w g h) {n c : Nat} {fs : List Value} (U : zUn s0 F g h n c fs) : tR s0 F b s w (gFz g n (c, fs)) h := by
  obtain ⟨hk, hF, hn, h0, hlt, -⟩ := U
  refine ⟨R.1.take hk hF hn (c := 40) (i := n) (by decide) h0 hlt (Or.inl rfl) rfl (R.2.1.2.2.1 n) (fun m hm => rfl) (if_pos rfl) (fun m hm => ?_), R.2.freeze hk⟩
  by_cases e : (g.kind m).1 = 40
  · have e1 : g.kind m = (40, (g.kind m).2) := Prod.ext e rfl
    have e2 := R.1.at e1 (by decide)
    rw [R.2.1.2.2.1] at e2
    rw [e, e2]
    show (if m = n then (c, fs) else g.frz m) = g.frz m
    exact if_neg fun e3 => by rw [e3] at hm; exact hm hk
  · exact tcell_frz e
end GX
