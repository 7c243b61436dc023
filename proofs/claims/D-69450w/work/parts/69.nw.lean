/-! ===== the twin: new things ===== -/
set_option maxRecDepth 100000
/-- where the names and the like of a thing stand -/
def gRf (g : sG) (c i : Nat) (r : Nat → Nat) : sG := g.w_rf (fun c' i' k => if c' = c ∧ i' = i then r k else g.rf c' i' k)
/-- the cell n becomes the thing (c, i) -/
def gNw (g : sG) (n c i : Nat) (l : List Value) : sG := ((g.w_kind (fun m => if m = n then (c, i) else g.kind m)).w_ref (fun c' i' => if c' = c ∧ i' = i then n else g.ref c' i')).w_ar (fun c' i' => if c' = c ∧ i' = i then l else g.ar c' i')
/-- no cell is the thing (c, i) any more -/
def gDr (g : sG) (c i : Nat) : sG := g.w_kind (fun m => if g.kind m = (c, i) then (0, 0) else g.kind m)
/-- a thing of kind c is new in s' -/
def sBn (s s' : sSt) (c : Nat) : Prop := s'.knd = sUp s.knd s.next c ∧ (∀ j, j ≠ s.next → s'.qu j = s.qu j ∧ s'.ex j = s.ex j ∧ s'.bi j = s.bi j ∧ s'.co j = s.co j ∧ s'.en j = s.en j ∧ s'.se j = s.se j) ∧ s'.cn = s.cn ∧ s'.ch = s.ch ∧
  s'.qs = s.qs ∧ s'.es = s.es ∧ s'.bs = s.bs ∧ s'.cs = s.cs ∧ s'.dead = s.dead ∧ s'.facts = s.facts ∧ s'.sqs = s.sqs ∧ s'.ses = s.ses ∧ s'.sbs = s.sbs ∧ s'.sen = s.sen ∧ s'.tape = s.tape
section NW
variable {s0 : zE} {F : Nat → Option zC} {b : Nat} {s s' : sSt} {w w' : tW} {g g' : sG} {h h' : zH} {d x0 x1 x2 n c i j : Nat} {ll : List Value} {Q : Value → zH → Prop} {E : Nat → zH → Prop}
theorem gNw.x (hk : (g.kind n).1 = 0) : gX g (gNw g n c i ll) c i := by
  refine ⟨fun c' i' h0 hne hA => ?_, fun c' i' hne => if_neg hne, fun c' i' hne => if_neg hne, fun m q hm => ⟨?_, hm.2⟩, rfl⟩
  · have hr : (gNw g n c i ll).ref c' i' = g.ref c' i' := if_neg hne
    unfold gA1
    rw [hr]
    show (if g.ref c' i' = n then (c, i) else g.kind (g.ref c' i')) = _
    rw [if_neg (fun e => by rw [← e, hA] at hk; exact h0 hk)]
    exact hA
  · show (if m = n then (c, i) else g.kind m) = _
    rw [if_neg (fun e => by rw [← e, hm.1] at hk; cases hk)]
    exact hm.1
theorem gNw.l (hk : (g.kind n).1 = 0) : gL g (gNw g n c i ll) := fun m hm => by
  refine ⟨?_, rfl⟩
  show (if m = n then (c, i) else g.kind m) = _
  rw [if_neg]
  intro e
  rw [e, hk] at hm
  rcases hm with e | e | e | e | e <;> omega
theorem gNw.at : (gNw g n c i ll).kind n = (c, i) := if_pos rfl
theorem gNw.r : (gNw g n c i ll).ref c i = n := if_pos ⟨rfl, rfl⟩
theorem gH.a1 {P : Nat → Nat → zC} (H : gH s0 F b P g h) {m a k : Nat} (hk : g.kind m = (a, k)) (hc : a ≠ 0) : gA1 g a k := by
  unfold gA1
  rw [H.at hk hc]
  exact hk
theorem gDr.x (h40 : c ≠ 40) : gX g (gDr g c i) c i := by
  refine ⟨fun c' i' h0 hne hA => ?_, fun c' i' hne => rfl, fun c' i' hne => rfl, fun m q hm => ⟨?_, hm.2⟩, rfl⟩
  · show (if g.kind (g.ref c' i') = (c, i) then (0, 0) else g.kind (g.ref c' i')) = _
    rw [if_neg (fun e => by rw [hA] at e; exact hne ⟨congrArg Prod.fst e, congrArg Prod.snd e⟩)]
    exact hA
  · show (if g.kind m = (c, i) then (0, 0) else g.kind m) = _
    rw [if_neg (fun e => by rw [hm.1] at e; exact h40 (congrArg Prod.fst e).symm)]
    exact hm.1
theorem gDr.l (hc : ¬ gSt c) : gL g (gDr g c i) := fun m hm => by
  refine ⟨?_, rfl⟩
  show (if g.kind m = (c, i) then (0, 0) else g.kind m) = _
  rw [if_neg]
  intro e
  rw [e] at hm
  exact hc hm
theorem gX.Af (X : gX g g' c i) {c' i' m k : Nat} {l : List Nat} (hne : ¬ (c' = c ∧ i' = i)) (hk : k ≠ c ∨ ∀ x ∈ l, x ≠ i) (A : gAr g c' i' m (l.map (fun x => zr (g.ref k x)))) (h0 : c' ≠ 0 := by decide) : gAr g' c' i' m (l.map (fun x => zr (g'.ref k x))) := by
  have e : l.map (fun x => zr (g'.ref k x)) = l.map (fun x => zr (g.ref k x)) := List.map_congr_left fun x hx => by rw [X.2.1 k x fun e => hk.elim (fun h => h e.1) fun h => h x hx e.2]
  rw [e]
  exact X.Ar hne A h0
theorem gX.AG {α : Type} {P : sG → Nat → α → Prop} (X : gX g g' c i) {c' i' m : Nat} {xs : List α} (hne : ¬ (c' = c ∧ i' = i)) (hP : ∀ r x, x ∈ xs → P g r x → P g' r x) (A : gArF g c' i' m P xs) (h0 : c' ≠ 0 := by decide) : gArF g' c' i' m P xs := by
  obtain ⟨a1, a2, a3, a4⟩ := A
  refine ⟨X.1 c' i' h0 hne a1, by rw [X.2.2.1 c' i' hne]; exact a2, a3, fun j x hx => ?_⟩
  obtain ⟨r, h1, h2⟩ := a4 j x hx
  exact ⟨r, by rw [X.2.2.1 c' i' hne]; exact h1, hP r x (List.mem_of_getElem? hx) h2⟩
theorem gX.Kf (X : gX g g' c i) {m : Nat} {x : sKe} (hk : 37 ≠ c ∨ ∀ y ∈ x.those, y ≠ i) (hK : gKe g m x) : gKe g' m x := by
  obtain ⟨c1, t, f1, f2⟩ := hK
  refine ⟨c1, t, X.2.2.2.1 _ _ f1, ?_⟩
  revert f2
  cases x.cont with
  | none =>
    intro f2
    refine ⟨f2.1, ?_⟩
    have e : x.those.map (fun i => zr (g'.ref 37 i)) = x.those.map (fun i => zr (g.ref 37 i)) := List.map_congr_left fun y hy => by rw [X.2.1 37 y fun e => hk.elim (fun h => h e.1) fun h => h y hy e.2]
    rw [e]
    exact X.2.2.2.1 _ _ f2.2
  | some y => exact fun f2 => X.Cont f2
theorem gX.Df (X : gX g g' c i) {m : Nat} {x : sDe} (hk : 36 ≠ c ∨ x.entry ≠ i) (hK : gDe g m x) : gDe g' m x := by
  obtain ⟨e, k, f1, f2, f3⟩ := hK
  refine ⟨e, k, ?_, X.B f2, X.Bo f3⟩
  rw [X.2.1 36 _ fun e => hk.elim (fun h => h e.1) fun h => h e.2]
  exact X.2.2.2.1 _ _ f1
theorem gX.Ff (X : gX g g' c i) {m : Nat} {x : sFa} (hi : s.knd x.id = (if x.kind = 0 ∨ x.kind = 1 then 32 else if x.kind = 2 ∨ x.kind = 3 then 33 else if x.kind = 4 ∨ x.kind = 5 then 34 else 36)) (hf : ∀ j, s.knd j = c → j ≠ i) (hK : gFa g m x) : gFa g' m x := by
  obtain ⟨e, q, bb, k, f1, f2, f3, f4, f5, f6⟩ := hK
  have hh : ∀ a, s.knd x.id = a → g'.ref a x.id = g.ref a x.id := fun a ha => X.2.1 a x.id fun e => hf x.id (ha.trans e.1) e.2
  refine ⟨e, q, bb, k, X.2.2.2.1 _ _ f1, fun hk => ?_, fun hk => ?_, fun hk => ?_, fun hk => ?_, f6⟩
  · rw [hh 32 (by rw [hi]; rcases hk with h | h <;> rw [h] <;> decide)]
    exact f2 hk
  · rw [hh 33 (by rw [hi]; rcases hk with h | h <;> rw [h] <;> decide)]
    exact f3 hk
  · rw [hh 34 (by rw [hi]; rcases hk with h | h <;> rw [h] <;> decide)]
    exact f4 hk
  · rw [hh 36 (by rw [hi]; rcases hk with h | h <;> rw [h] <;> decide)]
    exact f5 hk
theorem sScope.facts (I : sScope s) : ∀ f ∈ s.facts, 0 ≤ f.kind ∧ f.kind ≤ 7 ∧ s.knd f.id = (if f.kind = 0 ∨ f.kind = 1 then 32 else if f.kind = 2 ∨ f.kind = 3 then 33 else if f.kind = 4 ∨ f.kind = 5 then 34 else 36) := I.2.2.2.2.2.2.2.2.2.2.2.2.2.2.2.1
theorem sScope.new (I : sScope s) : ∀ i, s.next ≤ i → s.knd i = 0 := I.2.2.2.2.2.2.2.2.2.2.2.2.2.2.2.2
theorem gX.par (X : gX g g' c i) (hc : 31 ≤ c ∧ c ≤ 37) (I : sScope s) (hf : ∀ j, s.knd j = c → j ≠ i) (hrt : c ≠ 33 ∨ w.rt = []) (hcf : g'.cf = g.cf) (G : tG s w g) : tGar s w g' ∧ tGsc g' ∧ tGfz s g' ∧ tGcn s g' ∧ tGch s w g' := by
  have hL : ∀ {k : Nat} {l : List Nat}, (∀ x ∈ l, s.knd x = k) → k ≠ c ∨ ∀ x ∈ l, x ≠ i := fun {k l} hl => by
    by_cases e : k = c
    · exact Or.inr fun x hx => hf x ((hl x hx).trans e)
    · exact Or.inl e
  obtain ⟨-, ⟨b4, b5, b6, b7, b8, b11, b12, b13, b14, b15, b16, b17, b24, bz⟩, b3, ⟨d4, n4, c4, e4, f4⟩, b5', b6', -⟩ := G
  refine ⟨⟨X.Af (by omega) (Or.inl (by omega)) b4, X.Af (by omega) (hL I.es) b5, X.Af (by omega) (hL I.qs) b6, X.Af (by omega) (hL I.bs) b7, X.Af (by omega) (hL I.cs) b8, X.Af (by omega) (hL I.2.2.2.2.2.1) b11, X.Af (by omega) (hL I.2.2.2.2.1) b12,
    X.Af (by omega) (hL I.2.2.2.2.2.2.1) b13, X.Af (by omega) (hL I.2.2.2.2.2.2.2.1) b14, X.Ar (by omega) b15, X.Ar (by omega) b16, X.Ar (by omega) b17, X.Af (by omega) ?_ b24, bz⟩,
    ⟨X.Ar (by omega) b3.1, X.Ar (by omega) b3.2.1, X.Ar (by omega) b3.2.2.1, X.Ar (by omega) b3.2.2.2.1, X.Ar (by omega) b3.2.2.2.2.1, X.Ar (by omega) b3.2.2.2.2.2⟩,
    ⟨X.AG (by omega) (fun r x hx => X.Df ?_) d4, n4, c4, by rw [hcf]; exact e4, X.AG (by omega) (fun r x hx => X.Ff (I.facts x hx).2.2 hf) f4⟩, fun k hk => ?_, fun k hk => ?_⟩
  · rcases hrt with e | e
    · exact Or.inl (Ne.symm e)
    · rw [e]
      exact Or.inr fun x hx => nomatch hx
  · by_cases e : 36 = c
    · exact Or.inr (hf _ ((I.2.2.2.2.2.2.2.2.1 x hx).trans e))
    · exact Or.inl e
  · obtain ⟨a1, ⟨a2, a3⟩, a4⟩ := b5' k hk
    refine ⟨X.Ar (by omega) a1, ⟨X.1 26 k (by decide) (by omega) a2, by rw [X.2.2.1 26 k (by omega)]; exact a3⟩, ?_⟩
    rw [show (fun j => zr (g'.ref 3 (4 * k + j))) = (fun j => zr (g.ref 3 (4 * k + j))) from funext fun j => by rw [X.2.1 3 _ (by omega)]]
    exact X.Ar (by omega) a4
  · obtain ⟨f1, f2, ⟨n5, f3, f4, f5⟩, f6, n6, pre, f7, f8, f9, f10⟩ := b6' k hk
    have hrf : g'.rf = g.rf := X.2.2.2.2
    refine ⟨by rw [hrf]; exact X.Bo f1, fun hj => ?_, ⟨n5, f3, by rw [hcf]; exact f4, X.Af (by omega) (hL (I.ch k hk).1) f5⟩, X.AG (by omega) (fun r x hx => X.Kf ?_) f6, n6, pre, f7, by rw [hcf]; exact f8, f9, X.Ar (by omega) f10⟩
    · have := f2 hj
      revert this
      rw [hrf]
      cases (s.ch k).cont with
      | none => exact id
      | some x => exact fun ⟨a1, a2, a3, a4, a5, a6⟩ => ⟨by rw [X.2.1 38 k (by omega)]; exact a1, X.1 38 k (by decide) (by omega) a2, X.B a3, X.B a4, X.To a5, fun e => X.Ar (by omega) (a6 e)⟩
    · exact hL ((I.ch k hk).2 x hx)
theorem tcell_born (B : sBn s s' c) (I : sScope s) (hc : 32 ≤ c ∧ c ≤ 37) (hM : tMain s' w (gNw g n c s.next ll) = tMain s w g) {a j : Nat} (ha : 32 ≤ a → a ≤ 37 → s.knd j = a) (hne : ¬ (a = c ∧ j = s.next)) : tcell s' w (gNw g n c s.next ll) a j = tcell s w g a j := by
  have h0 : s.knd s.next = 0 := I.new _ (Nat.le_refl _)
  have hr : ∀ a j, ¬ (a = c ∧ j = s.next) → (gNw g n c s.next ll).ref a j = g.ref a j := fun a j e => if_neg e
  have hq : ∀ a j, a ≠ c → (gNw g n c s.next ll).ref a j = g.ref a j := fun a j e => if_neg fun e1 => e e1.1
  have n2 : 2 ≠ c := by omega
  have n3 : 3 ≠ c := by omega
  have n25 : 25 ≠ c := by omega
  have n26 : 26 ≠ c := by omega
  have n27 : 27 ≠ c := by omega
  have n28 : 28 ≠ c := by omega
  have n29 : 29 ≠ c := by omega
  have n30 : 30 ≠ c := by omega
  have n31 : 31 ≠ c := by omega
  have n39 : 39 ≠ c := by omega
  have hk : ∀ a j, s.knd j = a → a ≠ 0 → (gNw g n c s.next ll).ref a j = g.ref a j := fun a j e e0 => if_neg fun e1 => by
    rw [e1.2, h0] at e
    exact e0 e.symm
  have ho : ∀ a (o : Option Nat), (∀ x, o = some x → ¬ (a = c ∧ x = s.next)) → gO (gNw g n c s.next ll) a o = gO g a o := fun a o e => by
    cases o with
    | none => rfl
    | some x => exact hr a x (e x rfl)
  have hj : 32 ≤ a → a ≤ 37 → j ≠ s.next := fun h1 h2 e => by
    have := ha h1 h2
    rw [e, h0] at this
    omega
  obtain ⟨-, B2, B3, B4, -⟩ := B
  unfold tcell
  split
  · exact congrArg _ hM
  · rw [B3]
    simp only [tCn, hq 25 _ n25, hq 26 _ n26, hq 27 _ n27]
  · rw [B4]
    simp only [tCh, hq 2 _ n2, hq 28 _ n28, hq 29 _ n29, hq 30 _ n30]
    rfl
  · rw [(B2 j (hj (by decide) (by decide))).2.1]
    rfl
  · have hkj := ha (by decide) (by decide)
    rw [(B2 j (hj (by decide) (by decide))).1]
    simp only [tQu, ho 2 _ (fun x hx e => n2 e.1), ho 35 _ (fun x hx e => by have := (I.qu j hkj).2.1 x hx; rw [e.2, h0] at this; cases this), hq 31 _ n31]
    rfl
  · have hkj := ha (by decide) (by decide)
    rw [(B2 j (hj (by decide) (by decide))).2.2.1]
    simp only [tBi, hk 33 _ (I.bi j hkj).1 (by decide), hk 32 _ (I.bi j hkj).2 (by decide)]
    rfl
  · have hkj := ha (by decide) (by decide)
    rw [(B2 j (hj (by decide) (by decide))).2.2.2.1]
    simp only [tCo, hk 33 _ (I.co j hkj).1 (by decide), hq 3 _ n3]
    rfl
  · have hkj := ha (by decide) (by decide)
    rw [(B2 j (hj (by decide) (by decide))).2.2.2.2.1]
    simp only [tEn, hk 33 _ (I.en j hkj) (by decide)]
    rfl
  · have hkj := ha (by decide) (by decide)
    rw [(B2 j (hj (by decide) (by decide))).2.2.2.2.2]
    simp only [tSe, hk 36 _ (I.se j hkj).1 (by decide), ho 35 _ (fun x hx e => by have := (I.se j hkj).2 x hx; rw [e.2, h0] at this; cases this)]
  · rw [B4]
    simp only [tUn, hq 39 _ n39]
    rfl
  · rfl
  · show (_, if _ then _ else _) = _
    rw [if_neg hne]
theorem tG.born (G : tG s w g) (I : sScope s) (hk : (g.kind n).1 = 0) (hc : 32 ≤ c ∧ c ≤ 37) (B : sBn s s' c) (hrt : c ≠ 33 ∨ w.rt = [])
    (o32 : c = 32 → gB g (g.rf 32 s.next 0) (s'.ex s.next).name ∧ gBo g (g.rf 32 s.next 6) (s'.ex s.next).alt)
    (o33 : c = 33 → gB g (g.rf 33 s.next 0) (s'.qu s.next).name ∧ gBo g (g.rf 33 s.next 9) (s'.qu s.next).dlx ∧ gBo g (g.rf 33 s.next 10) (s'.qu s.next).dlk ∧ (s'.qu s.next).ents = [] ∧ gAr g 31 s.next 301 [])
    (o34 : c = 34 → gB g (g.rf 34 s.next 2) (s'.bi s.next).key ∧ gTab g (g.rf 34 s.next 3) (s'.bi s.next).tab)
    (o35 : c = 35 → gB g (g.rf 35 s.next 0) (s'.co s.next).tag)
    (o36 : c = 36 → gCont g (g.rf 36 s.next 0) (s'.en s.next).cont ∧ gB g (g.rf 36 s.next 1) (s'.en s.next).exch ∧ gB g (g.rf 36 s.next 2) (s'.en s.next).key) : tG s' w (gNw g n c s.next ll) := by
  have h0 : s.knd s.next = 0 := I.new _ (Nat.le_refl _)
  have X : gX g (gNw g n c s.next ll) c s.next := gNw.x hk
  have hf : ∀ j, s.knd j = c → j ≠ s.next := fun j hj e => by rw [e, h0] at hj; omega
  obtain ⟨p2, p3, p4, p5, p6⟩ := X.par (by omega) I hf hrt rfl G
  obtain ⟨⟨a1, a2, a3, a4, a5, a6, a7⟩, -, -, -, -, -, b7, b8, b9, b10, b11, b12⟩ := G
  obtain ⟨B1, B2, B3, B4, Q1, Q2, Q3, Q4, Q5, Q6, Q7, Q8, Q9, Q10, Q11⟩ := B
  have hkn : ∀ j, j ≠ s.next → s'.knd j = s.knd j := fun j hj => by rw [B1]; exact sUp_ne hj
  have hkd : ∀ m, (gNw g n c s.next ll).kind m = (if m = n then (c, s.next) else g.kind m) := fun m => rfl
  refine ⟨⟨X.1 1 0 (by decide) (by omega) a1, fun m i e => ?_, fun m => (X.2.1 40 m (by omega)).trans (a3 m), fun c hc => X.1 2 c (by decide) (by omega) (a4 c hc), fun j hj => X.1 3 j (by decide) (by omega) (a5 j hj), fun a j h1 h2 h3 => ?_, fun a j m h1 h2 e => ?_⟩, ?_, p3, ?_, ?_, ?_, fun j hj => ?_, fun j hj => ?_, fun j hj => ?_, fun j hj => ?_, fun j hj => ?_, b12⟩
  · rw [hkd] at e
    split at e
    · have := congrArg Prod.fst e
      simp only at this
      omega
    · exact a2 m i e
  · by_cases ej : j = s.next
    · subst ej
      rw [B1, sUp_self] at h3
      subst h3
      show (gNw g n c s.next ll).kind ((gNw g n c s.next ll).ref c s.next) = _
      rw [gNw.r, gNw.at]
    · rw [hkn j ej] at h3
      exact X.1 a j (by omega) (fun e => ej e.2) (a6 a j h1 h2 h3)
  · rw [hkd] at e
    split at e
    · cases e
      rw [B1, sUp_self]
    · have := a7 a j m h1 h2 e
      rw [hkn j (fun ej => by rw [ej, h0] at this; omega)]
      exact this
  · unfold tGar at p2 ⊢
    rw [Q1, Q2, Q3, Q4, Q7, Q8, Q9, Q10, Q11]
    exact p2
  · unfold tGfz at p4 ⊢
    rw [Q5, Q6]
    exact p4
  · unfold tGcn at p5 ⊢
    rw [B3]
    exact p5
  · unfold tGch at p6 ⊢
    rw [B4]
    exact p6
  · rw [X.2.2.2.2]
    by_cases ej : j = s.next
    · subst ej
      rw [B1, sUp_self] at hj
      exact ⟨X.B (o32 hj).1, X.Bo (o32 hj).2⟩
    · rw [hkn j ej] at hj
      rw [(B2 j ej).2.1]
      exact ⟨X.B (b7 j hj).1, X.Bo (b7 j hj).2⟩
  · rw [X.2.2.2.2]
    by_cases ej : j = s.next
    · subst ej
      rw [B1, sUp_self] at hj
      obtain ⟨f1, f2, f3, f4, f5⟩ := o33 hj
      rw [f4]
      exact ⟨X.B f1, X.Bo f2, X.Bo f3, X.Ar (by omega) f5⟩
    · rw [hkn j ej] at hj
      rw [(B2 j ej).1]
      obtain ⟨f1, f2, f3, f4⟩ := b8 j hj
      refine ⟨X.B f1, X.Bo f2, X.Bo f3, X.Af (by omega) ?_ f4⟩
      by_cases e : 36 = c
      · exact Or.inr fun x hx => hf x ((((I.qu j hj).1 x hx).1).trans e)
      · exact Or.inl e
  · rw [X.2.2.2.2]
    by_cases ej : j = s.next
    · subst ej
      rw [B1, sUp_self] at hj
      exact ⟨X.B (o34 hj).1, X.Tab (o34 hj).2⟩
    · rw [hkn j ej] at hj
      rw [(B2 j ej).2.2.1]
      exact ⟨X.B (b9 j hj).1, X.Tab (b9 j hj).2⟩
  · rw [X.2.2.2.2]
    by_cases ej : j = s.next
    · subst ej
      rw [B1, sUp_self] at hj
      exact X.B (o35 hj)
    · rw [hkn j ej] at hj
      rw [(B2 j ej).2.2.2.1]
      exact X.B (b10 j hj)
  · rw [X.2.2.2.2]
    by_cases ej : j = s.next
    · subst ej
      rw [B1, sUp_self] at hj
      exact ⟨X.Cont (o36 hj).1, X.B (o36 hj).2.1, X.B (o36 hj).2.2⟩
    · rw [hkn j ej] at hj
      rw [(B2 j ej).2.2.2.2.1]
      exact ⟨X.Cont (b11 j hj).1, X.B (b11 j hj).2.1, X.B (b11 j hj).2.2⟩
theorem tR.born {cc : Nat} {fs : List Value} (R : tR s0 F b s w g h) (I : sScope s) (U : zUn s0 F g h n cc fs) (hc : 32 ≤ c ∧ c ≤ 37) (B : sBn s s' c) (hrt : c ≠ 33 ∨ w.rt = []) (hM : tMain s' w (gNw g n c s.next []) = tMain s w g) (hp : tcell s' w (gNw g n c s.next []) c s.next = (cc, fs))
    (o32 : c = 32 → gB g (g.rf 32 s.next 0) (s'.ex s.next).name ∧ gBo g (g.rf 32 s.next 6) (s'.ex s.next).alt)
    (o33 : c = 33 → gB g (g.rf 33 s.next 0) (s'.qu s.next).name ∧ gBo g (g.rf 33 s.next 9) (s'.qu s.next).dlx ∧ gBo g (g.rf 33 s.next 10) (s'.qu s.next).dlk ∧ (s'.qu s.next).ents = [] ∧ gAr g 31 s.next 301 [])
    (o34 : c = 34 → gB g (g.rf 34 s.next 2) (s'.bi s.next).key ∧ gTab g (g.rf 34 s.next 3) (s'.bi s.next).tab)
    (o35 : c = 35 → gB g (g.rf 35 s.next 0) (s'.co s.next).tag)
    (o36 : c = 36 → gCont g (g.rf 36 s.next 0) (s'.en s.next).cont ∧ gB g (g.rf 36 s.next 1) (s'.en s.next).exch ∧ gB g (g.rf 36 s.next 2) (s'.en s.next).key) : tR s0 F b s' w (gNw g n c s.next []) h := by
  have h0 : s.knd s.next = 0 := I.new _ (Nat.le_refl _)
  obtain ⟨hk, hF, hn, hp0, hlt, hold⟩ := U
  have hno : ∀ m, g.kind m ≠ (c, s.next) := fun m e => by
    have := R.ak hc.1 hc.2 e
    rw [h0] at this
    omega
  refine ⟨R.1.take hk hF hn (c := c) (i := s.next) (by omega) hp0 hlt (Or.inr hold) rfl gNw.r (fun m hm => if_neg fun e => hno m (Prod.ext e.1 e.2)) hp (fun m hm => ?_), R.2.born I hk hc B hrt o32 o33 o34 o35 o36⟩
  exact tcell_born B I hc hM (fun h1 h2 => R.ak h1 h2 rfl) fun e => hno m (Prod.ext e.1 e.2)
/-- where the names of a thing that is not there as yet will stand -/
theorem tR.rf (R : tR s0 F b s w g h) (hc : 32 ≤ c ∧ c ≤ 37) (hi : s.knd i = 0) (r : Nat → Nat) : tR s0 F b s w (gRf g c i r) h := by
  have hne : ∀ a j k, ¬ (a = c ∧ j = i) → (gRf g c i r).rf a j k = g.rf a j k := fun a j k e => if_neg e
  have hpic : ∀ a j, (32 ≤ a → a ≤ 37 → s.knd j = a) → tcell s w (gRf g c i r) a j = tcell s w g a j := fun a j ha => by
    have hj : 32 ≤ a → a ≤ 37 → ¬ (a = c ∧ j = i) := fun h1 h2 e => by
      have := ha h1 h2
      rw [e.2, hi] at this
      omega
    have e3 : ∀ k, (gRf g c i r).rf 3 j k = g.rf 3 j k := fun k => hne 3 j k (by omega)
    have e38 : ∀ k, (gRf g c i r).rf 38 j k = g.rf 38 j k := fun k => hne 38 j k (by omega)
    unfold tcell
    split
    · rfl
    · rfl
    · simp only [tCh, e3]
      rfl
    · simp only [tEx, hne 32 j _ (hj (by decide) (by decide))]
    · simp only [tQu, hne 33 j _ (hj (by decide) (by decide))]
      rfl
    · simp only [tBi, hne 34 j _ (hj (by decide) (by decide))]
      rfl
    · simp only [tCo, hne 35 j _ (hj (by decide) (by decide))]
      rfl
    · simp only [tEn, hne 36 j _ (hj (by decide) (by decide))]
      rfl
    · rfl
    · simp only [tUn, e38]
      rfl
    · rfl
    · rfl
  have hg : ∀ a j, s.knd j = a → a ≠ 0 → ∀ k, (gRf g c i r).rf a j k = g.rf a j k := fun a j e e0 k => hne a j k fun e1 => by
    rw [e1.2, hi] at e
    exact e0 e.symm
  obtain ⟨⟨a1, a2, a3⟩, p1, p2, p3, p4, p5, p6, p7, p8, p9, p10, p11, p12⟩ := R
  refine ⟨⟨fun m hm => ?_, a2, a3⟩, p1, p2, p3, p4, p5, fun j hj => ?_, fun j hj => ?_, fun j hj => ?_, fun j hj => ?_, fun j hj => ?_, fun j hj => ?_, p12⟩
  · show h.1 m = some (tcell s w (gRf g c i r) (g.kind m).1 (g.kind m).2) ∧ _
    rw [hpic (g.kind m).1 (g.kind m).2 (fun h1 h2 => p1.2.2.2.2.2.2 _ _ m h1 h2 rfl)]
    exact a1 m hm
  · obtain ⟨f1, f2, f3⟩ := p6 j hj
    refine ⟨?_, fun hjk => ?_, f3⟩
    · rw [hne 3 j 14 (by omega)]
      exact f1
    · have := f2 hjk
      revert this
      rw [hne 3 j 15 (by omega), hne 38 j 0 (by omega), hne 38 j 1 (by omega), hne 38 j 6 (by omega)]
      cases (s.ch j).cont with
      | none => exact id
      | some x => exact id
  · rw [hg 32 j hj (by decide), hg 32 j hj (by decide)]
    exact p7 j hj
  · rw [hg 33 j hj (by decide), hg 33 j hj (by decide), hg 33 j hj (by decide)]
    exact p8 j hj
  · rw [hg 34 j hj (by decide), hg 34 j hj (by decide)]
    exact p9 j hj
  · rw [hg 35 j hj (by decide)]
    exact p10 j hj
  · rw [hg 36 j hj (by decide), hg 36 j hj (by decide), hg 36 j hj (by decide)]
    exact p11 j hj
theorem gRf_at {r : Nat → Nat} {k : Nat} : (gRf g c i r).rf c i k = r k := if_pos ⟨rfl, rfl⟩
theorem gRf.l {r : Nat → Nat} : gL g (gRf g c i r) := fun m _ => ⟨rfl, rfl⟩
end NW
