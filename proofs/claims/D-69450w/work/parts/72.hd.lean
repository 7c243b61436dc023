/-! ===== the twin: arrays of channels; messages are handed on ===== -/
set_option maxRecDepth 100000
/-- what a channel's arrays and names are -/
def tChOk (x : sCh) (w : tW) (g : sG) (j : Nat) : Prop := gBo g (g.rf 3 j 14) x.lastq ∧ gUn x g j ∧ (∃ n, (16 ≤ n ∧ n < 2000000) ∧ 2 * x.sent.length ≤ n + g.cf 28 j ∧ gAr g 28 j n (x.sent.map (fun i => zr (g.ref 37 i)))) ∧ gArF g 29 j 32 gKe x.kept ∧
  (∃ n pre, (16 ≤ n ∧ n < 2000000) ∧ 2 * (w.cd j + x.confs.length) ≤ n + g.cf 30 j ∧ pre.length = w.cd j ∧ gAr g 30 j n (pre ++ x.confs.map (fun x => .int x)))
/-- the array (c, j) of a channel is another from now on -/
def gRp (g : sG) (n c j : Nat) (L : List Value) (k : Nat) : sG :=
  (((((g.w_kind (fun m => if m = n then (c, j) else if m = g.ref c j then (0, 0) else g.kind m)).w_ref (fun a i => if a = c ∧ i = j then n else g.ref a i)).w_ar (fun a i => if a = c ∧ i = j then L else g.ar a i)).w_cr (g.cr - k))).w_cf (fun a i => if a = c ∧ i = j then g.cf c j - k else g.cf a i)
section HD
variable {s0 : zE} {F : Nat → Option zC} {b : Nat} {s s' : sSt} {w w' : tW} {g g' : sG} {h h' : zH} {d x0 x1 x2 x3 n k c i j q m : Nat} {ll L : List Value} {x : sCh} {Q : Value → zH → Prop} {E : Nat → zH → Prop}
theorem tG.chok (G : tG s w g) (hj : isH j) : tChOk (s.ch j) w g j := G.2.2.2.2.2.1 j hj
theorem gArF.ne2 {α : Type} {P : sG → Nat → α → Prop} {c' i' n : Nat} {xs : List α} (hP : ∀ r x, P g r x → P (gSet g c i ll) r x) (A : gArF g c' i' n P xs) (hne : ¬ (c' = c ∧ i' = i)) : gArF (gSet g c i ll) c' i' n P xs := by
  obtain ⟨a1, a2, a3, a4⟩ := A
  refine ⟨a1, by rw [gSet_ne hne]; exact a2, a3, fun j y hy => ?_⟩
  obtain ⟨r, h1, h2⟩ := a4 j y hy
  exact ⟨r, by rw [gSet_ne hne]; exact h1, hP r y h2⟩
theorem tG.arC (G : tG s w g) (hc : c = 28 ∨ c = 29 ∨ c = 30) (H : tChOk x w (gSet g c j ll) j) : tG (s.w_ch (sUp s.ch j x)) w (gSet g c j ll) := by
  obtain ⟨b1, b2, b3, b4, b5, b6, b7, b8, b9, b10, b11, b12⟩ := G
  refine ⟨b1, ?_, b3.ne (by omega), b4.ne (by omega), b5.ne (by omega), fun k hk => ?_, b7, b8.ne (by omega), b9, b10, b11, b12⟩
  · obtain ⟨c1, c2, c3, c4, c5, c6, c7, c8, c9, c10, c11, c12, c13, c14⟩ := b2
    exact ⟨c1.ne1 (by omega), c2.ne1 (by omega), c3.ne1 (by omega), c4.ne1 (by omega), c5.ne1 (by omega), c6.ne1 (by omega), c7.ne1 (by omega), c8.ne1 (by omega), c9.ne1 (by omega), c10.ne1 (by omega), c11.ne1 (by omega), c12.ne1 (by omega), c13.ne1 (by omega), c14⟩
  · by_cases e : k = j
    · subst e
      show tChOk (sUp s.ch k x k) w _ k
      rw [sUp_self]
      exact H
    · show tChOk (sUp s.ch j x k) w _ k
      rw [sUp_ne e]
      obtain ⟨f1, f2, ⟨n5, f3, f4, f5⟩, f6, n6, pre, f7, f8, f9, f10⟩ := b6 k hk
      exact ⟨f1, f2.ne (by omega), ⟨n5, f3, f4, f5.ne fun e1 => e e1.2⟩, f6.ne2 (fun r x hx => hx) (fun e1 => e e1.2), n6, pre, f7, f8, f9, f10.ne fun e1 => e e1.2⟩
/-- a channel's cell and one of its arrays are written -/
theorem tR.arC (R : tR s0 F b s w g h) (hc : c = 28 ∨ c = 29 ∨ c = 30) (hx : g.kind x1 = (3, j)) (h2 : h'.2 = h.2) (A : gA1 g c j) (ho : ∀ n, n ≠ x1 → n ≠ g.ref c j → h'.1 n = h.1 n) (hM : h'.1 x1 = some (9, tCh x w g j)) (hA : h'.1 (g.ref c j) = some (1000 + tarT c, ll))
    (hu : tUn x g j = tUn (s.ch j) g j) (hG : tG (s.w_ch (sUp s.ch j x)) w (gSet g c j ll)) : tR s0 F b (s.w_ch (sUp s.ch j x)) w (gSet g c j ll) h' := by
  refine ⟨R.1.re [x1, g.ref c j] h2 rfl rfl (fun n hn => ho n (fun e => hn (by rw [e]; exact List.mem_cons_self)) (fun e => hn (by rw [e]; exact List.mem_cons_of_mem _ (List.mem_singleton.mpr rfl)))) (fun n hn => ?_) (fun n hk hn => ?_), hG⟩
  · rcases List.mem_cons.mp hn with e | e
    · subst e
      rw [hx]
      refine ⟨(by decide : (3 : Nat) ≠ 0), ?_⟩
      show _ = some (9, tCh (sUp s.ch j x j) w (gSet g c j ll) j)
      rw [sUp_self]
      exact hM
    · rw [List.mem_singleton.mp e, A]
      refine ⟨(by show c ≠ 0; omega), ?_⟩
      rw [hA]
      rcases hc with rfl | rfl | rfl
      · show _ = some (1000 + tarT 28, (gSet g 28 j ll).ar 28 j)
        rw [gSet_self]
      · show _ = some (1000 + tarT 29, (gSet g 29 j ll).ar 29 j)
        rw [gSet_self]
      · show _ = some (1000 + tarT 30, (gSet g 30 j ll).ar 30 j)
        rw [gSet_self]
  · have n1 : ¬ ((g.kind n).1 = 3 ∧ (g.kind n).2 = j) := fun e => hn (by
      have e1 : g.kind n = (3, j) := Prod.ext e.1 e.2
      rw [← R.1.at e1 (by decide), R.1.at hx (by decide)]
      exact List.mem_cons_self)
    have n2 : ¬ ((g.kind n).1 = c ∧ (g.kind n).2 = j) := fun e => hn (by
      have e1 : g.kind n = (c, j) := Prod.ext e.1 e.2
      rw [← R.1.at e1 (by omega)]
      exact List.mem_cons_of_mem _ (List.mem_singleton.mpr rfl))
    rw [tcell_set n2]
    by_cases e : (g.kind n).1 = 38
    · rw [e]
      exact tcell_ch2 hu
    · exact tcell_ch ⟨n1, e⟩
theorem tR.cch (R : tR s0 F b (s.w_ch (sUp s.ch j x)) w g h) (hx : g.kind x1 = (3, j)) : h.1 x1 = some (9, tCh x w g j) := by
  have e : h.1 x1 = some (9, tCh (sUp s.ch j x j) w g j) := R.1.cell hx (by decide)
  rw [sUp_self] at e
  exact e
/-- a channel's field is written; its arrays and names stay -/
theorem g_Ph {v : Value} {k : Nat} {P : zH → Prop} (R : tR s0 F b s w g h) (hn : g.kind x1 = (3, j)) (x : sCh) (hv : tCh x w g j = (tCh (s.ch j) w g j).set k v) (hu : tUn x g j = tUn (s.ch j) g j)
    (hG : tChOk (s.ch j) w g j → tChOk x w g j) (K : ∀ h1, tR s0 F b (s.w_ch (sUp s.ch j x)) w g h1 → zOth h h1 x1 → P h1) : fC h x1 9 ∧ ∀ h1, h1 = zput h x1 k v → P h1 :=
  g_Pch R hn x hv hu (R.2.ch fun hj => hG (R.2.chok hj)) K
theorem zcl_34 : zcl[34]? = some (RX37, TX37, 4) := rfl
/-- what was sent is noted, where there is a place for it -/
theorem t_hand_89 {oc : Option Nat} (R : tR s0 F (b + 1) s w g h) (I : sScope s) (hj : isH j) (hx : g.kind x1 = (3, j)) (hy : g.kind x2 = (36, m)) (hz : gO g 35 oc = x3) (hzk : ∀ y, oc = some y → s.knd y = 35)
    (A : gAr g 28 j n ((s.ch j).sent.map (fun i => zr (g.ref 37 i)))) (hl : (s.ch j).sent.length < n) (hcf : 2 * ((s.ch j).sent.length + 1) ≤ n + g.cf 28 j) (h64 : 16 ≤ n ∧ n < 2000000)
    (K : ∀ g1 h1, tR s0 F b (s_ch (s_b37 s ((s.ch j).tag, m, oc, false)) j (fun k => k.w_sent (k.sent ++ [s.next]))) w g1 h1 → gL g g1 → Q (.int (s.ch j).tag) h1) :
    zP s0 m_X8_hand (d + 2) 89 [none, some (zr x1), some (zr x2), some (zr x3), none, none, none] [] h Q E := by
  refine b_X8_hand_89 (g_N (u := 1) R (Nat.le_refl 1) (zle rfl) R.big fun n1 h1 R1 U1 => ⟨⟨_, _, U1.2.2.1⟩, c_X37_init ⟨⟨_, _, U1.2.2.1⟩, ?_⟩⟩)
  have e1 := R1.1.cell hx (by decide)
  refine e_I e1 fun (z1 : gI h1 x1 6 = (s.ch j).tag) => ?_
  rw [z1]
  refine g_PF R1 U1 fun h3 R3 U3 _ => g_PF R3 U3 fun h4 R4 U4 _ => g_PF R4 U4 fun h5 R5 U5 _ => ?_
  have U5 : zUn s0 F g h5 n1 34 [.int (s.ch j).tag, zr x2, zr x3, .int 0] := U5
  obtain rfl : g.ref 36 m = x2 := R.1.at hy (by decide)
  subst hz
  have h0 : s.knd s.next = 0 := I.new _ (Nat.le_refl _)
  have hkm := R.ak (by decide) (by decide) hy
  have Rb := R5.born (s' := s_b37 s ((s.ch j).tag, m, oc, false)) (c := 37) I U5 (by decide) bn37 (Or.inl (by decide)) (tMain_new (by decide) bn37 ⟨b37_messages, b37_lastNum, b37_gener, b37_clock, b37_deadOnes, b37_crashes⟩) (by
      show (34, tSe ((s_b37 s ((s.ch j).tag, m, oc, false)).se s.next) _) = _
      rw [b37_at]
      cases oc with
      | none => rfl
      | some y => rfl) (fun e => absurd e (by decide)) (fun e => absurd e (by decide)) (fun e => absurd e (by decide)) (fun e => absurd e (by decide)) (fun e => absurd e (by decide))
  have hch : (s_b37 s ((s.ch j).tag, m, oc, false)).ch = s.ch := b37_ch
  have Lb : gL g (gNw g n1 37 s.next []) := gNw.l U5.1
  have hn1 : (gNw g n1 37 s.next []).kind n1 = (37, s.next) := gNw.at
  have hnr : (gNw g n1 37 s.next []).ref 37 s.next = n1 := gNw.r
  have hx2 : (gNw g n1 37 s.next []).kind x1 = (3, j) := Lb.k hx (Or.inr (Or.inr (Or.inl rfl)))
  have A2 : gAr (gNw g n1 37 s.next []) 28 j n ((s.ch j).sent.map (fun i => zr ((gNw g n1 37 s.next []).ref 37 i))) := (gNw.x U5.1).Af (by omega) (Or.inr fun y hy e => by
    have := (I.ch j hj).1 y hy
    rw [e, h0] at this
    cases this) A
  have hcf2 : 2 * ((s.ch j).sent.length + 1) ≤ n + (gNw g n1 37 s.next []).cf 28 j := hcf
  revert Rb Lb hn1 hnr hx2 A2 hcf2 hch K
  generalize gNw g n1 37 s.next [] = gb
  generalize s_b37 s ((s.ch j).tag, m, oc, false) = s2
  intro K Rb hch Lb hn1 hnr hx2 A2 hcf2
  rw [← hch] at A2 hcf2 hl hcf K
  have ex : h5.1 x1 = some (9, tCh (s2.ch j) w gb j) := Rb.1.cell hx2 (by decide)
  have eA : h5.1 (gb.ref 28 j) = some (1000 + 20, gb.ar 28 j) := Rb.1.cell A2.1 (by decide)
  have hA : s0.1.heap.size < gb.ref 28 j := Rb.1.new A2.1 (by decide) (by decide)
  have hne : x1 ≠ gb.ref 28 j := kne hx2 A2.1 fun e => absurd (congrArg Prod.fst e) (by show ¬ (3 : Nat) = 28; decide)
  refine e_R ex fun (z2 : gR h5 x1 16 = gb.ref 28 j) => e_I ex fun (z3 : gI h5 x1 10 = Int32.ofNat (s2.ch j).sent.length) => ?_
  rw [z2, z3]
  refine g_S (t := 20) eA hA (zin_of (by rw [A2.2.1]; exact hl) (by omega)) ⟨Or.inr (zAsg_own U5.2.2.1 zcl_34 rfl), ?_⟩
  rintro h6 rfl
  rw [i_nat (by omega)]
  have e6 : (zput h5 (gb.ref 28 j) (s2.ch j).sent.length (zr n1)).1 x1 = some (9, tCh (s2.ch j) w gb j) := by rw [zput_ne hne]; exact ex
  refine e_I e6 fun (z4 : gI _ x1 10 = Int32.ofNat (s2.ch j).sent.length) => g_C e6 ?_
  rw [z4, i_succ]
  rintro h7 rfl
  have e7 : (zput (zput h5 (gb.ref 28 j) (s2.ch j).sent.length (zr n1)) x1 10 (.int (Int32.ofNat ((s2.ch j).sent.length + 1)))).1 x1 = some (9, tCh ((s2.ch j).w_sent ((s2.ch j).sent ++ [s.next])) w gb j) := by
    rw [zput_self e6]
    have e9 : (s2.ch j).sent.length + 1 = ((s2.ch j).sent ++ [s.next]).length := by simp
    rw [e9]
    rfl
  refine e_I e7 fun (z5 : gI _ x1 6 = (s2.ch j).tag) => ?_
  rw [z5]
  refine K (gSet gb 28 j ((gb.ar 28 j).set (s2.ch j).sent.length (zr n1))) _ ?_ (Lb.trans gL.set)
  refine Rb.arC (x := (s2.ch j).w_sent ((s2.ch j).sent ++ [s.next])) (Or.inl rfl) hx2 rfl A2.1 (fun m (q1 : m ≠ x1) (q2 : m ≠ gb.ref 28 j) => by rw [zput_ne q1, zput_ne q2]) e7 ?_ rfl (Rb.2.arC (Or.inl rfl) ?_)
  · rw [zput_ne hne.symm]
    exact zput_self eA
  · obtain ⟨f1, f2, -, f6, n6, pre, f7, f8, f9, f10⟩ := Rb.2.chok hj
    refine ⟨f1, gUn.ne (k := (s2.ch j)) f2 (by decide), ⟨n, h64, ?_, gAr.new A2.1 (by rw [List.length_set]; exact A2.2.1) ?_⟩, f6.ne2 (fun r x hx => hx) (by omega), n6, pre, f7, f8, f9, f10.ne (by omega)⟩
    · show 2 * ((s2.ch j).sent ++ [s.next]).length ≤ n + gb.cf 28 j
      rw [List.length_append]
      exact hcf2
    · have := pre_snoc A2.2.2 (v := zr n1) (by rw [List.length_map, A2.2.1]; exact hl)
      rw [List.length_map] at this
      show ((s2.ch j).sent ++ [s.next]).map (fun i => zr (gb.ref 37 i)) <+: _
      rw [List.map_append, List.map_singleton, hnr]
      exact this
theorem gRp.gx (hk : (g.kind n).1 = 0) (hA : gA1 g c j) (h40 : c ≠ 40) : gX g (gRp g n c j L k) c j := by
  refine ⟨fun c' i h0 hne hc => ?_, fun c' i hne => if_neg hne, fun c' i hne => if_neg hne, fun m q hm => ?_, rfl⟩
  · show (if (if c' = c ∧ i = j then n else g.ref c' i) = n then _ else if (if c' = c ∧ i = j then n else g.ref c' i) = g.ref c j then _ else g.kind (if c' = c ∧ i = j then n else g.ref c' i)) = _
    rw [if_neg hne, if_neg (fun e => by rw [← e, hc] at hk; exact h0 hk), if_neg (fun e => by
      rw [gA1, e, hA] at hc
      exact hne ⟨(congrArg Prod.fst hc).symm, (congrArg Prod.snd hc).symm⟩)]
    exact hc
  · refine ⟨?_, hm.2⟩
    show (if m = n then _ else if m = g.ref c j then _ else g.kind m) = _
    rw [if_neg (fun e => by rw [← e, hm.1] at hk; cases hk), if_neg (fun e => by
      have := hm.1
      rw [e, hA] at this
      exact h40 (congrArg Prod.fst this))]
    exact hm.1
theorem gRp.l (hk : (g.kind n).1 = 0) (hA : gA1 g c j) (hc : ¬ gSt c) : gL g (gRp g n c j L k) := fun m hm => by
  refine ⟨?_, rfl⟩
  show (if m = n then _ else if m = g.ref c j then _ else g.kind m) = _
  rw [if_neg (fun e => by
    rw [e, hk] at hm
    rcases hm with e | e | e | e | e <;> omega), if_neg (fun e => by
    rw [e, hA] at hm
    exact hc hm)]
theorem sum_cut {f : Nat → Nat} : ∀ {l : List Nat}, l.Nodup → j ∈ l → k ≤ f j → (l.map (fun h => if h = j then f j - k else f h)).sum + k = (l.map f).sum
  | [], _, hm, _ => nomatch hm
  | x :: l, hn, hm, hk => by
    have hn' := List.nodup_cons.mp hn
    simp only [List.map_cons, List.sum_cons]
    by_cases e : x = j
    · subst e
      have : (l.map (fun h => if h = x then f x - k else f h)) = l.map f := List.map_congr_left fun y hy => by rw [if_neg (fun e => hn'.1 (by rw [← e]; exact hy))]
      rw [this, if_pos rfl]
      omega
    · have := sum_cut (f := f) hn'.2 ((List.mem_cons.mp hm).resolve_left fun e2 => e e2.symm) hk
      rw [if_neg e]
      omega
theorem isH.hs (hj : isH j) : j ∈ s_hs := by
  obtain ⟨h1, h2⟩ := hj
  have : ∀ j : Nat, j < 16 → j % 4 ≠ 0 → j ∈ s_hs := by decide
  exact this j h1 h2
theorem tG.rp {n' : Nat} (G : tG s w g) (hc : c = 28 ∨ c = 30) (hj : isH j) (hk : (g.kind n).1 = 0) (hk2 : k ≤ g.cf c j) (hL : L.length = n') (h64 : 16 ≤ n' ∧ n' < 2000000)
    (o28 : c = 28 → 2 * (s.ch j).sent.length ≤ n' + (g.cf 28 j - k) ∧ (s.ch j).sent.map (fun i => zr (g.ref 37 i)) <+: L)
    (o30 : c = 30 → 2 * (w.cd j + (s.ch j).confs.length) ≤ n' + (g.cf 30 j - k) ∧ ∃ pre, pre.length = w.cd j ∧ (pre ++ (s.ch j).confs.map (fun x => .int x)) <+: L) : tG s w (gRp g n c j L k) := by
  have hA : gA1 g c j := by
    obtain ⟨-, -, ⟨n5, -, -, f5⟩, -, n6, pre, -, -, -, f10⟩ := G.chok hj
    rcases hc with rfl | rfl
    · exact f5.1
    · exact f10.1
  have X : gX g (gRp g n c j L k) c j := gRp.gx hk hA (by omega)
  have hkd : ∀ m, (gRp g n c j L k).kind m = (if m = n then (c, j) else if m = g.ref c j then (0, 0) else g.kind m) := fun m => rfl
  have hcf : ∀ a i, (gRp g n c j L k).cf a i = if a = c ∧ i = j then g.cf c j - k else g.cf a i := fun a i => rfl
  have hrn : (gRp g n c j L k).ref c j = n := if_pos ⟨rfl, rfl⟩
  have har : (gRp g n c j L k).ar c j = L := if_pos ⟨rfl, rfl⟩
  have h1 : gA1 (gRp g n c j L k) c j := by
    unfold gA1
    rw [hrn, hkd, if_pos rfl]
  obtain ⟨⟨a1, a2, a3, a4, a5, a6, a7⟩, b2, b3, ⟨b4, n4, c4, d4, e4⟩, b5, b6, b7, b8, b9, b10, b11, b12⟩ := G
  have hc4 : c = 0 ∨ c = 10 ∨ c = 28 ∨ c = 30 := Or.inr (Or.inr hc)
  refine ⟨⟨X.1 1 0 (by decide) (by omega) a1, fun m i e => ?_, fun m => (X.2.1 40 m (by omega)).trans (a3 m), fun c hc => X.1 2 c (by decide) (by omega) (a4 c hc), fun j hj => X.1 3 j (by decide) (by omega) (a5 j hj), fun c i h1 h2 h3 => X.1 c i (by omega) (by omega) (a6 c i h1 h2 h3), fun a i m h1 h2 e => ?_⟩,
    X.gar hc4 b2, X.gsc hc4 b3, ⟨X.AF (by omega) (fun r x => X.De (by omega)) b4, n4, c4, ?_, X.AF (by omega) (fun r x => X.Fa (by omega)) e4⟩, X.gcn hc4 b5, fun i hi => ?_, X.gex b7, X.gqu hc4 b8, X.gbi b9, X.gco b10, X.gen b11, ?_⟩
  · rw [hkd] at e
    split at e
    · have := congrArg Prod.fst e
      simp only at this
      omega
    · split at e
      · cases e
      · exact a2 m i e
  · rw [hkd] at e
    split at e
    · have := congrArg Prod.fst e
      simp only at this
      omega
    · split at e
      · have := congrArg Prod.fst e
        simp only at this
        omega
      · exact a7 a i m h1 h2 e
  · rw [hcf, if_neg (by omega)]
    exact d4
  · obtain ⟨f1, f2, ⟨n5, f3, f4, f5⟩, f6, n6, pre, f7, f8, f9, f10⟩ := b6 i hi
    refine ⟨X.Bo f1, X.gun hc4 f2, ?_, X.AF (by omega) (fun r x => X.Ke (by omega)) f6, ?_⟩
    · by_cases e : 28 = c ∧ i = j
      · obtain ⟨e1, rfl⟩ := e
        subst e1
        obtain ⟨q1, q2⟩ := o28 rfl
        refine ⟨n', h64, by rw [hcf, if_pos ⟨rfl, rfl⟩]; exact q1, h1, by rw [har]; exact hL, ?_⟩
        rw [har, show (fun y => zr ((gRp g n 28 i L k).ref 37 y)) = (fun y => zr (g.ref 37 y)) from funext fun y => by rw [X.2.1 37 y (by omega)]]
        exact q2
      · exact ⟨n5, f3, by rw [hcf, if_neg e]; exact f4, X.Am e (by omega) f5⟩
    · by_cases e : 30 = c ∧ i = j
      · obtain ⟨e1, rfl⟩ := e
        subst e1
        obtain ⟨q1, p2, q2, q3⟩ := o30 rfl
        exact ⟨n', p2, h64, by rw [hcf, if_pos ⟨rfl, rfl⟩]; exact q1, q2, h1, by rw [har]; exact hL, by rw [har]; exact q3⟩
      · exact ⟨n6, pre, f7, by rw [hcf, if_neg e]; exact f8, f9, X.Ar e f10⟩
  · unfold tGcr at b12 ⊢
    rw [hcf, if_neg (by omega)]
    show _ ≤ g.cr - k
    have hs := hj.hs
    rcases hc with rfl | rfl
    · have e1 : (fun h => (gRp g n 28 j L k).cf 28 h + (gRp g n 28 j L k).cf 30 h) = (fun h => if h = j then g.cf 28 j + g.cf 30 j - k else g.cf 28 h + g.cf 30 h) := funext fun h => by
        rw [hcf, hcf, if_neg (show ¬ (30 = 28 ∧ h = j) by omega)]
        by_cases e : h = j
        · subst e
          rw [if_pos ⟨rfl, rfl⟩, if_pos rfl]
          clear o28 o30
          omega
        · rw [if_neg (fun e2 => e e2.2), if_neg e]
      rw [e1]
      have := sum_cut (f := fun h => g.cf 28 h + g.cf 30 h) (l := s_hs) (j := j) (k := k) (by decide) hs (by clear o28 o30; omega)
      clear o28 o30
      omega
    · have e1 : (fun h => (gRp g n 30 j L k).cf 28 h + (gRp g n 30 j L k).cf 30 h) = (fun h => if h = j then g.cf 28 j + g.cf 30 j - k else g.cf 28 h + g.cf 30 h) := funext fun h => by
        rw [hcf, hcf, if_neg (show ¬ (28 = 30 ∧ h = j) by omega)]
        by_cases e : h = j
        · subst e
          rw [if_pos ⟨rfl, rfl⟩, if_pos rfl]
          clear o28 o30
          omega
        · rw [if_neg (fun e2 => e e2.2), if_neg e]
      rw [e1]
      have := sum_cut (f := fun h => g.cf 28 h + g.cf 30 h) (l := s_hs) (j := j) (k := k) (by decide) hs (by clear o28 o30; omega)
      clear o28 o30
      omega
theorem tcell_rp {a i : Nat} (hc : c = 28 ∨ c = 30) (hne : ¬ (a = c ∧ i = j)) (h3 : ¬ (a = 3 ∧ i = j)) : tcell s w (gRp g n c j L k) a i = tcell s w g a i := by
  have hr : ∀ a i, ¬ (a = c ∧ i = j) → (gRp g n c j L k).ref a i = g.ref a i := fun a i e => if_neg e
  have ho : ∀ a o, a ≠ c → gO (gRp g n c j L k) a o = gO g a o := fun a o e => by
    cases o with
    | none => rfl
    | some x => exact hr a x fun e2 => e e2.1
  have hq : ∀ a i, a ≠ c → (gRp g n c j L k).ref a i = g.ref a i := fun a i e => if_neg fun e1 => e e1.1
  have n2 : 2 ≠ c := by omega
  have n3 : 3 ≠ c := by omega
  have n4 : 4 ≠ c := by omega
  have n5 : 5 ≠ c := by omega
  have n6 : 6 ≠ c := by omega
  have n7 : 7 ≠ c := by omega
  have n8 : 8 ≠ c := by omega
  have n9 : 9 ≠ c := by omega
  have n10 : 10 ≠ c := by omega
  have n11 : 11 ≠ c := by omega
  have n12 : 12 ≠ c := by omega
  have n13 : 13 ≠ c := by omega
  have n14 : 14 ≠ c := by omega
  have n15 : 15 ≠ c := by omega
  have n16 : 16 ≠ c := by omega
  have n17 : 17 ≠ c := by omega
  have n18 : 18 ≠ c := by omega
  have n19 : 19 ≠ c := by omega
  have n20 : 20 ≠ c := by omega
  have n21 : 21 ≠ c := by omega
  have n22 : 22 ≠ c := by omega
  have n23 : 23 ≠ c := by omega
  have n24 : 24 ≠ c := by omega
  have n25 : 25 ≠ c := by omega
  have n26 : 26 ≠ c := by omega
  have n27 : 27 ≠ c := by omega
  have n29 : 29 ≠ c := by omega
  have n31 : 31 ≠ c := by omega
  have n32 : 32 ≠ c := by omega
  have n33 : 33 ≠ c := by omega
  have n35 : 35 ≠ c := by omega
  have n36 : 36 ≠ c := by omega
  have n39 : 39 ≠ c := by omega
  unfold tcell
  split
  · simp only [tMain, hq 4 _ n4, hq 5 _ n5, hq 6 _ n6, hq 7 _ n7, hq 8 _ n8, hq 9 _ n9, hq 10 _ n10, hq 11 _ n11,
      hq 12 _ n12, hq 13 _ n13, hq 14 _ n14, hq 15 _ n15, hq 16 _ n16, hq 17 _ n17, hq 18 _ n18, hq 19 _ n19,
      hq 20 _ n20, hq 21 _ n21, hq 22 _ n22, hq 23 _ n23, hq 24 _ n24]
  · simp only [tCn, hq 25 _ n25, hq 26 _ n26, hq 27 _ n27]
  · simp only [tCh, hq 2 _ n2, hr 28 _ (fun e => h3 ⟨rfl, e.2⟩), hq 29 _ n29, hr 30 _ (fun e => h3 ⟨rfl, e.2⟩)]
    rfl
  · rfl
  · simp only [tQu, ho 2 _ n2, ho 35 _ n35, hq 31 _ n31]
    rfl
  · simp only [tBi, hq 33 _ n33, hq 32 _ n32]
    rfl
  · simp only [tCo, hq 33 _ n33, hq 3 _ n3]
    rfl
  · simp only [tEn, hq 33 _ n33]
    rfl
  · simp only [tSe, hq 36 _ n36, ho 35 _ n35]
  · simp only [tUn, hq 39 _ n39]
    rfl
  · rfl
  · show (_, if _ then _ else _) = _
    rw [if_neg hne]
/-- an array of a channel is replaced by another: kf is the place of its field -/
theorem tR.rp {k0 n' kf : Nat} (H : gH s0 F (b + (g.cr - k0)) (tcell s w g) g h) (G : tG s w g) (hc : c = 28 ∧ kf = 16 ∨ c = 30 ∧ kf = 18) (hj : isH j) (hx : g.kind x1 = (3, j)) (U : zUn s0 F g h n (1000 + tarT c) L) (hL : L.length = n') (h64 : 16 ≤ n' ∧ n' < 2000000) (hk2 : k0 ≤ g.cf c j)
    (o28 : c = 28 → 2 * (s.ch j).sent.length ≤ n' + (g.cf 28 j - k0) ∧ (s.ch j).sent.map (fun i => zr (g.ref 37 i)) <+: L)
    (o30 : c = 30 → 2 * (w.cd j + (s.ch j).confs.length) ≤ n' + (g.cf 30 j - k0) ∧ ∃ pre, pre.length = w.cd j ∧ (pre ++ (s.ch j).confs.map (fun x => .int x)) <+: L) : tR s0 F b s w (gRp g n c j L k0) (zput h x1 kf (zr n)) := by
  have hcc : c = 28 ∨ c = 30 := hc.imp And.left And.left
  have hA : gA1 g c j := by
    obtain ⟨-, -, ⟨n5, -, -, f5⟩, -, n6, pre, -, -, -, f10⟩ := G.chok hj
    rcases hcc with rfl | rfl
    · exact f5.1
    · exact f10.1
  refine ⟨⟨fun m hm0 => ?_, fun m q hq => ?_, H.2.2⟩, G.rp hcc hj U.1 hk2 hL h64 o28 o30⟩
  · have hkind : (gRp g n c j L k0).kind m = (if m = n then (c, j) else if m = g.ref c j then (0, 0) else g.kind m) := rfl
    have hnx : n ≠ x1 := U.ne (by rw [hx]; exact (by decide : (3 : Nat) ≠ 0))
    by_cases e : m = n
    · subst e
      rw [hkind, if_pos rfl]
      refine ⟨?_, if_pos ⟨rfl, rfl⟩, U.2.2.2.1, U.2.2.2.2.1, Or.inr U.2.2.2.2.2⟩
      rw [zput_ne hnx, U.2.2.1]
      rcases hcc with rfl | rfl
      · show _ = some (1000 + tarT 28, (if 28 = 28 ∧ j = j then L else _))
        rw [if_pos ⟨rfl, rfl⟩]
      · show _ = some (1000 + tarT 30, (if 30 = 30 ∧ j = j then L else _))
        rw [if_pos ⟨rfl, rfl⟩]
    · by_cases e2 : m = g.ref c j
      · rw [hkind, if_neg e, if_pos e2] at hm0
        exact absurd rfl hm0
      · rw [hkind, if_neg e, if_neg e2] at hm0 ⊢
        obtain ⟨f1, f2, f3, f4, f5⟩ := H.1 m hm0
        have hne : ¬ ((g.kind m).1 = c ∧ (g.kind m).2 = j) := fun e3 => e2 (by
          have e4 : g.kind m = (c, j) := Prod.ext e3.1 e3.2
          exact (H.at e4 (by omega)).symm)
        refine ⟨?_, (if_neg hne).trans f2, f3, f4, f5⟩
        by_cases e5 : m = x1
        · subst e5
          rw [hx] at f1 ⊢
          have e6 : h.1 m = some (9, tCh (s.ch j) w g j) := f1
          have hr : ∀ a i, ¬ (a = c ∧ i = j) → (gRp g n c j L k0).ref a i = g.ref a i := fun a i e => if_neg e
          have hrn : (gRp g n c j L k0).ref c j = n := if_pos ⟨rfl, rfl⟩
          rw [zput_self e6]
          show _ = some (9, tCh (s.ch j) w (gRp g n c j L k0) j)
          rcases hc with ⟨rfl, rfl⟩ | ⟨rfl, rfl⟩
          · simp only [tCh, hr 2 _ (fun e => absurd e.1 (by decide)), hrn, hr 29 _ (fun e => absurd e.1 (by decide)), hr 30 _ (fun e => absurd e.1 (by decide))]
            rfl
          · simp only [tCh, hr 2 _ (fun e => absurd e.1 (by decide)), hrn, hr 29 _ (fun e => absurd e.1 (by decide)), hr 28 _ (fun e => absurd e.1 (by decide))]
            rfl
        · rw [zput_ne e5, f1, tcell_rp hcc hne fun e6 => e5 (by
            have e7 : g.kind m = (3, j) := Prod.ext e6.1 e6.2
            rw [← H.at e7 (by decide), H.at hx (by decide)])]
  · obtain ⟨f1, f2, f3⟩ := H.2.1 m q hq
    have hmn : m ≠ n := fun e => by rw [e, U.2.1] at hq; cases hq
    have hmx : m ≠ x1 := fun e => by rw [e, hx] at f2; cases f2
    refine ⟨by rw [zput_ne hmx]; exact f1, ?_, f3⟩
    show (if m = n then _ else if m = g.ref c j then _ else g.kind m).1 = 0
    rw [if_neg hmn]
    split
    · rfl
    · exact f2
theorem t_hand_56 {N cap n1 x2 x3 : Nat} {M : List Value} (G : tG s w g) (I : sScope s) (hj : isH j) (hx : g.kind x1 = (3, j)) (A : gAr g 28 j cap ((s.ch j).sent.map (fun i => zr (g.ref 37 i)))) (hcap : cap < 2000000) (hM : (s.ch j).sent.length ≤ M.length) (hM2 : M.length < 2147483648)
    (K : ∀ h1, gH s0 F N (tcell s w g) g h1 → zUn s0 F g h1 n1 1020 (cpy (g.ar 28 j) M (s.ch j).sent.length) → zP s0 m_X8_hand (d + 1) 89 [none, some (zr x1), some (zr x2), some (zr x3), none, none, none] [] (zput h1 x1 16 (zr n1)) Q E) :
    ∀ (k i : Nat) (h : zH), (s.ch j).sent.length = i + k → gH s0 F N (tcell s w g) g h → zUn s0 F g h n1 1020 (cpy (g.ar 28 j) M i) → zP s0 m_X8_hand (d + 1) 56 [none, some (zr x1), some (zr x2), some (zr x3), none, some (zr n1), some (.int (Int32.ofNat i))] [] h Q E
  | k, i, h, hi, H, U => by
    have ex : h.1 x1 = some (9, tCh (s.ch j) w g j) := H.cell hx (by decide)
    have hle := A.le
    rw [List.length_map] at hle
    refine b_X8_hand_56 (e_I ex fun (z1 : gI h x1 10 = Int32.ofNat (s.ch j).sent.length) => ⟨fun hl => ?_, fun hl => ?_⟩)
    · rw [z1, i_le (by omega) (by omega)] at hl
      have ej : i = (s.ch j).sent.length := by omega
      subst ej
      exact g_C ex fun h1 e1 => by rw [e1]; exact K h H U
    · rw [z1, i_le (by omega) (by omega)] at hl
      obtain ⟨k', rfl⟩ : ∃ k', k = k' + 1 := ⟨k - 1, by omega⟩
      have hx5 : (s.ch j).sent[i]? = some (s.ch j).sent[i] := List.getElem?_eq_getElem (by omega)
      have hkx := (I.ch j hj).1 _ (List.mem_of_getElem? hx5)
      have hr : (g.ar 28 j)[i]? = some (zr (g.ref 37 (s.ch j).sent[i])) := el_get A.2.2 hx5
      have eA : h.1 (g.ref 28 j) = some (1000 + 20, g.ar 28 j) := H.cell A.1 (by decide)
      refine e_R ex fun (z2 : gR h x1 16 = g.ref 28 j) => ?_
      rw [z2]
      refine g_ER eA (zin_of (by rw [A.2.1]; omega) (by omega)) (by rw [i_nat (by omega)]; exact hr) fun z3 => ?_
      rw [z3]
      refine g_S (t := 20) U.2.2.1 U.2.2.2.2.2 (zin_of (by rw [cpy_len]; omega) (by omega)) ⟨Or.inr ?_, ?_⟩
      · have ha : gA1 g 37 (s.ch j).sent[i] := G.1.2.2.2.2.2.1 37 _ (by decide) (by decide) hkx
        exact zAsg_own (H.cell ha (by decide)) zcl_34 rfl
      · rintro h2 rfl
        rw [i_nat (by omega), i_succ]
        refine t_hand_56 G I hj hx A hcap hM hM2 K k' (i + 1) _ (by omega) (H.putF U.1 U.2.1) ⟨U.1, U.2.1, ?_, U.2.2.2⟩
        rw [zput_self U.2.2.1, cpy, List.getD_eq_getElem?_getD, hr]
        rfl
theorem sB_not0 {b : Bool} (hb : b = true) : ¬ sB b = 0 := fun e => by rw [hb] at e; cases e
/-- a message goes to a channel: its tag is the answer -/
theorem t_hand {oc : Option Nat} {fr : Bool} (R : tR s0 F (b + 3) s w g h) (I : sScope s) (hm : g.kind x0 = (1, 0)) (hj : isH j) (hx : g.kind x1 = (3, j)) (hy : g.kind x2 = (36, m)) (hz : gO g 35 oc = x3) (hzk : ∀ y, oc = some y → s.knd y = 35)
    (hi : m ∈ (s.qu (s.en m).queue).ents) (hcap : s.facts.length < 980000) (hcs : (s.ch j).sent.length < 980000)
    (K : ∀ g1 h1, tR s0 F b (s_hand s j m oc fr) w g1 h1 → gL g g1 → Q (.int ((s.ch j).tag + 1)) h1) : zX s0 m_X8_hand (d + 4) [zr x0, zr x1, zr x2, zr x3, .int (sB fr)] h Q E := by
  have e1 := R.1.cell hx (by decide)
  refine c_X8_hand (e_I e1 fun (z1 : gI h x1 6 = (s.ch j).tag) => ?_)
  rw [z1]
  refine g_Ph R hx ((s.ch j).w_tag ((s.ch j).tag + 1)) rfl rfl (fun hok => hok) fun h1 R1 _ => ?_
  have ch1 : (s.w_ch (sUp s.ch j ((s.ch j).w_tag ((s.ch j).tag + 1)))).ch j = (s.ch j).w_tag ((s.ch j).tag + 1) := sUp_self
  have I1 : sScope (s.w_ch (sUp s.ch j ((s.ch j).w_tag ((s.ch j).tag + 1)))) := by
    obtain ⟨a1, a2, a3, a4, a5, a6, a7, a8, a9, a10, a11, a12, a13, a14, a15, a16⟩ := I
    refine ⟨a1, a2, a3, a4, a5, a6, a7, a8, a9, a10, a11, a12, a13, a14, fun i hi => ?_, a16⟩
    show (∀ x ∈ (sUp s.ch j _ i).sent, s.knd x = 37) ∧ ∀ k ∈ (sUp s.ch j _ i).kept, ∀ x ∈ k.those, s.knd x = 37
    by_cases e : i = j
    · subst e
      rw [sUp_self]
      exact a15 i hi
    · rw [sUp_ne e]
      exact a15 i hi
  have htag : ((s.ch j).w_tag ((s.ch j).tag + 1)).tag = (s.ch j).tag + 1 := rfl
  have hsent : ((s.ch j).w_tag ((s.ch j).tag + 1)).sent = (s.ch j).sent := rfl
  have hfac : (s.w_ch (sUp s.ch j ((s.ch j).w_tag ((s.ch j).tag + 1)))).facts = s.facts := rfl
  have hen1 : (s.w_ch (sUp s.ch j ((s.ch j).w_tag ((s.ch j).tag + 1)))).en = s.en := rfl
  have hqu1 : (s.w_ch (sUp s.ch j ((s.ch j).w_tag ((s.ch j).tag + 1)))).qu = s.qu := rfl
  have hkn1 : (s.w_ch (sUp s.ch j ((s.ch j).w_tag ((s.ch j).tag + 1)))).knd = s.knd := rfl
  have hK : s_hand s j m oc fr = if fr then s_leaves (s.w_ch (sUp s.ch j ((s.ch j).w_tag ((s.ch j).tag + 1)))) m else
      s_ch (s_b37 (s_en (s.w_ch (sUp s.ch j ((s.ch j).w_tag ((s.ch j).tag + 1)))) m (fun e => e.w_state 1)) (((s.w_ch (sUp s.ch j ((s.ch j).w_tag ((s.ch j).tag + 1)))).ch j).tag, m, oc, false)) j (fun k => k.w_sent (k.sent ++ [(s_en (s.w_ch (sUp s.ch j ((s.ch j).w_tag ((s.ch j).tag + 1)))) m (fun e => e.w_state 1)).next])) := rfl
  rw [hK] at K
  revert R1 ch1 I1 hfac hen1 hqu1 hkn1 K
  generalize s.w_ch (sUp s.ch j ((s.ch j).w_tag ((s.ch j).tag + 1))) = s1
  intro K R1 ch1 I1 hfac hen1 hqu1 hkn1
  have ex1 := R1.1.cell hx (by decide)
  rw [sB_0]
  refine ⟨fun hf => ?_, fun hf => ?_⟩
  · subst hf
    have K : ∀ g1 h1, tR s0 F b (s_ch (s_b37 (s_en s1 m (fun e => e.w_state 1)) ((s1.ch j).tag, m, oc, false)) j (fun k => k.w_sent (k.sent ++ [(s_en s1 m (fun e => e.w_state 1)).next]))) w g1 h1 → gL g g1 → Q (.int ((s.ch j).tag + 1)) h1 := K
    refine g_Pen R1 hy ((s1.en m).w_state 1) rfl (R1.2.en fun _ => R1.2.2.2.2.2.2.2.2.2.2.2.1 m (R1.ak (by decide) (by decide) hy)) fun h2 R2 _ => ?_
    have I2 : sScope (s1.w_en (sUp s1.en m ((s1.en m).w_state 1))) := I1.enw rfl
    have R2 : tR s0 F (b + 3) (s_en s1 m (fun e => e.w_state 1)) w g h2 := R2
    have I2 : sScope (s_en s1 m (fun e => e.w_state 1)) := I2
    have ch2 : (s_en s1 m (fun e => e.w_state 1)).ch = s1.ch := rfl
    have kn2 : (s_en s1 m (fun e => e.w_state 1)).knd = s1.knd := rfl
    revert R2 I2 ch2 kn2 K
    generalize s_en s1 m (fun e => e.w_state 1) = s2
    intro K R2 I2 ch2 kn2
    have e2 := R2.1.cell hx (by decide)
    have hs2 : (s2.ch j).sent = (s.ch j).sent := by rw [ch2, ch1]; exact hsent
    have hs2l : (s2.ch j).sent.length = (s.ch j).sent.length := by rw [hs2]
    have ht2 : (s2.ch j).tag = (s.ch j).tag + 1 := by rw [ch2, ch1]; exact htag
    rw [← ht2] at K
    rw [← ch2] at K
    have hzk2 : ∀ y, oc = some y → s2.knd y = 35 := fun y hy => by rw [kn2, hkn1]; exact hzk y hy
    obtain ⟨-, -, ⟨n, h64, hcf, A⟩, -⟩ := R2.2.chok hj
    have hle := A.le
    rw [List.length_map] at hle
    have eA : h2.1 (g.ref 28 j) = some (1000 + 20, g.ar 28 j) := R2.1.cell A.1 (by decide)
    refine e_I e2 fun (z2 : gI h2 x1 10 = Int32.ofNat (s2.ch j).sent.length) => e_R e2 fun (z3 : gR h2 x1 16 = g.ref 28 j) => ?_
    rw [z2, z3, gA_of eA, A.2.1]
    refine ⟨⟨_, eA⟩, fun hne => ?_, fun heq => ?_⟩
    · rw [i_inj (by omega) (by omega)] at hne
      have R3 : tR s0 F (b + 1) s2 w (gCr g 28 j 2) h2 := tR.cred (u := 2) (Or.inr ⟨Or.inl rfl, hj.hs⟩) R2
      exact t_hand_89 (n := n) R3 I2 hj hx hy hz hzk2 A (by omega) (by rw [gCr_self]; omega) h64 fun g1 h1 R4 L4 => K g1 h1 R4 (gL.cr.trans L4)
    · rw [i_inj (by omega) (by omega)] at heq
      refine e_I e2 fun _ => ?_
      rw [i_mul2, i_nat (by omega)]
      refine ⟨i_nn (by omega), ?_⟩
      have hcr : n ≤ g.cr := by
        have := R2.2.2.2.2.2.2.2.2.2.2.2
        unfold tGcr at this
        have h2 := sum_cut (f := fun h => g.cf 28 h + g.cf 30 h) (l := s_hs) (j := j) (k := n) (by decide) hj.hs (by omega)
        omega
      have H := R2.1
      rw [show b + 3 + g.cr = b + 3 + (g.cr - n) + n by omega] at H
      obtain ⟨H1, hroom, k1, f1, -⟩ := H.znew (c := 1020) (fs := List.replicate (2 * (s2.ch j).sent.length) (zr 0)) (w := 2 * (s2.ch j).sent.length) (by omega) (by omega)
      refine ⟨hroom, ?_⟩
      rintro n1 rfl h3 rfl
      have U1 : zUn s0 F g (znew h2 1020 (List.replicate (2 * (s2.ch j).sent.length) (zr 0)) (2 * (s2.ch j).sent.length)) h2.2.1 1020 (cpy (g.ar 28 j) (List.replicate (2 * (s2.ch j).sent.length) (zr 0)) 0) := ⟨k1, f1, znew_self, by have := R2.big; omega, Nat.lt_succ_self _, R2.big⟩
      refine t_hand_56 (x2 := x2) (x3 := x3) (d := d + 3) R2.2 I2 hj hx A h64.2 (by simp; omega) (by simp; omega) (fun h4 H4 U4 => ?_) (s2.ch j).sent.length 0 _ (by omega) H1 U1
      have R3 := tR.rp (b := b + 3) (k0 := n) (n' := 2 * n) (c := 28) (kf := 16) H4 R2.2 (Or.inl ⟨rfl, rfl⟩) hj hx U4 (by rw [cpy_len, List.length_replicate]; omega) ⟨by omega, by omega⟩ (by omega) (fun _ => ⟨by omega, ?_⟩) (fun e => absurd e (by decide))
      · have L3 : gL g (gRp g h2.2.1 28 j (cpy (g.ar 28 j) (List.replicate (2 * (s2.ch j).sent.length) (zr 0)) (s2.ch j).sent.length) n) := gRp.l k1 A.1 (by unfold gSt; omega)
        have R4 : tR s0 F (b + 1) s2 w (gCr (gRp g h2.2.1 28 j (cpy (g.ar 28 j) (List.replicate (2 * (s2.ch j).sent.length) (zr 0)) (s2.ch j).sent.length) n) 28 j 2) (zput h4 x1 16 (zr h2.2.1)) := tR.cred (u := 2) (Or.inr ⟨Or.inl rfl, hj.hs⟩) R3
        have L4 := L3.trans (gL.cr (c := 28) (i := j) (u := 2))
        have hz4 : gO (gCr (gRp g h2.2.1 28 j (cpy (g.ar 28 j) (List.replicate (2 * (s2.ch j).sent.length) (zr 0)) (s2.ch j).sent.length) n) 28 j 2) 35 oc = x3 := by
          rw [← hz]
          cases oc with
          | none => rfl
          | some y => exact (gRp.gx (L := cpy (g.ar 28 j) (List.replicate (2 * (s2.ch j).sent.length) (zr 0)) (s2.ch j).sent.length) (k := n) k1 A.1 (by decide)).2.1 35 y (by omega)
        obtain ⟨-, -, ⟨n5, h65, hcf5, A5⟩, -⟩ := R4.2.chok hj
        have hn5 : n5 = 2 * n := by
          rw [← A5.2.1]
          show (if 28 = 28 ∧ j = j then _ else _ : List Value).length = _
          rw [if_pos ⟨rfl, rfl⟩, cpy_len, List.length_replicate]
          omega
        refine t_hand_89 (n := n5) R4 I2 hj (L4.k hx (Or.inr (Or.inr (Or.inl rfl)))) (L4.th (by decide) (by decide) hy) hz4 hzk2 A5 (by omega) (by rw [gCr_self]; omega) h65 fun g1 h1 R5 L5 => K g1 h1 R5 (L4.trans L5)
      · rw [List.prefix_iff_getElem?]
        intro i hi
        rw [List.length_map] at hi
        have hx5 : (s2.ch j).sent[i]? = some (s2.ch j).sent[i] := List.getElem?_eq_getElem (by omega)
        have hr : (g.ar 28 j)[i]? = some (zr (g.ref 37 (s2.ch j).sent[i])) := el_get A.2.2 hx5
        rw [cpy_get _ i hi (by simp; omega), List.getD_eq_getElem?_getD, hr, List.getElem_map]
        rfl
  · rw [Bool.not_eq_false] at hf
    subst hf
    have K : ∀ g1 h1, tR s0 F b (s_leaves s1 m) w g1 h1 → gL g g1 → Q (.int ((s.ch j).tag + 1)) h1 := K
    refine ⟨⟨_, R1.main hm⟩, t_leaves R1 I1 hm hy (by rw [hen1, hqu1]; exact hi) (by rw [hfac]; omega) fun g2 h2 R2 L2 => ?_⟩
    have ch2 := (s_leaves_lv (s := s1) (m := m)).2.2.2.1
    have e2 := R2.1.cell (L2.k hx (Or.inr (Or.inr (Or.inl rfl)))) (by decide)
    refine e_I e2 fun (z4 : gI h2 x1 6 = ((s_leaves s1 m).ch j).tag) => ?_
    rw [z4, ch2, ch1]
    exact K g2 h2 R2 L2
end HD
