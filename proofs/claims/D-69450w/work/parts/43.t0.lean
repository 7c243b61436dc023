/-! ===== the twin: its arrays written ===== -/
set_option maxRecDepth 100000
def gSet (g : sG) (c i : Nat) (l : List Value) : sG := g.w_ar (fun c' i' => if c' = c ∧ i' = i then l else g.ar c' i')
theorem gSet_self {g : sG} {c i : Nat} {l : List Value} : (gSet g c i l).ar c i = l := if_pos ⟨rfl, rfl⟩
theorem gSet_ne {g : sG} {c i c' i' : Nat} {l : List Value} (h : ¬ (c' = c ∧ i' = i)) : (gSet g c i l).ar c' i' = g.ar c' i' := if_neg h
section T0
variable {s0 : zE} {F : Nat → Option zC} {b : Nat} {s s' : sSt} {w w' : tW} {g g' : sG} {h h' : zH} {d x0 : Nat} {c i : Nat} {l : List Value}
theorem gAr.ne {c' i' n : Nat} {xs : List Value} (A : gAr g c' i' n xs) (hne : ¬ (c' = c ∧ i' = i)) : gAr (gSet g c i l) c' i' n xs := by
  refine ⟨A.1, ?_, ?_⟩
  · rw [gSet_ne hne]; exact A.2.1
  · rw [gSet_ne hne]; exact A.2.2
theorem gAr.ne1 {c' i' n : Nat} {xs : List Value} (A : gAr g c' i' n xs) (hne : c' ≠ c) : gAr (gSet g c i l) c' i' n xs := A.ne fun e => hne e.1
theorem gAr.new {n : Nat} {xs : List Value} (A : gA1 g c i) (hl : l.length = n) (hx : xs <+: l) : gAr (gSet g c i l) c i n xs := ⟨A, by rw [gSet_self]; exact hl, by rw [gSet_self]; exact hx⟩
theorem gArF.ne1 {α : Type} {P : sG → Nat → α → Prop} {c' i' n : Nat} {xs : List α} (hP : ∀ r x, P g r x → P (gSet g c i l) r x) (A : gArF g c' i' n P xs) (hne : c' ≠ c) : gArF (gSet g c i l) c' i' n P xs := by
  obtain ⟨a1, a2, a3, a4⟩ := A
  have e : (gSet g c i l).ar c' i' = g.ar c' i' := gSet_ne fun e => hne e.1
  refine ⟨a1, by rw [e]; exact a2, a3, fun j x hx => ?_⟩
  obtain ⟨r, h1, h2⟩ := a4 j x hx
  exact ⟨r, by rw [e]; exact h1, hP r x h2⟩
theorem tGsc.ne (G : tGsc g) (hc : c ≠ 18 ∧ c ≠ 19 ∧ c ≠ 20 ∧ c ≠ 21 ∧ c ≠ 22 ∧ c ≠ 23) : tGsc (gSet g c i l) :=
  ⟨G.1.ne1 hc.1.symm, G.2.1.ne1 hc.2.1.symm, G.2.2.1.ne1 hc.2.2.1.symm, G.2.2.2.1.ne1 hc.2.2.2.1.symm, G.2.2.2.2.1.ne1 hc.2.2.2.2.1.symm, G.2.2.2.2.2.ne1 hc.2.2.2.2.2.symm⟩
theorem tGfz.ne (G : tGfz s g) (hc : c ≠ 9 ∧ c ≠ 10) : tGfz s (gSet g c i l) := by
  obtain ⟨a1, n, a2, a3, a4⟩ := G
  exact ⟨a1.ne1 (fun r x hx => hx) hc.1.symm, n, a2, a3, a4.ne1 (fun r x hx => hx) hc.2.symm⟩
theorem tGcn.ne (G : tGcn s g) (hc : c ≠ 25 ∧ c ≠ 26 ∧ c ≠ 27) : tGcn s (gSet g c i l) := fun k hk => by
  obtain ⟨a1, ⟨a2, a3⟩, a4⟩ := G k hk
  exact ⟨a1.ne1 hc.1.symm, ⟨a2, by rw [gSet_ne fun e => hc.2.1 e.1.symm]; exact a3⟩, a4.ne1 hc.2.2.symm⟩
theorem gUn.ne {k : sCh} {j : Nat} (G : gUn k g j) (hc : c ≠ 39) : gUn k (gSet g c i l) j := fun hj => by
  have := G hj
  revert this
  cases k.cont with
  | none => exact id
  | some x => exact fun ⟨a1, a2, a3, a4, a5, a6⟩ => ⟨a1, a2, a3, a4, a5, fun e => (a6 e).ne1 hc.symm⟩
theorem gKe.ne {n : Nat} {k : sKe} (G : gKe g n k) : gKe (gSet g c i l) n k := G
theorem tGch.ne (G : tGch s w g) (hc : c ≠ 28 ∧ c ≠ 29 ∧ c ≠ 30 ∧ c ≠ 39) : tGch s w (gSet g c i l) := fun j hj => by
  obtain ⟨a1, a2, ⟨n, n1, n2, a3⟩, a4, m, pre, m1, m2, m3, a5⟩ := G j hj
  exact ⟨a1, a2.ne hc.2.2.2, ⟨n, n1, n2, a3.ne1 hc.1.symm⟩, a4.ne1 (fun r x hx => hx.ne) hc.2.1.symm, m, pre, m1, m2, m3, a5.ne1 hc.2.2.1.symm⟩
theorem tGqu.ne (G : tGqu s g) (hc : c ≠ 31) : tGqu s (gSet g c i l) := fun j hj => by
  obtain ⟨a1, a2, a3, a4⟩ := G j hj
  exact ⟨a1, a2, a3, a4.ne1 hc.symm⟩
theorem tG.set5 (G : tG s w g) {l : List Value} {xs : List Nat} (hl : l.length = 12) (hx : xs.map (fun e => zr (g.ref 32 e)) <+: l) : tG (s.w_es xs) w (gSet g 5 0 l) := by
  obtain ⟨a1, ⟨b4, b5, b6, b7, b8, b11, b12, b13, b14, b15, b16, b17, b24, bz⟩, a3, a4, a5, a6, a7, a8, a9⟩ := G
  exact ⟨a1, ⟨(b4).ne (by decide), gAr.new b5.1 hl hx, (b6).ne (by decide), (b7).ne (by decide), (b8).ne (by decide), (b11).ne (by decide), (b12).ne (by decide), (b13).ne (by decide), (b14).ne (by decide), (b15).ne (by decide), (b16).ne (by decide), (b17).ne (by decide), (b24).ne (by decide), bz⟩, a3.ne (by decide), a4.ne (by decide), a5.ne (by decide), a6.ne (by decide), a7, a8.ne (by decide), a9⟩
theorem tG.ar5 (G : tG s w g) : gAr g 5 0 12 (s.es.map (fun e => zr (g.ref 32 e))) := G.2.1.2.1
theorem tG.set6 (G : tG s w g) {l : List Value} {xs : List Nat} (hl : l.length = 12) (hx : xs.map (fun q => zr (g.ref 33 q)) <+: l) : tG (s.w_qs xs) w (gSet g 6 0 l) := by
  obtain ⟨a1, ⟨b4, b5, b6, b7, b8, b11, b12, b13, b14, b15, b16, b17, b24, bz⟩, a3, a4, a5, a6, a7, a8, a9⟩ := G
  exact ⟨a1, ⟨(b4).ne (by decide), (b5).ne (by decide), gAr.new b6.1 hl hx, (b7).ne (by decide), (b8).ne (by decide), (b11).ne (by decide), (b12).ne (by decide), (b13).ne (by decide), (b14).ne (by decide), (b15).ne (by decide), (b16).ne (by decide), (b17).ne (by decide), (b24).ne (by decide), bz⟩, a3.ne (by decide), a4.ne (by decide), a5.ne (by decide), a6.ne (by decide), a7, a8.ne (by decide), a9⟩
theorem tG.ar6 (G : tG s w g) : gAr g 6 0 12 (s.qs.map (fun q => zr (g.ref 33 q))) := G.2.1.2.2.1
theorem tG.set7 (G : tG s w g) {l : List Value} {xs : List Nat} (hl : l.length = 40) (hx : xs.map (fun b => zr (g.ref 34 b)) <+: l) : tG (s.w_bs xs) w (gSet g 7 0 l) := by
  obtain ⟨a1, ⟨b4, b5, b6, b7, b8, b11, b12, b13, b14, b15, b16, b17, b24, bz⟩, a3, a4, a5, a6, a7, a8, a9⟩ := G
  exact ⟨a1, ⟨(b4).ne (by decide), (b5).ne (by decide), (b6).ne (by decide), gAr.new b7.1 hl hx, (b8).ne (by decide), (b11).ne (by decide), (b12).ne (by decide), (b13).ne (by decide), (b14).ne (by decide), (b15).ne (by decide), (b16).ne (by decide), (b17).ne (by decide), (b24).ne (by decide), bz⟩, a3.ne (by decide), a4.ne (by decide), a5.ne (by decide), a6.ne (by decide), a7, a8.ne (by decide), a9⟩
theorem tG.ar7 (G : tG s w g) : gAr g 7 0 40 (s.bs.map (fun b => zr (g.ref 34 b))) := G.2.1.2.2.2.1
theorem tG.set8 (G : tG s w g) {l : List Value} {xs : List Nat} (hl : l.length = 16) (hx : xs.map (fun i => zr (g.ref 35 i)) <+: l) : tG (s.w_cs xs) w (gSet g 8 0 l) := by
  obtain ⟨a1, ⟨b4, b5, b6, b7, b8, b11, b12, b13, b14, b15, b16, b17, b24, bz⟩, a3, a4, a5, a6, a7, a8, a9⟩ := G
  exact ⟨a1, ⟨(b4).ne (by decide), (b5).ne (by decide), (b6).ne (by decide), (b7).ne (by decide), gAr.new b8.1 hl hx, (b11).ne (by decide), (b12).ne (by decide), (b13).ne (by decide), (b14).ne (by decide), (b15).ne (by decide), (b16).ne (by decide), (b17).ne (by decide), (b24).ne (by decide), bz⟩, a3.ne (by decide), a4.ne (by decide), a5.ne (by decide), a6.ne (by decide), a7, a8.ne (by decide), a9⟩
theorem tG.ar8 (G : tG s w g) : gAr g 8 0 16 (s.cs.map (fun i => zr (g.ref 35 i))) := G.2.1.2.2.2.2.1
theorem tG.set11 (G : tG s w g) {l : List Value} {xs : List Nat} (hl : l.length = 12) (hx : xs.map (fun e => zr (g.ref 32 e)) <+: l) : tG (s.w_ses xs) w (gSet g 11 0 l) := by
  obtain ⟨a1, ⟨b4, b5, b6, b7, b8, b11, b12, b13, b14, b15, b16, b17, b24, bz⟩, a3, a4, a5, a6, a7, a8, a9⟩ := G
  exact ⟨a1, ⟨(b4).ne (by decide), (b5).ne (by decide), (b6).ne (by decide), (b7).ne (by decide), (b8).ne (by decide), gAr.new b11.1 hl hx, (b12).ne (by decide), (b13).ne (by decide), (b14).ne (by decide), (b15).ne (by decide), (b16).ne (by decide), (b17).ne (by decide), (b24).ne (by decide), bz⟩, a3.ne (by decide), a4.ne (by decide), a5.ne (by decide), a6.ne (by decide), a7, a8.ne (by decide), a9⟩
theorem tG.ar11 (G : tG s w g) : gAr g 11 0 12 (s.ses.map (fun e => zr (g.ref 32 e))) := G.2.1.2.2.2.2.2.1
theorem tG.set12 (G : tG s w g) {l : List Value} {xs : List Nat} (hl : l.length = 12) (hx : xs.map (fun q => zr (g.ref 33 q)) <+: l) : tG (s.w_sqs xs) w (gSet g 12 0 l) := by
  obtain ⟨a1, ⟨b4, b5, b6, b7, b8, b11, b12, b13, b14, b15, b16, b17, b24, bz⟩, a3, a4, a5, a6, a7, a8, a9⟩ := G
  exact ⟨a1, ⟨(b4).ne (by decide), (b5).ne (by decide), (b6).ne (by decide), (b7).ne (by decide), (b8).ne (by decide), (b11).ne (by decide), gAr.new b12.1 hl hx, (b13).ne (by decide), (b14).ne (by decide), (b15).ne (by decide), (b16).ne (by decide), (b17).ne (by decide), (b24).ne (by decide), bz⟩, a3.ne (by decide), a4.ne (by decide), a5.ne (by decide), a6.ne (by decide), a7, a8.ne (by decide), a9⟩
theorem tG.ar12 (G : tG s w g) : gAr g 12 0 12 (s.sqs.map (fun q => zr (g.ref 33 q))) := G.2.1.2.2.2.2.2.2.1
theorem tG.set13 (G : tG s w g) {l : List Value} {xs : List Nat} (hl : l.length = 40) (hx : xs.map (fun b => zr (g.ref 34 b)) <+: l) : tG (s.w_sbs xs) w (gSet g 13 0 l) := by
  obtain ⟨a1, ⟨b4, b5, b6, b7, b8, b11, b12, b13, b14, b15, b16, b17, b24, bz⟩, a3, a4, a5, a6, a7, a8, a9⟩ := G
  exact ⟨a1, ⟨(b4).ne (by decide), (b5).ne (by decide), (b6).ne (by decide), (b7).ne (by decide), (b8).ne (by decide), (b11).ne (by decide), (b12).ne (by decide), gAr.new b13.1 hl hx, (b14).ne (by decide), (b15).ne (by decide), (b16).ne (by decide), (b17).ne (by decide), (b24).ne (by decide), bz⟩, a3.ne (by decide), a4.ne (by decide), a5.ne (by decide), a6.ne (by decide), a7, a8.ne (by decide), a9⟩
theorem tG.ar13 (G : tG s w g) : gAr g 13 0 40 (s.sbs.map (fun b => zr (g.ref 34 b))) := G.2.1.2.2.2.2.2.2.2.1
theorem tG.set14 (G : tG s w g) {l : List Value} {xs : List Nat} (hl : l.length = 301) (hx : xs.map (fun m => zr (g.ref 36 m)) <+: l) : tG (s.w_sen xs) w (gSet g 14 0 l) := by
  obtain ⟨a1, ⟨b4, b5, b6, b7, b8, b11, b12, b13, b14, b15, b16, b17, b24, bz⟩, a3, a4, a5, a6, a7, a8, a9⟩ := G
  exact ⟨a1, ⟨(b4).ne (by decide), (b5).ne (by decide), (b6).ne (by decide), (b7).ne (by decide), (b8).ne (by decide), (b11).ne (by decide), (b12).ne (by decide), (b13).ne (by decide), gAr.new b14.1 hl hx, (b15).ne (by decide), (b16).ne (by decide), (b17).ne (by decide), (b24).ne (by decide), bz⟩, a3.ne (by decide), a4.ne (by decide), a5.ne (by decide), a6.ne (by decide), a7, a8.ne (by decide), a9⟩
theorem tG.ar14 (G : tG s w g) : gAr g 14 0 301 (s.sen.map (fun m => zr (g.ref 36 m))) := G.2.1.2.2.2.2.2.2.2.2.1
theorem tG.set15 (G : tG s w g) {l : List Value} {xs : sBy} (hl : l.length = 420) (hx : vB xs <+: l) : tG (s.w_tape xs) w (gSet g 15 0 l) := by
  obtain ⟨a1, ⟨b4, b5, b6, b7, b8, b11, b12, b13, b14, b15, b16, b17, b24, bz⟩, a3, a4, a5, a6, a7, a8, a9⟩ := G
  exact ⟨a1, ⟨(b4).ne (by decide), (b5).ne (by decide), (b6).ne (by decide), (b7).ne (by decide), (b8).ne (by decide), (b11).ne (by decide), (b12).ne (by decide), (b13).ne (by decide), (b14).ne (by decide), gAr.new b15.1 hl hx, (b16).ne (by decide), (b17).ne (by decide), (b24).ne (by decide), bz⟩, a3.ne (by decide), a4.ne (by decide), a5.ne (by decide), a6.ne (by decide), a7, a8.ne (by decide), a9⟩
theorem tG.ar15 (G : tG s w g) : gAr g 15 0 420 (vB s.tape) := G.2.1.2.2.2.2.2.2.2.2.2.1
theorem tG.set17 (G : tG s w g) {l : List Value} {xs : sBy} (hl : l.length = 1200) (hx : vB xs <+: l) : tG s (w.w_dr xs) (gSet g 17 0 l) := by
  obtain ⟨a1, ⟨b4, b5, b6, b7, b8, b11, b12, b13, b14, b15, b16, b17, b24, bz⟩, a3, a4, a5, a6, a7, a8, a9⟩ := G
  exact ⟨a1, ⟨(b4).ne (by decide), (b5).ne (by decide), (b6).ne (by decide), (b7).ne (by decide), (b8).ne (by decide), (b11).ne (by decide), (b12).ne (by decide), (b13).ne (by decide), (b14).ne (by decide), (b15).ne (by decide), (b16).ne (by decide), gAr.new b17.1 hl hx, (b24).ne (by decide), bz⟩, a3.ne (by decide), a4.ne (by decide), a5.ne (by decide), a6.ne (by decide), a7, a8.ne (by decide), a9⟩
theorem tG.ar17 (G : tG s w g) : gAr g 17 0 1200 (vB w.dr) := G.2.1.2.2.2.2.2.2.2.2.2.2.2.1
theorem tG.set24 (G : tG s w g) {l : List Value} {xs : List Nat} (hl : l.length = 12) (hx : xs.map (fun q => zr (g.ref 33 q)) <+: l) : tG s (w.w_rt xs) (gSet g 24 0 l) := by
  obtain ⟨a1, ⟨b4, b5, b6, b7, b8, b11, b12, b13, b14, b15, b16, b17, b24, bz⟩, a3, a4, a5, a6, a7, a8, a9⟩ := G
  exact ⟨a1, ⟨(b4).ne (by decide), (b5).ne (by decide), (b6).ne (by decide), (b7).ne (by decide), (b8).ne (by decide), (b11).ne (by decide), (b12).ne (by decide), (b13).ne (by decide), (b14).ne (by decide), (b15).ne (by decide), (b16).ne (by decide), (b17).ne (by decide), gAr.new b24.1 hl hx, bz⟩, a3.ne (by decide), a4.ne (by decide), a5.ne (by decide), a6.ne (by decide), a7, a8.ne (by decide), a9⟩
theorem tG.ar24 (G : tG s w g) : gAr g 24 0 12 (w.rt.map (fun q => zr (g.ref 33 q))) := G.2.1.2.2.2.2.2.2.2.2.2.2.2.2.1
theorem tcell_set {P : Nat} {j : Nat} (hne : ¬ (P = c ∧ j = i)) : tcell s w (gSet g c i l) P j = tcell s w g P j := by
  unfold tcell
  split <;> first | rfl | (show (_, (gSet g c i l).ar _ _) = _; rw [gSet_ne hne])
/-- an array is written, and fields of the main cell -/
theorem tR.arM (R : tR s0 F b s w g h) (hm : g.kind x0 = (1, 0)) (A : gA1 g c i) (hc : c ≠ 0) {t : Nat} (hp : tcell s w g c i = (1000 + t, g.ar c i)) (hp' : tcell s' w' (gSet g c i l) c i = (1000 + t, l)) (h2 : h'.2 = h.2) (ho : ∀ n, n ≠ x0 → n ≠ g.ref c i → h'.1 n = h.1 n)
    (hM : h'.1 x0 = some (7, tMain s' w' g)) (hA : h'.1 (g.ref c i) = some (1000 + t, l)) (hP : tSame s s' w w') (hG : tG s' w' (gSet g c i l)) : tR s0 F b s' w' (gSet g c i l) h' := by
  refine ⟨R.1.re [x0, g.ref c i] h2 rfl rfl (fun n hn => ho n (fun e => hn (by rw [e]; exact List.mem_cons_self)) (fun e => hn (by rw [e]; exact List.mem_cons_of_mem _ (List.mem_singleton.mpr rfl)))) (fun n hn => ?_) (fun n hk hn => ?_), hG⟩
  · rcases List.mem_cons.mp hn with e | e
    · subst e
      rw [hm]
      exact ⟨by decide, hM⟩
    · rw [List.mem_singleton.mp e, A]
      refine ⟨hc, ?_⟩
      show _ = some (tcell _ _ _ _ _)
      rw [hp']
      exact hA
  · have n1 : g.kind n ≠ (1, 0) := fun e => hn (by
      rw [← R.1.at e (by decide), R.1.at hm (by decide)]
      exact List.mem_cons_self)
    have n2 : ¬ ((g.kind n).1 = c ∧ (g.kind n).2 = i) := fun e => hn (by
      have e1 : g.kind n = (c, i) := Prod.ext e.1 e.2
      rw [← R.1.at e1 hc]
      exact List.mem_cons_of_mem _ (List.mem_singleton.mpr rfl))
    rw [tcell_set n2]
    exact tcell_same hP fun e => n1 (Prod.ext e (R.2.1.2.1 n _ (Prod.ext e rfl)))
end T0
