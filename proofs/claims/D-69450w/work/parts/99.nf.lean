/-! ===== the twin: a body's bytes ===== -/
set_option maxRecDepth 100000
section NF
variable {s0 : zE} {F : Nat → Option zC} {b : Nat} {s s' s1 s2 sS : sSt} {w w' w1 w2 : tW} {g g' g0 : sG} {h h' : zH} {d x0 x1 x2 x3 x5 x7 i j q m p n a e x y c ra t : Nat} {Q : Value → zH → Prop} {E : Nat → zH → Prop} {dr nm key frm bb : sBy} {sz cl me code bits tag what N : Int32} {rd : sRd} {u : Int32 × List Nat × (Nat → Nat)} {all v : Bool} {l : List Value} {ct : sCont} {kk : sKe} {L0 : List sKe}
theorem tcell_nw39 {k : Nat} (ha : ¬ (c = 39 ∧ k = i)) (h38 : c = 38 → k ≠ i) : tcell s w (gNw g n 39 i l) c k = tcell s w g c k := by
  unfold tcell
  split
  · rfl
  · rfl
  · rfl
  · rfl
  · rfl
  · rfl
  · rfl
  · rfl
  · rfl
  · have e : (gNw g n 39 i l).ref 39 k = g.ref 39 k := if_neg fun e1 => h38 rfl e1.2
    unfold tUn
    rw [e]
    rfl
  · rfl
  · show (_, if _ then _ else _) = _
    rw [if_neg ha]
/-- a body's places, where no content leads to them -/
theorem tR.n39 (R : tR s0 F b s w g h) (hj : isH j) (hjk : (s.ch j).junk = true) (hno : ∀ m, g.kind m ≠ (38, j)) (U : zUn s0 F g h n 1000 l) : ∃ g1, tR s0 F b s w g1 h ∧ gL g g1 ∧ g1.kind n = (39, j) ∧ g1.ref 39 j = n ∧ g1.ar 39 j = l ∧ g1.rf = g.rf ∧ (∀ m, (g.kind m).1 = 0 → m ≠ n → (g1.kind m).1 = 0) ∧ (∀ m, g1.kind m ≠ (38, j)) := by
  have hk0 : ∀ m, (gDr g 39 j).kind m = if g.kind m = (39, j) then (0, 0) else g.kind m := fun m => rfl
  have R0 : tR s0 F b s w (gDr g 39 j) h := R.drop (Or.inr rfl) fun k hk e => by rw [e]; exact hjk
  have hno0 : ∀ m, (gDr g 39 j).kind m ≠ (39, j) := fun m => gDr.no (by decide)
  have L0 : gL g (gDr g 39 j) := gDr.l (by unfold gSt; omega)
  have U0 : zUn s0 F (gDr g 39 j) h n 1000 l := by
    refine ⟨?_, U.2⟩
    rw [hk0]
    split
    · rfl
    · exact U.1
  have hf0 : (gDr g 39 j).rf = g.rf := rfl
  have hz0 : ∀ m, (g.kind m).1 = 0 → ((gDr g 39 j).kind m).1 = 0 := fun m hm => by
    rw [hk0]
    split
    · rfl
    · exact hm
  have h80 : ∀ m, (gDr g 39 j).kind m ≠ (38, j) := fun m e => by
    rw [hk0] at e
    split at e
    · exact absurd e (pr_ne (by decide))
    · exact hno m e
  revert R0 hno0 L0 U0 hf0 hz0 h80
  generalize gDr g 39 j = ga
  intro R0 hno0 L0 U0 hf0 hz0 h80
  clear hk0
  obtain ⟨hk, hF, hn, hp0, hlt, hold⟩ := U0
  have X : gX ga (gNw ga n 39 j l) 39 j := gNw.x hk
  have hkd : ∀ m, (gNw ga n 39 j l).kind m = (if m = n then (39, j) else ga.kind m) := fun m => rfl
  refine ⟨gNw ga n 39 j l, ⟨R0.1.take hk hF hn (c := 39) (i := j) (by decide) hp0 hlt (Or.inr hold) rfl gNw.r (fun m hm => if_neg fun e => hno0 m (Prod.ext e.1 e.2)) ?_ (fun m hm => ?_), R0.2.xth X (Or.inr (Or.inr rfl)) (fun k hk e => absurd e.1 (by decide)) (fun k hk gu => ?_) (fun m a k e h0 h1 => ?_) rfl rfl⟩, L0.trans (gNw.l hk), gNw.at, gNw.r, if_pos ⟨rfl, rfl⟩, hf0, fun m hm hne => ?_, fun m e => ?_⟩
  · show (1000 + tarT 39, if _ then _ else _) = _
    rw [if_pos ⟨rfl, rfl⟩]
    rfl
  · exact tcell_nw39 (fun e => hno0 m (Prod.ext e.1 e.2)) fun e1 e2 => h80 m (Prod.ext e1 e2)
  · by_cases ek : k = j
    · subst ek
      exact fun hq => by rw [hjk] at hq; cases hq
    · exact X.un39 ek gu
  · rw [hkd] at e
    split at e
    · exact absurd (congrArg Prod.fst e).symm h1
    · exact e
  · rw [hkd, if_neg hne]
    exact hz0 m hm
  · rw [hkd] at e
    split at e
    · exact absurd e (pr_ne (by decide))
    · exact h80 m e
/-- the content of a channel is lent: its cell and its places are none of the things -/
theorem tR.lentC (R : tR s0 F b s w g h) (hj : isH j) (hjk : (s.ch j).junk = false) (hc : (s.ch j).cont = some ct) (hd : (s.ch j).due = 3) :
    ∃ g1 e ky hd, tR s0 F b (s_ch s j (fun k => k.w_junk true)) w g1 h ∧ gL g g1 ∧ (∀ m, g1.kind m ≠ (38, j)) ∧ g1.rf = g.rf ∧ g.rf 3 j 15 ≠ g.ref 39 j ∧ (g.ar 39 j).length = (s.ch j).want ∧ vB ct.body <+: g.ar 39 j ∧
      zUn s0 F g1 h (g.rf 3 j 15) 40 [zr e, zr ky, vZ ct.mand, vZ ct.pers, .int ct.prio, .long ct.expi, zr hd, zr (g.ref 39 j), vI ct.body.length] ∧ zUn s0 F g1 h (g.ref 39 j) 1000 (g.ar 39 j) ∧ gB g1 e ct.exch ∧ gB g1 ky ct.key ∧ gTo g1 hd ct.heads := by
  have hU := (R.2.chok hj).2.1 hjk
  rw [hc] at hU
  obtain ⟨r15, hA, B0, B1, T6, hb⟩ := hU
  obtain ⟨hA9, hl9, hp9⟩ := hb hd
  have R1 : tR s0 F b (s_ch s j (fun k => k.w_junk true)) w g h := R.chg (x := (s.ch j).w_junk true) rfl rfl fun ⟨f1, f2, f3⟩ => ⟨f1, fun e => absurd e (by show ¬ (true = false); decide), f3⟩
  have R2 := R1.drop (c := 38) (i := j) (Or.inl rfl) fun k hk e => by subst e; rw [s_ch_ch]; rfl
  have R3 := R2.drop (c := 39) (i := j) (Or.inr rfl) fun k hk e => by subst e; rw [s_ch_ch]; rfl
  have hA' : g.kind (g.ref 38 j) = (38, j) := hA
  have hA9' : g.kind (g.ref 39 j) = (39, j) := hA9
  have k2 : ∀ m, (gDr g 38 j).kind m = if g.kind m = (38, j) then (0, 0) else g.kind m := fun m => rfl
  have k3 : ∀ m, (gDr (gDr g 38 j) 39 j).kind m = if (gDr g 38 j).kind m = (39, j) then (0, 0) else (gDr g 38 j).kind m := fun m => rfl
  have kb : (gDr (gDr g 38 j) 39 j).kind (g.ref 39 j) = (0, 0) := by
    have e : (gDr g 38 j).kind (g.ref 39 j) = (39, j) := by rw [k2, if_neg (by rw [hA9']; exact pr_ne (by decide)), hA9']
    rw [k3, if_pos e]
  have kn : (gDr (gDr g 38 j) 39 j).kind (g.ref 38 j) = (0, 0) := by
    have e : (gDr g 38 j).kind (g.ref 38 j) = (0, 0) := by rw [k2, if_pos hA']
    rw [k3, e, if_neg (pr_ne (by decide))]
  have hne : g.ref 38 j ≠ g.ref 39 j := fun e => by
    rw [e, hA9'] at hA'
    exact absurd hA' (pr_ne (by decide))
  have eu : tUn (s.ch j) g j = [zr (g.rf 38 j 0), zr (g.rf 38 j 1), vZ ct.mand, vZ ct.pers, .int ct.prio, .long ct.expi, zr (g.rf 38 j 6), zr (g.ref 39 j), vI ct.body.length] := by
    unfold tUn
    rw [hc]
    dsimp only
    rw [if_pos hd]
  have X1 : gX g (gDr g 38 j) 38 j := gDr.x (by decide)
  have X2 : gX (gDr g 38 j) (gDr (gDr g 38 j) 39 j) 39 j := gDr.x (by decide)
  refine ⟨_, _, _, _, R3, (gDr.l (by unfold gSt; omega)).trans (gDr.l (by unfold gSt; omega)), fun m e => ?_, rfl, by rw [r15]; exact hne, hl9, hp9, ?_, R.unOf hA9' (by decide) (by decide) rfl (by rw [kb]), X2.B (X1.B B0), X2.B (X1.B B1), X2.To (X1.To T6)⟩
  · rw [k3] at e
    split at e
    · exact absurd e (pr_ne (by decide))
    · exact gDr.no (by decide) e
  · rw [r15]
    exact R.unOf hA' (by decide) (by decide) (by show (40, tUn (s.ch j) g j) = _; rw [eu]) (by rw [kn])
end NF
