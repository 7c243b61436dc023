/-! ===== the twin: what a channel has is forgotten ===== -/
set_option maxRecDepth 100000
section CC
variable {s0 : zE} {F : Nat → Option zC} {b : Nat} {s s' : sSt} {w w' : tW} {g g' : sG} {h h' : zH} {d x0 x1 x2 n k c i j q m : Nat} {l L : List Value} {x : sCh} {Q : Value → zH → Prop} {E : Nat → zH → Prop}
theorem gDr.no {m : Nat} (hc : c ≠ 0) : (gDr g c i).kind m ≠ (c, i) := fun e => by
  have e2 : (if g.kind m = (c, i) then (0, 0) else g.kind m) = (c, i) := e
  split at e2
  · exact hc (congrArg Prod.fst e2).symm
  · rename_i h
    exact h e2
/-- a thing of none of the lists' kinds is given up -/
theorem tR.drop (R : tR s0 F b s w g h) (hc : c = 38 ∨ c = 39) (hj : ∀ k, isH k → k = i → (s.ch k).junk = true) : tR s0 F b s w (gDr g c i) h := by
  have X : gX g (gDr g c i) c i := gDr.x (by omega)
  have hkd : ∀ m, (gDr g c i).kind m = (if g.kind m = (c, i) then (0, 0) else g.kind m) := fun m => rfl
  obtain ⟨H, ⟨a1, a2, a3, a4, a5, a6, a7⟩, ⟨b4, b5, b6, b7, b8, b11, b12, b13, b14, b15, b16, b17, b24, bz⟩, b3, ⟨d4, n4, c4, e4, f4⟩, b5', b6', c7, c8, c9, c10, c11, c12⟩ := R
  refine ⟨H.drop (fun m => ?_) (fun m hm => ?_) (fun m hm => ?_), ⟨X.1 1 0 (by decide) (by omega) a1, fun m i e => ?_, a3, fun c hc => X.1 2 c (by decide) (by omega) (a4 c hc), fun j hj => X.1 3 j (by decide) (by omega) (a5 j hj), fun c i h1 h2 h3 => X.1 c i (by omega) (by omega) (a6 c i h1 h2 h3), fun c i m h1 h2 e => ?_⟩,
    ⟨X.Ar (by omega) b4, X.Ar (by omega) b5, X.Ar (by omega) b6, X.Ar (by omega) b7, X.Ar (by omega) b8, X.Ar (by omega) b11, X.Ar (by omega) b12, X.Ar (by omega) b13, X.Ar (by omega) b14, X.Ar (by omega) b15, X.Ar (by omega) b16, X.Ar (by omega) b17, X.Ar (by omega) b24, bz⟩,
    ⟨X.Ar (by omega) b3.1, X.Ar (by omega) b3.2.1, X.Ar (by omega) b3.2.2.1, X.Ar (by omega) b3.2.2.2.1, X.Ar (by omega) b3.2.2.2.2.1, X.Ar (by omega) b3.2.2.2.2.2⟩,
    ⟨X.AF (by omega) (fun r x => X.De (by omega)) d4, n4, c4, e4, X.AF (by omega) (fun r x => X.Fa (by omega)) f4⟩, fun k hk => ?_, fun k hk => ?_, fun j hj => ⟨X.B (c7 j hj).1, X.Bo (c7 j hj).2⟩, fun j hj => ?_, fun j hj => ⟨X.B (c9 j hj).1, X.Tab (c9 j hj).2⟩, fun j hj => X.B (c10 j hj), fun j hj => ⟨X.Cont (c11 j hj).1, X.B (c11 j hj).2.1, X.B (c11 j hj).2.2⟩, c12⟩
  · rw [hkd]
    split
    · exact Or.inr rfl
    · exact Or.inl rfl
  · rw [hkd] at hm ⊢
    split at hm
    · exact absurd rfl hm
    · rename_i hne
      rw [if_neg hne]
      exact H.at (i := (g.kind m).2) (c := (g.kind m).1) rfl hm
  · rw [hkd] at hm ⊢
    split at hm
    · exact absurd rfl hm
    · rename_i hne
      rw [if_neg hne]
      unfold tcell
      split <;> rfl
  · rw [hkd] at e
    split at e
    · cases e
    · exact a2 m i e
  · rw [hkd] at e
    split at e
    · have := congrArg Prod.fst e
      simp only at this
      omega
    · exact a7 c i m h1 h2 e
  · obtain ⟨a1, ⟨a2, a3⟩, a4⟩ := b5' k hk
    exact ⟨X.Ar (by omega) a1, ⟨X.1 26 k (by decide) (by omega) a2, a3⟩, X.Ar (by omega) a4⟩
  · obtain ⟨f1, f2, ⟨n5, f3, f4, f5⟩, f6, n6, pre, f7, f8, f9, f10⟩ := b6' k hk
    refine ⟨X.Bo f1, fun hjk => ?_, ⟨n5, f3, f4, X.Ar (by omega) f5⟩, X.AF (by omega) (fun r x => X.Ke (by omega)) f6, n6, pre, f7, f8, f9, X.Ar (by omega) f10⟩
    have hki : k ≠ i := fun e => by rw [hj k hk e] at hjk; cases hjk
    have := f2 hjk
    revert this
    cases (s.ch k).cont with
    | none => exact id
    | some x => exact fun ⟨a1, a2, a3, a4, a5, a6⟩ => ⟨a1, X.1 38 k (by decide) (by omega) a2, X.B a3, X.B a4, X.To a5, fun e => X.Ar (by omega) (a6 e)⟩
  · obtain ⟨f1, f2, f3, f4⟩ := c8 j hj
    exact ⟨X.B f1, X.Bo f2, X.Bo f3, X.Ar (by omega) f4⟩
/-- a channel's record changes, but nothing that is to be seen -/
theorem tR.chg (R : tR s0 F b s w g h) (hv : tCh x w g j = tCh (s.ch j) w g j) (hu : tUn x g j = tUn (s.ch j) g j) (hG : tChOk (s.ch j) w g j → tChOk x w g j) : tR s0 F b (s.w_ch (sUp s.ch j x)) w g h := by
  refine ⟨⟨fun m hm => ?_, R.1.2.1, R.1.2.2⟩, R.2.ch fun hj => hG (R.2.chok hj)⟩
  have e : tcell (s.w_ch (sUp s.ch j x)) w g (g.kind m).1 (g.kind m).2 = tcell s w g (g.kind m).1 (g.kind m).2 := by
    by_cases e38 : (g.kind m).1 = 38
    · rw [e38]
      exact tcell_ch2 hu
    · by_cases e3 : (g.kind m).1 = 3 ∧ (g.kind m).2 = j
      · rw [e3.1, e3.2]
        show (9, tCh (sUp s.ch j x j) w g j) = (9, tCh (s.ch j) w g j)
        rw [sUp_self, hv]
      · exact tcell_ch ⟨e3, e38⟩
  rw [e]
  exact R.1.1 m hm
/-- what comes to a channel is no more known as a content -/
theorem tR.junk (R : tR s0 F b s w g h) : ∃ g1, tR s0 F b (s_ch s j (fun k => k.w_junk true)) w g1 h ∧ gL g g1 ∧ (∀ m, g1.kind m ≠ (38, j)) ∧ g1.ref = g.ref ∧ g1.ar = g.ar ∧ g1.rf = g.rf ∧ g1.cf = g.cf ∧ g1.cr = g.cr := by
  have R1 : tR s0 F b (s_ch s j (fun k => k.w_junk true)) w g h := R.chg (x := (s.ch j).w_junk true) rfl rfl fun ⟨f1, f2, f3⟩ => ⟨f1, fun e => absurd e (by show ¬ (true = false); decide), f3⟩
  have R2 := R1.drop (c := 38) (i := j) (Or.inl rfl) fun k hk e => by subst e; rw [s_ch_ch]; rfl
  exact ⟨_, R2, gDr.l (by unfold gSt; omega), fun m => gDr.no (by decide), rfl, rfl, rfl, rfl, rfl⟩
theorem g_Pcj {v : Value} {k : Nat} {P : zH → Prop} (R : tR s0 F b s w g h) (hno : ∀ m, g.kind m ≠ (38, j)) (hn : g.kind x1 = (3, j)) (x : sCh) (hv : tCh x w g j = (tCh (s.ch j) w g j).set k v)
    (hG : tChOk (s.ch j) w g j → tChOk x w g j) (K : ∀ h1, tR s0 F b (s.w_ch (sUp s.ch j x)) w g h1 → zOth h h1 x1 → P h1) : fC h x1 9 ∧ ∀ h1, h1 = zput h x1 k v → P h1 := by
  refine ⟨⟨_, R.1.cell hn (by decide)⟩, fun h1 e => ?_⟩
  subst e
  refine K _ ⟨R.1.put hn (by decide) rfl rfl (cc := 9) (fs := tCh (s.ch j) w g j) rfl (by show (9, tCh (sUp s.ch j x j) w g j) = _; rw [sUp_self, hv]) (fun m hk hne => ?_), R.2.ch fun hj => hG (R.2.chok hj)⟩ zOth.put
  by_cases e : (g.kind m).1 = 38
  · have e2 : (g.kind m).2 ≠ j := fun e3 => hno m (Prod.ext e e3)
    rw [e]
    show (40, tUn (sUp s.ch j x (g.kind m).2) g (g.kind m).2) = (40, tUn (s.ch (g.kind m).2) g (g.kind m).2)
    rw [sUp_ne e2]
  · exact tcell_ch ⟨fun e => hne (Prod.ext e.1 e.2), e⟩
theorem w_ch_ch {f1 f2 : sCh → sCh} : s_ch (s_ch s j f1) j f2 = s_ch s j (fun k => f2 (f1 k)) := by
  unfold s_ch
  rw [wr_ch, sUp_self, sUp_sUp]
  rfl
/-- the confirms of a channel are forgotten -/
theorem g_Pcf {P : zH → Prop} (R : tR s0 F b s w g h) (hn : g.kind x1 = (3, j)) (K : ∀ h1, tR s0 F b (s_ch s j (fun k => k.w_confs [])) (w.w_cd (sUp w.cd j 0)) g h1 → zOth h h1 x1 → P h1) : fC h x1 9 ∧ ∀ h1, h1 = zput h x1 11 (.int 0) → P h1 := by
  refine ⟨⟨_, R.1.cell hn (by decide)⟩, fun h1 e => ?_⟩
  subst e
  have hcd : ∀ k, k ≠ j → (w.w_cd (sUp w.cd j 0)).cd k = w.cd k := fun k hk => sUp_ne hk
  have hcj : (w.w_cd (sUp w.cd j 0)).cd j = 0 := sUp_self
  have hch : ∀ k, k ≠ j → (s_ch s j (fun k => k.w_confs [])).ch k = s.ch k := fun k hk => sUp_ne hk
  refine K _ ⟨R.1.put hn (by decide) rfl rfl (cc := 9) (fs := tCh (s.ch j) w g j) rfl ?_ (fun m hk hne => ?_), ?_⟩ zOth.put
  · show (9, tCh ((s_ch s j (fun k => k.w_confs [])).ch j) (w.w_cd (sUp w.cd j 0)) g j) = _
    rw [s_ch_ch]
    have e : tCh ((s.ch j).w_confs []) (w.w_cd (sUp w.cd j 0)) g j = (tCh (s.ch j) w g j).set 11 (vI ((w.w_cd (sUp w.cd j 0)).cd j + 0)) := rfl
    rw [e, hcj]
    rfl
  · by_cases e3 : (g.kind m).1 = 3
    · have e2 : (g.kind m).2 ≠ j := fun e4 => hne (Prod.ext e3 e4)
      rw [e3]
      show (9, tCh ((s_ch s j (fun k => k.w_confs [])).ch (g.kind m).2) (w.w_cd (sUp w.cd j 0)) g (g.kind m).2) = (9, tCh (s.ch (g.kind m).2) w g (g.kind m).2)
      rw [hch _ e2]
      unfold tCh
      rw [hcd _ e2]
    · by_cases e38 : (g.kind m).1 = 38
      · rw [e38]
        show (40, tUn ((s_ch s j (fun k => k.w_confs [])).ch (g.kind m).2) g (g.kind m).2) = (40, tUn (s.ch (g.kind m).2) g (g.kind m).2)
        by_cases e2 : (g.kind m).2 = j
        · rw [e2, s_ch_ch]
          rfl
        · rw [hch _ e2]
      · unfold tcell
        split <;> first | rfl | (rename_i e; exact absurd e e3) | (rename_i e; exact absurd e e38) | exact absurd rfl e3 | exact absurd rfl e38
  · obtain ⟨b1, b2, b3, b4, b5, b6, b7⟩ := R.2
    refine ⟨b1, b2, b3, b4, b5, fun k hk => ?_, b7⟩
    by_cases e : k = j
    · subst e
      show tChOk ((s_ch s k (fun k => k.w_confs [])).ch k) (w.w_cd (sUp w.cd k 0)) g k
      rw [s_ch_ch]
      obtain ⟨f1, f2, f3, f4, n6, pre, f7, f8, f9, f10⟩ := b6 k hk
      refine ⟨f1, f2, f3, f4, n6, [], f7, ?_, hcj.symm, f10.1, f10.2.1, List.nil_prefix⟩
      rw [hcj]
      show 2 * (0 + 0) ≤ _
      omega
    · show tChOk ((s_ch s j (fun k => k.w_confs [])).ch k) (w.w_cd (sUp w.cd j 0)) g k
      rw [hch k e]
      obtain ⟨f1, f2, f3, f4, f5⟩ := b6 k hk
      refine ⟨f1, f2, f3, f4, ?_⟩
      rw [hcd k e]
      exact f5
/-- the content of a channel is given up -/
theorem g_Pct {P : zH → Prop} (R : tR s0 F b s w g h) (hno : ∀ m, g.kind m ≠ (38, j)) (hn : g.kind x1 = (3, j)) (K : ∀ g1 h1, tR s0 F b (s_ch s j (fun k => (k.w_cont none).w_junk false)) w g1 h1 → gL g g1 → (∀ m, g1.kind m ≠ (38, j)) → zOth h h1 x1 → P h1) : fC h x1 9 ∧ ∀ h1, h1 = zput h x1 15 (zr 0) → P h1 := by
  refine ⟨⟨_, R.1.cell hn (by decide)⟩, fun h1 e => ?_⟩
  subst e
  have hne2 : ∀ a i k, ¬ (a = 3 ∧ i = j) → (gRf g 3 j (fun k => if k = 15 then 0 else g.rf 3 j k)).rf a i k = g.rf a i k := fun a i k e => if_neg e
  have hat : ∀ k, (gRf g 3 j (fun k => if k = 15 then 0 else g.rf 3 j k)).rf 3 j k = if k = 15 then 0 else g.rf 3 j k := fun k => gRf_at
  have hch : ∀ k, k ≠ j → (s_ch s j (fun k => (k.w_cont none).w_junk false)).ch k = s.ch k := fun k hk => sUp_ne hk
  refine K (gRf g 3 j (fun k => if k = 15 then 0 else g.rf 3 j k)) _ ⟨R.1.put hn (by decide) rfl rfl (cc := 9) (fs := tCh (s.ch j) w g j) rfl ?_ (fun m hk hne => ?_), ?_⟩ gRf.l hno zOth.put
  · show (9, tCh ((s_ch s j (fun k => (k.w_cont none).w_junk false)).ch j) w (gRf g 3 j (fun k => if k = 15 then 0 else g.rf 3 j k)) j) = _
    rw [s_ch_ch]
    unfold tCh
    rw [hat 14, hat 15]
    rfl
  · by_cases e3 : (g.kind m).1 = 3
    · have e2 : (g.kind m).2 ≠ j := fun e4 => hne (Prod.ext e3 e4)
      rw [e3]
      show (9, tCh ((s_ch s j (fun k => (k.w_cont none).w_junk false)).ch (g.kind m).2) w (gRf g 3 j (fun k => if k = 15 then 0 else g.rf 3 j k)) (g.kind m).2) = (9, tCh (s.ch (g.kind m).2) w g (g.kind m).2)
      rw [hch _ e2]
      unfold tCh
      rw [hne2 3 _ 14 (fun e => e2 e.2), hne2 3 _ 15 (fun e => e2 e.2)]
      rfl
    · by_cases e38 : (g.kind m).1 = 38
      · have e2 : (g.kind m).2 ≠ j := fun e4 => hno m (Prod.ext e38 e4)
        rw [e38]
        show (40, tUn ((s_ch s j (fun k => (k.w_cont none).w_junk false)).ch (g.kind m).2) (gRf g 3 j (fun k => if k = 15 then 0 else g.rf 3 j k)) (g.kind m).2) = (40, tUn (s.ch (g.kind m).2) g (g.kind m).2)
        rw [hch _ e2]
        unfold tUn
        rw [hne2 38 _ 0 (by omega), hne2 38 _ 1 (by omega), hne2 38 _ 6 (by omega)]
        rfl
      · have r32 : ∀ i k, (gRf g 3 j (fun k => if k = 15 then 0 else g.rf 3 j k)).rf 32 i k = g.rf 32 i k := fun i k => hne2 32 i k (by omega)
        have r33 : ∀ i k, (gRf g 3 j (fun k => if k = 15 then 0 else g.rf 3 j k)).rf 33 i k = g.rf 33 i k := fun i k => hne2 33 i k (by omega)
        have r34 : ∀ i k, (gRf g 3 j (fun k => if k = 15 then 0 else g.rf 3 j k)).rf 34 i k = g.rf 34 i k := fun i k => hne2 34 i k (by omega)
        have r35 : ∀ i k, (gRf g 3 j (fun k => if k = 15 then 0 else g.rf 3 j k)).rf 35 i k = g.rf 35 i k := fun i k => hne2 35 i k (by omega)
        have r36 : ∀ i k, (gRf g 3 j (fun k => if k = 15 then 0 else g.rf 3 j k)).rf 36 i k = g.rf 36 i k := fun i k => hne2 36 i k (by omega)
        unfold tcell
        split <;> first | rfl | (simp only [tEx, r32]; rfl) | (simp only [tQu, r33]; rfl) | (simp only [tBi, r34]; rfl) | (simp only [tCo, r35]; rfl) | (simp only [tEn, r36]; rfl) | (rename_i e; exact absurd e e3) | (rename_i e; exact absurd e e38) | exact absurd rfl e3 | exact absurd rfl e38
  · obtain ⟨b1, b2, b3, b4, b5, b6, b7, b8, b9, b10, b11, b12⟩ := R.2
    refine ⟨b1, b2, b3, b4, b5, fun k hk => ?_, fun i hi => ?_, fun i hi => ?_, fun i hi => ?_, fun i hi => ?_, fun i hi => ?_, b12⟩
    · by_cases e : k = j
      · subst e
        show tChOk ((s_ch s k (fun k => (k.w_cont none).w_junk false)).ch k) w (gRf g 3 k (fun i => if i = 15 then 0 else g.rf 3 k i)) k
        rw [s_ch_ch]
        obtain ⟨f1, f2, f3⟩ := b6 k hk
        refine ⟨?_, fun _ => ?_, f3⟩
        · rw [hat 14]
          exact f1
        · show (gRf g 3 k (fun i => if i = 15 then 0 else g.rf 3 k i)).rf 3 k 15 = 0
          rw [hat 15]
          rfl
      · show tChOk ((s_ch s j (fun k => (k.w_cont none).w_junk false)).ch k) w (gRf g 3 j (fun i => if i = 15 then 0 else g.rf 3 j i)) k
        rw [hch k e]
        obtain ⟨f1, f2, f3⟩ := b6 k hk
        refine ⟨?_, fun hjk => ?_, f3⟩
        · rw [hne2 3 k 14 (fun e1 => e e1.2)]
          exact f1
        · have := f2 hjk
          revert this
          rw [hne2 3 k 15 (fun e1 => e e1.2), hne2 38 k 0 (by omega), hne2 38 k 1 (by omega), hne2 38 k 6 (by omega)]
          cases (s.ch k).cont with
          | none => exact id
          | some x => exact id
    · rw [hne2 32 i 0 (by omega), hne2 32 i 6 (by omega)]
      exact b7 i hi
    · rw [hne2 33 i 0 (by omega), hne2 33 i 9 (by omega), hne2 33 i 10 (by omega)]
      exact b8 i hi
    · rw [hne2 34 i 2 (by omega), hne2 34 i 3 (by omega)]
      exact b9 i hi
    · rw [hne2 35 i 0 (by omega)]
      exact b10 i hi
    · rw [hne2 36 i 0 (by omega), hne2 36 i 1 (by omega), hne2 36 i 2 (by omega)]
      exact b11 i hi
end CC
