/-! ===== the twin: a content has arrived ===== -/
set_option maxRecDepth 100000
section NE
variable {s0 : zE} {F : Nat → Option zC} {b : Nat} {s s' s1 s2 sS : sSt} {w w' w1 w2 : tW} {g g' g0 g1 : sG} {h h' : zH} {d x0 x1 x2 x3 x5 x7 i j q m p n a e x y c ra t : Nat} {Q : Value → zH → Prop} {E : Nat → zH → Prop} {dr nm key frm bb : sBy} {sz cl me code k bits tag what N : Int32} {rd : sRd} {u : Int32 × List Nat × (Nat → Nat)} {all v : Bool} {l rs : List Nat} {ct : sCont} {kk : sKe} {L0 : List sKe}
/-- a thing that is given up is a cell that is none -/
theorem tR.unOf (R : tR s0 F b s w g h) (hk : g.kind n = (c, i)) (h0 : c ≠ 0) (h40 : c ≠ 40) {cc : Nat} {fs : List Value} (e : tcell s w g c i = (cc, fs)) (hk' : (g'.kind n).1 = 0) : zUn s0 F g' h n cc fs := by
  obtain ⟨e1, -, e3, e4, e5⟩ := R.1.1 n (by rw [hk]; exact h0)
  rw [hk] at e1 e5
  refine ⟨hk', ?_, ?_, e3, e4, e5.resolve_left h40⟩
  · cases hF : F n with
    | none => rfl
    | some q => exact absurd (R.1.2.1 n q hF).2.1 (by rw [hk]; exact h0)
  · rw [e1]
    exact congrArg some e
theorem pr_ne {a b c d : Nat} (h : a ≠ c) : (a, b) ≠ (c, d) := fun e => h (congrArg Prod.fst e)
/-- the content of a channel is taken: its cell and its bytes are frozen -/
theorem tR.given (R : tR s0 F b s w g h) (hj : isH j) (hjk : (s.ch j).junk = false) (hc : (s.ch j).cont = some ct) (hd : (s.ch j).due = 3) (hw : ct.body.length = (s.ch j).want) :
    ∃ g1, tR s0 F b (s_ch s j (fun k => k.w_junk true)) w g1 h ∧ gL g g1 ∧ (∀ m, g1.kind m ≠ (38, j)) ∧ gCont g1 (g.rf 3 j 15) ct ∧ g1.rf = g.rf := by
  have hU := (R.2.chok hj).2.1 hjk
  rw [hc] at hU
  obtain ⟨r15, hA, B0, B1, T6, hb⟩ := hU
  obtain ⟨hA9, hl9, hp9⟩ := hb hd
  have har : g.ar 39 j = vB ct.body := (hp9.eq_of_length (by rw [vB_len, hl9, hw])).symm
  have R1 : tR s0 F b (s_ch s j (fun k => k.w_junk true)) w g h := R.chg (x := (s.ch j).w_junk true) rfl rfl fun ⟨f1, f2, f3⟩ => ⟨f1, fun e => absurd e (by show ¬ (true = false); decide), f3⟩
  have R2 := R1.drop (c := 38) (i := j) (Or.inl rfl) fun k hk e => by subst e; rw [s_ch_ch]; rfl
  have R3 := R2.drop (c := 39) (i := j) (Or.inr rfl) fun k hk e => by subst e; rw [s_ch_ch]; rfl
  have hA' : g.kind (g.ref 38 j) = (38, j) := hA
  have hA9' : g.kind (g.ref 39 j) = (39, j) := hA9
  have k2 : ∀ m, (gDr g 38 j).kind m = if g.kind m = (38, j) then (0, 0) else g.kind m := fun m => rfl
  have k3 : ∀ m, (gDr (gDr g 38 j) 39 j).kind m = if (gDr g 38 j).kind m = (39, j) then (0, 0) else (gDr g 38 j).kind m := fun m => rfl
  have kb : (gDr (gDr g 38 j) 39 j).kind (g.ref 39 j) = (0, 0) := by
    have e : (gDr g 38 j).kind (g.ref 39 j) = (39, j) := by rw [k2, if_neg (by rw [hA9']; exact pr_ne (by decide)), hA9']
    rw [k3, if_pos e]
  have kn : (gDr (gDr g 38 j) 39 j).kind (g.ref 38 j) = (0, 0) := by
    have e : (gDr g 38 j).kind (g.ref 38 j) = (0, 0) := by rw [k2, if_pos hA']
    rw [k3, e, if_neg (pr_ne (by decide))]
  have hne : g.ref 38 j ≠ g.ref 39 j := fun e => by
    rw [e, hA9'] at hA'
    exact absurd hA' (pr_ne (by decide))
  have e9 : tcell s w g 39 j = (1000, vB ct.body) := by
    show (1000 + tarT 39, g.ar 39 j) = _
    rw [har]
    rfl
  have eu : tUn (s.ch j) g j = [zr (g.rf 38 j 0), zr (g.rf 38 j 1), vZ ct.mand, vZ ct.pers, .int ct.prio, .long ct.expi, zr (g.rf 38 j 6), zr (g.ref 39 j), vI ct.body.length] := by
    unfold tUn
    rw [hc]
    dsimp only
    rw [if_pos hd]
  have U9 : zUn s0 F (gDr (gDr g 38 j) 39 j) h (g.ref 39 j) 1000 (vB ct.body) := R.unOf hA9' (by decide) (by decide) e9 (by rw [kb])
  have k4 : ∀ m, (gFz (gDr (gDr g 38 j) 39 j) (g.ref 39 j) (1000, vB ct.body)).kind m = if m = g.ref 39 j then (40, g.ref 39 j) else (gDr (gDr g 38 j) 39 j).kind m := fun m => rfl
  have U8 : zUn s0 F (gFz (gDr (gDr g 38 j) 39 j) (g.ref 39 j) (1000, vB ct.body)) h (g.ref 38 j) 40 [zr (g.rf 38 j 0), zr (g.rf 38 j 1), vZ ct.mand, vZ ct.pers, .int ct.prio, .long ct.expi, zr (g.rf 38 j 6), zr (g.ref 39 j), vI ct.body.length] := R.unOf hA' (by decide) (by decide) (by show (40, tUn (s.ch j) g j) = _; rw [eu]) (by rw [k4, if_neg hne, kn])
  have X1 : gX g (gDr g 38 j) 38 j := gDr.x (by decide)
  have X2 : gX (gDr g 38 j) (gDr (gDr g 38 j) 39 j) 39 j := gDr.x (by decide)
  have X3 := gFz.x (q := (1000, vB ct.body)) U9.1
  have X4 := gFz.x (q := (40, [zr (g.rf 38 j 0), zr (g.rf 38 j 1), vZ ct.mand, vZ ct.pers, .int ct.prio, .long ct.expi, zr (g.rf 38 j 6), zr (g.ref 39 j), vI ct.body.length])) U8.1
  refine ⟨_, (R3.freeze U9).freeze U8, (gDr.l (by unfold gSt; omega)).trans ((gDr.l (by unfold gSt; omega)).trans ((gL.frz U9.1).trans (gL.frz U8.1))), fun m e => ?_, ?_, rfl⟩
  · have e : (if m = g.ref 38 j then (40, g.ref 38 j) else if m = g.ref 39 j then (40, g.ref 39 j) else (gDr (gDr g 38 j) 39 j).kind m) = (38, j) := e
    split at e
    · exact absurd e (pr_ne (by decide))
    split at e
    · exact absurd e (pr_ne (by decide))
    rw [k3] at e
    split at e
    · exact absurd e (pr_ne (by decide))
    · exact gDr.no (by decide) e
  · rw [r15]
    exact ⟨_, _, _, _, _, gFz_F, X4.B (X3.B (X2.B (X1.B B0))), X4.B (X3.B (X2.B (X1.B B1))), X4.To (X3.To (X2.To (X1.To T6))), X4.B gFz_F⟩
theorem w_se_self : s.w_se s.se = s := rfl
theorem p_keepC (I : sI s) (hj : isH j) (ok : sContOk ct) (h32 : (s.ch j).kept.length < 32) : sI (s_ch s j (fun k => k.w_kept (k.kept ++ [(some ct, 0, [])]))) := by
  have hmem : ∀ z ∈ (s.ch j).kept ++ [((some ct, 0, []) : sKe)], z ∈ (s.ch j).kept ∨ z = (some ct, 0, []) := fun z hz => (List.mem_append.mp hz).imp id List.mem_singleton.mp
  have M := I.marks hj (K := (s.ch j).kept ++ [(some ct, 0, [])]) (S := s.se) (fun x => ⟨rfl, rfl⟩) (by rw [List.length_append, List.length_singleton]; omega) (fun z hz c hc => by
      rcases hmem z hz with e | e
      · exact (I.tx.ch j hj).2.2.2.1 z e c hc
      · subst e
        obtain rfl := Option.some.inj hc
        exact ok) (fun z hz x hx => by
      rcases hmem z hz with e | e
      · exact (I.sc.ch j hj).2 z e x hx
      · subst e
        cases hx) (fun h1 z hz x hx => by
      rcases hmem z hz with e | e
      · exact I.sn.2.2 j hj h1 z e x hx
      · subst e
        cases hx) (fun h hh _ h1 z hz x hx => (I.sn.2.2 h hh h1 z hz x hx).2)
  have e : (s_ch s j (fun k => k.w_kept ((s.ch j).kept ++ [(some ct, 0, [])]))).w_se s.se = s_ch s j (fun k => k.w_kept (k.kept ++ [(some ct, 0, [])])) := by
    unfold s_ch
    rw [← wr_se_ch (s := s) (v := sUp s.ch j ((s.ch j).w_kept ((s.ch j).kept ++ [(some ct, 0, [])]))), w_se_self]
  rw [e] at M
  exact M
theorem keepC_w (hj : isH j) : tP (s_ch s j (fun k => k.w_kept (k.kept ++ [kk]))) = tP s ∧ tY (s_ch s j (fun k => k.w_kept (k.kept ++ [kk]))) = tY s ∧ sWt (s_ch s j (fun k => k.w_kept (k.kept ++ [kk]))) = sWt s := by
  refine ⟨tP_ch, tY_ch, ?_⟩
  unfold s_ch
  rw [sWt_chUp (u := 0) hj (by rw [wk_sent, wk_confs]; rfl), Nat.add_zero]
theorem ch_taken : ∀ k : sCh, k.junk = false → (((k.w_junk true).w_cont none).w_junk false).w_due 0 = (k.w_cont none).w_due 0 := fun k hk => by
  rw [← hk]
  rfl
theorem tP_take : tP (s_ch s j (fun k => (k.w_cont none).w_due 0)) = tP s := tP_ch
theorem take_w (hj : isH j) : sWt (s_ch s j (fun k => (k.w_cont none).w_due 0)) = sWt s := sWt_chUp (u := 0) hj rfl
theorem take_I (I : sI s) (hj : isH j) : sI (s_ch s j (fun k => (k.w_cont none).w_due 0)) := I.chSame hj rfl rfl (fun q => ⟨q.1, q.2.1, (fun _ c hc => nomatch hc), q.2.2.2.1, Or.inl rfl, ⟨fun _ => rfl, fun _ => rfl⟩, q.2.2.2.2.2.2.1, q.2.2.2.2.2.2.2⟩) rfl
/-- a content that is frozen has arrived; the channel's junk flag is up -/
theorem t_arrivedJ (J : tJs s0 F) (I : sI s) (C : sWt s + (b + 906 + tY s) + tP s ≤ 960000) (hm : g.kind x0 = (1, 0)) (hx : g.kind x1 = (3, j)) (hj : isH j) (hcd : ∀ h, u.2.2 h = 0) (ok : sContOk ct) (R1 : tR s0 F (b + 906 + tY s + tP s) s1 (dr, sz, rd, cl, me, u) g1 h) (hno : ∀ m, g1.kind m ≠ (38, j)) (hC : gCont g1 (g1.rf 3 j 15) ct) (L1 : gL g g1)
    (e3 : s_ch s1 j (fun k => ((k.w_cont none).w_junk false).w_due 0) = s_ch s j (fun k => (k.w_cont none).w_due 0))
    (K : ∀ w1 g1 h1, tZ s0 F (b + tY (s_tld j 60 40 (s_arrived s j ct))) (s_tld j 60 40 (s_arrived s j ct)) w1 g1 h1 → tWm (dr, sz, rd, cl, me, u) w1 → gL g g1 → Q .null h1) : zX s0 m_X8_arrived (d + 81) [zr x0, zr x1] h Q E := by
  have ex := R1.1.cell (L1.k hx gSt3) (by decide)
  refine c_X8_arrived (e_R ex fun (z1 : gR h x1 15 = g1.rf 3 j 15) => ?_)
  rw [z1]
  generalize g1.rf 3 j 15 = nc at hC
  refine g_Pct R1 hno (L1.k hx gSt3) fun g2 h2 R2 L2 hno2 _ => ?_
  have hC2 : gCont g2 nc ct := L2.Cont hC
  have hm2 := L2.m (L1.m hm)
  have hx2 := L2.k (L1.k hx gSt3) gSt3
  have c2 : ((s_ch s1 j (fun k => (k.w_cont none).w_junk false)).ch j).cont = none := by
    rw [s_ch_ch]
    rfl
  refine g_Phf (f := fun k => k.w_due 0) R2 hx2 rfl (by
    unfold tUn
    have e : (((s_ch s1 j (fun k => (k.w_cont none).w_junk false)).ch j).w_due 0).cont = ((s_ch s1 j (fun k => (k.w_cont none).w_junk false)).ch j).cont := rfl
    rw [e, c2]) (fun hok => ⟨hok.1, fun hq => by
      have := hok.2.1 hq
      have e : (((s_ch s1 j (fun k => (k.w_cont none).w_junk false)).ch j).w_due 0).cont = ((s_ch s1 j (fun k => (k.w_cont none).w_junk false)).ch j).cont := rfl
      rw [e]
      rw [c2] at this ⊢
      exact this, hok.2.2⟩) fun h3 R3 _ => ?_
  rw [w_ch_ch, e3] at R3
  have Z3 : tZ s0 F (b + 906 + tY s) (s_ch s j (fun k => (k.w_cont none).w_due 0)) (dr, sz, rd, cl, me, u) g2 h3 := ⟨by rw [tP_take]; exact R3, take_I I hj, by rw [tP_take, take_w hj]; omega⟩
  have Y3 : tY (s_ch s j (fun k => (k.w_cont none).w_due 0)) = tY s := tY_ch
  have m3 : ((s_ch s j (fun k => (k.w_cont none).w_due 0)).ch j).mode = (s.ch j).mode := by
    rw [s_ch_ch]
    rfl
  unfold s_arrived at K
  dsimp only at K
  rw [← m3] at K
  rw [← Y3] at Z3
  generalize s_ch s j (fun k => (k.w_cont none).w_due 0) = sA at K Z3
  refine g_PM Z3.r hm2 sA (dr, sz, rd, 60, me, u) rfl Z3.r.2 ⟨rfl, rfl, rfl, rfl, rfl, rfl, rfl, rfl, rfl⟩ fun h4 R4 _ => g_PM R4 hm2 sA (dr, sz, rd, 60, 40, u) rfl R4.2 ⟨rfl, rfl, rfl, rfl, rfl, rfl, rfl, rfl, rfl⟩ fun h5 R5 _ => ?_
  have Z5 : tZ s0 F (b + 906 + tY sA) sA (dr, sz, rd, 60, 40, u) g2 h5 := ⟨R5, Z3.2⟩
  have em := Z5.r.main hm2
  refine e_I (Z5.r.1.cell hx2 (by decide)) fun (z2 : gI h5 x1 3 = (sA.ch j).mode) => ?_
  rw [z2]
  have W0 : ∀ w1, tWm (dr, sz, rd, 60, 40, u) w1 → tWm (dr, sz, rd, cl, me, u) w1 := fun w1 W => ⟨W.1, W.2⟩
  refine ⟨fun h1 => ?_, fun h1 => ?_⟩
  · rw [if_neg h1] at K
    refine ⟨⟨_, em⟩, t_publish (d := d) (b := b) J Z5 hm2 hx2 hj hC2 ok hcd (fun hf w6 g6 h6 Z6 W6 L6 => ⟨_, rfl, ?_⟩) (fun hf w6 g6 h6 Z6 W6 L6 => ⟨_, rfl, ?_⟩)⟩
    · have e : s_publish sA j ct = s_hardF sA 506 := by
        unfold s_publish
        rw [hf]
        rfl
      rw [e, tld_hard] at K
      exact K w6 g6 h6 Z6 (W0 _ W6.tom) (L1.trans (L2.trans L6))
    · have e2 : (s_publish sA j ct).2 = none := by
        unfold s_publish
        rw [hf]
        rfl
      have e : s_tld j 60 40 (s_publish sA j ct) = (s_publish sA j ct).1 := by
        unfold s_tld s_told s_at
        rw [e2]
        rfl
      rw [e] at K
      exact K w6 g6 h6 (Z6.le (by omega)) (W0 _ W6.tom) (L1.trans (L2.trans L6))
  · rw [if_pos h1] at K
    refine ⟨⟨_, em⟩, t_keeps (d := d + 3) (b := b) (Z5.le (by omega)) hm2 hx2 hj (fun h32 w6 g6 h6 Z6 W6 L6 => ⟨0, rfl, fun _ => ?_, fun hh => absurd rfl hh⟩) fun h32 n6 h6 hp6 e6 P6 => ⟨n6, rfl, fun hh => absurd hh (by omega), fun _ => ⟨⟨_, e6⟩, fun h7 hh7 => ?_⟩⟩⟩
    · have e : s_keep sA j (some ct, 0, []) = s_hardF sA 506 := if_pos h32
      rw [e, tld_hard] at K
      exact K w6 g6 h6 Z6 (W0 _ W6) (L1.trans (L2.trans L6))
    · have e : s_keep sA j (some ct, 0, []) = s_ok (s_ch sA j (fun k => k.w_kept (k.kept ++ [(some ct, 0, [])]))) := if_neg h32
      rw [e, tld_ok] at K
      subst hh7
      obtain ⟨g7, R7, L7⟩ := P6 _ nc 0 (some ct, 0, []) (zOth.put (k := 0) (v := zr nc)) (zput_self e6) hC2
      have hkl := Z5.i.cp.2.2.2.2.2.2.2.2.2.2.2.1 j hj
      have I7 := p_keepC Z5.i hj ok (by omega)
      obtain ⟨q1, q2, q3⟩ := keepC_w (s := sA) (kk := (some ct, 0, [])) hj
      have hzc := Z5.c
      generalize s_ch sA j (fun k => k.w_kept (k.kept ++ [(some ct, 0, [])])) = s7 at K R7 I7 q1 q2 q3
      exact K _ g7 _ ⟨by rw [q1, q2]; exact R7.less (by omega), I7, by omega⟩ (W0 _ tWm.refl) (L1.trans (L2.trans L7))
theorem t_arrived (J : tJs s0 F) (Z : tZ s0 F (b + 906 + tY s) s (dr, sz, rd, cl, me, u) g h) (hm : g.kind x0 = (1, 0)) (hx : g.kind x1 = (3, j)) (hj : isH j) (hcd : ∀ h, u.2.2 h = 0) (hjk : (s.ch j).junk = false) (hc : (s.ch j).cont = some ct) (hd : (s.ch j).due = 3) (hw : ct.body.length = (s.ch j).want)
    (K : ∀ w1 g1 h1, tZ s0 F (b + tY (s_tld j 60 40 (s_arrived s j ct))) (s_tld j 60 40 (s_arrived s j ct)) w1 g1 h1 → tWm (dr, sz, rd, cl, me, u) w1 → gL g g1 → Q .null h1) : zX s0 m_X8_arrived (d + 81) [zr x0, zr x1] h Q E := by
  have X := Z.i.tx.ch j hj
  have ok : sContOk ct := by
    obtain ⟨p1, p2, -⟩ := X.2.2.1 hjk ct hc
    exact ⟨p1, Nat.le_trans p2 X.2.1⟩
  obtain ⟨g1, R1, L1, hno, hC, hrf⟩ := Z.r.given hj hjk hc hd hw
  exact t_arrivedJ (d := d) (s1 := s_ch s j (fun k => k.w_junk true)) J Z.i (by have := Z.c; omega) hm hx hj hcd ok R1 hno (by rw [hrf]; exact hC) L1 (by
    rw [w_ch_ch]
    unfold s_ch
    dsimp only
    rw [ch_taken _ hjk]) K
end NE
