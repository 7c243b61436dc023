/-! ===== the twin: a header, what comes of it ===== -/
set_option maxRecDepth 100000
def s_headF (s : sSt) (j : Nat) (cls n marks : Int32) (wh : Bool) (c1 : sCont) : sRc :=
  if wh = false ∨ cls ≠ 60 ∨ 15 < marks then s_at (s_hardF (s_junk s j) 502) 0 0 else if n < 0 ∨ 200 < n then s_at (s_softF (s_junk s j) 311) 60 40 else
    if n = 0 then s_at (s_arrived s j c1) 60 40 else s_at (s_ok (s_ch s j (fun k => ((k.w_cont (some c1)).w_due 3).w_want n.toNatClampNeg))) 60 40
section NI
variable {s0 : zE} {F : Nat → Option zC} {b : Nat} {s s' s1 s2 sS : sSt} {w w' w1 w2 : tW} {g g' g0 gz : sG} {h h' hz : zH} {d x0 x1 j n c k e ky hd nn : Nat} {Q : Value → zH → Prop} {E : Nat → zH → Prop} {dr : sBy} {sz marks N prio cls cl me : Int32} {expi : Int64} {rd : sRd} {u : Int32 × List Nat × (Nat → Nat)} {mand pers : Bool} {fs : List Value} {v : Value} {ct : sCont} {o : Option sTab}
theorem junk_I (I : sI s) (hj : isH j) : sI (s_junk s j) := I.chSame hj rfl rfl (fun q => ⟨q.1, q.2.1, (fun hq => absurd (show true = false from hq) (by decide)), q.2.2.2⟩) rfl
theorem junk_p : tP (s_junk s j) = tP s := tP_ch
theorem junk_y : tY (s_junk s j) = tY s := tY_ch
theorem junk_w (hj : isH j) : sWt (s_junk s j) = sWt s := sWt_chUp (u := 0) hj rfl
theorem junk_Z (Z : tZ s0 F b s w g h) (hj : isH j) (R : tR s0 F (b + tP s) (s_junk s j) w' g' h') : tZ s0 F b (s_junk s j) w' g' h' := ⟨by rw [junk_p]; exact R, junk_I Z.i hj, by rw [junk_p, junk_w hj]; exact Z.c⟩
theorem ch_h1 {o : Option sCont} {m : Nat} : ∀ k : sCh, k.junk = false → ((((k.w_junk true).w_due 3).w_want m).w_cont o).w_junk false = ((k.w_cont o).w_due 3).w_want m := fun k hk => by
  rw [← hk]
  rfl
theorem ch_h2 : ∀ k : sCh, k.junk = false → ((((k.w_junk true).w_due 3).w_cont none).w_junk false).w_due 0 = (k.w_cont none).w_due 0 := fun k hk => by
  rw [← hk]
  rfl
theorem t_hd_140 (Z : tZ s0 F (b + 900 + tY s) (s_junk s j) (dr, sz, rd, cl, me, u) g h) (hm : g.kind x0 = (1, 0)) (hx : g.kind x1 = (3, j)) (hj : isH j)
    (K : ∀ w1 g1 h1, tZ s0 F (b + tY (s_hard (s_junk s j) (j / 4) 502 0 0)) (s_hard (s_junk s j) (j / 4) 502 0 0) w1 g1 h1 → tWm (dr, sz, rd, cl, me, u) w1 → gL g g1 → Q .null h1) :
    zP s0 m_X8_header (d + 82) 140 [some (zr x0), some (zr x1), none, none, none, none] [] h Q E := by
  have ex := Z.r.1.cell hx (by decide)
  refine b_X8_header_140 (e_R ex fun (z1 : gR h x1 0 = g.ref 2 (j / 4)) => ?_)
  rw [z1]
  have hcn := Z.r.2.1.2.2.2.1 (j / 4) hj.div
  have Y := junk_y (s := s) (j := j)
  rw [← Y] at Z
  exact ⟨⟨_, Z.r.main hm⟩, t_hardZ (d := d + 5) Z hm hcn hj.div fun w6 g6 h6 Z6 W6 L6 => K w6 g6 h6 Z6 W6.tom L6⟩
theorem t_hd_120 (J : tJs s0 F) (Z : tZ s0 F (b + 942 + tY s) s w gz hz) (hm : g.kind x0 = (1, 0)) (hx : g.kind x1 = (3, j)) (hj : isH j) (hcd : ∀ h, u.2.2 h = 0) (hjk : (s.ch j).junk = false) (hc : (s.ch j).cont = some ct) (hd2 : (s.ch j).due = 2)
    (R : tR s0 (zF1 F nn (40, zCt e ky ct.mand pers prio expi hd)) (b + 942 + tY s + tP s) (s_junk s j) (dr, sz, rd, cl, me, u) g h) (hF : F nn = none) (hn0 : 0 < nn) (hns : s0.1.heap.size < nn) (hno : ∀ m, g.kind m ≠ (38, j)) (h15 : g.rf 3 j 15 = nn) (B1 : gB g e ct.exch) (B2 : gB g ky ct.key)
    (hT : r_whole rd = true → gTo g hd o ∧ ∀ t, o = some t → sTabOk t) (hp : 0 ≤ prio ∧ prio ≤ 255) (hxp : expi = -1 ∨ (0 ≤ expi ∧ expi ≤ 4294967295))
    (K : ∀ w1 g1 h1, tZ s0 F (b + tY (s_told (j / 4) j (s_headF s j cls N marks (r_whole rd) (ct.exch, ct.key, ct.mand, pers, prio, expi, o, [])))) (s_told (j / 4) j (s_headF s j cls N marks (r_whole rd) (ct.exch, ct.key, ct.mand, pers, prio, expi, o, []))) w1 g1 h1 → tWm (dr, sz, rd, cl, me, u) w1 → gL g g1 → Q .null h1) :
    zP s0 m_X8_header (d + 82) 120 [some (zr x0), some (zr x1), some (.int cls), some (.int N), some (.int marks), some (zr nn)] [] h Q E := by
  have X := Z.i.tx.ch j hj
  obtain ⟨p1, -⟩ := X.2.2.1 hjk ct hc
  refine b_X8_header_120 ⟨⟨_, R.main hm⟩, t_whole R hm ⟨_, rfl, ?_⟩⟩
  rw [sB_0]
  have ZJ : tZ s0 F (b + 942 + tY s) (s_junk s j) (dr, sz, rd, cl, me, u) g h := junk_Z Z hj (R.back hF hn0 hns).1
  have h140 : (r_whole rd = false ∨ cls ≠ 60 ∨ 15 < marks) → zP s0 m_X8_header (d + 81 + 1) 140 [some (zr x0), some (zr x1), none, none, none, none] [] h Q E := fun hb => by
    have e1 : s_told (j / 4) j (s_headF s j cls N marks (r_whole rd) (ct.exch, ct.key, ct.mand, pers, prio, expi, o, [])) = s_hard (s_junk s j) (j / 4) 502 0 0 := by
      unfold s_headF
      rw [if_pos hb]
      rfl
    rw [e1] at K
    exact t_hd_140 (d := d) (ZJ.le (by omega)) hm hx hj K
  refine ⟨fun hw => h140 (Or.inl hw), fun hw => ⟨fun hc6 => h140 (Or.inr (Or.inl hc6)), fun hc6 => ⟨fun hmk => ?_, fun hmk => h140 (Or.inr (Or.inr (Int32.not_le.mp hmk)))⟩⟩⟩
  have hw1 : r_whole rd = true := by
    cases hh : r_whole rd with
    | true => rfl
    | false => exact absurd hh hw
  have hgood : ¬ (r_whole rd = false ∨ cls ≠ 60 ∨ 15 < marks) := fun hh => hh.elim hw fun hh => hh.elim (fun q => q hc6) fun q => absurd hmk (Int32.not_le.mpr q)
  have hsoft : (N < 0 ∨ 200 < N) → fC h x0 7 ∧ zX s0 m_X8_softAs (d + 81) [zr x0, zr x1, .int 311, .int 60, .int 40] h (fun _ h2 => Q .null h2) E := fun hb => by
    have e1 : s_told (j / 4) j (s_headF s j cls N marks (r_whole rd) (ct.exch, ct.key, ct.mand, pers, prio, expi, o, [])) = s_soft (s_junk s j) j 311 60 40 := by
      unfold s_headF
      rw [if_neg hgood, if_pos hb]
      rfl
    rw [e1] at K
    have hy := tY_soft (code := 311) (c1 := 60) (m1 := 40) ZJ.i hj
    rw [junk_y] at hy
    exact ⟨⟨_, ZJ.r.main hm⟩, t_softAs (d := d + 5) ZJ hm hx hj fun w6 g6 h6 Z6 W6 L6 => K w6 g6 h6 (Z6.le (by omega)) W6.tom L6⟩
  refine ⟨fun h0 => hsoft (Or.inl h0), fun h0 => ⟨fun h200 => ?_, fun h200 => hsoft (Or.inr (Int32.not_le.mp h200))⟩⟩
  have hokn : ¬ (N < 0 ∨ 200 < N) := fun hh => hh.elim h0 fun q => absurd h200 (Int32.not_le.mpr q)
  obtain ⟨m, hm2, rfl⟩ : ∃ m, m ≤ 200 ∧ N = Int32.ofNat m := ⟨N.toNatClampNeg, i_clamp (k := 200) (by decide) h200, (i_of (Int32.not_lt.mp h0)).symm⟩
  obtain ⟨hTo, hTok⟩ := hT hw1
  have hH : sHeadOk (ct.exch, ct.key, ct.mand, pers, prio, expi, o, []) := ⟨p1.1, p1.2.1, hTok, hp.1, hp.2, hxp⟩
  have e1 : s_headF s j cls (Int32.ofNat m) marks (r_whole rd) (ct.exch, ct.key, ct.mand, pers, prio, expi, o, []) = if Int32.ofNat m = 0 then s_at (s_arrived s j (ct.exch, ct.key, ct.mand, pers, prio, expi, o, [])) 60 40 else s_at (s_ok (s_ch s j (fun k => ((k.w_cont (some (ct.exch, ct.key, ct.mand, pers, prio, expi, o, []))).w_due 3).w_want (Int32.ofNat m).toNatClampNeg))) 60 40 := by
    unfold s_headF
    rw [if_neg hgood, if_neg hokn]
  rw [e1, i_nat (by omega)] at K
  refine ⟨i_nn (by omega), ?_⟩
  rw [i_nat (by omega)]
  refine g_N (u := 36) (b := b + 906 + tY s + tP s) (R.less (by omega)) (by decide) (by omega) R.big fun n1 h3 R3 U3 => ⟨⟨_, R3.fc zF1_at⟩, fun h4 hh4 => ?_⟩
  subst hh4
  have hne : n1 ≠ nn := fun e9 => by
    have := U3.2.1
    rw [e9, zF1_at] at this
    cases this
  have U4 : zUn s0 F g (zput h3 nn 7 (zr n1)) n1 1000 (List.replicate m (.int 0)) := by
    have := U3.oth (zOth.put (k := 7) (v := zr n1)) hne
    exact ⟨this.1, by have q := this.2.1; rw [zF1_ne hne] at q; exact q, this.2.2⟩
  obtain ⟨R5, Un5⟩ := (R3.putL1 (k := 7) (v := zr n1)).back hF hn0 hns
  have jJ : ((s_junk s j).ch j).junk = true := by
    unfold s_junk
    rw [s_ch_ch]
    rfl
  refine g_Pcj R5 hno hx (((s_junk s j).ch j).w_due 3) rfl (fun hok => ⟨hok.1, fun hq => absurd (jJ.symm.trans hq) (by decide), hok.2.2⟩) fun h6 R6 O6 => ?_
  have hk0 : (g.kind x1).1 ≠ 0 := by rw [hx]; exact (by decide : (3 : Nat) ≠ 0)
  have Un6 := Un5.oth O6 (Un5.ne hk0)
  have U6 := U4.oth O6 (U4.ne hk0)
  have R6 : tR s0 F (b + 906 + tY s + tP s) (s_ch s j (fun k => (k.w_junk true).w_due 3)) (dr, sz, rd, cl, me, u) g h6 := by
    have e9 : (s_junk s j).w_ch (sUp (s_junk s j).ch j (((s_junk s j).ch j).w_due 3)) = s_ch (s_ch s j (fun k => k.w_junk true)) j (fun k => k.w_due 3) := rfl
    rw [e9, w_ch_ch] at R6
    exact R6
  have hm0 : (Int32.ofNat m = 0) ↔ m = 0 := by
    rw [show (0 : Int32) = Int32.ofNat 0 from rfl]
    exact i_inj (by omega) (by omega)
  refine ⟨fun hn => ?_, fun hn => ?_⟩
  · rw [if_neg hn] at K
    have jk : ((s_ch s j (fun k => (k.w_junk true).w_due 3)).ch j).junk = true := by rw [s_ch_ch]; rfl
    have R7 : tR s0 F (b + 906 + tY s + tP s) (s_ch (s_ch s j (fun k => (k.w_junk true).w_due 3)) j (fun k => k.w_want m)) (dr, sz, rd, cl, me, u) g h6 := R6.chg (x := ((s_ch s j (fun k => (k.w_junk true).w_due 3)).ch j).w_want m) rfl rfl fun hok => ⟨hok.1, fun hq => absurd (jk.symm.trans hq) (by decide), hok.2.2⟩
    rw [w_ch_ch] at R7
    have jk7 : ((s_ch s j (fun k => ((k.w_junk true).w_due 3).w_want m)).ch j).junk = true := by rw [s_ch_ch]; rfl
    have d7 : ((s_ch s j (fun k => ((k.w_junk true).w_due 3).w_want m)).ch j).due = 3 := by rw [s_ch_ch]; rfl
    have w7 : ((s_ch s j (fun k => ((k.w_junk true).w_due 3).w_want m)).ch j).want = m := by rw [s_ch_ch]; rfl
    obtain ⟨g8, R8, L8, k39, r39, a39, rf8, kz8, no8⟩ := R7.n39 hj jk7 hno U6
    have U8 : zUn s0 F g8 h6 nn 40 [zr e, zr ky, vZ ct.mand, vZ pers, .int prio, .long expi, zr hd, zr n1, vI 0] := ⟨kz8 _ Un6.1 (Ne.symm hne), Un6.2⟩
    obtain ⟨g9, R9, L9, -⟩ := R8.cont (c := (ct.exch, ct.key, ct.mand, pers, prio, expi, o, [])) jk7 no8 U8 (by rw [rf8]; exact h15) (L8.B B1) (L8.B B2) (by
      show gTo g8 hd o
      revert hTo
      cases o with
      | none => exact id
      | some t => exact fun T => L8.Tab T) (by rw [if_pos d7, r39]) (fun _ => ⟨by unfold gA1; rw [r39]; exact k39, by rw [a39, w7, List.length_replicate], List.nil_prefix⟩)
    rw [w_ch_ch] at R9
    have e9 : s_ch s j (fun k => ((((k.w_junk true).w_due 3).w_want m).w_cont (some (ct.exch, ct.key, ct.mand, pers, prio, expi, o, []))).w_junk false) = s_ch s j (fun k => ((k.w_cont (some (ct.exch, ct.key, ct.mand, pers, prio, expi, o, []))).w_due 3).w_want m) := by
      unfold s_ch
      dsimp only
      rw [ch_h1 _ hjk]
    rw [e9] at R9
    have Z9 : tZ s0 F (b + 906 + tY s) (s_ch s j (fun k => ((k.w_cont (some (ct.exch, ct.key, ct.mand, pers, prio, expi, o, []))).w_due 3).w_want m)) (dr, sz, rd, cl, me, u) g9 h6 := (Z.le (by omega)).chp hj R9 rfl rfl (fun q => ⟨q.1, hm2, (fun _ c hc2 => by
        obtain rfl := Option.some.inj hc2
        exact ⟨hH, Nat.zero_le _, fun e2 => absurd (show (3 : Int32) = 2 from e2) (by decide)⟩), q.2.2.2.1, Or.inr (Or.inr rfl), ⟨fun e0 => absurd (show (3 : Int32) = 0 from e0) (by decide), fun e0 => nomatch e0⟩, q.2.2.2.2.2.2.1, q.2.2.2.2.2.2.2⟩) rfl rfl
    have Y9 : tY (s_ch s j (fun k => ((k.w_cont (some (ct.exch, ct.key, ct.mand, pers, prio, expi, o, []))).w_due 3).w_want m)) = tY s := tY_ch
    exact K _ g9 h6 (Z9.le (by
      show b + tY (s_ch s j (fun k => ((k.w_cont (some (ct.exch, ct.key, ct.mand, pers, prio, expi, o, []))).w_due 3).w_want m)) ≤ _
      omega)) tWm.refl (L8.trans L9)
  · rw [if_pos hn] at K
    obtain rfl := hm0.mp hn
    have R7 := R6.freeze U6
    have Un7 : zUn s0 F (gFz g n1 (1000, List.replicate 0 (.int 0))) h6 nn 40 [zr e, zr ky, vZ ct.mand, vZ pers, .int prio, .long expi, zr hd, zr n1, vI 0] := by
      refine ⟨?_, Un6.2⟩
      show (if nn = n1 then (40, n1) else g.kind nn).1 = 0
      rw [if_neg (Ne.symm hne)]
      exact Un6.1
    have R8 := R7.freeze Un7
    have X7 := gFz.x (q := (1000, List.replicate 0 (.int 0))) U6.1
    have X8 := gFz.x (q := (40, [zr e, zr ky, vZ ct.mand, vZ pers, .int prio, .long expi, zr hd, zr n1, vI 0])) Un7.1
    have hC : gCont (gFz (gFz g n1 (1000, List.replicate 0 (.int 0))) nn (40, [zr e, zr ky, vZ ct.mand, vZ pers, .int prio, .long expi, zr hd, zr n1, vI 0])) nn (ct.exch, ct.key, ct.mand, pers, prio, expi, o, []) := ⟨e, ky, hd, n1, Int32.ofNat 0, gFz_F, X8.B (X7.B B1), X8.B (X7.B B2), X8.To (X7.To hTo), X8.B (n := n1) (x := []) gFz_F⟩
    refine ⟨⟨_, R6.main hm⟩, t_arrivedJ (d := d) J Z.i (by have := Z.c; omega) hm hx hj hcd ⟨hH, Nat.zero_le _⟩ R8 (fun m e9 => ?_) (by
      have e9 : (gFz (gFz g n1 (1000, List.replicate 0 (.int 0))) nn (40, [zr e, zr ky, vZ ct.mand, vZ pers, .int prio, .long expi, zr hd, zr n1, vI 0])).rf 3 j 15 = nn := h15
      rw [e9]
      exact hC) ((gL.frz U6.1).trans (gL.frz Un7.1)) (by
      rw [w_ch_ch]
      unfold s_ch
      dsimp only
      rw [ch_h2 _ hjk]) K⟩
    have e9 : (if m = nn then (40, nn) else if m = n1 then (40, n1) else g.kind m) = (38, j) := e9
    split at e9
    · exact absurd e9 (pr_ne (by decide))
    split at e9
    · exact absurd e9 (pr_ne (by decide))
    exact hno m e9
end NI
