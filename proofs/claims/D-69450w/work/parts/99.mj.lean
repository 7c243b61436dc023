/-! ===== the twin: channels and connections closed; beats ===== -/
set_option maxRecDepth 100000
section MJ
variable {s0 : zE} {F : Nat → Option zC} {b : Nat} {s s' s1 : sSt} {w w' w1 w2 : tW} {g g' g0 : sG} {h h' : zH} {d x0 x1 x2 x3 x4 x5 i j q m n e c hh : Nat} {Q : Value → zH → Prop} {E : Nat → zH → Prop} {dr : sBy} {sz cl me code : Int32} {rd : sRd} {f : sRs}
theorem t_closeArguments {N : Nat} {u : Int32 × Int32 × Int32 × List Nat × (Nat → Nat)} (Z : tZ s0 F N s (dr, sz, rd, u) g h) (hN : b + 36 ≤ N) (hm : g.kind x0 = (1, 0)) (hE : gB g (zst s0 "RelayHallModel" "EMPTY" "[B") [])
    (K : ∀ g1 h1, tZ s0 F b s (dr, sz, r_args rd, u) g1 h1 → gL g g1 → Q .null h1) : zX s0 m_X8_closeArguments (d + 2) [zr x0] h Q E := by
  refine c_X8_closeArguments ⟨⟨_, Z.r.main hm⟩, t_u16 (d := d) Z.r hm fun h1 R1 => ⟨_, rfl, ⟨_, R1.main hm⟩, t_shortZ (d := d) (b := b) (Z.re R1) hN hm hE fun n g2 h2 Z2 L2 _ => ⟨_, rfl, ⟨_, Z2.r.main (L2.m hm)⟩, t_u16 (d := d) Z2.r (L2.m hm) fun h3 R3 => ⟨_, rfl, ⟨_, R3.main (L2.m hm)⟩, t_u16 (d := d) R3 (L2.m hm) fun h4 R4 => ⟨_, rfl, ?_⟩⟩⟩⟩⟩
  exact K g2 h4 (Z2.re R4) L2
theorem s_closes_eq : s_onChan s j 40 rd = s_then (r_args rd) s (s_ok (if ((s_ans s j 20 41 []).cn (j / 4)).state = 5 then s_gone s_close (s_ch (s_ans s j 20 41 []) j (fun k => k.w_state 0)) j else s_ans s j 20 41 [])) := by
  unfold s_onChan
  rw [if_neg (by decide), if_neg (by decide), if_pos rfl]
theorem t_closesChannel {u : Int32 × List Nat × (Nat → Nat)} (Z : tZ s0 F (b + 936 + tY s) s (dr, sz, rd, cl, me, u) g h) (hm : g.kind x0 = (1, 0)) (hx : g.kind x1 = (3, j)) (hj : isH j) (hE : gB g (zst s0 "RelayHallModel" "EMPTY" "[B") [])
    (K : ∀ w1 g1 h1, tZ s0 F (b + tY (s_tld j cl me (s_onChan s j 40 rd))) (s_tld j cl me (s_onChan s j 40 rd)) w1 g1 h1 → tWm (dr, sz, rd, cl, me, u) w1 → gL g g1 → Q .null h1) : zX s0 m_X8_closesChannel (d + 78) [zr x0, zr x1] h Q E := by
  rw [s_closes_eq] at K
  refine c_X8_closesChannel ⟨⟨_, Z.r.main hm⟩, t_closeArguments (d := d + 75) (b := b + 900 + tY s) Z (by omega) hm hE fun g1 h1 Z1 L1 => ?_⟩
  generalize r_args rd = rd1 at Z1 K
  have hm1 := L1.m hm
  have hx1 := L1.k hx gSt3
  refine ⟨⟨_, Z1.r.main hm1⟩, t_then (d := d) (M := fun r1 h2 => ((r1 = 0 → ((fR h2 x1 [9] 0) ∧ ((fI h2 x1 [9] 1) ∧ ((fC h2 x0 7 ∧ zX s0 m_X8_simple (d + 77) [zr x0, zr (gR h2 x1 0), .int (gI h2 x1 1), .int (20), .int (41)] h2 (fun _ h3 => ((fR h3 x1 [9] 0) ∧ ((fI h3 (gR h3 x1 0) [8] 1) ∧ ((gI h3 (gR h3 x1 0) 1 = 5 → ((fC h3 x1 9) ∧ (∀ h4, h4 = zput h3 x1 2 (.int (0)) → ((fC h4 x0 7 ∧ zX s0 m_X8_gone (d + 77) [zr x0, zr (x1)] h4 (fun _ h5 => (Q .null h5)) E))))) ∧ (¬ gI h3 (gR h3 x1 0) 1 = 5 → (Q .null h3)))))) E))))) ∧ (¬ r1 = 0 → (Q .null h2)))) (N := fun h => Q .null h) (fun h1 hq => ⟨fun hh => absurd hh (by decide), fun _ => hq⟩) Z1 hm1 hx1 hj (fun w3 g3 h3 Z3 W3 L3 => K w3 g3 h3 Z3 ⟨W3.1, W3.2⟩ (L1.trans L3)) fun K => ⟨fun _ => ?_, fun hh => absurd rfl hh⟩⟩
  rw [tld_ok] at K
  refine e_R (Z1.r.1.cell hx1 (by decide)) fun (z1 : gR h1 x1 0 = g1.ref 2 (j / 4)) => e_I (Z1.r.1.cell hx1 (by decide)) fun (z2 : gI h1 x1 1 = Int32.ofNat (j % 4)) => ?_
  rw [z1, z2]
  have hya := tY_ans (h := j) (k1 := 20) (me := 41) (b := []) Z1.i hj
  refine ⟨⟨_, Z1.r.main hm1⟩, t_simple (d := d + 6) Z1 hm1 (Z1.r.cn hj.div) hj.div fun w2 g2 h2 Z2 W2 L2 => ?_⟩
  have Z2 : tZ s0 F (b + 900 + tY s) (s_ans s j 20 41 []) w2 g2 h2 := Z2
  have W2 := W2.tom
  generalize s_ans s j 20 41 [] = s2 at K hya Z2
  have hm2 := L2.m hm1
  have hx2 := L2.k hx1 gSt3
  refine e_R (Z2.r.1.cell hx2 (by decide)) fun (z3 : gR h2 x1 0 = g2.ref 2 (j / 4)) => ?_
  rw [z3]
  refine e_I (Z2.r.1.cell (Z2.r.cn hj.div) (by decide)) fun (z4 : gI h2 (g2.ref 2 (j / 4)) 1 = (s2.cn (j / 4)).state) => ?_
  rw [z4]
  refine ⟨fun h5 => ?_, fun h5 => ?_⟩
  · rw [if_pos h5] at K
    refine g_Ph Z2.r hx2 ((s2.ch j).w_state 0) rfl rfl (fun hok => hok) fun h3 R3 _ => ?_
    have R3 : tR s0 F (b + 900 + tY s + tP s2) (s_ch s2 j (fun k => k.w_state 0)) w2 g2 h3 := R3
    have D2 := d_cs (h := j) (v := 0) Z2.i hj (by decide)
    have Z3 := Z2.dn' D2 R3
    have hst : ((s_ch s2 j (fun k => k.w_state 0)).ch j).state ≠ 1 := by
      rw [s_ch_ch]
      exact (by decide : (0 : Int32) ≠ 1)
    have D3 := d_gone (cl := s_closeF 5) Z3.i (d_closeF 5) hj hst
    have hy : tY (s_gone s_close (s_ch s2 j (fun k => k.w_state 0)) j) ≤ tY s2 + 900 := tY_any (D2.trans D3) Z2.i
    refine ⟨⟨_, R3.main hm2⟩, t_goneC (n := 5) (D := 68) (d := d + 51) (t_closeC 5) (by omega) Z3 hm2 hj hx2 hst sLive_le fun w5 g5 h5 Z5 W5 L5 => ?_⟩
    have Z5 : tZ s0 F (b + 900 + tY s) (s_gone s_close (s_ch s2 j (fun k => k.w_state 0)) j) w5 g5 h5 := Z5
    exact K w5 g5 h5 (Z5.le (by omega)) (W2.trans W5.tom) (L2.trans L5)
  · rw [if_neg h5] at K
    exact K w2 g2 h2 (Z2.le (by omega)) W2 L2
theorem t_hardZ {code c1 mt : Int32} (Z : tZ s0 F (b + 900 + tY s) s w g h) (hm : g.kind x0 = (1, 0)) (hx : g.kind x1 = (2, c)) (hc : c < 4)
    (K : ∀ w1 g1 h1, tZ s0 F (b + tY (s_hard s c code c1 mt)) (s_hard s c code c1 mt) w1 g1 h1 → tWk (s_hard s c code c1 mt) w w1 → gL g g1 → Q .null h1) : zX s0 m_X8_hard (d + 76) [zr x0, zr x1, .int code, .int c1, .int mt] h Q E := by
  have hy := tY_any (d_hard (code := code) (c1 := c1) (m1 := mt) Z.i hc) Z.i
  exact t_hard (d := d) Z hm hx hc fun w1 g1 h1 Z1 W1 L1 => K w1 g1 h1 (Z1.le (by omega)) W1 L1
theorem s_onConn_eq : s_onConn s c cl me rd = if cl ≠ 10 then s_hardF s 503 else
  if ¬ (me = 50 ∨ me = 51 ∨ me = 11 ∨ me = 31 ∨ me = 40) then s_hardF s 540 else
  if me ≠ 50 then s_hardF s 503 else s_then (r_args rd) s (s_ok (s_close (s_simple s c 0 10 51) c)) := rfl
theorem told_hard : s_told c hh (s_at (s_hardF s code) cl me) = s_hard s c code cl me := rfl
theorem told_ok : s_told c hh (s_at (s_ok s) cl me) = s := rfl
theorem t_onConnection {u : Int32 × List Nat × (Nat → Nat)} (Z : tZ s0 F (b + 936 + tY s) s (dr, sz, rd, cl, me, u) g h) (hm : g.kind x0 = (1, 0)) (hx : g.kind x1 = (2, c)) (hc : c < 4) (hE : gB g (zst s0 "RelayHallModel" "EMPTY" "[B") [])
    (K : ∀ w1 g1 h1, tZ s0 F (b + tY (s_told c hh (s_at (s_onConn s c cl me rd) cl me))) (s_told c hh (s_at (s_onConn s c cl me rd) cl me)) w1 g1 h1 → tWm (dr, sz, rd, cl, me, u) w1 → gL g g1 → Q .null h1) : zX s0 m_X8_onConnection (d + 77) [zr x0, zr x1] h Q E := by
  rw [s_onConn_eq] at K
  have em := Z.r.main hm
  have Zh : tZ s0 F (b + 900 + tY s) s (dr, sz, rd, cl, me, u) g h := Z.le (by omega)
  have h50 : ∀ t0 : Bool, (t0 = true ↔ (me = 50 ∨ me = 51 ∨ me = 11 ∨ me = 31 ∨ me = 40)) → zP s0 m_X8_onConnection (d + 76 + 1) 50 [some (zr x0), some (zr x1), none] [.int (sB t0)] h Q E := fun t0 ht => by
    refine b_X8_onConnection_50 (e_I em fun (z1 : gI h x0 32 = cl) => ?_)
    rw [z1, sB_0]
    refine ⟨fun h10 => ⟨fun hb => e_I em fun (z2 : gI h x0 33 = me) => ?_, fun hb => e_I em fun _ => e_I em fun (z2 : gI h x0 33 = me) => ?_⟩, fun h10 => e_I em fun _ => e_I em fun (z2 : gI h x0 33 = me) => ?_⟩
    · rw [Bool.not_eq_false] at hb
      have ho := ht.mp hb
      rw [if_neg (fun h => h h10), if_neg (fun h => h ho)] at K
      rw [z2]
      refine ⟨fun he => ⟨⟨_, em⟩, ?_⟩, fun he => e_I em fun _ => e_I em fun _ => ⟨⟨_, em⟩, ?_⟩⟩
      · rw [if_neg (fun h => h he)] at K
        refine t_closeArguments (d := d + 74) (b := b + 900 + tY s) Z (by omega) hm hE fun g1 h1 Z1 L1 => ?_
        generalize r_args rd = rd1 at Z1 K
        have hm1 := L1.m hm
        have em1 := Z1.r.main hm1
        have hx1 := L1.k hx gSt2
        refine ⟨⟨_, em1⟩, t_whole (d := d + 76) Z1.r hm1 ⟨_, rfl, ?_⟩⟩
        rw [sB_0]
        refine ⟨fun hw => ⟨⟨_, em1⟩, ?_⟩, fun hw => e_I em1 fun (z3 : gI h1 x0 32 = cl) => e_I em1 fun (z4 : gI h1 x0 33 = me) => ?_⟩
        · rw [Bool.not_eq_false] at hw
          have hw : r_whole rd1 = true := hw
          rw [then_t hw, told_ok] at K
          have hy := tY_simple (ch := 0) (k1 := 10) (me := 51) Z1.i hc
          refine t_simple (d := d + 5) Z1 hm1 hx1 hc fun w2 g2 h2 Z2 W2 L2 => ?_
          have W2 := W2.tom
          generalize s_simple s c 0 10 51 = s2 at K hy Z2
          have hy2 := tY_close Z2.i hc
          refine ⟨⟨_, Z2.r.main (L2.m hm1)⟩, t_close (d := d + 8) Z2 (L2.m hm1) (L2.k hx1 gSt2) hc fun w3 g3 h3 Z3 W3 L3 => K w3 g3 h3 (Z3.le (by omega)) ?_ ((L1.trans L2).trans L3)⟩
          have := W2.trans W3.tom
          exact ⟨this.1, this.2⟩
        · have hw : r_whole rd1 = false := hw
          rw [then_f hw, told_hard] at K
          rw [z3, z4]
          exact ⟨⟨_, em1⟩, t_hardZ (d := d) Z1 hm1 hx1 hc fun w2 g2 h2 Z2 W2 L2 => K w2 g2 h2 Z2 ⟨W2.tom.1, W2.tom.2⟩ (L1.trans L2)⟩
      · rw [if_pos he, told_hard] at K
        exact t_hardZ (d := d) Zh hm hx hc fun w2 g2 h2 Z2 W2 L2 => K w2 g2 h2 Z2 W2.tom L2
    · rw [if_neg (fun h => h h10), if_pos (fun h => by rw [ht.mpr h] at hb; cases hb), told_hard] at K
      rw [z2]
      exact ⟨⟨_, em⟩, t_hardZ (d := d) Zh hm hx hc fun w2 g2 h2 Z2 W2 L2 => K w2 g2 h2 Z2 W2.tom L2⟩
    · rw [if_pos h10, told_hard] at K
      rw [z2]
      exact ⟨⟨_, em⟩, t_hardZ (d := d) Zh hm hx hc fun w2 g2 h2 Z2 W2 L2 => K w2 g2 h2 Z2 W2.tom L2⟩
  have h45 : (me = 50 ∨ me = 51 ∨ me = 11 ∨ me = 31 ∨ me = 40) → zP s0 m_X8_onConnection (d + 76 + 1) 45 [some (zr x0), some (zr x1), none] [] h Q E := fun ho => b_X8_onConnection_45 (h50 true ⟨fun _ => ho, fun _ => rfl⟩)
  refine c_X8_onConnection (e_I em fun (z1 : gI h x0 33 = me) => ?_)
  rw [z1]
  refine ⟨fun e => h45 (Or.inl e), fun e1 => e_I em fun _ => ⟨fun e => h45 (Or.inr (Or.inl e)), fun e2 => e_I em fun _ => ⟨fun e => h45 (Or.inr (Or.inr (Or.inl e))), fun e3 => e_I em fun _ => ⟨fun e => h45 (Or.inr (Or.inr (Or.inr (Or.inl e)))), fun e4 => e_I em fun _ => ⟨fun e5 => h50 false ⟨fun h => (nomatch h), fun h => ?_⟩, fun e => h45 (Or.inr (Or.inr (Or.inr (Or.inr e))))⟩⟩⟩⟩⟩
  rcases h with h | h | h | h | h
  · exact absurd h e1
  · exact absurd h e2
  · exact absurd h e3
  · exact absurd h e4
  · exact absurd h e5
/-- the second half of a beat -/
def s_beat2 (s1 : sSt) (c : Nat) : sSt :=
  if (s1.cn c).state ≠ 5 ∨ (s1.cn c).beat = 0 then s1 else
  if 2 * (s1.cn c).beat ≤ s1.clock - (s1.cn c).lastIn then s_close s1 c else
  if (s1.cn c).beat ≤ s1.clock - (s1.cn c).lastOut then s_send s1 c (w_frame 8 0 []) else s1
theorem s_beat_eq : s_beat s c = s_beat2 (if (s.cn c).state = 6 ∧ 20 ≤ s.clock - (s.cn c).closing then s_close s c else s) c := rfl
theorem t_beat_28 (Z : tZ s0 F (b + tY s) s w g h) (hm : g.kind x0 = (1, 0)) (hx : g.kind x1 = (2, c)) (hc : c < 4)
    (K : ∀ w1 g1 h1, tZ s0 F (b + tY (s_beat2 s c)) (s_beat2 s c) w1 g1 h1 → tWk (s_beat2 s c) w w1 → gL g g1 → Q .null h1) : zP s0 m_X8_beat (d + 71) 28 [some (zr x0), some (zr x1)] [] h Q E := by
  obtain ⟨dr, sz, rd, u⟩ := w
  have em := Z.r.main hm
  have ex := Z.r.1.cell hx (by decide)
  unfold s_beat2 at K
  refine b_X8_beat_28 (e_I ex fun (z1 : gI h x1 1 = (s.cn c).state) => ?_)
  rw [z1]
  refine ⟨fun h5 => ?_, fun h5 => e_I ex fun (z2 : gI h x1 2 = (s.cn c).beat) => ?_⟩
  · rw [if_pos (Or.inl h5)] at K
    exact K _ g h Z tWk.refl (gL.refl g)
  rw [z2]
  refine ⟨fun h0 => ?_, fun h0 => ?_⟩
  · rw [if_neg (fun h => h.elim (fun e => e h5) h0)] at K
    refine e_I em fun (z3 : gI h x0 12 = s.clock) => e_I ex fun (z4 : gI h x1 6 = (s.cn c).lastIn) => e_I ex fun _ => ?_
    rw [z3, z4]
    refine ⟨fun hi => ?_, fun hi => ?_⟩
    · rw [if_neg (Int32.not_le.mpr hi)] at K
      refine e_I em fun _ => e_I ex fun (z5 : gI h x1 7 = (s.cn c).lastOut) => e_I ex fun _ => ?_
      rw [z5]
      refine ⟨fun ho => ?_, fun ho => ?_⟩
      · rw [if_neg (Int32.not_le.mpr ho)] at K
        exact K _ g h Z tWk.refl (gL.refl g)
      · rw [if_pos (Int32.not_lt.mp ho)] at K
        have hy := tY_send (b := w_frame 8 0 []) Z.i hc
        refine g_PM Z.r hm s ([], sz, rd, u) rfl (Z.r.2.drw ⟨_, rfl⟩) ⟨rfl, rfl, rfl, rfl, rfl, rfl, rfl, rfl, rfl⟩ fun h1 R1 _ => ⟨⟨_, R1.main hm⟩, t_beginFrame (d := d + 67) R1 hm (by decide) fun g2 h2 R2 L2 => ⟨⟨_, R2.main (L2.m hm)⟩, t_goFrame (d := d) (p := []) (ty := 8) (ch := 0) (body := []) (Z.re R2) (L2.m hm) (L2.k hx gSt2) hc ?_ rfl (by simp [w_head, w_8, w_16]) fun w3 g3 h3 Z3 W3 L3 => ?_⟩⟩
        · rw [List.append_nil]
        · have Z3 : tZ s0 F (b + tY s) (s_send s c (w_frame 8 0 [])) w3 g3 h3 := Z3
          exact K w3 g3 h3 (Z3.le (Nat.add_le_add_left hy b)) W3 (L2.trans L3)
    · rw [if_pos (Int32.not_lt.mp hi)] at K
      have hy := tY_close Z.i hc
      exact ⟨⟨_, em⟩, t_close (d := d + 2) Z hm hx hc fun w3 g3 h3 Z3 W3 L3 => K w3 g3 h3 (Z3.le (Nat.add_le_add_left hy b)) W3 L3⟩
  · rw [if_pos (Or.inr h0)] at K
    exact K _ g h Z tWk.refl (gL.refl g)
theorem t_beat (Z : tZ s0 F (b + tY s) s w g h) (hm : g.kind x0 = (1, 0)) (hx : g.kind x1 = (2, c)) (hc : c < 4)
    (K : ∀ w1 g1 h1, tZ s0 F (b + tY (s_beat s c)) (s_beat s c) w1 g1 h1 → tWq w w1 → gL g g1 → Q .null h1) : zX s0 m_X8_beat (d + 71) [zr x0, zr x1] h Q E := by
  have em := Z.r.main hm
  have ex := Z.r.1.cell hx (by decide)
  rw [s_beat_eq] at K
  have hno : ¬ ((s.cn c).state = 6 ∧ 20 ≤ s.clock - (s.cn c).closing) → zP s0 m_X8_beat (d + 70 + 1) 28 [some (zr x0), some (zr x1)] [] h Q E := fun hn => by
    rw [if_neg hn] at K
    exact t_beat_28 (d := d) Z hm hx hc fun w1 g1 h1 Z1 W1 L1 => K w1 g1 h1 Z1 W1.toq L1
  refine c_X8_beat (e_I ex fun (z1 : gI h x1 1 = (s.cn c).state) => ?_)
  rw [z1]
  refine ⟨fun h6 => hno fun h => h6 h.1, fun h6 => e_I em fun (z2 : gI h x0 12 = s.clock) => e_I ex fun (z3 : gI h x1 8 = (s.cn c).closing) => ?_⟩
  rw [z2, z3]
  refine ⟨fun hl => hno fun h => absurd h.2 (Int32.not_le.mpr hl), fun hl => ⟨⟨_, em⟩, ?_⟩⟩
  rw [if_pos ⟨h6, Int32.not_lt.mp hl⟩] at K
  have hy := tY_close Z.i hc
  refine t_close (d := d + 2) Z hm hx hc fun w3 g3 h3 Z3 W3 L3 => ?_
  have Z3 := Z3.le (Nat.add_le_add_left hy b)
  exact t_beat_28 (d := d) Z3 (L3.m hm) (L3.k hx gSt2) hc fun w1 g1 h1 Z1 W1 L1 => K w1 g1 h1 Z1 (W3.toq.trans W1.toq) (L3.trans L1)
end MJ
