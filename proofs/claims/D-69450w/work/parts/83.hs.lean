/-! ===== the twin: what is sent; faults ===== -/
set_option maxRecDepth 100000
section HS
variable {s0 : zE} {F : Nat → Option zC} {b : Nat} {s s' : sSt} {w w' : tW} {g g' : sG} {h h' : zH} {d x0 x1 x2 n D c i j q m : Nat} {Q : Value → zH → Prop} {E : Nat → zH → Prop} {bb : sBy}
theorem sLive_le : sLive s ≤ 5 := Nat.le_trans (List.length_filter_le _ _) (by decide)
theorem s_send_eq : s_send s c bb = s_go (s_closeF 5) s c bb := rfl
theorem s_close_eq : s_close s c = s_closeF 5 s c := rfl
theorem t_close (Z : tZ s0 F b s w g h) (hm : g.kind x0 = (1, 0)) (hx : g.kind x1 = (2, c)) (hc : c < 4) (K : ∀ w1 g1 h1, tZ s0 F b (s_close s c) w1 g1 h1 → tWk (s_close s c) w w1 → gL g g1 → Q .null h1) : zX s0 m_X8_close (d + 68) [zr x0, zr x1] h Q E :=
  t_closeC 5 _ s w g h x0 x1 c Q E (by omega) Z hm hx hc sLive_le K
theorem t_go {dr : sBy} {sz : Int32} {rd : sRd} {u : Int32 × Int32 × Int32 × List Nat × (Nat → Nat)} (Z : tZ s0 F b s (dr, sz, rd, u) g h) (hm : g.kind x0 = (1, 0)) (hx : g.kind x1 = (2, c)) (hc : c < 4)
    (K : ∀ w1 g1 h1, tZ s0 F b (s_send s c dr) w1 g1 h1 → tWk (s_send s c dr) (dr, sz, rd, u) w1 → gL g g1 → Q .null h1) : zX s0 m_X8_go (d + 69) [zr x0, zr x1] h Q E :=
  t_goC (n := 5) (D := 68) (d := d + 48) (t_closeC 5) (by omega) Z hm hx hc sLive_le K
theorem t_goFrame {dr p body : sBy} {ty ch sz : Int32} {rd : sRd} {u : Int32 × Int32 × Int32 × List Nat × (Nat → Nat)} (Z : tZ s0 F b s (dr, sz, rd, u) g h) (hm : g.kind x0 = (1, 0)) (hx : g.kind x1 = (2, c)) (hc : c < 4)
    (hd : dr = p ++ (w_head ty ch ++ body)) (hs : sz = Int32.ofNat (p.length + 3)) (hl : dr.length + 1 ≤ 1200)
    (K : ∀ w1 g1 h1, tZ s0 F b (s_send s c (p ++ w_frame ty ch body)) w1 g1 h1 → tWk (s_send s c (p ++ w_frame ty ch body)) (dr, sz, rd, u) w1 → gL g g1 → Q .null h1) : zX s0 m_X8_goFrame (d + 70) [zr x0, zr x1] h Q E :=
  t_goFrameC (n := 5) (D := 68) (d := d + 48) (t_closeC 5) (by omega) Z hm hx hc sLive_le hd hs hl K
theorem t_simple {ch cl me : Int32} (Z : tZ s0 F b s w g h) (hm : g.kind x0 = (1, 0)) (hx : g.kind x1 = (2, c)) (hc : c < 4)
    (K : ∀ w1 g1 h1, tZ s0 F b (s_simple s c ch cl me) w1 g1 h1 → tWk (s_simple s c ch cl me) w w1 → gL g g1 → Q .null h1) : zX s0 m_X8_simple (d + 71) [zr x0, zr x1, .int ch, .int cl, .int me] h Q E := by
  obtain ⟨dr, sz, rd, u⟩ := w
  refine c_X8_simple ⟨⟨_, Z.r.main hm⟩, t_beginMethod Z.r hm fun g1 h1 R1 L1 => ⟨⟨_, R1.main (L1.m hm)⟩, t_goFrame (p := []) (ty := 1) (ch := ch) (body := w_16 cl ++ w_16 me ++ []) (Z.re R1) (L1.m hm) (L1.k hx gSt2) hc ?_ rfl (by simp [w_head, w_8, w_16]) fun w2 g2 h2 Z2 W2 L2 => K w2 g2 h2 Z2 W2 (L1.trans L2)⟩⟩
  rw [List.nil_append, List.append_nil]
theorem t_hard {code c1 mt : Int32} (Z : tZ s0 F b s w g h) (hm : g.kind x0 = (1, 0)) (hx : g.kind x1 = (2, c)) (hc : c < 4)
    (K : ∀ w1 g1 h1, tZ s0 F b (s_hard s c code c1 mt) w1 g1 h1 → tWk (s_hard s c code c1 mt) w w1 → gL g g1 → Q .null h1) : zX s0 m_X8_hard (d + 76) [zr x0, zr x1, .int code, .int c1, .int mt] h Q E := by
  obtain ⟨dr, sz, rd, u⟩ := w
  refine c_X8_hard ⟨⟨_, Z.r.main hm⟩, t_putClose Z.r hm fun g1 h1 R1 L1 => ⟨⟨_, R1.main (L1.m hm)⟩, t_go (d := d + 6) (Z.re R1) (L1.m hm) (L1.k hx gSt2) hc fun w2 g2 h2 Z2 W2 L2 => ?_⟩⟩
  have L12 := L1.trans L2
  have D1 := d_send (c := c) (b := s_closing 0 10 50 code c1 mt) Z.i hc
  have hu : s_hard s c code c1 mt = if ((s_send s c (s_closing 0 10 50 code c1 mt)).cn c).state = 0 then s_send s c (s_closing 0 10 50 code c1 mt) else s_end s_close (s_cn (s_send s c (s_closing 0 10 50 code c1 mt)) c (fun k => (k.w_state 6).w_closing (s_send s c (s_closing 0 10 50 code c1 mt)).clock)) c := rfl
  rw [hu] at K
  have W2 : tWk (s_send s c (s_closing 0 10 50 code c1 mt)) (dr, sz, rd, u) w2 := W2
  clear hu D1
  generalize s_send s c (s_closing 0 10 50 code c1 mt) = s1 at Z2 W2 K
  have hx2 := L12.k hx gSt2
  have hm2 := L12.m hm
  refine e_I (Z2.r.1.cell hx2 (by decide)) fun (z1 : gI h2 x1 1 = (s1.cn c).state) => ?_
  rw [z1]
  refine ⟨fun h0 => ?_, fun h0 => ?_⟩
  · rw [if_neg h0] at K
    refine g_Pcn Z2.r hx2 ((s1.cn c).w_state 6) rfl (Z2.r.2.cn fun hc4 => ⟨(Z2.r.2.2.2.2.2.1 c hc4).1, (Z2.r.2.2.2.2.2.1 c hc4).2.1.2⟩) fun h3 R3 _ => ?_
    have k3 : (s1.w_cn (sUp s1.cn c ((s1.cn c).w_state 6))).cn c = (s1.cn c).w_state 6 := sUp_self
    have cl3 : (s1.w_cn (sUp s1.cn c ((s1.cn c).w_state 6))).clock = s1.clock := wr_clock_cn
    refine e_I (R3.main hm2) fun (z2 : gI h3 x0 12 = (s1.w_cn (sUp s1.cn c ((s1.cn c).w_state 6))).clock) => ?_
    rw [z2, cl3]
    refine g_Pcn R3 hx2 (((s1.cn c).w_state 6).w_closing s1.clock) (by rw [k3]; rfl) (R3.2.cn fun hc4 => ⟨(Z2.r.2.2.2.2.2.1 c hc4).1, (Z2.r.2.2.2.2.2.1 c hc4).2.1.2⟩) fun h4 R4 _ => ?_
    rw [wr_cn, sUp_sUp] at R4
    have R4 : tR s0 F (b + tP s1) (s_cn s1 c (fun k => (k.w_state 6).w_closing s1.clock)) w2 g2 h4 := R4
    have D2 := d_cl6 (c := c) (v := s1.clock) Z2.i h0
    have Z4 := Z2.dn' D2 R4
    have D3 := d_end (c := c) (cl := s_closeF 5) Z4.i (d_closeF 5) hc
    exact ⟨⟨_, R4.main hm2⟩, t_endC (n := 5) (D := 68) (d := d + 48) (t_closeC 5) (by omega) Z4 hm2 hc hx2 sLive_le fun w5 g5 h5 Z5 W5 L5 => K w5 g5 h5 Z5 (W2.trans W5 fun k hk => D3.2.2.2.2.2.2.2.2.1 k (D2.2.2.2.2.2.2.2.2.1 k hk)) (L12.trans L5)⟩
  · rw [if_pos h0] at K
    exact K w2 g2 h2 Z2 W2 L12
theorem t_softAs {code c1 mt : Int32} (Z : tZ s0 F b s w g h) (hm : g.kind x0 = (1, 0)) (hx : g.kind x1 = (3, j)) (hj : isH j)
    (K : ∀ w1 g1 h1, tZ s0 F b (s_soft s j code c1 mt) w1 g1 h1 → tWk (s_soft s j code c1 mt) w w1 → gL g g1 → Q .null h1) : zX s0 m_X8_softAs (d + 76) [zr x0, zr x1, .int code, .int c1, .int mt] h Q E := by
  obtain ⟨dr, sz, rd, u⟩ := w
  have hc := hj.div
  refine c_X8_softAs (e_I (Z.r.1.cell hx (by decide)) fun (z1 : gI h x1 1 = Int32.ofNat (j % 4)) => ?_)
  rw [z1]
  refine ⟨⟨_, Z.r.main hm⟩, t_putClose Z.r hm fun g1 h1 R1 L1 => ?_⟩
  have hx1 := L1.k hx gSt3
  refine e_R (R1.1.cell hx1 (by decide)) fun (z2 : gR h1 x1 0 = g1.ref 2 (j / 4)) => ?_
  rw [z2]
  refine ⟨⟨_, R1.main (L1.m hm)⟩, t_go (d := d + 6) (Z.re R1) (L1.m hm) (R1.cn hc) hc fun w2 g2 h2 Z2 W2 L2 => ?_⟩
  have L12 := L1.trans L2
  have hu : s_soft s j code c1 mt = if ((s_send s (j / 4) (s_closing (Int32.ofNat (j % 4)) 20 40 code c1 mt)).cn (j / 4)).state = 0 then s_send s (j / 4) (s_closing (Int32.ofNat (j % 4)) 20 40 code c1 mt) else s_gone s_close (s_ch (s_send s (j / 4) (s_closing (Int32.ofNat (j % 4)) 20 40 code c1 mt)) j (fun k => k.w_state 2)) j := rfl
  rw [hu] at K
  have W2 : tWk (s_send s (j / 4) (s_closing (Int32.ofNat (j % 4)) 20 40 code c1 mt)) (dr, sz, rd, u) w2 := W2
  clear hu
  generalize s_send s (j / 4) (s_closing (Int32.ofNat (j % 4)) 20 40 code c1 mt) = s1 at Z2 W2 K
  have hx2 := L12.k hx gSt3
  have hm2 := L12.m hm
  refine e_R (Z2.r.1.cell hx2 (by decide)) fun (z3 : gR h2 x1 0 = g2.ref 2 (j / 4)) => ?_
  rw [z3]
  refine e_I (Z2.r.1.cell (Z2.r.cn hc) (by decide)) fun (z4 : gI h2 (g2.ref 2 (j / 4)) 1 = (s1.cn (j / 4)).state) => ?_
  rw [z4]
  refine ⟨fun h0 => ?_, fun h0 => ?_⟩
  · rw [if_neg h0] at K
    refine g_Ph Z2.r hx2 ((s1.ch j).w_state 2) rfl rfl (fun hok => hok) fun h3 R3 _ => ?_
    have R3 : tR s0 F (b + tP s1) (s_ch s1 j (fun k => k.w_state 2)) w2 g2 h3 := R3
    have D2 := d_cs (h := j) (v := 2) Z2.i hj (by decide)
    have Z3 := Z2.dn' D2 R3
    have hst : ((s_ch s1 j (fun k => k.w_state 2)).ch j).state ≠ 1 := by
      rw [s_ch_ch]
      exact (by decide : (2 : Int32) ≠ 1)
    have D3 := d_gone (cl := s_closeF 5) Z3.i (d_closeF 5) hj hst
    exact ⟨⟨_, R3.main hm2⟩, t_goneC (n := 5) (D := 68) (d := d + 49) (t_closeC 5) (by omega) Z3 hm2 hj hx2 hst sLive_le fun w5 g5 h5 Z5 W5 L5 => K w5 g5 h5 Z5 (W2.trans W5 fun k hk => D3.2.2.2.2.2.2.2.2.1 k (D2.2.2.2.2.2.2.2.2.1 k hk)) (L12.trans L5)⟩
  · rw [if_pos h0] at K
    exact K w2 g2 h2 Z2 W2 L12
theorem t_soft {code : Int32} (Z : tZ s0 F b s w g h) (hm : g.kind x0 = (1, 0)) (hx : g.kind x1 = (3, j)) (hj : isH j)
    (K : ∀ w1 g1 h1, tZ s0 F b (s_soft s j code w.cl w.me) w1 g1 h1 → tWk (s_soft s j code w.cl w.me) w w1 → gL g g1 → Q .null h1) : zX s0 m_X8_soft (d + 77) [zr x0, zr x1, .int code] h Q E := by
  refine c_X8_soft (e_I (Z.r.main hm) fun (z1 : gI h x0 32 = w.cl) => e_I (Z.r.main hm) fun (z2 : gI h x0 33 = w.me) => ?_)
  rw [z1, z2]
  exact ⟨⟨_, Z.r.main hm⟩, t_softAs Z hm hx hj K⟩
/-- arguments that are not as told make an end -/
theorem t_wrong (Z : tZ s0 F b s w g h) (hm : g.kind x0 = (1, 0)) (hx : g.kind x1 = (3, j)) (hj : isH j) (K0 : r_whole w.rd = true → Q (.int 0) h)
    (K1 : r_whole w.rd = false → ∀ w1 g1 h1, tZ s0 F b (s_hard s (j / 4) 502 w.cl w.me) w1 g1 h1 → tWk (s_hard s (j / 4) 502 w.cl w.me) w w1 → gL g g1 → Q (.int 1) h1) : zX s0 m_X8_wrong (d + 77) [zr x0, zr x1] h Q E := by
  refine c_X8_wrong ⟨⟨_, Z.r.main hm⟩, t_whole Z.r hm ⟨_, rfl, ?_⟩⟩
  rw [sB_0]
  refine ⟨fun hw => ?_, fun hw => K0 (by rw [Bool.not_eq_false] at hw; exact hw)⟩
  refine e_R (Z.r.1.cell hx (by decide)) fun (z1 : gR h x1 0 = g.ref 2 (j / 4)) => e_I (Z.r.main hm) fun (z2 : gI h x0 32 = w.cl) => e_I (Z.r.main hm) fun (z3 : gI h x0 33 = w.me) => ?_
  rw [z1, z2, z3]
  exact ⟨⟨_, Z.r.main hm⟩, t_hard Z hm (Z.r.cn hj.div) hj.div (K1 hw)⟩
theorem t_sendConfirm {x : Int32} (Z : tZ s0 F b s w g h) (hm : g.kind x0 = (1, 0)) (hx : g.kind x1 = (3, j)) (hj : isH j)
    (K : ∀ w1 g1 h1, tZ s0 F b (s_ans s j 60 80 (w_32 x ++ w_8 0)) w1 g1 h1 → tWk (s_ans s j 60 80 (w_32 x ++ w_8 0)) w w1 → gL g g1 → Q .null h1) : zX s0 m_X8_sendConfirm (d + 71) [zr x0, zr x1, .int x] h Q E := by
  obtain ⟨dr, sz, rd, u⟩ := w
  have hc := hj.div
  refine c_X8_sendConfirm (e_I (Z.r.1.cell hx (by decide)) fun (z1 : gI h x1 1 = Int32.ofNat (j % 4)) => ?_)
  rw [z1]
  refine ⟨⟨_, Z.r.main hm⟩, t_beginMethod Z.r hm fun g1 h1 R1 L1 => ⟨⟨_, R1.main (L1.m hm)⟩, t_put32 R1 (L1.m hm) (by simp [w_head, w_8, w_16]) fun g2 h2 R2 L2 => ?_⟩⟩
  have hm2 := L2.m (L1.m hm)
  refine ⟨⟨_, R2.main hm2⟩, t_put R2 hm2 (by simp [w_head, w_8, w_16, w_32]) fun g3 h3 R3 L3 => ?_⟩
  have L13 := (L1.trans L2).trans L3
  have hx3 := L13.k hx gSt3
  refine e_R (R3.1.cell hx3 (by decide)) fun (z2 : gR h3 x1 0 = g3.ref 2 (j / 4)) => ?_
  rw [z2]
  refine ⟨⟨_, R3.main (L13.m hm)⟩, t_goFrame (p := []) (ty := 1) (ch := Int32.ofNat (j % 4)) (body := w_16 60 ++ w_16 80 ++ (w_32 x ++ w_8 0)) (Z.re R3) (L13.m hm) (R3.cn hc) hc ?_ rfl (by simp [w_head, w_8, w_16, w_32]) fun w4 g4 h4 Z4 W4 L4 => K w4 g4 h4 Z4 W4 (L13.trans L4)⟩
  rw [List.nil_append]
  repeat rw [List.append_assoc]
  rfl
theorem t_sendTag {x3 : Nat} {me : Int32} {tag : sBy} (Z : tZ s0 F b s w g h) (hm : g.kind x0 = (1, 0)) (hx : g.kind x1 = (3, j)) (hj : isH j) (hB : gB g x3 tag) (ht : tag.length ≤ 40)
    (K : ∀ w1 g1 h1, tZ s0 F b (s_ans s j 60 me (w_short tag)) w1 g1 h1 → tWk (s_ans s j 60 me (w_short tag)) w w1 → gL g g1 → Q .null h1) : zX s0 m_X8_sendTag (d + 71) [zr x0, zr x1, .int me, zr x3] h Q E := by
  obtain ⟨dr, sz, rd, u⟩ := w
  have hc := hj.div
  refine c_X8_sendTag (e_I (Z.r.1.cell hx (by decide)) fun (z1 : gI h x1 1 = Int32.ofNat (j % 4)) => ?_)
  rw [z1]
  refine ⟨⟨_, Z.r.main hm⟩, t_beginMethod Z.r hm fun g1 h1 R1 L1 => ⟨⟨_, R1.main (L1.m hm)⟩, t_putShort R1 (L1.m hm) (L1.B hB) (by simp [w_head, w_8, w_16]; omega) fun g2 h2 R2 L2 => ?_⟩⟩
  have L12 := L1.trans L2
  have hx2 := L12.k hx gSt3
  refine e_R (R2.1.cell hx2 (by decide)) fun (z2 : gR h2 x1 0 = g2.ref 2 (j / 4)) => ?_
  rw [z2]
  refine ⟨⟨_, R2.main (L12.m hm)⟩, t_goFrame (p := []) (ty := 1) (ch := Int32.ofNat (j % 4)) (body := w_16 60 ++ w_16 me ++ w_short tag) (Z.re R2) (L12.m hm) (R2.cn hc) hc ?_ rfl (by simp [w_head, w_8, w_16, w_short]; omega) fun w4 g4 h4 Z4 W4 L4 => K w4 g4 h4 Z4 W4 (L12.trans L4)⟩
  rw [List.nil_append]
  repeat rw [List.append_assoc]
end HS
