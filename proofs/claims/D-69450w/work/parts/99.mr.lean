/-! ===== the twin: queues declared, consumers made ===== -/
set_option maxRecDepth 100000
/-- a consumer is made; its tag is told -/
def s_consT (s : sSt) (j q : Nat) (real : sBy) (bits : Int32) : sSt :=
  if s_bit bits 8 then (s_b35 s (real, q, j, s_bit bits 2, s_bit bits 4, (s.ch j).coming)).w_cs (s.cs ++ [s.next]) else
  s_ans ((s_b35 s (real, q, j, s_bit bits 2, s_bit bits 4, (s.ch j).coming)).w_cs (s.cs ++ [s.next])) j 60 21 (w_short real)
def s_tagd (s : sSt) (j : Nat) (n : Int32) : sSt := s_ch s j (fun k => k.w_tags n)
def s_consA (s : sSt) (j q : Nat) (tag : sBy) (bits : Int32) : sRs :=
  if tag ≠ [] ∧ s_cons s j tag ≠ none then s_hardF s 530 else if s.cs.length = 16 then s_hardF s 506 else
  s_ok (if tag = [] then s_consT (s_tagd s j (s_ctag s j 17 ((s.ch j).tags + 1))) j q (s_numbered "ctag-" (s_ctag s j 17 ((s.ch j).tags + 1))) bits else s_consT s j q tag bits)
def s_consF (s : sSt) (j : Nat) (nm tag : sBy) (bits : Int32) : sRs := s_withQ s j nm (fun q =>
  if s.cs.any (fun i => (s.co i).queue == q && (s.co i).excl) ∨ (s_bit bits 4 ∧ s_consQ s q ≠ []) then s_softF s 403 else s_consA s j q tag bits)
section MR
variable {s0 : zE} {F F2 : Nat → Option zC} {b : Nat} {s s' s1 : sSt} {w w' w1 w2 : tW} {g g' g0 : sG} {h h' : zH} {d x0 x1 x2 x3 x4 x5 x6 x7 i j q m n n2 n3 a e : Nat} {Q : Value → zH → Prop} {E : Nat → zH → Prop} {dr nm tag real : sBy} {sz cl me code k bits mx tt pr number : Int32} {rd : sRd} {u : Int32 × List Nat × (Nat → Nat)} {f : sRs} {t : sTab} {v : sCo}
theorem ready_ch {v : Nat → sCh} : s_ready (s.w_ch v) q = s_ready s q := rfl
theorem consQ_ch {v : Nat → sCh} : s_consQ (s.w_ch v) q = s_consQ s q := rfl
theorem tR.lend2 (R : tR s0 F b s w g h) (U : zUn s0 F g h n 37 (tDraft mx tt pr n2 n3 a)) (A : zUn s0 F g h a 1018 (List.replicate 301 (zr 0))) (hna : n ≠ a) : tR s0 (zF2 F n a mx tt pr n2 n3) b s w g h := by
  unfold zF2
  exact (R.lend A).lend ⟨U.1, by rw [zF1_ne hna]; exact U.2.1, U.2.2⟩
theorem t_declQ_92 (Z : tZ s0 F (b + tY s) s w g h) (hm : g.kind x0 = (1, 0)) (hx : g.kind x1 = (3, j)) (hj : isH j) (hq : g.kind x5 = (33, q)) (hqs : q ∈ s.qs)
    (K : ∀ w1 g1 h1, tZ s0 F (b + tY (s_declQA s j q bits)) (s_declQA s j q bits) w1 g1 h1 → tWm w w1 → gL g g1 → Q .null h1) : zP s0 m_X8_declareQueue (d + 82) 92 [some (zr x0), some (zr x1), none, some (.int bits), none, some (zr x5), none] [] h Q E := by
  obtain ⟨dr, sz, rd, u⟩ := w
  have hkq := Z.sc.qs q hqs
  have qok := Z.i.tx.2.1 q hkq
  have hnr : (s_ready s q).length ≤ 300 := Nat.le_trans (List.length_filter_le _ _) (Nat.le_trans (ents_le Z.i.ms hqs) Z.i.ms.2.2.2)
  refine b_X8_declareQueue_92 (e_R (Z.r.1.cell hq (by decide)) fun (z1 : gR h x5 0 = g.rf 33 q 0) => ?_)
  rw [z1]
  refine g_Plq (o := some (s.qu q).name) Z.r hx (Z.r.2.2.2.2.2.2.2.2.1 q hkq).1 fun g1 h1 R1 L1 => ?_
  have hS : s_ch s j (fun k => k.w_lastq (some (s.qu q).name)) = s.w_ch (sUp s.ch j ((s.ch j).w_lastq (some (s.qu q).name))) := rfl
  unfold s_declQA at K
  dsimp only at K
  rw [hS] at R1 K
  have Z1 := Z.chp hj R1 rfl rfl (fun ok => ⟨fun y hy => by rw [← Option.some.inj hy]; exact qok.1, ok.2⟩) rfl rfl
  have Y1 : tY (s.w_ch (sUp s.ch j ((s.ch j).w_lastq (some (s.qu q).name)))) = tY s := tY_ch
  rw [← Y1] at Z1
  have e1 : s_ready (s.w_ch (sUp s.ch j ((s.ch j).w_lastq (some (s.qu q).name)))) q = s_ready s q := ready_ch
  have e2 : s_consQ (s.w_ch (sUp s.ch j ((s.ch j).w_lastq (some (s.qu q).name)))) q = s_consQ s q := consQ_ch
  have e3 : (s.w_ch (sUp s.ch j ((s.ch j).w_lastq (some (s.qu q).name)))).qu = s.qu := wr_qu_ch
  have e4 : (s.w_ch (sUp s.ch j ((s.ch j).w_lastq (some (s.qu q).name)))).knd = s.knd := wr_knd_ch
  rw [← e1] at hnr
  rw [← e3] at qok
  rw [← e4] at hkq
  clear hS R1 Y1
  revert Z1 K hnr qok hkq
  clear e1 e2 e3 e4 z1
  generalize s.w_ch (sUp s.ch j ((s.ch j).w_lastq (some (s.qu q).name))) = s2
  intro K hkq qok hnr Z1
  have hnl : (s2.qu q).name.length ≤ 40 := qok.1
  have hm1 := L1.m hm
  have hx1 := L1.k hx gSt3
  have hq1 := L1.th (by decide) (by decide) hq
  have hcl : (s_consQ s2 q).length ≤ 16 := Nat.le_trans (List.length_filter_le _ _) Z1.i.cp.2.2.2.2.2.2.1
  refine ⟨fun hb => ?_, fun hb => ?_⟩
  · rw [if_neg (by rw [bit_0.mpr hb]; decide)] at K
    refine e_I (Z1.r.1.cell hx1 (by decide)) fun (z2 : gI h1 x1 1 = Int32.ofNat (j % 4)) => ?_
    rw [z2]
    refine ⟨⟨_, Z1.r.main hm1⟩, t_beginMethod (d := d + 77) Z1.r hm1 fun g2 h2 R2 L2 => ?_⟩
    have hm2 := L2.m hm1
    have hq2 := L2.th (by decide) (by decide) hq1
    refine e_R (R2.1.cell hq2 (by decide)) fun (z3 : gR h2 x5 0 = g2.rf 33 q 0) => ?_
    rw [z3]
    refine ⟨⟨_, R2.main hm2⟩, t_putShort (d := d + 79) R2 hm2 (R2.2.2.2.2.2.2.2.2.1 q hkq).1 (by simp [w_head, w_8, w_16]; omega) fun g3 h3 R3 L3 => ?_⟩
    have L13 := L2.trans L3
    have hm3 := L13.m hm1
    have hq3 := L13.th (by decide) (by decide) hq1
    refine ⟨⟨_, R3.main hm3⟩, t_ready (d := d + 81) R3 Z1.sc hq3 ⟨_, rfl, ⟨_, R3.main hm3⟩, t_put32 (d := d + 79) R3 hm3 (by simp [w_head, w_8, w_16, w_short]; omega) fun g4 h4 R4 L4 => ?_⟩⟩
    have L14 := L13.trans L4
    have hm4 := L14.m hm1
    have hq4 := L14.th (by decide) (by decide) hq1
    refine ⟨⟨_, R4.main hm4⟩, t_consumersOf (d := d + 81) R4 Z1.sc hm4 hq4 ⟨_, rfl, ⟨_, R4.main hm4⟩, t_put32 (d := d + 79) R4 hm4 (by simp [w_head, w_8, w_16, w_32, w_short]; omega) fun g5 h5 R5 L5 => ?_⟩⟩
    have L15 := L14.trans L5
    have hm5 := L15.m hm1
    have hx5 := L15.k hx1 gSt3
    refine e_R (R5.1.cell hx5 (by decide)) fun (z4 : gR h5 x1 0 = g5.ref 2 (j / 4)) => ?_
    rw [z4]
    have hy := tY_ans (h := j) (k1 := 50) (me := 11) (b := w_short (s2.qu q).name ++ w_32 (Int32.ofNat (s_ready s2 q).length) ++ w_32 (Int32.ofNat (s_consQ s2 q).length)) Z1.i hj
    refine ⟨⟨_, R5.main hm5⟩, t_goFrame (d := d + 11) (p := []) (ty := 1) (ch := Int32.ofNat (j % 4)) (body := w_16 50 ++ w_16 11 ++ (w_short (s2.qu q).name ++ w_32 (Int32.ofNat (s_ready s2 q).length) ++ w_32 (Int32.ofNat (s_consQ s2 q).length))) (Z1.re R5) hm5 (R5.cn hj.div) hj.div ?_ rfl (by simp [w_head, w_8, w_16, w_32, w_short]; omega) fun w6 g6 h6 Z6 W6 L6 => ?_⟩
    · rw [List.nil_append]
      repeat rw [List.append_assoc]
    · have Z6 : tZ s0 F (b + tY s2) (s_ans s2 j 50 11 (w_short (s2.qu q).name ++ w_32 (Int32.ofNat (s_ready s2 q).length) ++ w_32 (Int32.ofNat (s_consQ s2 q).length))) w6 g6 h6 := Z6
      exact K w6 g6 h6 (Z6.le (Nat.add_le_add_left hy b)) ⟨W6.tom.1, W6.tom.2⟩ ((L1.trans L15).trans L6)
  · rw [if_pos (bit_1 hb)] at K
    exact K _ g1 h1 Z1 tWm.refl L1
theorem t_declareQueue (J : tJs s0 F) (Z : tZ s0 F (b + 1500 + 12 * rRem rd + tY s) s (dr, sz, rd, cl, me, u) g h) (hm : g.kind x0 = (1, 0)) (hx : g.kind x1 = (3, j)) (hj : isH j) (hE : gB g (zst s0 "RelayHallModel" "EMPTY" "[B") []) (hg0 : 0 ≤ s.gener) (hg1 : s.gener ≤ 1000000)
    (K : ∀ w1 g1 h1, tZ s0 F (b + tY (s_tld j cl me (s_declQ s j rd))) (s_tld j cl me (s_declQ s j rd)) w1 g1 h1 → tWm (dr, sz, rd, cl, me, u) w1 → gL g g1 → Q .null h1) : zX s0 m_X8_declareQueue (d + 82) [zr x0, zr x1] h Q E := by
  rw [s_declQ_eq] at K
  refine c_X8_declareQueue ⟨⟨_, Z.r.main hm⟩, t_shortZ (d := d + 80) (b := b + 1464 + 12 * rRem rd + tY s) Z (by omega) hm hE fun n1 g1 h1 Z1 L1 B1 => ⟨_, rfl, ?_⟩⟩
  have hl1 := r_short_len (rd := rd)
  have q1 := rRem_le (rd_short (r := rd)).1
  revert K Z1 B1 hl1 q1
  generalize (r_short rd).1 = nm
  generalize (r_short rd).2 = rd1
  intro K Z1 B1 hl1 q1
  have hm1 := L1.m hm
  refine ⟨⟨_, Z1.r.main hm1⟩, t_u8 Z1.r hm1 fun h3 R3 => ⟨_, rfl, ?_⟩⟩
  have Z3 := Z1.re R3
  have q3 := rRem_le (rd_u8 (r := rd1)).1
  revert K Z3 q3
  generalize (r_u8 rd1).1 = bits
  generalize (r_u8 rd1).2 = rd3
  intro K Z3 q3
  refine ⟨⟨_, Z3.r.main hm1⟩, t_tableZ (d := d + 77) (b := b + 1260 + tY s) Z3 (by omega) hm1 (L1.B hE) fun n3 g4 h4 Z4 L4 T4 => ⟨_, rfl, ?_⟩⟩
  revert K Z4 T4
  generalize (r_table rd3).1 = t
  generalize (r_table rd3).2 = rd4
  intro K Z4 T4
  have L14 := L1.trans L4
  have hm4 := L14.m hm
  have hx4 := L14.k hx gSt3
  have em := Z4.r.main hm4
  refine ⟨⟨_, em⟩, t_thenW (d := d + 4) (N := fun h => Q .null h) (f := s_declQF s j nm bits t) ?_ (Z4.le (by omega)) hm4 hx4 hj (fun w3 g3 h3 Z3 W3 L3 => K w3 g3 h3 Z3 ⟨W3.1, W3.2⟩ (L14.trans L3)) ?_⟩
  · exact fun h1 hq => ⟨fun hh => absurd hh (by decide), fun _ => hq⟩
  intro hw K
  obtain ⟨T5, ok⟩ := T4 (whole_bad hw)
  have B14 := L4.B B1
  have hlq : ∀ q ∈ s.qs, (s.qu q).name.length < 2147483648 := fun q hq => by
    have := (Z4.i.tx.2.1 q (Z4.sc.qs q hq)).1
    omega
  have Zh : tZ s0 F (b + 900 + tY s) s (dr, sz, rd4, cl, me, u) g4 h4 := Z4.le (by omega)
  refine ⟨fun _ => ⟨⟨_, em⟩, t_queue (d := d + 80) Z4.r Z4.sc hm4 B14 (by omega) hlq ⟨_, rfl, ?_⟩⟩, fun hh => absurd rfl hh⟩
  unfold s_declQF at K
  refine ⟨fun hb => ?_, fun hb => ?_⟩
  · rw [if_neg (by rw [bit_0.mpr hb]; decide)] at K
    refine ⟨⟨_, em⟩, t_drafted (d := d + 68) (b := b + 1206 + tY s + tP s) J (Z4.r.less (by omega)) T5 ok (fun hz h5 R5 => ⟨0, rfl, fun hh => absurd rfl hh, fun _ => ?_⟩) fun z n a n2 n3' h5 hz R5 U5 A5 hna D2 D3 => ⟨_, rfl, fun _ => ?_, fun hh => absurd hh (by have := U5.2.2.2.1; omega)⟩⟩
    · rw [hz] at K
      exact ⟨⟨_, R5.main hm4⟩, t_softZ (d := d + 4) (Z4.cut (k := 0) (by omega) (R5.less (b' := b + 900 + tY s + tP s) (by omega))) hm4 hx4 hj fun w6 g6 h6 Z6 W6 L6 => K w6 g6 h6 Z6 W6.tom L6⟩
    · rw [hz] at K
      have zok : dOk z := draft_ok ok hz
      have Z5 : tZ s0 (zF2 F n a z.1 z.2.1 z.2.2.1 n2 n3') (b + 1200 + tY s) s (tW.w_rt (dr, sz, rd4, cl, me, u) []) g4 h5 := ⟨(R5.lend2 U5 A5 hna).rt0.less (by omega), Z4.i, by have := Z4.c; omega⟩
      refine ⟨⟨_, R5.main hm4⟩, t_declared (d := d + 1) J U5.2.1 A5.2.1 hna U5.2.2.2.1 A5.2.2.2.1 U5.2.2.2.2.2 A5.2.2.2.2.2 Z5 rfl hm4 hx4 hj B14 hl1 D2 D3 zok hg0 hg1 (fun s1 q hd g6 h6 Z6 L6 hq6 => ⟨_, rfl, fun _ => ?_, fun hh => absurd hh ?_⟩) (fun f hd w6 g6 h6 Z6 W6 L6 => ⟨0, rfl, fun hh => absurd rfl hh, fun _ => ?_⟩)⟩
      · simp only [hd, tld_ok] at K
        have hqk : g6.kind (g6.ref 33 q) = (33, q) := Z6.r.al (by decide) (by decide) (Z6.sc.qs q hq6)
        exact t_declQ_92 (d := d) (Z6.le (by omega)) (L6.m hm4) (L6.k hx4 gSt3) hj hqk hq6 fun w7 g7 h7 Z7 W7 L7 => K w7 g7 h7 Z7 ⟨W7.1, W7.2⟩ (L6.trans L7)
      · exact Z6.r.1.pos (Z6.r.al (c := 33) (by decide) (by decide) (Z6.sc.qs q hq6)) (by decide)
      · simp only [hd] at K
        exact K w6 g6 h6 Z6 ⟨W6.1, W6.2⟩ L6
  · rw [if_pos (bit_1 hb)] at K
    cases hq : s_queue s nm with
    | none =>
      rw [hq] at K
      refine ⟨⟨_, em⟩, t_passive (d := d + 3) (o := none) Zh hm4 hx4 hj (fun q hq => nomatch hq) (fun q hq => nomatch hq) fun code hc w6 g6 h6 Z6 W6 L6 => ⟨0, rfl, fun hh => absurd rfl hh, fun _ => ?_⟩⟩
      have hc : (404 : Int32) = code := Option.some.inj hc
      subst hc
      exact K w6 g6 h6 Z6 W6.tom L6
    | some q =>
      rw [hq] at K
      have hqm : q ∈ s.qs := List.mem_of_find?_eq_some hq
      have hqk : g4.kind (g4.ref 33 q) = (33, q) := Z4.r.al (by decide) (by decide) (Z4.sc.qs q hqm)
      refine ⟨⟨_, em⟩, t_passive (d := d + 3) (o := some q) Zh hm4 hx4 hj (fun p hp => by rw [← Option.some.inj hp]; exact hqm) (fun p hp hno => ?_) fun code hc w6 g6 h6 Z6 W6 L6 => ⟨0, rfl, fun hh => absurd rfl hh, fun _ => ?_⟩⟩
      · obtain rfl := Option.some.inj hp
        refine ⟨_, rfl, fun _ => ?_, fun hh => absurd hh (Z4.r.1.pos hqk (by decide))⟩
        simp only [if_neg hno, tld_ok] at K
        exact t_declQ_92 (d := d) (Z4.le (by omega)) hm4 hx4 hj hqk hqm K
      · by_cases hno : (s.qu q).exc = true ∧ (s.qu q).owner ≠ some (j / 4)
        · have hc : (405 : Int32) = code := by
            have hc : (if (s.qu q).exc = true ∧ (s.qu q).owner ≠ some (j / 4) then some (405 : Int32) else none) = some code := hc
            rw [if_pos hno] at hc
            exact Option.some.inj hc
          subst hc
          simp only [if_pos hno, tld_soft] at K
          exact K w6 g6 h6 Z6 W6.tom L6
        · have hc : (if (s.qu q).exc = true ∧ (s.qu q).owner ≠ some (j / 4) then some (405 : Int32) else none) = some code := hc
          rw [if_neg hno] at hc
          cases hc
theorem s_consume_eq : s_consume s j rd = s_then (r_u8 (r_short (r_short rd).2).2).2 s (s_consF s j (r_short rd).1 (r_short (r_short rd).2).1 (r_u8 (r_short (r_short rd).2).2).1) := by
  have hh : ∀ (q : Nat) (tag : sBy) (bits : Int32), s_consA s j q tag bits = (if tag ≠ [] ∧ s_cons s j tag ≠ none then s_hardF s 530 else if s.cs.length = 16 then s_hardF s 506 else
    let n := s_ctag s j 17 ((s.ch j).tags + 1)
    let s1 := if tag = [] then s_ch s j (fun k => k.w_tags n) else s
    let real := if tag = [] then s_numbered "ctag-" n else tag
    let i := s.next
    let s2 := (s_new (s1.w_co (sUp s1.co i (real, q, j, s_bit bits 2, s_bit bits 4, (s.ch j).coming))) 35).w_cs (s1.cs ++ [i])
    s_ok (if s_bit bits 8 then s2 else s_ans s2 j 60 21 (w_short real))) := fun q tag bits => by
    unfold s_consA
    by_cases ht : tag = []
    · simp only [if_pos ht]
      generalize s_ctag s j 17 ((s.ch j).tags + 1) = n
      have h1 : (s_tagd s j n).next = s.next := wr_next_ch
      have h2 : ((s_tagd s j n).ch j).coming = (s.ch j).coming := by
        unfold s_tagd
        rw [s_ch_ch]
        rfl
      unfold s_consT s_b35
      rw [h1, h2]
      rfl
    · simp only [if_neg ht]
      rfl
  unfold s_consF
  simp only [hh]
  rfl
end MR
