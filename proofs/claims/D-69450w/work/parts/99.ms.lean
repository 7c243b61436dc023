/-! ===== the twin: consumers made ===== -/
set_option maxRecDepth 100000
section MS
variable {s0 : zE} {F F2 : Nat → Option zC} {b : Nat} {s s' s1 : sSt} {w w' w1 w2 : tW} {g g' g0 : sG} {h h' : zH} {d x0 x1 x2 x3 x4 x5 x6 x7 i j q m n n2 n3 a e : Nat} {Q : Value → zH → Prop} {E : Nat → zH → Prop} {dr nm tag real : sBy} {sz cl me code k bits mx tt pr number : Int32} {rd : sRd} {u : Int32 × List Nat × (Nat → Nat)} {f : sRs} {t : sTab} {v : sCo}
theorem cs_w {l : List Nat} : sWt (s.w_cs l) = sWt s := rfl
theorem cs_p {l : List Nat} : tP (s.w_cs l) = tP s := rfl
theorem cs_y {l : List Nat} : tY (s.w_cs l) = tY s := rfl
theorem p_newC (I : sI s) (hl : s.cs.length < 16) (ht : (s.qu v.queue).there = true) (hq : v.queue ∈ s.qs) (hj : isH v.chan) (h1 : v.tag.length ≤ 40) (h2 : v.tag ≠ []) :
    sI ((s_b35 s v).w_cs (s.cs ++ [s.next])) ∧ tP ((s_b35 s v).w_cs (s.cs ++ [s.next])) = tP s ∧ sWt ((s_b35 s v).w_cs (s.cs ++ [s.next])) = sWt s ∧ tY ((s_b35 s v).w_cs (s.cs ++ [s.next])) = tY s := by
  have I1 : sScope (s_b35 s v) := I.sc.born bn35 b35_next (by decide) (fun e => absurd e (by decide)) (fun e => absurd e (by decide)) (fun _ => by rw [b35_at]; exact ⟨I.sc.qs _ hq, hj⟩) (fun e => absurd e (by decide)) (fun e => absurd e (by decide))
  have I2 : sI (s_b35 s v) := I.born bn35 I1 b35_messages b35_lastNum (fun e => absurd e (by decide)) (fun e => absurd e (by decide)) (fun e => absurd e (by decide)) (fun _ => by rw [b35_at]; exact ⟨h1, h2⟩) (fun e => absurd e (by decide))
  have := p_addC (i := s.next) I2 bn35.kn (by rw [b35_cs]; exact fun hh => I.sc.old (I.sc.cs _ hh) (by decide) rfl) (by rw [b35_cs]; exact hl) (by rw [b35_at, b35_qu]; exact ht) (by rw [b35_at, b35_qs]; exact hq)
  rw [b35_cs] at this
  exact ⟨this, by rw [cs_p, tP_born I.sc bn35 b35_lastNum], by rw [cs_w, sWt_born bn35], by rw [cs_y, tY_born I.sc bn35 b35_lastNum]⟩
theorem t_cons_193 (Z : tZ s0 F (b + 1 + tY s) s w g h) (hm : g.kind x0 = (1, 0)) (hx : g.kind x1 = (3, j)) (hj : isH j) (hxq : g.kind x5 = (33, q)) (hq : q ∈ s.qs) (ht : (s.qu q).there = true) (B : gB g x3 real) (hr1 : real.length ≤ 40) (hr2 : real ≠ []) (hl : s.cs.length < 16)
    (K : ∀ w1 g1 h1, tZ s0 F (b + tY (s_consT s j q real bits)) (s_consT s j q real bits) w1 g1 h1 → tWm w w1 → gL g g1 → Q .null h1) :
    zP s0 m_X8_consume (d + 79) 193 [some (zr x0), some (zr x1), none, some (zr x3), some (.int bits), some (zr x5), none] [] h Q E := by
  obtain ⟨p1, p2, p3, p4⟩ := p_newC (v := (real, q, j, s_bit bits 2, s_bit bits 4, (s.ch j).coming)) Z.i hl ht hq hj hr1 hr2
  unfold s_consT at K
  have hc := Z.c
  have h0 : s.knd s.next = 0 := Z.sc.new _ (Nat.le_refl _)
  obtain rfl : g.ref 33 q = x5 := Z.r.1.at hxq (by decide)
  obtain rfl : g.ref 3 j = x1 := Z.r.1.at hx (by decide)
  refine b_X8_consume_193 (g_N (u := 1) (b := b + tY s + tP s) (Z.r.less (by omega)) (by decide) (zle rfl) Z.r.big fun n1 h1 R1 U1 => ⟨⟨_, _, U1.2.2.1⟩, c_X42_init ⟨⟨_, _, U1.2.2.1⟩, g_PF R1 U1 fun h3 R3 U3 _ => g_PF R3 U3 fun h4 R4 U4 _ => g_PF R4 U4 fun h5 R5 U5 _ => ?_⟩⟩)
  have h235 : ∀ t1, t1 = sB (s_bit bits 2) → zP s0 m_X8_consume (d + 78 + 1) 235 [some (zr x0), some (zr (g.ref 3 j)), none, some (zr x3), some (.int bits), none, some (zr n1)] [.int t1, zr n1] h5 Q E := fun t1 ht1 => by
    subst ht1
    refine b_X8_consume_235 ⟨sB_01, g_PF R5 U5 fun h6 R6 U6 _ => ?_⟩
    have h252 : ∀ t1, t1 = sB (s_bit bits 4) → zP s0 m_X8_consume (d + 78 + 1) 252 [some (zr x0), some (zr (g.ref 3 j)), none, some (zr x3), some (.int bits), none, some (zr n1)] [.int t1, zr n1] h6 Q E := fun t1 ht1 => by
      subst ht1
      refine b_X8_consume_252 ⟨sB_01, g_PF R6 U6 fun h7 R7 U7 _ => e_I (R7.1.cell hx (by decide)) fun (z1 : gI h7 (g.ref 3 j) 5 = (s.ch j).coming) => ?_⟩
      rw [z1]
      refine g_PF R7 U7 fun h8 R8 U8 _ => ?_
      have U8 : zUn s0 F g h8 n1 39 [zr x3, zr (g.ref 33 q), zr (g.ref 3 j), .int (sB (s_bit bits 2)), .int (sB (s_bit bits 4)), .int (s.ch j).coming] := U8
      have Ra := R8.rf (c := 35) (i := s.next) (by decide) h0 (fun _ => x3)
      have La : gL g (gRf g 35 s.next (fun _ => x3)) := gRf.l
      have Ua : zUn s0 F (gRf g 35 s.next (fun _ => x3)) h8 n1 39 [zr x3, zr (g.ref 33 q), zr (g.ref 3 j), .int (sB (s_bit bits 2)), .int (sB (s_bit bits 4)), .int (s.ch j).coming] := U8
      have r0 : (gRf g 35 s.next (fun _ => x3)).rf 35 s.next 0 = x3 := gRf_at
      have e33 : (gRf g 35 s.next (fun _ => x3)).ref 33 q = g.ref 33 q := rfl
      have e3 : (gRf g 35 s.next (fun _ => x3)).ref 3 j = g.ref 3 j := rfl
      have hB1 := La.B B
      revert Ra La Ua r0 hB1 e33 e3
      generalize gRf g 35 s.next (fun _ => x3) = ga
      intro Ra La Ua r0 e33 e3 hB1
      generalize hv : ((real, q, j, s_bit bits 2, s_bit bits 4, (s.ch j).coming) : sCo) = v at *
      have Rb := Ra.born (s' := s_b35 s v) (c := 35) Z.sc Ua (by decide) bn35 (Or.inl (by decide)) (tMain_new (by decide) bn35 ⟨b35_messages, b35_lastNum, b35_gener, b35_clock, b35_deadOnes, b35_crashes⟩) (by
        show (39, tCo ((s_b35 s v).co s.next) _ _) = _
        rw [b35_at, ← hv]
        show (39, [zr (ga.rf 35 s.next 0), zr (ga.ref 33 q), zr (ga.ref 3 j), vZ (s_bit bits 2), vZ (s_bit bits 4), .int (s.ch j).coming]) = _
        rw [r0, e33, e3]
        rfl) (fun e => absurd e (by decide)) (fun e => absurd e (by decide)) (fun e => absurd e (by decide)) (fun _ => by
        rw [b35_at, r0, ← hv]
        exact hB1) (fun e => absurd e (by decide))
      have Lb : gL ga (gNw ga n1 35 s.next []) := gNw.l Ua.1
      have hn1 : (gNw ga n1 35 s.next []).kind n1 = (35, s.next) := gNw.at
      have Lb2 := La.trans Lb
      revert Rb hn1 Lb2
      clear Lb
      generalize gNw ga n1 35 s.next [] = gb
      intro Rb hn1 Lb2
      refine g_App8 (x := s.next) Rb (Lb2.m hm) (Rb.1.a1 hn1 (by decide)) (Rb.1.at hn1 (by decide)).symm (by rw [b35_cs]; exact hl) fun g5 h9 R9 L9 => ?_
      rw [b35_cs] at R9
      have L5 := Lb2.trans L9
      have Z9 : tZ s0 F (b + tY ((s_b35 s v).w_cs (s.cs ++ [s.next]))) ((s_b35 s v).w_cs (s.cs ++ [s.next])) w g5 h9 := ⟨by rw [p2, p4]; exact R9, p1, by omega⟩
      revert K Z9
      clear R9 p1 p2 p3 p4
      generalize (s_b35 s v).w_cs (s.cs ++ [s.next]) = s9
      intro K Z9
      refine ⟨fun hb => ?_, fun hb => ⟨⟨_, Z9.r.main (L5.m hm)⟩, ?_⟩⟩
      · rw [if_pos (bit_1 hb)] at K
        exact K w g5 h9 Z9 tWm.refl L5
      · rw [if_neg (by rw [bit_0.mpr hb]; decide)] at K
        have hy := tY_ans (h := j) (k1 := 60) (me := 21) (b := w_short real) Z9.i hj
        exact t_sendTag (d := d + 7) Z9 (L5.m hm) (L5.k hx gSt3) hj (L5.B B) hr1 fun w3 g3 h3 Z3 W3 L3 => K w3 g3 h3 (Z3.le (Nat.add_le_add_left hy b)) W3.tom (L5.trans L3)
    exact ⟨fun hb => h252 0 (bit_v0 hb), fun hb => h252 1 (bit_v1 hb)⟩
  exact ⟨fun hb => h235 0 (bit_v0 hb), fun hb => h235 1 (bit_v1 hb)⟩
theorem t_cons_96 (Z : tZ s0 F (b + 900 + tY s) s w g h) (hm : g.kind x0 = (1, 0)) (hx : g.kind x1 = (3, j)) (hj : isH j) (B : gB g x3 tag) (hl : tag.length ≤ 40)
    (K : ∀ w1 g1 h1, tZ s0 F (b + tY (s_hard s (j / 4) (if tag ≠ [] ∧ s_cons s j tag ≠ none then 530 else 506) w.cl w.me)) (s_hard s (j / 4) (if tag ≠ [] ∧ s_cons s j tag ≠ none then 530 else 506) w.cl w.me) w1 g1 h1 → tWm w w1 → gL g g1 → Q .null h1) :
    zP s0 m_X8_consume (d + 79) 96 [some (zr x0), some (zr x1), none, some (zr x3), none, none, none] [] h Q E := by
  have em := Z.r.main hm
  have eb := Z.r.fz B
  refine b_X8_consume_96 (e_R (Z.r.1.cell hx (by decide)) fun (z1 : gR h x1 0 = g.ref 2 (j / 4)) => ⟨⟨_, eb⟩, ?_⟩)
  rw [z1, gA_of eb, vB_len, len_le0 (by omega)]
  refine ⟨fun he => e_I em fun (z2 : gI h x0 32 = w.cl) => e_I em fun (z3 : gI h x0 33 = w.me) => ?_, fun he => ⟨⟨_, em⟩, t_consumer (d := d + 77) Z.r Z.sc hm hx B (by omega) (fun i hi => by have := (Z.i.tx.2.2.2.1 i (Z.sc.cs i hi)).1; omega) ⟨_, rfl, ?_⟩⟩⟩
  · rw [z2, z3]
    rw [if_neg (fun hh => hh.1 he)] at K
    exact ⟨⟨_, em⟩, t_hardZ (d := d + 2) Z hm (Z.r.cn hj.div) hj.div fun w1 g1 h1 Z1 W1 L1 => K w1 g1 h1 Z1 W1.tom L1⟩
  · cases hc : s_cons s j tag with
    | none =>
      rw [if_neg (fun hh => hh.2 hc)] at K
      refine ⟨fun _ => e_I em fun (z2 : gI h x0 32 = w.cl) => e_I em fun (z3 : gI h x0 33 = w.me) => ?_, fun hh => absurd rfl hh⟩
      rw [z2, z3]
      exact ⟨⟨_, em⟩, t_hardZ (d := d + 2) Z hm (Z.r.cn hj.div) hj.div fun w1 g1 h1 Z1 W1 L1 => K w1 g1 h1 Z1 W1.tom L1⟩
    | some i =>
      rw [if_pos ⟨he, by rw [hc]; exact fun hh => nomatch hh⟩] at K
      have hik : g.kind (g.ref 35 i) = (35, i) := Z.r.al (by decide) (by decide) (Z.sc.cs i (List.mem_of_find?_eq_some hc))
      refine ⟨fun hh => absurd hh (Z.r.1.pos hik (by decide)), fun _ => e_I em fun (z2 : gI h x0 32 = w.cl) => e_I em fun (z3 : gI h x0 33 = w.me) => ?_⟩
      rw [z2, z3]
      exact ⟨⟨_, em⟩, t_hardZ (d := d + 2) Z hm (Z.r.cn hj.div) hj.div fun w1 g1 h1 Z1 W1 L1 => K w1 g1 h1 Z1 W1.tom L1⟩
theorem cons_tagd {c : Int32} {nm : sBy} : s_cons (s_tagd s j c) j nm = s_cons s j nm := rfl
theorem ctag_step {f c : Nat} (hn : s_cons s j (s_numbered "ctag-" (Int32.ofNat c)) ≠ none) : s_ctag s j (f + 1) (Int32.ofNat c) = s_ctag s j f (Int32.ofNat (c + 1)) := by
  rw [s_ctag, if_neg hn, i_succ]
theorem ctag_stop {f c : Nat} (hn : s_cons s j (s_numbered "ctag-" (Int32.ofNat c)) = none) : s_ctag s j (f + 1) (Int32.ofNat c) = Int32.ofNat c := by
  rw [s_ctag, if_pos hn]
theorem ctag_free (hl : s.cs.length ≤ 16) {c : Nat} (hc : c < 2000000) (hh : ∀ i, i < 17 → s_cons s j (s_numbered "ctag-" (Int32.ofNat (c + i))) ≠ none) : False := by
  have := pigeon (nm := fun i => s_numbered "ctag-" (Int32.ofNat (c + i))) (f := fun q => (s.co q).tag) 17 s.cs (fun i j h1 h2 e => by have := numbered_inj (by omega) (by omega) e; omega) (fun i hi => by
    cases hq : s_cons s j (s_numbered "ctag-" (Int32.ofNat (c + i))) with
    | none => exact absurd hq (hh i hi)
    | some q =>
      have := List.find?_some (p := fun y => (s.co y).chan == j && (s.co y).tag == s_numbered "ctag-" (Int32.ofNat (c + i))) hq
      rw [Bool.and_eq_true] at this
      exact ⟨q, List.mem_of_find?_eq_some hq, eq_of_beq this.2⟩)
  omega
theorem tagd_tagd {c c' : Int32} : s_ch (s_tagd s j c) j (fun k => k.w_tags c') = s_tagd s j c' := by
  unfold s_tagd
  rw [w_ch_ch]
  rfl
theorem t_tagd {c' : Int32} {P : zH → Prop} (Z : tZ s0 F b s w g h) (hx : g.kind x1 = (3, j)) (hj : isH j) (K : ∀ h1, tZ s0 F b (s_tagd s j c') w g h1 → P h1) : fC h x1 9 ∧ ∀ h1, h1 = zput h x1 8 (.int c') → P h1 :=
  g_Ph Z.r hx ((s.ch j).w_tags c') rfl rfl (fun hok => hok) fun h3 R3 _ => K h3 (Z.chp hj R3 rfl rfl (fun hx => hx) rfl rfl)
theorem t_cons_151 (J : tJs s0 F) (hj : isH j) {c0 : Nat} (hc0 : c0 < 2000000) (hm : g0.kind x0 = (1, 0)) (hx : g0.kind x1 = (3, j)) (hxq : g0.kind x5 = (33, q)) (hq : q ∈ s.qs) (ht : (s.qu q).there = true) (hl : s.cs.length < 16)
    (K : ∀ w1 g1 h1, tZ s0 F (b + tY (s_consT (s_tagd s j (s_ctag s j 17 (Int32.ofNat c0))) j q (s_numbered "ctag-" (s_ctag s j 17 (Int32.ofNat c0))) bits)) (s_consT (s_tagd s j (s_ctag s j 17 (Int32.ofNat c0))) j q (s_numbered "ctag-" (s_ctag s j 17 (Int32.ofNat c0))) bits) w1 g1 h1 → tWm w w1 → gL g0 g1 → Q .null h1) :
    ∀ (f i : Nat) (g : sG) (h : zH), f + i = 17 → (∀ k, k < i → s_cons s j (s_numbered "ctag-" (Int32.ofNat (c0 + k))) ≠ none) → s_ctag s j 17 (Int32.ofNat c0) = s_ctag s j f (Int32.ofNat (c0 + i)) → tZ s0 F (b + 19 + 18 * f + tY s) (s_tagd s j (Int32.ofNat (c0 + i))) w g h → gL g0 g →
      zP s0 m_X8_consume (d + 79) 151 [some (zr x0), some (zr x1), none, none, some (.int bits), some (zr x5), none] [] h Q E
  | 0, i, g, h, hfi, hb, he, Z, L => (ctag_free (s := s) (j := j) (by omega) hc0 (fun k hk => hb k (by omega))).elim
  | f + 1, i, g, h, hfi, hb, he, Z, L => by
    have hln := numbered_len (x := "ctag-") (n := c0 + i) (by omega)
    have h4 : (s_txt "ctag-").length = 5 := by decide
    have ex := Z.r.1.cell (L.k hx gSt3) (by decide)
    have etg : ((s_tagd s j (Int32.ofNat (c0 + i))).ch j).tags = Int32.ofNat (c0 + i) := by
      unfold s_tagd
      rw [s_ch_ch]
      rfl
    refine b_X8_consume_151 (e_I ex fun (z1 : gI h x1 8 = ((s_tagd s j (Int32.ofNat (c0 + i))).ch j).tags) => ?_)
    rw [z1, etg]
    refine t_numbered (d := d + 68) (x := "ctag-") J (by decide) (by decide) (by omega) (b := b + 1 + 18 * f + 18 + tY s + tP (s_tagd s j (Int32.ofNat (c0 + i)))) (Z.r.less (by omega)) fun n1 g1 h1 R1 L1 B1 => ⟨_, rfl, ?_⟩
    have Z1 : tZ s0 F (b + 1 + 18 * f + 18 + tY s) (s_tagd s j (Int32.ofNat (c0 + i))) w g1 h1 := Z.cut (k := 0) (by omega) R1
    have L01 := L.trans L1
    have ex1 := Z1.r.1.cell (L01.k hx gSt3) (by decide)
    refine ⟨⟨_, R1.main (L01.m hm)⟩, t_consumer (d := d + 77) Z1.r Z1.sc (L01.m hm) (L01.k hx gSt3) B1 (by omega) (fun i hi => by have := (Z1.i.tx.2.2.2.1 i (Z1.sc.cs i hi)).1; omega) ⟨_, rfl, ?_⟩⟩
    rw [cons_tagd]
    cases hc : s_cons s j (s_numbered "ctag-" (Int32.ofNat (c0 + i))) with
    | none =>
      refine ⟨fun _ => e_I ex1 fun (z2 : gI h1 x1 8 = ((s_tagd s j (Int32.ofNat (c0 + i))).ch j).tags) => ?_, fun hh => absurd rfl hh⟩
      rw [z2, etg]
      refine t_numbered (d := d + 68) (x := "ctag-") J (by decide) (by decide) (by omega) (b := b + 1 + tY s + tP (s_tagd s j (Int32.ofNat (c0 + i)))) (Z1.r.less (by omega)) fun n2 g2 h2 R2 L2 B2 => ⟨_, rfl, ?_⟩
      have L02 := L01.trans L2
      rw [he, ctag_stop hc] at K
      have Y1 : tY (s_tagd s j (Int32.ofNat (c0 + i))) = tY s := tY_ch
      exact t_cons_193 (d := d) (b := b) (s := s_tagd s j (Int32.ofNat (c0 + i))) (by rw [Y1]; exact Z1.cut (k := 0) (by omega) R2) (L02.m hm) (L02.k hx gSt3) hj (L02.th (by decide) (by decide) hxq) hq ht B2 (by omega) numbered_ne hl fun w3 g3 h3 Z3 W3 L3 => K w3 g3 h3 Z3 W3 (L02.trans L3)
    | some y =>
      have hyk : g1.kind (g1.ref 35 y) = (35, y) := R1.al (by decide) (by decide) (Z1.sc.cs y (List.mem_of_find?_eq_some hc))
      have hne : s_cons s j (s_numbered "ctag-" (Int32.ofNat (c0 + i))) ≠ none := by rw [hc]; exact fun hh => nomatch hh
      refine ⟨fun hh => absurd hh (R1.1.pos hyk (by decide)), fun _ => e_I ex1 fun (z2 : gI h1 x1 8 = ((s_tagd s j (Int32.ofNat (c0 + i))).ch j).tags) => ?_⟩
      rw [z2, etg, i_succ]
      refine t_tagd (c' := Int32.ofNat (c0 + i + 1)) Z1 (L01.k hx gSt3) hj fun h2 Z2 => ?_
      have e2 : s_tagd (s_tagd s j (Int32.ofNat (c0 + i))) j (Int32.ofNat (c0 + i + 1)) = s_tagd s j (Int32.ofNat (c0 + (i + 1))) := tagd_tagd
      rw [e2] at Z2
      refine t_cons_151 J hj hc0 hm hx hxq hq ht hl K f (i + 1) g1 h2 (by omega) (fun k hk => ?_) (by rw [he, ctag_step hne]; rfl) (Z2.le (by omega)) L01
      by_cases e : k = i
      · rw [e]; exact hne
      · exact hb k (by omega)
theorem t_cons_87 (J : tJs s0 F) (Z : tZ s0 F (b + 900 + tY s) s w g h) (hm : g.kind x0 = (1, 0)) (hx : g.kind x1 = (3, j)) (hj : isH j) (hxq : g.kind x5 = (33, q)) (hq : q ∈ s.qs) (ht : (s.qu q).there = true) (B : gB g x3 tag) (hl : tag.length ≤ 40) (hg0 : 0 ≤ (s.ch j).tags) (hg1 : (s.ch j).tags ≤ 1000000) (hno : ¬ (tag ≠ [] ∧ s_cons s j tag ≠ none))
    (K : ∀ w1 g1 h1, tZ s0 F (b + tY (s_tld j w.cl w.me (s_consA s j q tag bits))) (s_tld j w.cl w.me (s_consA s j q tag bits)) w1 g1 h1 → tWm w w1 → gL g g1 → Q .null h1) :
    zP s0 m_X8_consume (d + 79) 87 [some (zr x0), some (zr x1), none, some (zr x3), some (.int bits), some (zr x5), none] [] h Q E := by
  have em := Z.r.main hm
  have eb := Z.r.fz B
  have ex := Z.r.1.cell hx (by decide)
  have hcl := Z.i.cp.2.2.2.2.2.2.1
  unfold s_consA at K
  rw [if_neg hno] at K
  refine b_X8_consume_87 (e_I em fun (z1 : gI h x0 8 = Int32.ofNat s.cs.length) => ?_)
  rw [z1, show (16 : Int32) = Int32.ofNat 16 from rfl, i_inj (by omega) (by decide)]
  refine ⟨fun h16 => ⟨⟨_, eb⟩, ?_⟩, fun h16 => ?_⟩
  · rw [if_neg h16, tld_ok] at K
    rw [gA_of eb, vB_len, len_0 (by omega)]
    refine ⟨fun hne => ?_, fun he => e_I ex fun (z2 : gI h x1 8 = (s.ch j).tags) => ?_⟩
    · rw [if_neg hne] at K
      exact t_cons_193 (d := d) (Z.le (by omega)) hm hx hj hxq hq ht B hl hne (by omega) K
    · rw [if_pos he] at K
      have hc : (s.ch j).tags + 1 = Int32.ofNat ((s.ch j).tags.toNatClampNeg + 1) := by rw [← i_succ, i_of hg0]
      have hc0 : (s.ch j).tags.toNatClampNeg + 1 < 2000000 := by
        have : (s.ch j).tags ≤ Int32.ofNat 1000000 := hg1
        have := i_clamp (by decide) this
        omega
      rw [z2]
      rw [hc] at K ⊢
      refine t_tagd Z hx hj fun h2 Z2 => ?_
      exact t_cons_151 (d := d) (s := s) J hj hc0 hm hx hxq hq ht (by omega) K 17 0 g h2 rfl (fun k hk => absurd hk (Nat.not_lt_zero _)) rfl (Z2.le (by omega)) (gL.refl g)
  · rw [if_pos h16, tld_hard] at K
    refine t_cons_96 (d := d) Z hm hx hj B hl ?_
    rw [if_neg hno]
    exact K
theorem t_cons_73 (J : tJs s0 F) (Z : tZ s0 F (b + 900 + tY s) s w g h) (hm : g.kind x0 = (1, 0)) (hx : g.kind x1 = (3, j)) (hj : isH j) (hxq : g.kind x5 = (33, q)) (hq : q ∈ s.qs) (ht : (s.qu q).there = true) (B : gB g x3 tag) (hl : tag.length ≤ 40) (hg0 : 0 ≤ (s.ch j).tags) (hg1 : (s.ch j).tags ≤ 1000000)
    (K : ∀ w1 g1 h1, tZ s0 F (b + tY (s_tld j w.cl w.me (s_consA s j q tag bits))) (s_tld j w.cl w.me (s_consA s j q tag bits)) w1 g1 h1 → tWm w w1 → gL g g1 → Q .null h1) :
    zP s0 m_X8_consume (d + 79) 73 [some (zr x0), some (zr x1), none, some (zr x3), some (.int bits), some (zr x5), none] [] h Q E := by
  have em := Z.r.main hm
  have eb := Z.r.fz B
  refine b_X8_consume_73 ⟨⟨_, eb⟩, ?_⟩
  rw [gA_of eb, vB_len, len_le0 (by omega)]
  refine ⟨fun he => t_cons_87 (d := d) J Z hm hx hj hxq hq ht B hl hg0 hg1 (fun hh => hh.1 he) K, fun he => ⟨⟨_, em⟩, t_consumer (d := d + 77) Z.r Z.sc hm hx B (by omega) (fun i hi => by have := (Z.i.tx.2.2.2.1 i (Z.sc.cs i hi)).1; omega) ⟨_, rfl, ?_⟩⟩⟩
  cases hc : s_cons s j tag with
  | none => exact ⟨fun hh => absurd rfl hh, fun _ => t_cons_87 (d := d) J Z hm hx hj hxq hq ht B hl hg0 hg1 (fun hh => hh.2 hc) K⟩
  | some i =>
    have hik : g.kind (g.ref 35 i) = (35, i) := Z.r.al (by decide) (by decide) (Z.sc.cs i (List.mem_of_find?_eq_some hc))
    have hy : tag ≠ [] ∧ s_cons s j tag ≠ none := ⟨he, by rw [hc]; exact fun hh => nomatch hh⟩
    refine ⟨fun _ => ?_, fun hh => absurd hh (Z.r.1.pos hik (by decide))⟩
    unfold s_consA at K
    rw [if_pos hy, tld_hard] at K
    refine t_cons_96 (d := d) Z hm hx hj B hl ?_
    rw [if_pos hy]
    exact K
theorem t_consume (J : tJs s0 F) (Z : tZ s0 F (b + 1000 + tY s) s (dr, sz, rd, cl, me, u) g h) (hm : g.kind x0 = (1, 0)) (hx : g.kind x1 = (3, j)) (hj : isH j) (hE : gB g (zst s0 "RelayHallModel" "EMPTY" "[B") []) (hth : ∀ q ∈ s.qs, (s.qu q).there = true) (hg0 : 0 ≤ (s.ch j).tags) (hg1 : (s.ch j).tags ≤ 1000000)
    (K : ∀ w1 g1 h1, tZ s0 F (b + tY (s_tld j cl me (s_consume s j rd))) (s_tld j cl me (s_consume s j rd)) w1 g1 h1 → tWm (dr, sz, rd, cl, me, u) w1 → gL g g1 → Q .null h1) : zX s0 m_X8_consume (d + 79) [zr x0, zr x1] h Q E := by
  rw [s_consume_eq] at K
  refine c_X8_consume ⟨⟨_, Z.r.main hm⟩, t_shortZ (d := d + 77) (b := b + 960 + tY s) Z (by omega) hm hE fun n1 g1 h1 Z1 L1 B1 => ⟨_, rfl, ⟨_, Z1.r.main (L1.m hm)⟩, t_shortZ (d := d + 77) (b := b + 900 + tY s) Z1 (by omega) (L1.m hm) (L1.B hE) fun n2 g2 h2 Z2 L2 B2 => ⟨_, rfl, ?_⟩⟩⟩
  have hl1 := r_short_len (rd := rd)
  have hl2 := r_short_len (rd := (r_short rd).2)
  revert K Z2 B1 B2 hl1 hl2
  generalize (r_short rd).1 = nm
  generalize (r_short rd).2 = rd1
  generalize (r_short rd1).1 = tag
  generalize (r_short rd1).2 = rd2
  intro K B1 Z2 B2 hl1 hl2
  have L12 := L1.trans L2
  have hm2 := L12.m hm
  have hx2 := L12.k hx gSt3
  have B1' := L2.B B1
  refine ⟨⟨_, Z2.r.main hm2⟩, t_u8 Z2.r hm2 fun h3 R3 => ⟨_, rfl, ?_⟩⟩
  have Z3 := Z2.re R3
  revert K Z3
  generalize (r_u8 rd2).1 = bits
  generalize (r_u8 rd2).2 = rd3
  intro K Z3
  have em := Z3.r.main hm2
  refine ⟨⟨_, em⟩, t_then (d := d + 1) (N := fun h => Q .null h) (f := s_consF s j nm tag bits) ?_ Z3 hm2 hx2 hj (fun w3 g3 h3 Z3 W3 L3 => K w3 g3 h3 Z3 ⟨W3.1, W3.2⟩ (L12.trans L3)) ?_⟩
  · exact fun h1 hq => ⟨fun hh => absurd hh (by decide), fun _ => hq⟩
  intro K
  refine ⟨fun _ => ?_, fun hh => absurd rfl hh⟩
  unfold s_consF s_withQ at K
  refine ⟨⟨_, em⟩, t_asked (d := d) Z3 hm2 hx2 hj B1' hl1 (fun q hq ha => ⟨_, rfl, ?_⟩) fun code ha w4 g4 h4 Z4 W4 L4 => ⟨0, rfl, fun hh => absurd rfl hh, fun _ => ?_⟩⟩
  rotate_left
  · simp only [ha, tld_soft] at K
    exact K w4 g4 h4 Z4 W4.tom L4
  simp only [ha] at K
  have hqk : g2.kind (g2.ref 33 q) = (33, q) := Z3.r.al (by decide) (by decide) (Z3.sc.qs q hq)
  have hsoft : (s.cs.any (fun i => (s.co i).queue == q && (s.co i).excl) = true ∨ (s_bit bits 4 = true ∧ s_consQ s q ≠ [])) → zX s0 m_X8_soft (d + 78) [zr x0, zr x1, .int 403] h3 (fun _ h7 => Q .null h7) E := fun hc => by
    rw [if_pos hc, tld_soft] at K
    exact t_softZ (d := d + 1) Z3 hm2 hx2 hj fun w4 g4 h4 Z4 W4 L4 => K w4 g4 h4 Z4 W4.tom L4
  have h73 : ¬ (s.cs.any (fun i => (s.co i).queue == q && (s.co i).excl) = true ∨ (s_bit bits 4 = true ∧ s_consQ s q ≠ [])) → zP s0 m_X8_consume (d + 78 + 1) 73 [some (zr x0), some (zr x1), none, some (zr n2), some (.int bits), some (zr (g2.ref 33 q)), none] [] h3 Q E := fun hc => by
    rw [if_neg hc] at K
    exact t_cons_73 (d := d) J Z3 hm2 hx2 hj hqk hq (hth q hq) B2 hl2 hg0 hg1 K
  refine ⟨fun _ => ⟨⟨_, em⟩, t_exclusively (d := d + 78) Z3.r Z3.sc hm2 hqk ⟨_, rfl, ?_⟩⟩, fun hh => absurd hh (Z3.r.1.pos hqk (by decide))⟩
  rw [sB_0]
  refine ⟨fun hx => ⟨⟨_, em⟩, hsoft (Or.inl (by rw [Bool.not_eq_false] at hx; exact hx))⟩, fun hx => ⟨fun hb => h73 (fun hh => ?_), fun hb => ⟨⟨_, em⟩, t_consumersOf (d := d + 78) Z3.r Z3.sc hm2 hqk ⟨_, rfl, ?_⟩⟩⟩⟩
  · rcases hh with e | e
    · rw [hx] at e; cases e
    · rw [bit_0.mpr hb] at e; exact absurd e.1 (by decide)
  · have hcl : (s_consQ s q).length ≤ 16 := Nat.le_trans (List.length_filter_le _ _) Z3.i.cp.2.2.2.2.2.2.1
    rw [show (0 : Int32) = Int32.ofNat 0 from rfl, i_le (by omega) (by decide)]
    refine ⟨fun h0 => h73 (fun hh => ?_), fun h0 => ⟨⟨_, em⟩, hsoft (Or.inr ⟨bit_1 hb, fun e => h0 (by rw [e]; exact Nat.le_refl _)⟩)⟩⟩
    rcases hh with e | e
    · rw [hx] at e; cases e
    · exact e.2 (List.eq_nil_of_length_eq_zero (by omega))
end MS
