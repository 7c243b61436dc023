/-! ===== the twin: connections are closed ===== -/
set_option maxRecDepth 100000
section CG
variable {s0 : zE} {F : Nat → Option zC} {b : Nat} {s s' : sSt} {w w' : tW} {g g' : sG} {h h' : zH} {d x0 x1 x2 n D c i j q m : Nat} {Q : Value → zH → Prop} {E : Nat → zH → Prop} {cl : sSt → Nat → sSt} {bb : sBy}
theorem gSt2 : gSt 2 := Or.inr (Or.inl rfl)
theorem gSt3 : gSt 3 := Or.inr (Or.inr (Or.inl rfl))
theorem tZ.dn' {w1 : tW} {s1 : sSt} (Z : tZ s0 F b s w g h) (D : sDn s s1) (R : tR s0 F (b + tP s) s1 w1 g' h') : tZ s0 F b s1 w1 g' h' := Z.dn D (R.less (by
  have := D.2.1 Z.i
  omega))
theorem tZ.re {w1 : tW} (Z : tZ s0 F b s w g h) (R : tR s0 F (b + tP s) s w1 g' h') : tZ s0 F b s w1 g' h' := ⟨R, Z.2⟩
theorem s_go_0 (h0 : (s.cn c).state = 0) : s_go cl s c bb = s := if_pos h0
theorem s_go_big (h0 : (s.cn c).state ≠ 0) (hb : 5000 < (s.cn c).out.length + bb.length) : s_go cl s c bb = cl s c := by
  unfold s_go
  rw [if_neg h0, if_pos hb]
theorem s_go_fit (h0 : (s.cn c).state ≠ 0) (hb : ¬ 5000 < (s.cn c).out.length + bb.length) : s_go cl s c bb = s_cn s c (fun k => (k.w_out (k.out ++ bb)).w_lastOut s.clock) := by
  unfold s_go
  rw [if_neg h0, if_neg hb]
theorem tZ.confs {s1 s2 : sSt} (D : sDn s1 s2) : ∀ h, (s1.ch h).confs = [] → (s2.ch h).confs = [] := D.2.2.2.2.2.2.2.2.1
theorem t_goC {dr : sBy} {sz : Int32} {rd : sRd} {u : Int32 × Int32 × Int32 × List Nat × (Nat → Nat)} (hC : tCL s0 F b n D) (hD : D ≤ d + 20) (Z : tZ s0 F b s (dr, sz, rd, u) g h) (hm : g.kind x0 = (1, 0)) (hx : g.kind x1 = (2, c)) (hc : c < 4) (hn : sLive s ≤ n)
    (K : ∀ w1 g1 h1, tZ s0 F b (s_go (s_closeF n) s c dr) w1 g1 h1 → tWk (s_go (s_closeF n) s c dr) (dr, sz, rd, u) w1 → gL g g1 → Q .null h1) : zX s0 m_X8_go (d + 21) [zr x0, zr x1] h Q E := by
  have e := Z.r.1.cell hx (by decide)
  have hout := (Z.i.cp.2.2.2.2.2.2.2.2.2.2.2.2.1 c hc).2.1
  have hle : dr.length ≤ 1200 := by
    have := Z.r.2.ar17.le
    rw [vB_len] at this
    exact this
  refine c_X8_go (e_I e fun (z1 : gI h x1 1 = (s.cn c).state) => ?_)
  rw [z1]
  refine ⟨fun h0 => e_I e fun (z2 : gI h x1 5 = Int32.ofNat (s.cn c).out.length) => e_I (Z.r.main hm) fun (z3 : gI h x0 36 = Int32.ofNat dr.length) => ?_, fun h0 => ?_⟩
  · rw [z2, z3, i_add, show (5000 : Int32) = Int32.ofNat 5000 from rfl, i_le (by omega) (by decide)]
    refine ⟨fun hfit => ?_, fun hbig => ⟨⟨_, Z.r.main hm⟩, ?_⟩⟩
    · have hb : ¬ 5000 < (s.cn c).out.length + dr.length := by omega
      rw [s_go_fit h0 hb] at K
      have hR : gRing (g.ar 26 c) (s.cn c).first ((s.cn c).out ++ dr.take 0) := by
        rw [List.take_zero, List.append_nil]
        exact (Z.r.2.2.2.2.2.1 c hc).2.1.2
      exact t_go_31 hc hfit (fun g1 h1 R1 L1 => K _ g1 h1 (Z.dn' (d_out Z.i hfit) R1) tWk.refl L1) dr.length 0 g h (by omega) Z.r hm hx (gL.refl g) hR
    · rw [s_go_big h0 (by omega)] at K
      exact hC _ s _ g h x0 x1 c _ E (by omega) Z hm hx hc hn K
  · rw [s_go_0 h0] at K
    exact K _ g h Z tWk.refl (gL.refl g)
theorem t_goFrameC {dr p body : sBy} {ty ch sz : Int32} {rd : sRd} {u : Int32 × Int32 × Int32 × List Nat × (Nat → Nat)} (hC : tCL s0 F b n D) (hD : D ≤ d + 20) (Z : tZ s0 F b s (dr, sz, rd, u) g h) (hm : g.kind x0 = (1, 0)) (hx : g.kind x1 = (2, c)) (hc : c < 4) (hn : sLive s ≤ n)
    (hd : dr = p ++ (w_head ty ch ++ body)) (hs : sz = Int32.ofNat (p.length + 3)) (hl : dr.length + 1 ≤ 1200)
    (K : ∀ w1 g1 h1, tZ s0 F b (s_go (s_closeF n) s c (p ++ w_frame ty ch body)) w1 g1 h1 → tWk (s_go (s_closeF n) s c (p ++ w_frame ty ch body)) (dr, sz, rd, u) w1 → gL g g1 → Q .null h1) : zX s0 m_X8_goFrame (d + 22) [zr x0, zr x1] h Q E :=
  c_X8_goFrame ⟨⟨_, Z.r.main hm⟩, t_endFrame Z.r hm hd hs hl fun g1 h1 R1 L1 => ⟨⟨_, R1.main (L1.m hm)⟩, t_goC hC hD (Z.re R1) (L1.m hm) (L1.k hx gSt2) hc hn fun w2 g2 h2 Z2 W2 L2 => K w2 g2 h2 Z2 W2 (L1.trans L2)⟩⟩
theorem t_sendCancelC (hC : tCL s0 F b n D) (hD : D ≤ d + 20) (Z : tZ s0 F b s w g h) (hm : g.kind x0 = (1, 0)) (hx : g.kind x1 = (35, i)) (hn : sLive s ≤ n)
    (K : ∀ w1 g1 h1, tZ s0 F b (s_sendCancel (s_closeF n) s i) w1 g1 h1 → tWk (s_sendCancel (s_closeF n) s i) w w1 → gL g g1 → Q .null h1) : zX s0 m_X8_sendCancel (d + 23) [zr x0, zr x1] h Q E := by
  obtain ⟨dr, sz, rd, u⟩ := w
  have hk := Z.r.ak (by decide) (by decide) hx
  have hj := (Z.sc.co i hk).2
  have htag := (Z.i.tx.2.2.2.1 i hk).1
  have e1 := Z.r.1.cell hx (by decide)
  have e2 := Z.r.1.cell (Z.r.ch hj) (by decide)
  refine c_X8_sendCancel (e_R e1 fun (z1 : gR h x1 2 = g.ref 3 (s.co i).chan) => ?_)
  rw [z1]
  refine e_I e2 fun (z2 : gI h (g.ref 3 (s.co i).chan) 1 = Int32.ofNat ((s.co i).chan % 4)) => ?_
  rw [z2]
  refine ⟨⟨_, Z.r.main hm⟩, t_beginMethod Z.r hm fun g1 h1 R1 L1 => ?_⟩
  have hx1 := L1.th (by decide) (by decide) hx
  refine e_R (R1.1.cell hx1 (by decide)) fun (z3 : gR h1 x1 0 = g1.rf 35 i 0) => ?_
  rw [z3]
  refine ⟨⟨_, R1.main (L1.m hm)⟩, t_putShort R1 (L1.m hm) (R1.2.pco i hk) (by simp [w_head, w_8, w_16]; omega) fun g2 h2 R2 L2 => ?_⟩
  have hm2 := L2.m (L1.m hm)
  refine ⟨⟨_, R2.main hm2⟩, t_put R2 hm2 (by simp [w_head, w_8, w_16, w_short]; omega) fun g3 h3 R3 L3 => ?_⟩
  have L13 := (L1.trans L2).trans L3
  have hm3 := L13.m hm
  have hx3 := L13.th (by decide) (by decide) hx
  refine e_R (R3.1.cell hx3 (by decide)) fun (z4 : gR h3 x1 2 = g3.ref 3 (s.co i).chan) => ?_
  rw [z4]
  refine e_R (R3.1.cell (R3.ch hj) (by decide)) fun (z5 : gR h3 (g3.ref 3 (s.co i).chan) 0 = g3.ref 2 ((s.co i).chan / 4)) => ?_
  rw [z5]
  refine ⟨⟨_, R3.main hm3⟩, t_goFrameC (p := []) (ty := 1) (ch := Int32.ofNat ((s.co i).chan % 4)) (body := w_16 60 ++ w_16 30 ++ (w_short (s.co i).tag ++ w_8 1)) hC hD (Z.re R3) hm3 (R3.cn hj.div) hj.div hn ?_ rfl (by simp [w_head, w_8, w_16, w_short]; omega) fun w4 g4 h4 Z4 W4 L4 => K w4 g4 h4 Z4 W4 (L13.trans L4)⟩
  rw [List.nil_append]
  repeat rw [List.append_assoc]
  rfl
theorem t_delQ_scan (Z : tZ s0 F b s w g h) (hm : g.kind x0 = (1, 0)) (hx : g.kind x1 = (33, q)) (K0 : s_consQ s q = [] → Q .null h)
    (K1 : ∀ i r, s_consQ s q = i :: r → i ∈ s.cs → zX s0 m_X8_takeOut (d + 23) [zr x0, zr (g.ref 35 i)] h (fun _ h1 => (fR h1 (g.ref 35 i) [39] 2) ∧ (zX s0 m_X8_speaks (d + 23) [zr (gR h1 (g.ref 35 i) 2)] h1 (fun v2 h2 => ∃ r1 : Int32, v2 = .int (r1) ∧ ((r1 = 0 → (zP s0 m_X8_delete (d + 24) 254 [some (zr x0), some (zr x1), none, some (.int ((-1) + 1)), none, none, none] [] h2 Q E)) ∧ (¬ r1 = 0 → ((fC h2 x0 7 ∧ zX s0 m_X8_sendCancel (d + 23) [zr x0, zr (g.ref 35 i)] h2 (fun _ h3 => (zP s0 m_X8_delete (d + 24) 254 [some (zr x0), some (zr x1), none, some (.int ((-1) + 1)), none, none, none] [] h3 Q E)) E))))) E)) E) :
    ∀ (rest pre : List Nat), s.cs = pre ++ rest → s_consQ s q = rest.filter (fun c => (s.co c).queue == q) → zP s0 m_X8_delete (d + 24) 254 [some (zr x0), some (zr x1), none, some (.int (Int32.ofNat pre.length)), none, none, none] [] h Q E
  | [], pre, hcs, hf => by
    have hle := Z.r.2.ar8.le
    rw [List.length_map] at hle
    have hl : s.cs.length = pre.length := by rw [hcs, List.append_nil]
    refine b_X8_delete_254 (e_I (Z.r.main hm) fun (z1 : gI h x0 8 = Int32.ofNat s.cs.length) => ?_)
    rw [z1, i_le (by omega) (by omega)]
    exact ⟨fun _ => K0 hf, fun hn => absurd (Nat.le_of_eq hl) hn⟩
  | x :: rest, pre, hcs, hf => by
    have A := Z.r.2.ar8
    have hle := A.le
    rw [List.length_map] at hle
    have hl : s.cs.length = pre.length + rest.length + 1 := by rw [hcs]; simp; omega
    have hx5 : s.cs[pre.length]? = some x := by rw [hcs]; simp
    have hmem := List.mem_of_getElem? hx5
    have hkx := Z.sc.cs x hmem
    have ax := Z.r.al (c := 35) (by decide) (by decide) hkx
    refine b_X8_delete_254 (e_I (Z.r.main hm) fun (z1 : gI h x0 8 = Int32.ofNat s.cs.length) => ?_)
    rw [z1, i_le (by omega) (by omega)]
    refine ⟨fun hn => absurd hn (by omega), fun _ => e_R (Z.r.main hm) fun z2 => ?_⟩
    rw [z2]
    refine g_El Z.r A rfl (by decide) hx5 (by decide) fun z3 => ?_
    rw [z3]
    refine e_R (Z.r.1.cell ax (by decide)) fun (z4 : gR h (g.ref 35 x) 1 = g.ref 33 (s.co x).queue) => ?_
    rw [z4, Z.r.inj (Z.r.al (by decide) (by decide) (Z.sc.co x hkx).1) hx (by decide), i_succ, show pre.length + 1 = (pre ++ [x]).length by simp]
    refine ⟨fun hne => ?_, fun heq => ?_⟩
    · rw [List.filter_cons_of_neg (p := fun c => (s.co c).queue == q) (by rw [beq_false_of_ne hne]; decide)] at hf
      exact t_delQ_scan Z hm hx K0 K1 rest (pre ++ [x]) (by rw [hcs, List.append_assoc]; rfl) hf
    · rw [List.filter_cons_of_pos (p := fun c => (s.co c).queue == q) (beq_iff_eq.mpr heq)] at hf
      refine e_R (Z.r.main hm) fun _ => ⟨Z.r.el (t := 15) A rfl (by decide) hx5 (by decide), ⟨_, Z.r.main hm⟩, K1 x _ hf hmem⟩
theorem m1p1 : ((-1 : Int32) + 1) = Int32.ofNat 0 := by decide
theorem t_delQ_254 (hC : tCL s0 F b n D) (hD : D ≤ d + 20) : ∀ (k : Nat) (s : sSt) (w : tW) (g : sG) (h : zH), tZ s0 F b s w g h → g.kind x0 = (1, 0) → g.kind x1 = (33, q) → s.cs.length ≤ k → sLive s ≤ n →
    (∀ w1 g1 h1, tZ s0 F b (s_dropQ (s_closeF n) q k s) w1 g1 h1 → tWk (s_dropQ (s_closeF n) q k s) w w1 → gL g g1 → Q .null h1) → zP s0 m_X8_delete (d + 24) 254 [some (zr x0), some (zr x1), none, some (.int (Int32.ofNat 0)), none, none, none] [] h Q E
  | 0, s, w, g, h, Z, hm, hx, hk, hn, K => by
    have hcs : s.cs = [] := List.eq_nil_of_length_eq_zero (by omega)
    refine t_delQ_scan Z hm hx (fun _ => K w g h Z tWk.refl (gL.refl g)) (fun i r _ hi => ?_) s.cs [] rfl rfl
    rw [hcs] at hi
    cases hi
  | k + 1, s, w, g, h, Z, hm, hx, hk, hn, K => by
    refine t_delQ_scan Z hm hx (fun h0 => ?_) (fun i r hi hmem => ?_) s.cs [] rfl rfl
    · rw [s_dropQ, h0] at K
      exact K w g h Z tWk.refl (gL.refl g)
    · rw [s_dropQ, hi] at K
      have hki := Z.sc.cs i hmem
      have ai := Z.r.al (c := 35) (by decide) (by decide) hki
      refine t_takeOut Z.r hm ai hmem (fun x hx => Z.r.al (by decide) (by decide) (Z.sc.cs x hx)) fun g1 h1 R1 L1 => ?_
      have Z1 := Z.dn' (d_takeOut (i := i) Z.i) R1
      have hn1 : sLive (s_takeOut s i) ≤ n := hn
      have hl1 : (s_takeOut s i).cs.length ≤ k := by
        show (s.cs.erase i).length ≤ k
        rw [List.length_erase_of_mem hmem]
        omega
      have hkd : (s_takeOut s i).knd = s.knd := rfl
      have hco : (s_takeOut s i).co = s.co := rfl
      have hcl := d_takeOut (i := i) Z.i
      rw [← hkd] at hki
      have K : ∀ w1 g1 h1, tZ s0 F b (s_dropQ (s_closeF n) q k (if s_speaks (s_takeOut s i) ((s_takeOut s i).co i).chan then s_sendCancel (s_closeF n) (s_takeOut s i) i else s_takeOut s i)) w1 g1 h1 → tWk (s_dropQ (s_closeF n) q k (if s_speaks (s_takeOut s i) ((s_takeOut s i).co i).chan then s_sendCancel (s_closeF n) (s_takeOut s i) i else s_takeOut s i)) w w1 → gL g g1 → Q .null h1 := K
      revert R1 Z1 hn1 hl1 hki K
      clear hkd hco hcl
      generalize s_takeOut s i = s1
      intro hki R1 Z1 hn1 hl1 K
      have hi1 := L1.th (by decide) (by decide) ai
      have hj := (Z1.sc.co i hki).2
      refine e_R (R1.1.cell hi1 (by decide)) fun (z4 : gR h1 (g.ref 35 i) 2 = g1.ref 3 (s1.co i).chan) => ?_
      rw [z4]
      refine t_speaks R1 (R1.ch hj) hj ⟨_, rfl, ?_⟩
      rw [sB_0, m1p1]
      refine ⟨fun hs => ?_, fun hs => ⟨⟨_, R1.main (L1.m hm)⟩, ?_⟩⟩
      · rw [hs] at K
        exact t_delQ_254 hC hD k s1 w g1 h1 Z1 (L1.m hm) (L1.th (by decide) (by decide) hx) hl1 hn1 fun w2 g2 h2 Z2 W2 L2 => K w2 g2 h2 Z2 W2 (L1.trans L2)
      · rw [Bool.not_eq_false] at hs
        rw [hs] at K
        refine t_sendCancelC hC hD Z1 (L1.m hm) hi1 hn1 fun w2 g2 h2 Z2 W2 L2 => ?_
        have D2 := d_sendCancel (i := i) (cl := s_closeF n) Z1.i (d_closeF n) hki
        have D3 := d_dropQ (q := q) (cl := s_closeF n) (d_closeF n) k _ Z2.i
        refine t_delQ_254 hC hD k _ w2 g2 h2 Z2 (L2.m (L1.m hm)) (L2.th (by decide) (by decide) (L1.th (by decide) (by decide) hx)) (Nat.le_trans D2.2.2.2.1.length_le hl1) (Nat.le_trans D2.live hn1) fun w3 g3 h3 Z3 W3 L3 => K w3 g3 h3 Z3 (W2.trans W3 (tZ.confs D3)) (L1.trans (L2.trans L3))
theorem t_deleteC (hC : tCL s0 F b n D) (hD : D ≤ d + 20) (Z : tZ s0 F b s w g h) (hm : g.kind x0 = (1, 0)) (hx : g.kind x1 = (33, q)) (hq : q ∈ s.qs) (hn : sLive s ≤ n)
    (K : ∀ w1 g1 h1, tZ s0 F b (s_delQ (s_closeF n) s q) w1 g1 h1 → tWk (s_delQ (s_closeF n) s q) w w1 → gL g g1 → Q .null h1) : zX s0 m_X8_delete (d + 24) [zr x0, zr x1] h Q E := by
  have Dq := d_delQ1 Z.i hq
  have hp := Dq.2.1 Z.i
  have hql : 1 ≤ s.qs.length := List.length_pos_of_mem hq
  have hfa := Z.facts
  have hP : ∃ N, tP s = N + (3 + 3 * s.es.length) := ⟨tP s - (3 + 3 * s.es.length), by unfold tP; omega⟩
  obtain ⟨N, hN⟩ := hP
  have R := Z.r
  rw [show b + tP s = b + N + 3 + 3 * s.es.length by omega] at R
  refine t_delQ1 R Z.sc hm hx hq Z.i.cp.1 (by omega) fun g1 h1 R1 I1 L1 => ?_
  have Z1 : tZ s0 F b (s_delQ1 s q) w g1 h1 := Z.dn Dq (R1.less (d_delQ1_pay Z.i hq hN))
  have D2 := d_dropQ (q := q) (cl := s_closeF n) (d_closeF n) s.cs.length _ Z1.i
  exact t_delQ_254 hC hD s.cs.length _ w g1 h1 Z1 (L1.m hm) (L1.th (by decide) (by decide) hx) Dq.2.2.2.1.length_le (Nat.le_trans Dq.live hn) fun w2 g2 h2 Z2 W2 L2 => K w2 g2 h2 Z2 W2 (L1.trans L2)
theorem t_cancelC (hC : tCL s0 F b n D) (hD : D ≤ d + 20) (Z : tZ s0 F b s w g h) (hm : g.kind x0 = (1, 0)) (hx : g.kind x1 = (35, i)) (hi : i ∈ s.cs) (hn : sLive s ≤ n)
    (K : ∀ w1 g1 h1, tZ s0 F b (s_cancel (s_closeF n) s i) w1 g1 h1 → tWk (s_cancel (s_closeF n) s i) w w1 → gL g g1 → Q .null h1) : zX s0 m_X8_cancel (d + 25) [zr x0, zr x1] h Q E := by
  have hth := Z.i.cp.2.2.2.2.2.2.2.2.2.2.1 i hi
  refine c_X8_cancel ⟨⟨_, Z.r.main hm⟩, t_takeOut Z.r hm hx hi (fun x hx => Z.r.al (by decide) (by decide) (Z.sc.cs x hx)) fun g1 h1 R1 L1 => ?_⟩
  have Z1 := Z.dn' (d_takeOut (i := i) Z.i) R1
  have hn1 : sLive (s_takeOut s i) ≤ n := hn
  have hki : (s_takeOut s i).knd i = 35 := Z.sc.cs i hi
  have hth1 : (((s_takeOut s i).qu ((s_takeOut s i).co i).queue).there = true ↔ ((s_takeOut s i).co i).queue ∈ (s_takeOut s i).qs) := hth
  have hu : s_cancel (s_closeF n) s i = if ((s_takeOut s i).qu ((s_takeOut s i).co i).queue).there = true ∧ ((s_takeOut s i).qu ((s_takeOut s i).co i).queue).auto = true ∧ s_consQ (s_takeOut s i) ((s_takeOut s i).co i).queue = [] then s_delQ (s_closeF n) (s_takeOut s i) ((s_takeOut s i).co i).queue else s_takeOut s i := rfl
  rw [hu] at K
  revert R1 Z1 hn1 hki hth1 K
  clear hu hth
  generalize s_takeOut s i = s1
  intro K R1 Z1 hn1 hki hth1
  have hx1 := L1.th (by decide) (by decide) hx
  have hm1 := L1.m hm
  have hkq := (Z1.sc.co i hki).1
  have aq := Z1.r.al (c := 33) (by decide) (by decide) hkq
  have e1 := R1.1.cell hx1 (by decide)
  have eq := R1.1.cell aq (by decide)
  refine e_R e1 fun (z1 : gR h1 x1 1 = g1.ref 33 (s1.co i).queue) => ?_
  rw [z1]
  refine e_I eq fun (z2 : gI h1 (g1.ref 33 (s1.co i).queue) 4 = sB (s1.qu (s1.co i).queue).there) => ?_
  rw [z2, sB_0]
  refine ⟨fun ht => ?_, fun ht => e_R e1 fun _ => ?_⟩
  · rw [if_neg (fun hc => by rw [ht] at hc; exact absurd hc.1 (by decide))] at K
    exact K w g1 h1 Z1 tWk.refl L1
  rw [Bool.not_eq_false] at ht
  refine e_I eq fun (z3 : gI h1 (g1.ref 33 (s1.co i).queue) 3 = sB (s1.qu (s1.co i).queue).auto) => ?_
  rw [z3, sB_0]
  refine ⟨fun ha => ?_, fun ha => e_R e1 fun _ => ?_⟩
  · rw [if_neg (fun hc => by rw [ha] at hc; exact absurd hc.2.1 (by decide))] at K
    exact K w g1 h1 Z1 tWk.refl L1
  rw [Bool.not_eq_false] at ha
  have hcl : (s_consQ s1 (s1.co i).queue).length ≤ 16 := Nat.le_trans (List.length_filter_le _ _) Z1.i.cp.2.2.2.2.2.2.1
  refine ⟨⟨_, R1.main hm1⟩, t_consumersOf R1 Z1.sc hm1 aq ⟨_, rfl, fun hne => ?_, fun heq => e_R e1 fun _ => ?_⟩⟩
  · rw [if_neg (fun hc => hne (by rw [hc.2.2]; rfl))] at K
    exact K w g1 h1 Z1 tWk.refl L1
  · rw [show (0 : Int32) = Int32.ofNat 0 from rfl, i_inj (by omega) (by decide)] at heq
    rw [if_pos ⟨ht, ha, List.eq_nil_of_length_eq_zero heq⟩] at K
    rw [z1]
    exact ⟨⟨_, R1.main hm1⟩, t_deleteC hC hD Z1 hm1 aq (hth1.mp ht) hn1 fun w2 g2 h2 Z2 W2 L2 => K w2 g2 h2 Z2 W2 (L1.trans L2)⟩
end CG
