/-! ===== the twin: methods of channels, the short ones ===== -/
set_option maxRecDepth 100000
/-- what a method leaves as it was -/
def tWm (w w1 : tW) : Prop := w1.thr = w.thr ∧ ((∀ h, w.cd h = 0) → ∀ h, w1.cd h = 0)
/-- a method's end: its fault is told -/
def s_tld (j : Nat) (cl me : Int32) (x : sRs) : sSt := s_told (j / 4) j (s_at x cl me)
section MA
variable {s0 : zE} {F : Nat → Option zC} {b : Nat} {s s' s1 : sSt} {w w' w1 w2 : tW} {g g' g0 : sG} {h h' : zH} {d x0 x1 x2 x3 x5 i j q m n e : Nat} {Q : Value → zH → Prop} {E : Nat → zH → Prop} {dr : sBy} {sz cl me code : Int32} {rd : sRd} {u : Int32 × List Nat × (Nat → Nat)} {f : sRs}
theorem tWm.refl : tWm w w := ⟨rfl, fun h => h⟩
theorem tWm.trans (A : tWm w w1) (B : tWm w1 w2) : tWm w w2 := ⟨B.1.trans A.1, fun h => B.2 (A.2 h)⟩
theorem tWq.tom (A : tWq w w1) : tWm w w1 := ⟨A.2.2.2.1, A.2.2.2.2⟩
theorem tWk.tom (A : tWk s w w1) : tWm w w1 := A.toq.tom
theorem tld_ok : s_tld j cl me (s_ok s) = s := rfl
theorem tld_hard : s_tld j cl me (s_hardF s code) = s_hard s (j / 4) code cl me := rfl
theorem tld_soft : s_tld j cl me (s_softF s code) = s_soft s j code cl me := rfl
theorem then_t {r : sRd} (hw : r_whole r = true) : s_then r s f = f := if_pos hw
theorem then_f {r : sRd} (hw : r_whole r = false) : s_then r s f = s_hardF s 502 := if_neg (by rw [hw]; decide)
theorem tY_hard (I : sI s) (hj : isH j) {c1 m1 : Int32} : tY (s_hard s (j / 4) code c1 m1) ≤ tY s + 900 := tY_any (d_hard I hj.div) I
theorem tY_soft (I : sI s) (hj : isH j) {c1 m1 : Int32} : tY (s_soft s j code c1 m1) ≤ tY s + 900 := tY_any (d_soft I hj) I
/-- a channel's field is another -/
theorem tZ.chp (Z : tZ s0 F b s w g h) (hj : isH j) {k : sCh} (R : tR s0 F (b + tP s) (s.w_ch (sUp s.ch j k)) w1 g' h') (h1 : k.sent = (s.ch j).sent) (h2 : k.kept = (s.ch j).kept) (h3 : sChTx (s.ch j) → sChTx k) (h4 : k.state = (s.ch j).state) (h5 : k.confs = (s.ch j).confs) : tZ s0 F b (s.w_ch (sUp s.ch j k)) w1 g' h' := by
  have W : sWt (s.w_ch (sUp s.ch j k)) = sWt s := sWt_chUp (u := 0) hj (by rw [h1, h5, Nat.add_zero])
  have P : tP (s.w_ch (sUp s.ch j k)) = tP s := tP_ch
  have := Z.c
  exact ⟨by rw [P]; exact R, Z.i.chSame hj h1 h2 h3 h4, by omega⟩
/-- what is read in vain: a method ends with a fault, or goes on -/
theorem t_then {M : Int32 → zH → Prop} {N : zH → Prop} (hN : ∀ h1, N h1 → M 1 h1) (Z : tZ s0 F (b + 900 + tY s) s (dr, sz, rd, cl, me, u) g h) (hm : g.kind x0 = (1, 0)) (hx : g.kind x1 = (3, j)) (hj : isH j)
    (K : ∀ w1 g1 h1, tZ s0 F (b + tY (s_tld j cl me (s_then rd s f))) (s_tld j cl me (s_then rd s f)) w1 g1 h1 → tWm (dr, sz, rd, cl, me, u) w1 → gL g g1 → N h1)
    (K0 : (∀ w1 g1 h1, tZ s0 F (b + tY (s_tld j cl me f)) (s_tld j cl me f) w1 g1 h1 → tWm (dr, sz, rd, cl, me, u) w1 → gL g g1 → N h1) → M 0 h) :
    zX s0 m_X8_wrong (d + 77) [zr x0, zr x1] h (fun v h1 => ∃ r : Int32, v = .int r ∧ M r h1) E := by
  refine t_wrong (d := d) Z hm hx hj (fun hw => ⟨_, rfl, ?_⟩) (fun hw w1 g1 h1 Z1 W1 L1 => ⟨_, rfl, ?_⟩)
  · have hw : r_whole rd = true := hw
    rw [then_t hw] at K
    exact K0 K
  · have hw : r_whole rd = false := hw
    rw [then_f hw, tld_hard] at K
    have hy := tY_hard (code := 502) (c1 := cl) (m1 := me) Z.i hj
    have Z1 : tZ s0 F (b + 900 + tY s) (s_hard s (j / 4) 502 cl me) w1 g1 h1 := Z1
    exact hN h1 (K w1 g1 h1 (Z1.le (by omega)) W1.tom L1)
theorem t_flow (Z : tZ s0 F (b + 900 + tY s) s (dr, sz, rd, cl, me, u) g h) (hm : g.kind x0 = (1, 0)) (hx : g.kind x1 = (3, j)) (hj : isH j)
    (K : ∀ w1 g1 h1, tZ s0 F (b + tY (s_tld j cl me (s_onChan s j 20 rd))) (s_tld j cl me (s_onChan s j 20 rd)) w1 g1 h1 → tWm (dr, sz, rd, cl, me, u) w1 → gL g g1 → Q .null h1) : zX s0 m_X8_flow (d + 78) [zr x0, zr x1] h Q E := by
  have hS : s_onChan s j 20 rd = s_then (r_u8 rd).2 s (s_ok (s_ans (s_ch s j (fun k => k.w_active (!((r_u8 rd).1 == 0)))) j 20 21 (w_8 (sB (!((r_u8 rd).1 == 0)))))) := rfl
  rw [hS] at K
  clear hS
  refine c_X8_flow ⟨⟨_, Z.r.main hm⟩, t_u8 Z.r hm fun h1 R1 => ⟨_, rfl, ⟨_, R1.main hm⟩, t_then (d := d) (M := fun r2 h2 => (r2 = 0 → (((r_u8 rd).1 = 0 → (zP s0 m_X8_flow (d + 77 + 1) 24 [some (zr (x0)), some (zr (x1)), none] [.int (0), zr (x1)] h2 Q E)) ∧ (¬ (r_u8 rd).1 = 0 → (zP s0 m_X8_flow (d + 77 + 1) 24 [some (zr (x0)), some (zr (x1)), none] [.int (1), zr (x1)] h2 Q E)))) ∧ (¬ r2 = 0 → (Q .null h2))) (N := fun h => Q .null h) (fun h1 hq => ⟨fun hh => absurd hh (by decide), fun _ => hq⟩) (Z.re R1) hm hx hj K fun K => ⟨fun _ => ?_, fun hh => absurd rfl hh⟩⟩⟩
  rw [tld_ok] at K
  have hfin : ∀ t1 : Int32, t1 = sB (!((r_u8 rd).1 == 0)) → zP s0 m_X8_flow (d + 77 + 1) 24 [some (zr x0), some (zr x1), none] [.int t1, zr x1] h1 Q E := fun t1 ht => by
    subst ht
    generalize (!((r_u8 rd).1 == 0)) = on at K ⊢
    refine b_X8_flow_24 ⟨?_, ?_⟩
    · cases on
      · exact Or.inl rfl
      · exact Or.inr rfl
    refine g_Ph R1 hx ((s.ch j).w_active on) rfl rfl (fun hok => hok) fun h2 R2 _ => ?_
    have Z2 := Z.chp hj R2 rfl rfl (fun hx => hx) rfl rfl
    have Y2 : tY (s.w_ch (sUp s.ch j ((s.ch j).w_active on))) = tY s := tY_ch
    rw [← Y2] at Z2
    have c2 : ((s.w_ch (sUp s.ch j ((s.ch j).w_active on))).ch j).active = on := by
      rw [wr_ch, sUp_self]
      exact rfl
    have hS : s_ch s j (fun k => k.w_active on) = s.w_ch (sUp s.ch j ((s.ch j).w_active on)) := rfl
    rw [hS] at K
    clear hS R2 Y2
    generalize s.w_ch (sUp s.ch j ((s.ch j).w_active on)) = s2 at Z2 c2 K
    refine e_I (Z2.r.1.cell hx (by decide)) fun (z1 : gI h2 x1 1 = Int32.ofNat (j % 4)) => ?_
    rw [z1]
    refine ⟨⟨_, Z2.r.main hm⟩, t_beginMethod (d := d + 73) Z2.r hm fun g3 h3 R3 L3 => ?_⟩
    have hm3 := L3.m hm
    have hx3 := L3.k hx gSt3
    refine e_I (R3.1.cell hx3 (by decide)) fun (z2 : gI h3 x1 13 = sB (s2.ch j).active) => ?_
    rw [z2, c2, sB_0]
    have hend : ∀ t2 : Int32, t2 = sB on → zX s0 m_X8_put (d + 77) [zr x0, .int t2] h3 (fun _ h5 => ((fR h5 x1 [9] 0) ∧ ((fC h5 x0 7 ∧ zX s0 m_X8_goFrame (d + 77) [zr x0, zr (gR h5 x1 0)] h5 (fun _ h6 => (Q .null h6)) E)))) E := fun t2 ht => by
      subst ht
      refine t_put R3 hm3 (by simp [w_head, w_8, w_16]) fun g4 h4 R4 L4 => ?_
      have L34 := L3.trans L4
      have hx4 := L34.k hx gSt3
      refine e_R (R4.1.cell hx4 (by decide)) fun (z3 : gR h4 x1 0 = g4.ref 2 (j / 4)) => ?_
      rw [z3]
      have hy := tY_ans (h := j) (k1 := 20) (me := 21) (b := w_8 (sB on)) Z2.i hj
      refine ⟨⟨_, R4.main (L34.m hm)⟩, t_goFrame (d := d + 7) (p := []) (ty := 1) (ch := Int32.ofNat (j % 4)) (body := w_16 20 ++ w_16 21 ++ w_8 (sB on)) (Z2.re R4) (L34.m hm) (R4.cn hj.div) hj.div ?_ rfl (by simp [w_head, w_8, w_16]) fun w5 g5 h5 Z5 W5 L5 => K w5 g5 h5 (Z5.le (by have : tY (s_send s2 (j / 4) ([] ++ w_frame 1 (Int32.ofNat (j % 4)) (w_16 20 ++ w_16 21 ++ w_8 (sB on)))) = tY (s_ans s2 j 20 21 (w_8 (sB on))) := rfl; omega)) ⟨W5.tom.1, W5.tom.2⟩ (L34.trans L5)⟩
      rw [List.nil_append, List.append_assoc]
      rfl
    refine ⟨fun h0 => ⟨⟨_, R3.main hm3⟩, hend 0 (by rw [h0]; rfl)⟩, fun h0 => ⟨⟨_, R3.main hm3⟩, hend 1 (by rw [Bool.not_eq_false] at h0; rw [h0]; rfl)⟩⟩
  refine ⟨fun h0 => hfin 0 ?_, fun h0 => hfin 1 ?_⟩
  · rw [beq_iff_eq.mpr h0]
    rfl
  · rw [beq_false_of_ne h0]
    rfl
/-- a plain answer -/
theorem t_simpleZ {k1 ms : Int32} (Z : tZ s0 F (b + tY s) s w g h) (hm : g.kind x0 = (1, 0)) (hj : isH j)
    (K : ∀ w1 g1 h1, tZ s0 F (b + tY (s_ans s j k1 ms [])) (s_ans s j k1 ms []) w1 g1 h1 → tWk (s_ans s j k1 ms []) w w1 → gL g g1 → Q .null h1) : zX s0 m_X8_simple (d + 71) [zr x0, zr (g.ref 2 (j / 4)), .int (Int32.ofNat (j % 4)), .int k1, .int ms] h Q E := by
  have hy := tY_ans (h := j) (k1 := k1) (me := ms) (b := []) Z.i hj
  exact t_simple (d := d) Z hm (Z.r.cn hj.div) hj.div fun w1 g1 h1 Z1 W1 L1 => K w1 g1 h1 (Z1.le (Nat.add_le_add_left hy b)) W1 L1
theorem t_qos (Z : tZ s0 F (b + 900 + tY s) s (dr, sz, rd, cl, me, u) g h) (hm : g.kind x0 = (1, 0)) (hx : g.kind x1 = (3, j)) (hj : isH j)
    (K : ∀ w1 g1 h1, tZ s0 F (b + tY (s_tld j cl me (s_qos s j rd))) (s_tld j cl me (s_qos s j rd)) w1 g1 h1 → tWm (dr, sz, rd, cl, me, u) w1 → gL g g1 → Q .null h1) : zX s0 m_X8_qos (d + 78) [zr x0, zr x1] h Q E := by
  have hS : s_qos s j rd = s_then (r_u8 (r_u16 rd).2).2 s (s_ok (s_ans (s_ch s j (fun k => if (r_u8 (r_u16 rd).2).1 = 0 then k.w_coming (r_u16 rd).1 else k.w_limit (r_u16 rd).1)) j 60 11 [])) := rfl
  rw [hS] at K
  clear hS
  refine c_X8_qos ⟨⟨_, Z.r.main hm⟩, t_u16 (d := d + 76) Z.r hm fun h1 R1 => ⟨_, rfl, ⟨_, R1.main hm⟩, t_u8 R1 hm fun h2 R2 => ⟨_, rfl, ⟨_, R2.main hm⟩, t_then (d := d) (M := fun r3 h3 => ((r3 = 0 → ((¬ (r_u8 (r_u16 rd).2).1 = 0 → ((fC h3 x1 9) ∧ (∀ h4, h4 = zput h3 x1 4 (.int ((r_u16 rd).1)) → (zP s0 m_X8_qos (d + 77 + 1) 36 [some (zr (x0)), some (zr (x1)), none, none] [] h4 Q E)))) ∧ ((r_u8 (r_u16 rd).2).1 = 0 → ((fC h3 x1 9) ∧ (∀ h5, h5 = zput h3 x1 5 (.int ((r_u16 rd).1)) → (zP s0 m_X8_qos (d + 77 + 1) 36 [some (zr (x0)), some (zr (x1)), none, none] [] h5 Q E)))))) ∧ (¬ r3 = 0 → (Q .null h3)))) (N := fun h => Q .null h) (fun h1 hq => ⟨fun hh => absurd hh (by decide), fun _ => hq⟩) (Z.re R2) hm hx hj K fun K => ⟨fun _ => ?_, fun hh => absurd rfl hh⟩⟩⟩⟩
  rw [tld_ok] at K
  generalize (r_u16 rd).1 = n1 at K ⊢
  have h36 : ∀ (k : sCh) (h3 : zH), (s_ch s j (fun k => if (r_u8 (r_u16 rd).2).1 = 0 then k.w_coming n1 else k.w_limit n1)) = s.w_ch (sUp s.ch j k) → tZ s0 F (b + 900 + tY s) (s.w_ch (sUp s.ch j k)) (dr, sz, (r_u8 (r_u16 rd).2).2, cl, me, u) g h3 → zP s0 m_X8_qos (d + 77 + 1) 36 [some (zr x0), some (zr x1), none, none] [] h3 Q E := fun k h3 e Z3 => by
    rw [e] at K
    have Y3 : tY (s.w_ch (sUp s.ch j k)) = tY s := tY_ch
    rw [← Y3] at Z3
    clear Y3 e
    generalize s.w_ch (sUp s.ch j k) = s3 at Z3 K
    refine b_X8_qos_36 (e_R (Z3.r.1.cell hx (by decide)) fun (z1 : gR h3 x1 0 = g.ref 2 (j / 4)) => e_I (Z3.r.1.cell hx (by decide)) fun (z2 : gI h3 x1 1 = Int32.ofNat (j % 4)) => ?_)
    rw [z1, z2]
    exact ⟨⟨_, Z3.r.main hm⟩, t_simpleZ (d := d + 6) (Z3.le (show b + tY s3 ≤ b + 900 + tY s3 by omega)) hm hj fun w4 g4 h4 Z4 W4 L4 => K w4 g4 h4 Z4 ⟨W4.tom.1, W4.tom.2⟩ L4⟩
  refine ⟨fun hne => ?_, fun h0 => ?_⟩
  · refine g_Ph R2 hx ((s.ch j).w_limit n1) rfl rfl (fun hok => hok) fun h3 R3 _ => h36 _ h3 ?_ (Z.chp hj R3 rfl rfl (fun hx => hx) rfl rfl)
    unfold s_ch
    dsimp only
    rw [if_neg hne]
  · refine g_Ph R2 hx ((s.ch j).w_coming n1) rfl rfl (fun hok => hok) fun h3 R3 _ => h36 _ h3 ?_ (Z.chp hj R3 rfl rfl (fun hx => hx) rfl rfl)
    unfold s_ch
    dsimp only
    rw [if_pos h0]
theorem t_confirms (Z : tZ s0 F (b + 900 + tY s) s (dr, sz, rd, cl, me, u) g h) (hm : g.kind x0 = (1, 0)) (hx : g.kind x1 = (3, j)) (hj : isH j)
    (K : ∀ w1 g1 h1, tZ s0 F (b + tY (s_tld j cl me (s_confirms s j rd))) (s_tld j cl me (s_confirms s j rd)) w1 g1 h1 → tWm (dr, sz, rd, cl, me, u) w1 → gL g g1 → Q .null h1) : zX s0 m_X8_confirms (d + 78) [zr x0, zr x1] h Q E := by
  have hS : s_confirms s j rd = s_then (r_u8 rd).2 s (if (s.ch j).mode = 1 then s_softF s 406 else s_ok (if (r_u8 rd).1 = 0 then s_ans (s_ch s j (fun k => k.w_mode 2)) j 85 11 [] else s_ch s j (fun k => k.w_mode 2))) := rfl
  rw [hS] at K
  clear hS
  refine c_X8_confirms ⟨⟨_, Z.r.main hm⟩, t_u8 Z.r hm fun h1 R1 => ⟨_, rfl, ⟨_, R1.main hm⟩, t_then (d := d) (M := fun r2 h2 => ((r2 = 0 → ((fI h2 x1 [9] 3) ∧ ((¬ gI h2 x1 3 = 1 → ((fC h2 x1 9) ∧ (∀ h3, h3 = zput h2 x1 3 (.int (2)) → ((¬ (r_u8 rd).1 = 0 → (Q .null h3)) ∧ ((r_u8 rd).1 = 0 → ((fR h3 x1 [9] 0) ∧ ((fI h3 x1 [9] 1) ∧ ((fC h3 x0 7 ∧ zX s0 m_X8_simple (d + 77) [zr x0, zr (gR h3 x1 0), .int (gI h3 x1 1), .int (85), .int (11)] h3 (fun _ h4 => (Q .null h4)) E))))))))) ∧ (gI h2 x1 3 = 1 → ((fC h2 x0 7 ∧ zX s0 m_X8_soft (d + 77) [zr x0, zr (x1), .int (406)] h2 (fun _ h5 => (Q .null h5)) E)))))) ∧ (¬ r2 = 0 → (Q .null h2)))) (N := fun h => Q .null h) (fun h1 hq => ⟨fun hh => absurd hh (by decide), fun _ => hq⟩) (Z.re R1) hm hx hj K fun K => ⟨fun _ => ?_, fun hh => absurd rfl hh⟩⟩⟩
  refine e_I (R1.1.cell hx (by decide)) fun (z1 : gI h1 x1 3 = (s.ch j).mode) => ?_
  rw [z1]
  refine ⟨fun hne => ?_, fun he => ?_⟩
  · rw [if_neg hne, tld_ok] at K
    refine g_Ph R1 hx ((s.ch j).w_mode 2) rfl rfl (fun hok => hok) fun h3 R3 _ => ?_
    have Z3 := Z.chp hj R3 rfl rfl (fun hx => ⟨hx.1, hx.2.1, hx.2.2.1, hx.2.2.2.1, hx.2.2.2.2.1, hx.2.2.2.2.2.1, (by decide : (0 : Int32) ≤ 2), (by decide : (2 : Int32) ≤ 2)⟩) rfl rfl
    have Y3 : tY (s.w_ch (sUp s.ch j ((s.ch j).w_mode 2))) = tY s := tY_ch
    have hS : s_ch s j (fun k => k.w_mode 2) = s.w_ch (sUp s.ch j ((s.ch j).w_mode 2)) := rfl
    rw [hS] at K
    rw [← Y3] at Z3
    clear hS R3 Y3
    generalize s.w_ch (sUp s.ch j ((s.ch j).w_mode 2)) = s3 at Z3 K
    refine ⟨fun h0 => ?_, fun h0 => e_R (Z3.r.1.cell hx (by decide)) fun (z2 : gR h3 x1 0 = g.ref 2 (j / 4)) => e_I (Z3.r.1.cell hx (by decide)) fun (z3 : gI h3 x1 1 = Int32.ofNat (j % 4)) => ?_⟩
    · rw [if_neg h0] at K
      exact K _ g h3 (Z3.le (show b + tY s3 ≤ b + 900 + tY s3 by omega)) ⟨rfl, fun h => h⟩ (gL.refl g)
    · rw [if_pos h0] at K
      rw [z2, z3]
      exact ⟨⟨_, Z3.r.main hm⟩, t_simpleZ (d := d + 6) (Z3.le (show b + tY s3 ≤ b + 900 + tY s3 by omega)) hm hj fun w4 g4 h4 Z4 W4 L4 => K w4 g4 h4 Z4 ⟨W4.tom.1, W4.tom.2⟩ L4⟩
  · rw [if_pos he, tld_soft] at K
    have hy := tY_soft (code := 406) (c1 := cl) (m1 := me) Z.i hj
    refine ⟨⟨_, R1.main hm⟩, t_soft (d := d) (Z.re R1) hm hx hj fun w4 g4 h4 Z4 W4 L4 => ?_⟩
    have Z4 : tZ s0 F (b + 900 + tY s) (s_soft s j 406 cl me) w4 g4 h4 := Z4
    exact K w4 g4 h4 (Z4.le (by omega)) ⟨W4.tom.1, W4.tom.2⟩ L4
end MA
