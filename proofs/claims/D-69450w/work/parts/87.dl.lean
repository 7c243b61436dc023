/-! ===== the twin: messages are handed on and delivered ===== -/
set_option maxRecDepth 100000
section DL
variable {s0 : zE} {F : Nat → Option zC} {b : Nat} {s s' : sSt} {w w' : tW} {g g' : sG} {h h' : zH} {d x0 x1 x2 x3 n c i j q m : Nat} {Q : Value → zH → Prop} {E : Nat → zH → Prop}
theorem tZ.le {b' : Nat} (Z : tZ s0 F b s w g h) (hb : b' ≤ b) : tZ s0 F b' s w g h := Z.less hb
theorem t_handZ {oc : Option Nat} {fr : Bool} (Z : tZ s0 F (b + tY s) s w g h) (hm : g.kind x0 = (1, 0)) (hj : isH j) (hx : g.kind x1 = (3, j)) (hy : g.kind x2 = (36, m)) (hz : gO g 35 oc = x3) (hzk : ∀ y, oc = some y → s.knd y = 35)
    (hi : m ∈ (s.qu (s.en m).queue).ents) (h0 : (s.en m).state = 0)
    (K : ∀ g1 h1, tZ s0 F (b + tY (s_hand s j m oc fr)) (s_hand s j m oc fr) w g1 h1 → gL g g1 → Q (.int ((s.ch j).tag + 1)) h1) : zX s0 m_X8_hand (d + 4) [zr x0, zr x1, zr x2, zr x3, .int (sB fr)] h Q E := by
  have hk := Z.r.ak (by decide) (by decide) hy
  obtain ⟨p1, p2, p3, p4⟩ := p_hand (fr := fr) Z.i hj hk hi h0 hzk
  have hc := Z.c
  have hf := Z.facts
  have hs := Z.sent hj
  refine t_hand (b := b + tY (s_hand s j m oc fr) + tP (s_hand s j m oc fr)) (Z.r.less (by omega)) Z.sc hm hj hx hy hz hzk hi (by omega) (by omega) fun g1 h1 R1 L1 => K g1 h1 ⟨R1, p1, by omega⟩ L1
theorem tR.tag (R : tR s0 F b s w g h) (hk : s.knd i = 35) : gB g (g.rf 35 i 0) (s.co i).tag := R.2.2.2.2.2.2.2.2.2.2.1 i hk
theorem tR.ent (R : tR s0 F b s w g h) (hk : s.knd m = 36) : gCont g (g.rf 36 m 0) (s.en m).cont ∧ gB g (g.rf 36 m 1) (s.en m).exch ∧ gB g (g.rf 36 m 2) (s.en m).key := R.2.2.2.2.2.2.2.2.2.2.2.1 m hk
theorem hand_en {o : Option Nat} {fr : Bool} : ∃ v, (s_hand s j m o fr).en m = (s.en m).w_state v := by
  cases fr with
  | true =>
    have L := lf_leaves (s := s_ch s j (fun k => k.w_tag (k.tag + 1))) (m := m)
    have hn : (s_ch s j (fun k => k.w_tag (k.tag + 1))).en = s.en := wr_en_ch
    rw [s_hand_t]
    have := L.1.2.2.2.2.2.2.2.2.2.2.2.2 m
    rw [hn] at this
    exact ⟨_, this⟩
  | false =>
    refine ⟨1, ?_⟩
    rw [s_hand_f]
    have hn : (s_ch s j (fun k => k.w_tag (k.tag + 1))).en = s.en := wr_en_ch
    have h2 : (s_en (s_ch s j (fun k => k.w_tag (k.tag + 1))) m (fun e => e.w_state 1)).en m = (s.en m).w_state 1 := by
      unfold s_en
      rw [wr_en, sUp_self, hn]
    unfold s_ch at h2 ⊢
    rw [wr_en_ch, b37_en]
    exact h2
theorem hand_co {o : Option Nat} {fr : Bool} : (s_hand s j m o fr).co = s.co := by
  cases fr with
  | true =>
    have L := lf_leaves (s := s_ch s j (fun k => k.w_tag (k.tag + 1))) (m := m)
    rw [s_hand_t, L.1.2.2.2.2.2.2.2.2.2.1]
    exact wr_co_ch
  | false =>
    rw [s_hand_f]
    unfold s_ch
    rw [wr_co_ch, b37_co]
    unfold s_en
    rw [wr_co_en, wr_co_ch]
theorem hand_in {o : Option Nat} {fr : Bool} : ((s_hand s j m o fr).en m).exch = (s.en m).exch ∧ ((s_hand s j m o fr).en m).key = (s.en m).key ∧ ((s_hand s j m o fr).en m).cont = (s.en m).cont ∧ ((s_hand s j m o fr).en m).expi = (s.en m).expi ∧ ((s_hand s j m o fr).en m).redel = (s.en m).redel := by
  obtain ⟨v, e⟩ := hand_en (s := s) (j := j) (m := m) (o := o) (fr := fr)
  rw [e]
  exact ⟨rfl, rfl, rfl, rfl, rfl⟩
/-- what a delivery's frames are, ahead of the flag on -/
theorem t_deliver_71 {x4 : Nat} {B : sBy} {t1 : Int32} {rd : sRd} {u : Int32 × Int32 × Int32 × List Nat × (Nat → Nat)} (Z : tZ s0 F b s (w_head 1 (Int32.ofNat (j % 4)) ++ (w_16 60 ++ w_16 60 ++ B), Int32.ofNat 3, rd, u) g h) (hm : g.kind x0 = (1, 0)) (hy : g.kind x3 = (36, m)) (hx : g.kind x4 = (3, j)) (hj : isH j) (hB : B.length ≤ 50)
    (K : ∀ w1 g1 h1, tZ s0 F b (s_send s (j / 4) (w_method (Int32.ofNat (j % 4)) 60 60 (B ++ w_8 t1 ++ w_short (s.en m).exch ++ w_short (s.en m).key) ++ w_content (Int32.ofNat (j % 4)) (s.en m).cont (s.en m).expi)) w1 g1 h1 →
      tWk (s_send s (j / 4) (w_method (Int32.ofNat (j % 4)) 60 60 (B ++ w_8 t1 ++ w_short (s.en m).exch ++ w_short (s.en m).key) ++ w_content (Int32.ofNat (j % 4)) (s.en m).cont (s.en m).expi)) ([], 0, rd, u) w1 → gL g g1 → Q .null h1) : zP s0 m_X8_deliver (d + 70) 71 [some (zr x0), none, none, some (zr x3), some (zr x4), none] [.int t1, zr x0] h Q E := by
  have hkm := Z.r.ak (by decide) (by decide) hy
  obtain ⟨t1', t2', t3', -⟩ := Z.i.tx.2.2.2.2.1 m hkm
  obtain ⟨⟨-, -, hh, -⟩, hbl⟩ := t1'
  refine b_X8_deliver_71 ⟨⟨_, Z.r.main hm⟩, t_put Z.r hm (by simp [w_head, w_8, w_16]; omega) fun g1 h1 R1 L1 => ?_⟩
  have hm1 := L1.m hm
  have hy1 := L1.th (by decide) (by decide) hy
  refine e_R (R1.1.cell hy1 (by decide)) fun (z1 : gR h1 x3 1 = g1.rf 36 m 1) => ?_
  rw [z1]
  refine ⟨⟨_, R1.main hm1⟩, t_putShort R1 hm1 (R1.ent hkm).2.1 (by simp [w_head, w_8, w_16]; omega) fun g2 h2 R2 L2 => ?_⟩
  have hm2 := L2.m hm1
  have hy2 := L2.th (by decide) (by decide) hy1
  refine e_R (R2.1.cell hy2 (by decide)) fun (z2 : gR h2 x3 2 = g2.rf 36 m 2) => ?_
  rw [z2]
  refine ⟨⟨_, R2.main hm2⟩, t_putShort R2 hm2 (R2.ent hkm).2.2 (by simp [w_head, w_8, w_16, w_short]; omega) fun g3 h3 R3 L3 => ?_⟩
  have hm3 := L3.m hm2
  have hy3 := L3.th (by decide) (by decide) hy2
  refine ⟨⟨_, R3.main hm3⟩, t_endFrame (p := []) (ty := 1) (ch := Int32.ofNat (j % 4)) (body := w_16 60 ++ w_16 60 ++ (B ++ w_8 t1 ++ w_short (s.en m).exch ++ w_short (s.en m).key)) R3 hm3 (by simp [w_8]) rfl (by simp [w_head, w_8, w_16, w_short]; omega) fun g4 h4 R4 L4 => ?_⟩
  have L14 := ((L1.trans L2).trans L3).trans L4
  have hm4 := L14.m hm
  have hy4 := L14.th (by decide) (by decide) hy
  have hx4 := L14.k hx gSt3
  refine e_I (R4.1.cell hx4 (by decide)) fun (z3 : gI h4 x4 1 = Int32.ofNat (j % 4)) => e_R (R4.1.cell hy4 (by decide)) fun (z4 : gR h4 x3 0 = g4.rf 36 m 0) => e_J (R4.1.cell hy4 (by decide)) fun (z5 : gJ h4 x3 3 = (s.en m).expi) => ?_
  rw [z3, z4, z5]
  rw [List.nil_append] at R4
  refine ⟨⟨_, R4.main hm4⟩, t_putContent (d := d + 65) R4 hm4 (R4.ent hkm).1 (by simp [w_frame, w_8, w_16, w_32, w_short]; omega) hbl (fun t ht => (hh t ht).1) fun sz5 g5 h5 R5 L5 => ?_⟩
  have L15 := L14.trans L5
  have hx5 := L5.k hx4 gSt3
  refine e_R (R5.1.cell hx5 (by decide)) fun (z6 : gR h5 x4 0 = g5.ref 2 (j / 4)) => ?_
  rw [z6]
  exact ⟨⟨_, R5.main (L15.m hm)⟩, t_go (d := d) (Z.re R5) (L15.m hm) (R5.cn hj.div) hj.div fun w6 g6 h6 Z6 W6 L6 => K w6 g6 h6 Z6 W6 (L15.trans L6)⟩
theorem t_deliver (Z : tZ s0 F (b + tY s) s w g h) (hm : g.kind x0 = (1, 0)) (hx : g.kind x1 = (33, q)) (hi : g.kind x2 = (35, i)) (hiq : (s.co i).queue = q) (hf : s_first s q = some m)
    (K : ∀ w1 g1 h1, tZ s0 F (b + tY (s_deliver s q i m)) (s_deliver s q i m) w1 g1 h1 → tWk (s_deliver s q i m) w w1 → gL g g1 → Q .null h1) : zX s0 m_X8_deliver (d + 70) [zr x0, zr x1, zr x2] h Q E := by
  have hkq := Z.r.ak (by decide) (by decide) hx
  have hki := Z.r.ak (by decide) (by decide) hi
  obtain rfl : g.ref 35 i = x2 := Z.r.1.at hi (by decide)
  obtain ⟨hmem, hst⟩ := s_best_mem (f := fun m => (s.en m).state == 0) hf
  have h0 : (s.en m).state = 0 := eq_of_beq hst
  obtain ⟨hkm, hmq⟩ := (Z.sc.qu q hkq).1 m hmem
  obtain ⟨-, hj⟩ := Z.sc.co i hki
  have ty := Z.i.tx.2.2.2.1 i hki
  refine c_X8_deliver ⟨⟨_, Z.r.main hm⟩, t_first (d := d + 67) Z.r Z.sc hx ?_⟩
  rw [hf]
  refine ⟨g.ref 36 m, rfl, ?_⟩
  have hy : g.kind (g.ref 36 m) = (36, m) := Z.r.al (by decide) (by decide) hkm
  refine e_R (Z.r.1.cell hi (by decide)) fun (z1 : gR h (g.ref 35 i) 2 = g.ref 3 (s.co i).chan) => ?_
  rw [z1]
  have D1 := d_last (s := s) hki hiq
  have Y1 : tY (s_qu s q (fun x => x.w_last (some i))) = tY s := tY_last
  have hS : s_deliver s q i m = s_send (s_hand (s_qu s q (fun x => x.w_last (some i))) (s.co i).chan m (some i) (s.co i).free) ((s.co i).chan / 4) (w_method (Int32.ofNat ((s.co i).chan % 4)) 60 60 (w_short (s.co i).tag ++ w_32 ((s.ch (s.co i).chan).tag + 1) ++ w_8 (sB (s.en m).redel) ++ w_short (s.en m).exch ++ w_short (s.en m).key) ++ w_content (Int32.ofNat ((s.co i).chan % 4)) (s.en m).cont (s.en m).expi) := rfl
  refine g_Pqu Z.r hx ((s.qu q).w_last (some i)) rfl (Z.r.2.qu fun hk => Z.r.2.2.2.2.2.2.2.2.1 q hk) fun h2 R2 _ => ?_
  have R2 : tR s0 F (b + tY s + tP s) (s_qu s q (fun x => x.w_last (some i))) w g h2 := R2
  have Z2 := Z.dn' D1 R2
  have co2 : (s_qu s q (fun x => x.w_last (some i))).co = s.co := wr_co_qu
  have en2 : (s_qu s q (fun x => x.w_last (some i))).en = s.en := wr_en_qu
  have ch2 : (s_qu s q (fun x => x.w_last (some i))).ch = s.ch := wr_ch_qu
  have mem2 : m ∈ ((s_qu s q (fun x => x.w_last (some i))).qu ((s_qu s q (fun x => x.w_last (some i))).en m).queue).ents := by
    rw [en2, hmq]
    unfold s_qu
    rw [wr_qu, sUp_self]
    exact hmem
  have kn2 : (s_qu s q (fun x => x.w_last (some i))).knd = s.knd := wr_knd_qu
  rw [hS] at K
  clear hS D1
  generalize s_qu s q (fun x => x.w_last (some i)) = s2 at R2 Z2 co2 en2 ch2 mem2 kn2 K Y1
  rw [← Y1] at Z2
  refine e_I (Z2.r.1.cell hi (by decide)) fun (z2 : gI h2 (g.ref 35 i) 3 = sB (s2.co i).free) => ?_
  rw [z2, co2]
  refine ⟨⟨_, Z2.r.main hm⟩, t_handZ (d := d + 65) Z2 hm hj (Z2.r.ch hj) hy (oc := some i) rfl (fun y hy => by rw [← Option.some.inj hy, kn2]; exact hki) mem2 (by rw [en2]; exact h0) fun g3 h3 Z3 L3 => ⟨_, rfl, ?_⟩⟩
  rw [ch2]
  have hin := hand_in (s := s2) (j := (s.co i).chan) (m := m) (o := some i) (fr := (s.co i).free)
  have co3 : (s_hand s2 (s.co i).chan m (some i) (s.co i).free).co = s.co := hand_co.trans co2
  rw [en2] at hin
  have hx3 := L3.k (Z2.r.ch hj) gSt3
  have Dn := fun bb => d_send (b := bb) (c := (s.co i).chan / 4) Z3.i hj.div
  have Yn := fun bb => tY_send (b := bb) (c := (s.co i).chan / 4) Z3.i hj.div
  revert Z3 hin co3 K Dn Yn
  generalize s_hand s2 (s.co i).chan m (some i) (s.co i).free = s3
  intro K Z3 hin co3 Dn Yn
  obtain ⟨dr, sz, rd, u⟩ := w
  have hm3 := L3.m hm
  have hi3 := L3.th (by decide) (by decide) hi
  have hy3 := L3.th (by decide) (by decide) hy
  refine e_I (Z3.r.1.cell hx3 (by decide)) fun (z3 : gI h3 (g.ref 3 (s.co i).chan) 1 = Int32.ofNat ((s.co i).chan % 4)) => ?_
  rw [z3]
  refine ⟨⟨_, Z3.r.main hm3⟩, t_beginMethod (d := d + 65) Z3.r hm3 fun g4 h4 R4 L4 => ?_⟩
  have hi4 := L4.th (by decide) (by decide) hi3
  refine e_R (R4.1.cell hi4 (by decide)) fun (z4 : gR h4 (g.ref 35 i) 0 = g4.rf 35 i 0) => ?_
  rw [z4]
  have hki4 := R4.ak (by decide) (by decide) hi4
  refine ⟨⟨_, R4.main (L4.m hm3)⟩, t_putShort (d := d + 67) R4 (L4.m hm3) (R4.tag hki4) (by rw [co3]; simp [w_head, w_8, w_16]; omega) fun g5 h5 R5 L5 => ?_⟩
  rw [co3] at R5
  have hm5 := L5.m (L4.m hm3)
  refine ⟨⟨_, R5.main hm5⟩, t_put32 (d := d + 67) R5 hm5 (by simp [w_head, w_8, w_16, w_short]; omega) fun g6 h6 R6 L6 => ?_⟩
  have L36 := (L4.trans L5).trans L6
  have hy6 := L36.th (by decide) (by decide) hy3
  refine e_I (R6.1.cell hy6 (by decide)) fun (z5 : gI h6 (g.ref 36 m) 9 = sB (s3.en m).redel) => ?_
  rw [z5]
  have R7 : tR s0 F (b + tY s3 + tP s3) s3 (w_head 1 (Int32.ofNat ((s.co i).chan % 4)) ++ (w_16 60 ++ w_16 60 ++ (w_short (s.co i).tag ++ w_32 ((s.ch (s.co i).chan).tag + 1))), Int32.ofNat 3, rd, u) g6 h6 := by
    rw [List.append_assoc, List.append_assoc] at R6
    exact R6
  have hfin : ∀ t1 : Int32, t1 = sB (s3.en m).redel → zP s0 m_X8_deliver (d + 70) 71 [some (zr x0), none, none, some (zr (g.ref 36 m)), some (zr (g.ref 3 (s.co i).chan)), none] [.int t1, zr x0] h6 Q E := fun t1 ht => by
    refine t_deliver_71 (d := d) (Z3.re R7) (L36.m hm3) hy6 (L36.k hx3 gSt3) hj (by simp [w_short, w_8, w_32, w_16]; omega) fun w8 g8 h8 Z8 W8 L8 => ?_
    rw [ht, hin.1, hin.2.1, hin.2.2.1, hin.2.2.2.1, hin.2.2.2.2] at Z8 W8
    exact K w8 g8 h8 (Z8.le (Nat.add_le_add_left (Yn _) b)) W8 ((L3.trans L36).trans L8)
  rw [sB_0]
  refine ⟨fun hr => hfin 0 (by rw [hr]; rfl), fun hr => hfin 1 ?_⟩
  rw [Bool.not_eq_false] at hr
  rw [hr]
  rfl
end DL
