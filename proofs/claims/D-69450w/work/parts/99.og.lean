/-! ===== the twin: what a crash forgets ===== -/
set_option maxRecDepth 100000
set_option maxHeartbeats 200000
section OG
variable {s0 : zE} {F : Nat → Option zC} {b : Nat} {s s' S T : sSt} {w w' : tW} {g g' g0 : sG} {h h' : zH} {d x0 x1 x2 x3 n m c i j q e k a : Nat} {Q : Value → zH → Prop} {E : Nat → zH → Prop} {x : Int32}
theorem g_fin7 {P : zH → Prop} (R : tR s0 F b s w g h) (hno : ∀ m, g.kind m ≠ (38, j)) (hjk : (s.ch j).junk = true) (hx : g.kind x1 = (3, j))
    (K : ∀ g1 h1, tR s0 F b (s_fin s j) (w.w_cd (sUp w.cd j 0)) g1 h1 → gL g g1 → P h1) :
    (fC h x1 9) ∧ (∀ h1, h1 = zput h x1 9 (.int 0) → ((fC h1 x1 9) ∧ (∀ h2, h2 = zput h1 x1 11 (.int 0) → ((fC h2 x1 9) ∧ (∀ h3, h3 = zput h2 x1 12 (.int 0) → ((fC h3 x1 9) ∧ (∀ h4, h4 = zput h3 x1 15 (zr 0) → ((fC h4 x1 9) ∧ (∀ h5, h5 = zput h4 x1 3 (.int 0) → ((fC h5 x1 9) ∧ (∀ h6, h6 = zput h5 x1 7 (.int 0) → ((fC h6 x1 9) ∧ (∀ h7, h7 = zput h6 x1 6 (.int 0) → P h7))))))))))))) := by
  refine g_Pcj R hno hx ((s.ch j).w_kept []) rfl (fun ⟨q1, q2, q3, q4, q5⟩ => ⟨q1, q2, q3, ⟨q4.1, q4.2.1, Nat.zero_le _, fun k x hk => nomatch hk⟩, q5⟩) fun h2 R2 _ => ?_
  have R2 : tR s0 F b (s_ch s j (fun k => k.w_kept [])) w g h2 := R2
  refine g_Pcf R2 hx fun h3 R3 _ => ?_
  rw [w_ch_ch] at R3
  have j3 : ((s_ch s j (fun k => (k.w_kept []).w_confs [])).ch j).junk = true := by rw [s_ch_ch]; exact hjk
  refine g_Pcj R3 hno hx (((s_ch s j (fun k => (k.w_kept []).w_confs [])).ch j).w_due 0) rfl (fun ⟨q1, q2, q3⟩ => ⟨q1, fun e => by rw [show (((s_ch s j (fun k => (k.w_kept []).w_confs [])).ch j).w_due 0).junk = ((s_ch s j (fun k => (k.w_kept []).w_confs [])).ch j).junk from rfl, j3] at e; exact absurd e (by decide), q3⟩) fun h4 R4 _ => ?_
  have R4 : tR s0 F b (s_ch (s_ch s j (fun k => (k.w_kept []).w_confs [])) j (fun k => k.w_due 0)) (w.w_cd (sUp w.cd j 0)) g h4 := R4
  rw [w_ch_ch] at R4
  refine g_Pct R4 hno hx fun g5 h5 R5 L5 hno5 _ => ?_
  rw [w_ch_ch] at R5
  have hx5 := L5.k hx (Or.inr (Or.inr (Or.inl rfl)))
  refine g_Pcj R5 hno5 hx5 ((_ : sCh).w_mode 0) rfl (fun hok => hok) fun h6 R6 _ => ?_
  have R6 : tR s0 F b (s_ch (s_ch s j (fun k => ((((k.w_kept []).w_confs []).w_due 0).w_cont none).w_junk false)) j (fun k => k.w_mode 0)) (w.w_cd (sUp w.cd j 0)) g5 h6 := R6
  rw [w_ch_ch] at R6
  refine g_Pcj R6 hno5 hx5 ((_ : sCh).w_confirm 0) rfl (fun hok => hok) fun h7 R7 _ => ?_
  have R7 : tR s0 F b (s_ch (s_ch s j (fun k => (((((k.w_kept []).w_confs []).w_due 0).w_cont none).w_junk false).w_mode 0)) j (fun k => k.w_confirm 0)) (w.w_cd (sUp w.cd j 0)) g5 h7 := R7
  rw [w_ch_ch] at R7
  refine g_Pcj R7 hno5 hx5 ((_ : sCh).w_tag 0) rfl (fun hok => hok) fun h8 R8 _ => ?_
  have R8 : tR s0 F b (s_ch (s_ch s j (fun k => ((((((k.w_kept []).w_confs []).w_due 0).w_cont none).w_junk false).w_mode 0).w_confirm 0)) j (fun k => k.w_tag 0)) (w.w_cd (sUp w.cd j 0)) g5 h8 := R8
  rw [w_ch_ch] at R8
  exact K g5 h8 R8 L5
theorem fin_of_junk : s_fin (s_ch s j (fun k => k.w_junk true)) j = s_fin s j := by
  unfold s_fin
  rw [w_ch_ch]
  exact congrArg (fun f => s_ch s j f) (funext fun k => fin_junk)
theorem cd_0 (hcd : ∀ i, w.cd i = 0) : w.w_cd (sUp w.cd j 0) = w := by
  have e : sUp w.cd j 0 = w.cd := funext fun i => by
    by_cases e : i = j
    · subst e; rw [sUp_self, hcd]
    · exact sUp_ne e
  rw [e]
  rfl
/-- nothing is sent -/
theorem d_nosent (I : sI s) (hj : isH j) (h1 : (s.ch j).state ≠ 1) : sDn s (s_ch s j (fun k => k.w_sent [])) :=
  sDn.chUp (fun I => I.chUp ⟨List.nodup_nil, fun y hy => nomatch hy⟩ (fun _ hx => hx) (fun hx => hx) (Nat.le_refl _) fun e => absurd e h1) (Nat.add_le_add_right (Nat.zero_le _) _) (fun e => e) (fun e => e) rfl
theorem sent_drop {l : List Nat} (hl : l.length = k + 1) : l.eraseIdx k = l.take k := by
  rw [List.eraseIdx_eq_take_drop_succ, List.drop_of_length_le (by omega), List.append_nil]
theorem sent_same (hc : (s.ch j).sent = []) : s_ch s j (fun k => k.w_sent []) = s := by
  have e : (s.ch j).w_sent [] = s.ch j := by
    generalize s.ch j = k at hc
    obtain ⟨a1, a2, a3, a4, a5, a6, a7, a8, a9, b1, b2, b3, b4, b5, b6, b7⟩ := k
    cases hc
    rfl
  show s.w_ch (sUp s.ch j ((s.ch j).w_sent [])) = s
  rw [e, show sUp s.ch j (s.ch j) = s.ch from funext fun i => by
    by_cases e : i = j
    · subst e; exact sUp_self
    · exact sUp_ne e]
  rfl
theorem t_fg_34 {y : Int32} (hj : isH j) (hcd : ∀ i, w.cd i = 0) (hm0 : g0.kind x0 = (1, 0)) (hx0 : g0.kind x3 = (3, j))
    (K : ∀ g1 h1, tZ s0 F b (s_fin (s_ch S j (fun k => k.w_sent [])) j) w g1 h1 → gL g0 g1 → zP s0 m_X8_forgetAll (d + 1) 17 [some (zr x0), some (zr x1), some (.int (y + 1)), none] [] h1 Q E) :
    ∀ (k : Nat) (s : sSt) (g : sG) (h : zH), (s.ch j).sent.length = k → s_ch s j (fun k => k.w_sent []) = s_ch S j (fun k => k.w_sent []) → (s.ch j).state ≠ 1 → tZ s0 F b s w g h → gL g0 g →
      zP s0 m_X8_forgetAll (d + 1) 34 [some (zr x0), some (zr x1), some (.int y), some (zr x3)] [] h Q E
  | 0, s, g, h, hk, hS, h1, Z, L => by
    have hx := L.k hx0 gSt3
    have hs : (s.ch j).sent = [] := List.eq_nil_of_length_eq_zero hk
    rw [← hS, sent_same hs] at K
    have D := d_fin Z.i hj hs h1
    obtain ⟨g3, R3, L3, hno, -⟩ := Z.r.junk (j := j)
    refine b_X8_forgetAll_34 (e_I (Z.r.1.cell hx (by decide)) fun (z1 : gI h x3 10 = Int32.ofNat (s.ch j).sent.length) => ?_)
    rw [z1, hk]
    refine ⟨fun _ => g_fin7 R3 hno (by rw [s_ch_ch]; rfl) (L3.k hx gSt3) fun g4 h4 R4 L4 => ?_, fun hn => absurd (by decide) hn⟩
    rw [fin_of_junk, cd_0 hcd] at R4
    exact K g4 h4 (Z.dn' D R4) (L.trans (L3.trans L4))
  | k + 1, s, g, h, hk, hS, h1, Z, L => by
    have hx := L.k hx0 gSt3
    have hm := L.m hm0
    have ex := Z.r.1.cell hx (by decide)
    have hsl := Z.sent hj
    obtain ⟨m, hmk⟩ : ∃ m, (s.ch j).sent[k]? = some m := ⟨_, List.getElem?_eq_getElem (by omega)⟩
    refine b_X8_forgetAll_34 (e_I ex fun (z1 : gI h x3 10 = Int32.ofNat (s.ch j).sent.length) => ?_)
    rw [z1, hk, show (0 : Int32) = Int32.ofNat 0 from rfl, i_le (by omega) (by decide)]
    refine ⟨fun hle => absurd hle (by omega), fun _ => e_I ex fun _ => ⟨⟨_, Z.r.main hm⟩, ?_⟩⟩
    rw [i_pred (by omega), Nat.add_sub_cancel]
    refine t_take Z.r Z.sc hj hx hmk (by omega) fun g1 h2 R1 L1 => ⟨_, rfl, ?_⟩
    have hd : (s.ch j).sent.eraseIdx k = (s.ch j).sent.take k := sent_drop hk
    have e1 : s_ch s j (fun x => x.w_sent (x.sent.eraseIdx k)) = s_ch s j (fun x => x.w_sent ((s.ch j).sent.take k)) := by
      show s.w_ch (sUp s.ch j ((s.ch j).w_sent ((s.ch j).sent.eraseIdx k))) = _
      rw [hd]
      rfl
    rw [e1] at R1
    have D : sDn s (s_ch s j (fun x => x.w_sent ((s.ch j).sent.take k))) :=
      sDn.chUp (fun I => I.chUp ⟨(I.sn.1 j hj).1.sublist (List.take_sublist _ _), fun y hy => List.mem_of_mem_take hy⟩ (fun _ hx => hx) (fun hx => hx) (Nat.le_refl _) fun e => absurd e h1) (by
        show ((s.ch j).sent.take k).length + (s.ch j).confs.length ≤ (s.ch j).sent.length + (s.ch j).confs.length
        rw [List.length_take]
        omega) (fun e => e) (fun e => e) rfl
    have e2 : (s_ch s j (fun x => x.w_sent ((s.ch j).sent.take k))).ch j = (s.ch j).w_sent ((s.ch j).sent.take k) := s_ch_ch
    have e3 : s_ch (s_ch s j (fun x => x.w_sent ((s.ch j).sent.take k))) j (fun k => k.w_sent []) = s_ch S j (fun k => k.w_sent []) := by
      rw [w_ch_ch, ← hS]
      rfl
    have Z1 := Z.dn' D R1
    generalize s_ch s j (fun x => x.w_sent ((s.ch j).sent.take k)) = s1 at e2 e3 Z1
    refine t_fg_34 hj hcd hm0 hx0 K k s1 g1 h2 ?_ e3 ?_ Z1 (L.trans L1)
    · rw [e2]
      show ((s.ch j).sent.take k).length = k
      rw [List.length_take]
      omega
    · rw [e2]
      exact h1
theorem forgetH_eq : s_forgetH s j = s_fin (s_ch (s_ch s j (fun k => k.w_state 0)) j (fun k => k.w_sent [])) j := by
  rw [w_ch_ch]
  rfl
theorem d_forgetH (I : sI s) (hj : isH j) : sDn s (s_forgetH s j) := by
  rw [forgetH_eq]
  have D1 := d_cs (v := 0) I hj (by decide)
  have e1 : ((s_ch s j (fun k => k.w_state 0)).ch j).state = 0 := by rw [s_ch_ch]; rfl
  have I1 := D1.1 I
  generalize s_ch s j (fun k => k.w_state 0) = s1 at D1 e1 I1
  have D2 := d_nosent I1 hj (by rw [e1]; decide)
  have e2 : ((s_ch s1 j (fun k => k.w_sent [])).ch j).state = 0 := by rw [s_ch_ch]; exact e1
  have e3 : ((s_ch s1 j (fun k => k.w_sent [])).ch j).sent = [] := by rw [s_ch_ch]; rfl
  have I2 := D2.1 I1
  generalize s_ch s1 j (fun k => k.w_sent []) = s2 at D2 e2 e3 I2
  exact (D1.trans D2).trans (d_fin I2 hj e3 (by rw [e2]; decide))
theorem ec_forget (k : sCh) : sEc k ((((((((((k.w_state 0).w_sent []).w_kept []).w_confs []).w_due 0).w_cont none).w_mode 0).w_confirm 0).w_tag 0).w_junk false) := by
  obtain ⟨k1, k2, k3, k4, k5, k6, k7, k8, k9, k10, k11, k12, k13, k14, k15, k16⟩ := k
  exact ⟨Or.inr rfl, Or.inr rfl, Or.inr ⟨Or.inl rfl, rfl, rfl⟩, rfl, fun x hx => nomatch hx⟩
theorem e_forgetH : sE s (s_forgetH s j) := by
  unfold s_forgetH
  rw [w_ch_ch]
  exact e_chUp (ec_forget _)
theorem forgetH_conf : ((s_forgetH s j).ch j).confs = [] ∧ ((s_forgetH s j).ch j).sent = [] ∧ ∀ i, i ≠ j → (s_forgetH s j).ch i = s.ch i := by
  unfold s_forgetH
  rw [w_ch_ch, s_ch_ch]
  exact ⟨rfl, rfl, fun i hi => sUp_ne hi⟩
theorem t_fgH (Z : tZ s0 F b s w g h) (hm : g.kind x0 = (1, 0)) (hx : g.kind x1 = (2, c)) (hc : c < 4) (hn : 1 ≤ n ∧ n ≤ 3) (hcd : ∀ i, w.cd i = 0)
    (K : ∀ g1 h1, tZ s0 F b (s_forgetH s (4 * c + n)) w g1 h1 → gL g g1 → zP s0 m_X8_forgetAll (d + 1) 17 [some (zr x0), some (zr x1), some (.int (Int32.ofNat (n + 1))), none] [] h1 Q E) :
    zP s0 m_X8_forgetAll (d + 1) 17 [some (zr x0), some (zr x1), some (.int (Int32.ofNat n)), none] [] h Q E := by
  have hj : isH (4 * c + n) := isH.of hc hn.1 hn.2
  have A := (Z.r.2.2.2.2.2.1 c hc).2.2
  obtain ⟨eA, hA⟩ := Z.r.arr (t := 19) A rfl (by decide) (by decide)
  have hget : (zr 0 :: [1, 2, 3].map (fun k => zr (g.ref 3 (4 * c + k))))[n]? = some (zr (g.ref 3 (4 * c + n))) := by
    have h3 : n = 1 ∨ n = 2 ∨ n = 3 := by omega
    rcases h3 with e | e | e <;> subst e <;> rfl
  refine b_X8_forgetAll_17 ⟨fun h3 => ?_, fun _ => e_R (Z.r.1.cell hx (by decide)) fun (z2 : gR h x1 12 = g.ref 27 c) => ?_⟩
  · rw [show (3 : Int32) = Int32.ofNat 3 from rfl, i_lt (by decide) (by omega)] at h3
    omega
  rw [z2]
  refine g_ER (t := 19) eA (zin_of (by rw [A.2.1]; omega) (by omega)) (by rw [i_nat (by omega)]; exact pre_get A.2.2 hget) fun z3 => ?_
  rw [z3]
  have hk3 := Z.r.ch hj
  generalize 4 * c + n = j at hj hk3 K
  have D := d_cs (v := 0) Z.i hj (by decide)
  refine g_Ph Z.r hk3 ((s.ch j).w_state 0) rfl rfl (fun hok => hok) fun h1 R1 _ => ?_
  have R1 : tR s0 F (b + tP s) (s_ch s j (fun k => k.w_state 0)) w g h1 := R1
  have Z1 := Z.dn' D R1
  have e1 : ((s_ch s j (fun k => k.w_state 0)).ch j).state = 0 := by rw [s_ch_ch]; rfl
  rw [forgetH_eq] at K
  generalize s_ch s j (fun k => k.w_state 0) = s1 at K Z1 e1
  refine t_fg_34 (S := s1) (g0 := g) hj hcd hm hk3 (fun g2 h2 Z2 L2 => ?_) (s1.ch j).sent.length s1 g h1 rfl rfl (by rw [e1]; decide) Z1 (gL.refl g)
  rw [i_succ]
  exact K g2 h2 Z2 L2
theorem t_forgetAll (Z : tZ s0 F b s w g h) (hm : g.kind x0 = (1, 0)) (hx : g.kind x1 = (2, c)) (hc : c < 4) (hcd : ∀ i, w.cd i = 0)
    (K : ∀ g1 h1, tZ s0 F b (s_forgetC s c) w g1 h1 → gL g g1 → Q .null h1) : zX s0 m_X8_forgetAll (d + 1) [zr x0, zr x1] h Q E := by
  have D0 := d_cl0 (c := c) Z.i
  refine c_X8_forgetAll ?_
  refine g_Pcn Z.r hx ((s.cn c).w_state 0) rfl (Z.r.2.cn fun hc4 => ⟨(Z.r.2.2.2.2.2.1 c hc4).1, (Z.r.2.2.2.2.2.1 c hc4).2.1.2⟩) fun h1 R1 _ => ?_
  have c1 : (s.w_cn (sUp s.cn c ((s.cn c).w_state 0))).cn c = (s.cn c).w_state 0 := sUp_self
  refine g_Pcn R1 hx (((s.cn c).w_state 0).w_inp []) (by rw [c1]; rfl) (R1.2.cn fun hc4 => ⟨⟨(Z.r.2.2.2.2.2.1 c hc4).1.1, (Z.r.2.2.2.2.2.1 c hc4).1.2.1, List.nil_prefix⟩, (Z.r.2.2.2.2.2.1 c hc4).2.1.2⟩) fun h2 R2 _ => ?_
  rw [wr_cn, sUp_sUp] at R2
  have R2 : tR s0 F (b + tP s) (s.w_cn (sUp s.cn c (((s.cn c).w_state 0).w_inp []))) w g h2 := R2
  have c2 : (s.w_cn (sUp s.cn c (((s.cn c).w_state 0).w_inp []))).cn c = ((s.cn c).w_state 0).w_inp [] := sUp_self
  refine g_Pcn R2 hx ((((s.cn c).w_state 0).w_inp []).w_deaf false) (by rw [c2]; rfl) (R2.2.cn fun hc4 => ⟨⟨(Z.r.2.2.2.2.2.1 c hc4).1.1, (Z.r.2.2.2.2.2.1 c hc4).1.2.1, List.nil_prefix⟩, (Z.r.2.2.2.2.2.1 c hc4).2.1.2⟩) fun h3 R3 _ => ?_
  rw [wr_cn, sUp_sUp] at R3
  have R3 : tR s0 F (b + tP s) (s_cn s c (fun k => ((k.w_state 0).w_inp []).w_deaf false)) w g h3 := R3
  have Z3 := Z.dn' D0 R3
  unfold s_forgetC at K
  generalize s_cn s c (fun k => ((k.w_state 0).w_inp []).w_deaf false) = s1 at K Z3
  refine t_fgH (n := 1) Z3 hm hx hc ⟨by decide, by decide⟩ hcd fun g4 h4 Z4 L4 => ?_
  generalize s_forgetH s1 (4 * c + 1) = s2 at K Z4
  refine t_fgH (n := 2) Z4 (L4.m hm) (L4.k hx gSt2) hc ⟨by decide, by decide⟩ hcd fun g5 h5 Z5 L5 => ?_
  generalize s_forgetH s2 (4 * c + 2) = s3 at K Z5
  refine t_fgH (n := 3) Z5 (L5.m (L4.m hm)) (L5.k (L4.k hx gSt2) gSt2) hc ⟨by decide, by decide⟩ hcd fun g6 h6 Z6 L6 => ?_
  exact b_X8_forgetAll_17 ⟨fun _ => K g6 h6 Z6 ((L4.trans L5).trans L6), fun hn => absurd (by decide) hn⟩
theorem d_forgetC (I : sI s) (hc : c < 4) : sDn s (s_forgetC s c) := by
  unfold s_forgetC
  have D0 := d_cl0 (c := c) I
  have I0 := D0.1 I
  generalize s_cn s c (fun k => ((k.w_state 0).w_inp []).w_deaf false) = s1 at D0 I0
  have D1 := d_forgetH I0 (isH.of hc (k := 1) (by decide) (by decide))
  have I1 := D1.1 I0
  generalize s_forgetH s1 (4 * c + 1) = s2 at D1 I1
  have D2 := d_forgetH I1 (isH.of hc (k := 2) (by decide) (by decide))
  have I2 := D2.1 I1
  generalize s_forgetH s2 (4 * c + 2) = s3 at D2 I2
  exact ((D0.trans D1).trans D2).trans (d_forgetH I2 (isH.of hc (k := 3) (by decide) (by decide)))
theorem e_forgetC : sE s (s_forgetC s c) := by
  unfold s_forgetC
  exact (((e_cnUp (f := fun k => ((k.w_state 0).w_inp []).w_deaf false) fun _ => Nat.zero_le _).trans e_forgetH).trans e_forgetH).trans e_forgetH
theorem d_forget (I : sI s) : sDn s (s_forget s) := by
  unfold s_forget
  have D0 := d_forgetC (c := 0) I (by decide)
  have I0 := D0.1 I
  generalize s_forgetC s 0 = s1 at D0 I0
  have D1 := d_forgetC (c := 1) I0 (by decide)
  have I1 := D1.1 I0
  generalize s_forgetC s1 1 = s2 at D1 I1
  have D2 := d_forgetC (c := 2) I1 (by decide)
  have I2 := D2.1 I1
  generalize s_forgetC s2 2 = s3 at D2 I2
  exact ((D0.trans D1).trans D2).trans (d_forgetC (c := 3) I2 (by decide))
theorem e_forget : sE s (s_forget s) := ((e_forgetC.trans e_forgetC).trans e_forgetC).trans e_forgetC
/-- one channel is empty -/
def chNo (k : sCh) : Prop := k.confs = [] ∧ k.sent = [] ∧ k.kept = [] ∧ k.state = 0 ∧ k.cont = none ∧ k.junk = false
/-- nothing is left of connections and channels -/
def sNone (s : sSt) : Prop := (∀ c, c < 4 → (s.cn c).state = 0 ∧ (s.cn c).inp = []) ∧ ∀ h, isH h → chNo (s.ch h)
theorem forgetH_ch : (s_forgetH s j).ch j = ((((((((((s.ch j).w_state 0).w_sent []).w_kept []).w_confs []).w_due 0).w_cont none).w_mode 0).w_confirm 0).w_tag 0).w_junk false ∧ (∀ i, i ≠ j → (s_forgetH s j).ch i = s.ch i) ∧ (s_forgetH s j).cn = s.cn := by
  unfold s_forgetH
  rw [w_ch_ch, s_ch_ch]
  exact ⟨rfl, fun i hi => sUp_ne hi, rfl⟩
theorem chNo_fg (k : sCh) : chNo (((((((((((k.w_state 0).w_sent []).w_kept []).w_confs []).w_due 0).w_cont none).w_mode 0).w_confirm 0).w_tag 0).w_junk false)) := by
  obtain ⟨k1, k2, k3, k4, k5, k6, k7, k8, k9, k10, k11, k12, k13, k14, k15, k16⟩ := k
  exact ⟨rfl, rfl, rfl, rfl, rfl, rfl⟩
theorem forgetH_no {i : Nat} (H : i = j ∨ chNo (s.ch i)) : chNo ((s_forgetH s j).ch i) := by
  obtain ⟨f1, f2, -⟩ := forgetH_ch (s := s) (j := j)
  by_cases e : i = j
  · subst e
    rw [f1]
    exact chNo_fg _
  · rw [f2 i e]
    exact H.resolve_left e
theorem forgetC_no : (∀ i, (4 * c + 1 ≤ i ∧ i ≤ 4 * c + 3) ∨ chNo (s.ch i) → chNo ((s_forgetC s c).ch i)) ∧ ((s_forgetC s c).cn c).state = 0 ∧ ((s_forgetC s c).cn c).inp = [] ∧ ∀ i, i ≠ c → (s_forgetC s c).cn i = s.cn i := by
  unfold s_forgetC
  have a1 : ((s_cn s c (fun k => ((k.w_state 0).w_inp []).w_deaf false)).cn c).state = 0 ∧ ((s_cn s c (fun k => ((k.w_state 0).w_inp []).w_deaf false)).cn c).inp = [] := by
    rw [show (s_cn s c (fun k => ((k.w_state 0).w_inp []).w_deaf false)).cn c = (((s.cn c).w_state 0).w_inp []).w_deaf false from sUp_self]
    exact ⟨rfl, rfl⟩
  have a2 : ∀ i, i ≠ c → (s_cn s c (fun k => ((k.w_state 0).w_inp []).w_deaf false)).cn i = s.cn i := fun i hi => sUp_ne hi
  have a3 : (s_cn s c (fun k => ((k.w_state 0).w_inp []).w_deaf false)).ch = s.ch := rfl
  generalize s_cn s c (fun k => ((k.w_state 0).w_inp []).w_deaf false) = s1 at a1 a2 a3
  have f1 := forgetH_ch (s := s1) (j := 4 * c + 1)
  have n1 := fun i => forgetH_no (s := s1) (j := 4 * c + 1) (i := i)
  generalize s_forgetH s1 (4 * c + 1) = s2 at f1 n1
  have f2 := forgetH_ch (s := s2) (j := 4 * c + 2)
  have n2 := fun i => forgetH_no (s := s2) (j := 4 * c + 2) (i := i)
  generalize s_forgetH s2 (4 * c + 2) = s3 at f2 n2
  have f3 := forgetH_ch (s := s3) (j := 4 * c + 3)
  have n3 := fun i => forgetH_no (s := s3) (j := 4 * c + 3) (i := i)
  generalize s_forgetH s3 (4 * c + 3) = s4 at f3 n3
  refine ⟨fun i hi => n3 i ?_, ?_, ?_, fun i hi => ?_⟩
  · by_cases e3 : i = 4 * c + 3
    · exact Or.inl e3
    · refine Or.inr (n2 i ?_)
      by_cases e2 : i = 4 * c + 2
      · exact Or.inl e2
      · refine Or.inr (n1 i ?_)
        by_cases e1 : i = 4 * c + 1
        · exact Or.inl e1
        · refine Or.inr ?_
          rw [a3]
          exact hi.resolve_left fun hh => by omega
  · rw [f3.2.2, f2.2.2, f1.2.2]; exact a1.1
  · rw [f3.2.2, f2.2.2, f1.2.2]; exact a1.2
  · rw [f3.2.2, f2.2.2, f1.2.2]; exact a2 i hi
theorem forget_no : sNone (s_forget s) := by
  unfold s_forget
  obtain ⟨a1, a2, a3, a4⟩ := forgetC_no (s := s) (c := 0)
  generalize s_forgetC s 0 = s1 at a1 a2 a3 a4
  obtain ⟨b1, b2, b3, b4⟩ := forgetC_no (s := s1) (c := 1)
  generalize s_forgetC s1 1 = s2 at b1 b2 b3 b4
  obtain ⟨c1, c2, c3, c4⟩ := forgetC_no (s := s2) (c := 2)
  generalize s_forgetC s2 2 = s3 at c1 c2 c3 c4
  obtain ⟨d1, d2, d3, d4⟩ := forgetC_no (s := s3) (c := 3)
  generalize s_forgetC s3 3 = s4 at d1 d2 d3 d4
  refine ⟨fun c hc => ?_, fun h hh => d1 h ?_⟩
  · have h4 : c = 0 ∨ c = 1 ∨ c = 2 ∨ c = 3 := by omega
    rcases h4 with e | e | e | e <;> subst e
    · rw [d4 0 (by decide), c4 0 (by decide), b4 0 (by decide)]; exact ⟨a2, a3⟩
    · rw [d4 1 (by decide), c4 1 (by decide)]; exact ⟨b2, b3⟩
    · rw [d4 2 (by decide)]; exact ⟨c2, c3⟩
    · exact ⟨d2, d3⟩
  · have h16 : h < 16 := hh.1
    have h0 : h % 4 ≠ 0 := hh.2
    by_cases e3 : 13 ≤ h
    · exact Or.inl (by omega)
    · refine Or.inr (c1 h ?_)
      by_cases e2 : 9 ≤ h
      · exact Or.inl (by omega)
      · refine Or.inr (b1 h ?_)
        by_cases e1 : 5 ≤ h
        · exact Or.inl (by omega)
        · exact Or.inr (a1 h (Or.inl (by omega)))
end OG
