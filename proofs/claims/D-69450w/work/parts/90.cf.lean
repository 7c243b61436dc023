/-! ===== the twin: what is returned and confirmed ===== -/
set_option maxRecDepth 100000
section CF
variable {s0 : zE} {F : Nat → Option zC} {b : Nat} {s s' : sSt} {w w' : tW} {g g' : sG} {h h' : zH} {d x0 x1 x2 x3 n c i j q m : Nat} {Q : Value → zH → Prop} {E : Nat → zH → Prop}
theorem t_sendReturn {c : sCont} (Z : tZ s0 F b s w g h) (hm : g.kind x0 = (1, 0)) (hx : g.kind x1 = (3, j)) (hj : isH j) (hc : gCont g x2 c) (ok : sContOk c)
    (K : ∀ w1 g1 h1, tZ s0 F b (s_send s (j / 4) (w_method (Int32.ofNat (j % 4)) 60 50 (w_16 312 ++ w_8 0 ++ w_short c.exch ++ w_short c.key) ++ w_content (Int32.ofNat (j % 4)) c c.expi)) w1 g1 h1 →
      tWk (s_send s (j / 4) (w_method (Int32.ofNat (j % 4)) 60 50 (w_16 312 ++ w_8 0 ++ w_short c.exch ++ w_short c.key) ++ w_content (Int32.ofNat (j % 4)) c c.expi)) w w1 → gL g g1 → Q .null h1) : zX s0 m_X8_sendReturn (d + 70) [zr x0, zr x1, zr x2] h Q E := by
  obtain ⟨dr, sz, rd, u⟩ := w
  obtain ⟨⟨o1, o2, hh, -⟩, hbl⟩ := ok
  refine c_X8_sendReturn (e_I (Z.r.1.cell hx (by decide)) fun (z1 : gI h x1 1 = Int32.ofNat (j % 4)) => ?_)
  rw [z1]
  refine ⟨⟨_, Z.r.main hm⟩, t_beginMethod (d := d + 65) Z.r hm fun g1 h1 R1 L1 => ⟨⟨_, R1.main (L1.m hm)⟩, t_put16 (d := d + 68) R1 (L1.m hm) (by simp [w_head, w_8, w_16]) fun g2 h2 R2 L2 => ?_⟩⟩
  have hm2 := L2.m (L1.m hm)
  refine ⟨⟨_, R2.main hm2⟩, t_put R2 hm2 (by simp [w_head, w_8, w_16]) fun g3 h3 R3 L3 => ?_⟩
  have L13 := (L1.trans L2).trans L3
  have hm3 := L13.m hm
  have hc3 := L13.Cont hc
  obtain ⟨e1, k1, hd1, bd1, got1, ec, f1, f2, f3, f4⟩ := hc3.cell R3
  refine e_R ec fun (z2 : gR h3 x2 0 = e1) => ?_
  rw [z2]
  refine ⟨⟨_, R3.main hm3⟩, t_putShort (d := d + 67) R3 hm3 f1 (by simp [w_head, w_8, w_16]; omega) fun g4 h4 R4 L4 => ?_⟩
  have hm4 := L4.m hm3
  have hc4 := L4.Cont hc3
  obtain ⟨e2, k2, hd2, bd2, got2, ec2, f5, f6, f7, f8⟩ := hc4.cell R4
  refine e_R ec2 fun (z3 : gR h4 x2 1 = k2) => ?_
  rw [z3]
  refine ⟨⟨_, R4.main hm4⟩, t_putShort (d := d + 67) R4 hm4 f6 (by simp [w_head, w_8, w_16, w_short]; omega) fun g5 h5 R5 L5 => ?_⟩
  have hm5 := L5.m hm4
  refine ⟨⟨_, R5.main hm5⟩, t_endFrame (p := []) (ty := 1) (ch := Int32.ofNat (j % 4)) (body := w_16 60 ++ w_16 50 ++ (w_16 312 ++ w_8 0 ++ w_short c.exch ++ w_short c.key)) R5 hm5 (by simp [w_8]) rfl (by simp [w_head, w_8, w_16, w_short]; omega) fun g6 h6 R6 L6 => ?_⟩
  have L16 := ((L13.trans L4).trans L5).trans L6
  have hm6 := L16.m hm
  have hc6 := L16.Cont hc
  have hx6 := L16.k hx gSt3
  obtain ⟨e3, k3, hd3, bd3, got3, ec3, -⟩ := hc6.cell R6
  refine e_I (R6.1.cell hx6 (by decide)) fun (z4 : gI h6 x1 1 = Int32.ofNat (j % 4)) => e_J ec3 fun (z5 : gJ h6 x2 5 = c.expi) => ?_
  rw [z4, z5]
  rw [List.nil_append] at R6
  refine ⟨⟨_, R6.main hm6⟩, t_putContent (d := d + 65) R6 hm6 hc6 (by simp [w_frame, w_8, w_16, w_32, w_short]; omega) hbl (fun t ht => (hh t ht).1) fun sz7 g7 h7 R7 L7 => ?_⟩
  have L17 := L16.trans L7
  have hx7 := L7.k hx6 gSt3
  refine e_R (R7.1.cell hx7 (by decide)) fun (z6 : gR h7 x1 0 = g7.ref 2 (j / 4)) => ?_
  rw [z6]
  exact ⟨⟨_, R7.main (L17.m hm)⟩, t_go (d := d) (Z.re R7) (L17.m hm) (R7.cn hj.div) hj.div fun w8 g8 h8 Z8 W8 L8 => K w8 g8 h8 Z8 W8 (L17.trans L8)⟩
/-- a number is noted, where there is a place for it -/
theorem t_confirm_79 (R : tR s0 F b s w g h) (hj : isH j) (hx : g.kind x1 = (3, j)) (hcd : w.cd j = 0) (A : gAr g 30 j n ((s.ch j).confs.map (fun x => Value.int x))) (hl : (s.ch j).confs.length < n) (hcf : 2 * ((s.ch j).confs.length + 1) ≤ n + g.cf 30 j) (h64 : 16 ≤ n ∧ n < 2000000)
    (K : ∀ g1 h1, tR s0 F b (s_ch s j (fun k => k.w_confs (k.confs ++ [k.confirm]))) w g1 h1 → gL g g1 → Q .null h1) : zP s0 m_X8_confirm (d + 1) 79 [none, some (zr x1), none, none, none] [] h Q E := by
  have ex := R.1.cell hx (by decide)
  have eA : h.1 (g.ref 30 j) = some (1000 + 1, g.ar 30 j) := R.1.cell A.1 (by decide)
  have hA : s0.1.heap.size < g.ref 30 j := R.1.new A.1 (by decide) (by decide)
  have hne : x1 ≠ g.ref 30 j := kne hx A.1 fun e => absurd (congrArg Prod.fst e) (by show ¬ (3 : Nat) = 30; decide)
  have hcount : ∀ k : Nat, w.cd j + k = k := fun k => by rw [hcd, Nat.zero_add]
  refine b_X8_confirm_79 (e_R ex fun (z1 : gR h x1 18 = g.ref 30 j) => e_I ex fun (z2 : gI h x1 11 = Int32.ofNat (w.cd j + (s.ch j).confs.length)) => e_I ex fun (z3 : gI h x1 7 = (s.ch j).confirm) => ?_)
  rw [z1, z2, z3, hcount]
  refine g_S (t := 1) eA hA (zin_of (by rw [A.2.1]; exact hl) (by omega)) ?_
  rintro h6 rfl
  rw [i_nat (by omega)]
  have e6 : (zput h (g.ref 30 j) (s.ch j).confs.length (.int (s.ch j).confirm)).1 x1 = some (9, tCh (s.ch j) w g j) := by rw [zput_ne hne]; exact ex
  refine e_I e6 fun (z4 : gI _ x1 11 = Int32.ofNat (w.cd j + (s.ch j).confs.length)) => g_C e6 ?_
  rw [z4, i_succ]
  rintro h7 rfl
  have e7 : (zput (zput h (g.ref 30 j) (s.ch j).confs.length (.int (s.ch j).confirm)) x1 11 (.int (Int32.ofNat (w.cd j + (s.ch j).confs.length + 1)))).1 x1 = some (9, tCh ((s.ch j).w_confs ((s.ch j).confs ++ [(s.ch j).confirm])) w g j) := by
    rw [zput_self e6]
    have e9 : w.cd j + (s.ch j).confs.length + 1 = w.cd j + ((s.ch j).confs ++ [(s.ch j).confirm]).length := by rw [List.length_append]; rfl
    rw [e9]
    rfl
  refine K (gSet g 30 j ((g.ar 30 j).set (s.ch j).confs.length (.int (s.ch j).confirm))) _ ?_ gL.set
  refine R.arC (x := (s.ch j).w_confs ((s.ch j).confs ++ [(s.ch j).confirm])) (Or.inr (Or.inr rfl)) hx rfl A.1 (fun m (q1 : m ≠ x1) (q2 : m ≠ g.ref 30 j) => by rw [zput_ne q1, zput_ne q2]) e7 ?_ rfl (R.2.arC (Or.inr (Or.inr rfl)) ?_)
  · rw [zput_ne hne.symm]
    exact zput_self eA
  · obtain ⟨f1, f2, ⟨n5, f3, f4, f5⟩, f6, -⟩ := R.2.chok hj
    refine ⟨f1, gUn.ne (k := (s.ch j)) f2 (by decide), ⟨n5, f3, f4, f5.ne (by omega)⟩, f6.ne2 (fun r x hx => hx) (by omega), n, [], h64, ?_, hcd.symm, gAr.new A.1 (by rw [List.length_set]; exact A.2.1) ?_⟩
    · show 2 * (w.cd j + ((s.ch j).confs ++ [(s.ch j).confirm]).length) ≤ n + g.cf 30 j
      rw [List.length_append, List.length_singleton, hcount]
      exact hcf
    · have := pre_snoc A.2.2 (v := Value.int (s.ch j).confirm) (by rw [List.length_map, A.2.1]; exact hl)
      rw [List.length_map] at this
      show [] ++ ((s.ch j).confs ++ [(s.ch j).confirm]).map (fun x => Value.int x) <+: _
      rw [List.map_append, List.map_singleton, List.nil_append]
      exact this
theorem t_confirm_48 {N cap n1 : Nat} {M : List Value} (G : tG s w g) (hj : isH j) (hx : g.kind x1 = (3, j)) (hcd : w.cd j = 0) (A : gAr g 30 j cap ((s.ch j).confs.map (fun x => Value.int x))) (hcap : cap < 2000000) (hM : (s.ch j).confs.length ≤ M.length) (hM2 : M.length < 2147483648)
    (K : ∀ h1, gH s0 F N (tcell s w g) g h1 → zUn s0 F g h1 n1 1001 (cpy (g.ar 30 j) M (s.ch j).confs.length) → zP s0 m_X8_confirm (d + 1) 79 [none, some (zr x1), none, none, none] [] (zput h1 x1 18 (zr n1)) Q E) :
    ∀ (k i : Nat) (h : zH), (s.ch j).confs.length = i + k → gH s0 F N (tcell s w g) g h → zUn s0 F g h n1 1001 (cpy (g.ar 30 j) M i) → zP s0 m_X8_confirm (d + 1) 48 [none, some (zr x1), none, some (zr n1), some (.int (Int32.ofNat i))] [] h Q E
  | k, i, h, hi, H, U => by
    have ex : h.1 x1 = some (9, tCh (s.ch j) w g j) := H.cell hx (by decide)
    have hle := A.le
    rw [List.length_map] at hle
    have hcount : w.cd j + (s.ch j).confs.length = (s.ch j).confs.length := by rw [hcd, Nat.zero_add]
    refine b_X8_confirm_48 (e_I ex fun (z1 : gI h x1 11 = Int32.ofNat (w.cd j + (s.ch j).confs.length)) => ⟨fun hl => ?_, fun hl => ?_⟩)
    · rw [z1, hcount, i_le (by omega) (by omega)] at hl
      have ej : i = (s.ch j).confs.length := by omega
      subst ej
      exact g_C ex fun h1 e1 => by rw [e1]; exact K h H U
    · rw [z1, hcount, i_le (by omega) (by omega)] at hl
      obtain ⟨k', rfl⟩ : ∃ k', k = k' + 1 := ⟨k - 1, by omega⟩
      have hx5 : (s.ch j).confs[i]? = some (s.ch j).confs[i] := List.getElem?_eq_getElem (by omega)
      have hr : (g.ar 30 j)[i]? = some (.int (s.ch j).confs[i]) := pre_get A.2.2 (by rw [List.getElem?_map, hx5]; rfl)
      have eA : h.1 (g.ref 30 j) = some (1000 + 1, g.ar 30 j) := H.cell A.1 (by decide)
      refine e_R ex fun (z2 : gR h x1 18 = g.ref 30 j) => ?_
      rw [z2]
      refine g_EI eA (zin_of (by rw [A.2.1]; omega) (by omega)) (by rw [i_nat (by omega)]; exact hr) fun z3 => ?_
      rw [z3]
      refine g_S (t := 1) U.2.2.1 U.2.2.2.2.2 (zin_of (by rw [cpy_len]; omega) (by omega)) ?_
      rintro h2 rfl
      rw [i_nat (by omega), i_succ]
      refine t_confirm_48 G hj hx hcd A hcap hM hM2 K k' (i + 1) _ (by omega) (H.putF U.1 U.2.1) ⟨U.1, U.2.1, ?_, U.2.2.2⟩
      rw [zput_self U.2.2.1, cpy, List.getD_eq_getElem?_getD, hr]
      rfl
theorem sI.chSame (I : sI s) (hj : isH j) {k : sCh} (h1 : k.sent = (s.ch j).sent) (h2 : k.kept = (s.ch j).kept) (h3 : sChTx (s.ch j) → sChTx k) (h4 : k.state = (s.ch j).state) : sI (s.w_ch (sUp s.ch j k)) := by
  refine I.chUp ⟨?_, fun x hx => by rw [← h1]; exact hx⟩ (fun x hx => by rw [← h2]; exact hx) h3 (by rw [h2]; exact Nat.le_refl _) fun e => ?_
  · rw [h1]
    exact (I.sn.1 j hj).1
  · rw [h1, h2]
    rw [h4] at e
    exact I.sn.2.2 j hj e
theorem sWt_chUp (hj : isH j) {k : sCh} {u : Nat} (h1 : k.sent.length + k.confs.length = (s.ch j).sent.length + (s.ch j).confs.length + u) : sWt (s.w_ch (sUp s.ch j k)) = sWt s + u := by
  unfold sWt
  have := sum_up (f := fun h => (s.ch h).sent.length + (s.ch h).confs.length) (g := fun x => ((s.w_ch (sUp s.ch j k)).ch x).sent.length + ((s.w_ch (sUp s.ch j k)).ch x).confs.length) (j := j) (k := u) (l := s_hs) (by decide) hj.hs fun x _ => by
    show (sUp s.ch j k x).sent.length + (sUp s.ch j k x).confs.length = _
    by_cases e : x = j
    · subst e
      rw [sUp_self, if_pos rfl]
      exact h1
    · rw [sUp_ne e, if_neg e]
  rw [this]
  exact (Nat.add_assoc ..).symm
theorem t_confirm {rc : Bool} (Z : tZ s0 F (b + 2) s w g h) (hm : g.kind x0 = (1, 0)) (hx : g.kind x1 = (3, j)) (hj : isH j) (hcd : w.cd j = 0)
    (K : ∀ w1 g1 h1, tZ s0 F b (s_confirm s j rc) w1 g1 h1 → tWk (s_confirm s j rc) w w1 → gL g g1 → Q .null h1) : zX s0 m_X8_confirm (d + 72) [zr x0, zr x1, .int (sB rc)] h Q E := by
  have e1 := Z.r.1.cell hx (by decide)
  refine c_X8_confirm (e_I e1 fun (z1 : gI h x1 7 = (s.ch j).confirm) => ?_)
  rw [z1]
  refine g_Ph Z.r hx ((s.ch j).w_confirm ((s.ch j).confirm + 1)) rfl rfl (fun hok => hok) fun h1 R1 _ => ?_
  have hS : s_confirm s j rc = if rc then s_ch (s_ch s j (fun k => k.w_confirm (k.confirm + 1))) j (fun k => k.w_confs (k.confs ++ [k.confirm])) else s_ans (s_ch s j (fun k => k.w_confirm (k.confirm + 1))) j 60 80 (w_32 ((s_ch s j (fun k => k.w_confirm (k.confirm + 1))).ch j).confirm ++ w_8 0) := rfl
  rw [hS] at K
  clear hS
  have R1 : tR s0 F (b + 2 + tP s) (s_ch s j (fun k => k.w_confirm (k.confirm + 1))) w g h1 := R1
  have I1 : sI (s_ch s j (fun k => k.w_confirm (k.confirm + 1))) := Z.i.chSame hj rfl rfl (fun hx => hx) rfl
  have P1 : tP (s_ch s j (fun k => k.w_confirm (k.confirm + 1))) = tP s := tP_ch
  have W1 : sWt (s_ch s j (fun k => k.w_confirm (k.confirm + 1))) = sWt s := sWt_chUp (u := 0) hj rfl
  revert R1 I1 P1 W1 K
  generalize s_ch s j (fun k => k.w_confirm (k.confirm + 1)) = s1
  intro K R1 I1 P1 W1
  have hzc := Z.c
  have Z1 : tZ s0 F (b + 2) s1 w g h1 := ⟨by rw [P1]; exact R1, I1, by omega⟩
  rw [sB_0]
  refine ⟨fun hr => ?_, fun hr => ?_⟩
  · rw [Bool.not_eq_false] at hr
    subst hr
    rw [if_pos rfl] at K
    have e2 := R1.1.cell hx (by decide)
    obtain ⟨-, -, -, -, n, pre, h64, hcf, hpre, A⟩ := R1.2.chok hj
    have hp0 : pre = [] := List.eq_nil_of_length_eq_zero (hpre.trans hcd)
    subst hp0
    rw [List.nil_append] at A
    rw [hcd, Nat.zero_add] at hcf
    have hle := A.le
    rw [List.length_map] at hle
    have eA : h1.1 (g.ref 30 j) = some (1000 + 1, g.ar 30 j) := R1.1.cell A.1 (by decide)
    have hsl := Z1.sent hj
    have hcount : w.cd j + (s1.ch j).confs.length = (s1.ch j).confs.length := by rw [hcd, Nat.zero_add]
    have hsu : sWt (s_ch s1 j (fun k => k.w_confs (k.confs ++ [k.confirm]))) = sWt s1 + 1 := sWt_chUp (u := 1) hj (by
      show (s1.ch j).sent.length + ((s1.ch j).confs ++ [(s1.ch j).confirm]).length = _
      rw [List.length_append, List.length_singleton]
      exact (Nat.add_assoc ..).symm)
    have I2 : sI (s_ch s1 j (fun k => k.w_confs (k.confs ++ [k.confirm]))) := I1.chSame hj rfl rfl (fun hx => hx) rfl
    have P2 : tP (s_ch s1 j (fun k => k.w_confs (k.confs ++ [k.confirm]))) = tP s1 := tP_ch
    have hK : ∀ g1 h1, tR s0 F (b + tP s1) (s_ch s1 j (fun k => k.w_confs (k.confs ++ [k.confirm]))) w g1 h1 → gL g g1 → Q .null h1 := fun g1 h1 R L => K w g1 h1 ⟨by rw [P2]; exact R, I2, by omega⟩ tWk.refl L
    refine e_I e2 fun (z2 : gI h1 x1 11 = Int32.ofNat (w.cd j + (s1.ch j).confs.length)) => e_R e2 fun (z3 : gR h1 x1 18 = g.ref 30 j) => ?_
    rw [z2, z3, gA_of eA, A.2.1, hcount]
    have R2 : tR s0 F (b + tP s1 + 2) s1 w g h1 := R1.less (by omega)
    refine ⟨⟨_, eA⟩, fun hne => ?_, fun heq => ?_⟩
    · rw [i_inj (by omega) (by omega)] at hne
      have R3 : tR s0 F (b + tP s1) s1 w (gCr g 30 j 2) h1 := tR.cred (u := 2) (Or.inr ⟨Or.inr rfl, hj.hs⟩) R2
      exact t_confirm_79 (n := n) R3 hj hx hcd A (by omega) (by rw [gCr_self]; omega) h64 fun g1 h1 R4 L4 => hK g1 h1 R4 (gL.cr.trans L4)
    · rw [i_inj (by omega) (by omega)] at heq
      refine e_I e2 fun _ => ?_
      rw [i_mul2, i_nat (by omega)]
      refine ⟨i_nn (by omega), ?_⟩
      have hcr : n ≤ g.cr := by
        have := R2.2.2.2.2.2.2.2.2.2.2.2
        unfold tGcr at this
        have h2 := sum_cut (f := fun h => g.cf 28 h + g.cf 30 h) (l := s_hs) (j := j) (k := n) (by decide) hj.hs (by omega)
        omega
      have H := R2.1
      rw [show b + tP s1 + 2 + g.cr = b + tP s1 + 2 + (g.cr - n) + n by omega] at H
      obtain ⟨H1, hroom, k1, f1, -⟩ := H.znew (c := 1001) (fs := List.replicate (2 * (s1.ch j).confs.length) (.int 0)) (w := 2 * (s1.ch j).confs.length) (by omega) (by omega)
      refine ⟨hroom, ?_⟩
      rintro n1 rfl h3 rfl
      have U1 : zUn s0 F g (znew h1 1001 (List.replicate (2 * (s1.ch j).confs.length) (.int 0)) (2 * (s1.ch j).confs.length)) h1.2.1 1001 (cpy (g.ar 30 j) (List.replicate (2 * (s1.ch j).confs.length) (.int 0)) 0) := ⟨k1, f1, znew_self, by have := R2.big; omega, Nat.lt_succ_self _, R2.big⟩
      refine t_confirm_48 (d := d + 71) R2.2 hj hx hcd A h64.2 (by simp; omega) (by simp; omega) (fun h4 H4 U4 => ?_) (s1.ch j).confs.length 0 _ (by omega) H1 U1
      have hpre2 : (s1.ch j).confs.map (fun x => Value.int x) <+: cpy (g.ar 30 j) (List.replicate (2 * (s1.ch j).confs.length) (.int 0)) (s1.ch j).confs.length := by
        rw [List.prefix_iff_getElem?]
        intro i hi
        rw [List.length_map] at hi
        have hx5 : (s1.ch j).confs[i]? = some (s1.ch j).confs[i] := List.getElem?_eq_getElem (by omega)
        have hr : (g.ar 30 j)[i]? = some (.int (s1.ch j).confs[i]) := pre_get A.2.2 (by rw [List.getElem?_map, hx5]; rfl)
        rw [cpy_get _ i hi (by simp; omega), List.getD_eq_getElem?_getD, hr, List.getElem_map]
        rfl
      have R3 := tR.rp (b := b + tP s1 + 2) (k0 := n) (n' := 2 * n) (c := 30) (kf := 18) H4 R2.2 (Or.inr ⟨rfl, rfl⟩) hj hx U4 (by rw [cpy_len, List.length_replicate]; omega) ⟨by omega, by omega⟩ (by omega) (fun e => absurd e (by decide)) (fun _ => ⟨by rw [hcd]; omega, [], hcd.symm, by rw [List.nil_append]; exact hpre2⟩)
      have L3 : gL g (gRp g h1.2.1 30 j (cpy (g.ar 30 j) (List.replicate (2 * (s1.ch j).confs.length) (.int 0)) (s1.ch j).confs.length) n) := gRp.l k1 A.1 (by unfold gSt; omega)
      have R4 : tR s0 F (b + tP s1) s1 w (gCr (gRp g h1.2.1 30 j (cpy (g.ar 30 j) (List.replicate (2 * (s1.ch j).confs.length) (.int 0)) (s1.ch j).confs.length) n) 30 j 2) (zput h4 x1 18 (zr h1.2.1)) := tR.cred (u := 2) (Or.inr ⟨Or.inr rfl, hj.hs⟩) R3
      have L4 := L3.trans (gL.cr (c := 30) (i := j) (u := 2))
      obtain ⟨-, -, -, -, n5, pre5, h65, hcf5, hpre5, A5⟩ := R4.2.chok hj
      have hp5 : pre5 = [] := List.eq_nil_of_length_eq_zero (hpre5.trans hcd)
      subst hp5
      rw [List.nil_append] at A5
      rw [hcd, Nat.zero_add] at hcf5
      have hn5 : n5 = 2 * n := by
        rw [← A5.2.1]
        show (if 30 = 30 ∧ j = j then _ else _ : List Value).length = _
        rw [if_pos ⟨rfl, rfl⟩, cpy_len, List.length_replicate]
        omega
      exact t_confirm_79 (n := n5) R4 hj (L4.k hx gSt3) hcd A5 (by omega) (by rw [gCr_self]; omega) h65 fun g1 h1 R5 L5 => hK g1 h1 R5 (L4.trans L5)
  · subst hr
    have K : ∀ w1 g1 h1, tZ s0 F b (s_ans s1 j 60 80 (w_32 (s1.ch j).confirm ++ w_8 0)) w1 g1 h1 → tWk (s_ans s1 j 60 80 (w_32 (s1.ch j).confirm ++ w_8 0)) w w1 → gL g g1 → Q .null h1 := K
    refine e_I (R1.1.cell hx (by decide)) fun (z2 : gI h1 x1 7 = (s1.ch j).confirm) => ?_
    rw [z2]
    exact ⟨⟨_, R1.main hm⟩, t_sendConfirm (d := d) (Z1.le (by omega)) hm hx hj K⟩
end CF
