/-! ===== the twin: what was sent is recovered; transactions ===== -/
set_option maxRecDepth 100000
section MY
variable {s0 : zE} {F : Nat → Option zC} {b : Nat} {s s' s1 s2 sS : sSt} {w w' w1 w2 : tW} {g g' g0 : sG} {h h' : zH} {d x0 x1 x2 x3 x5 x7 i j q m p n a e x y c : Nat} {Q : Value → zH → Prop} {E : Nat → zH → Prop} {dr nm key frm bb : sBy} {sz cl me code k bits tag what c4 c5 c6 : Int32} {rd : sRd} {u : Int32 × List Nat × (Nat → Nat)} {all v : Bool} {l : List Nat} {ct : sCont}
theorem isH.eq (hj : isH j) : 4 * (j / 4) + j % 4 = j ∧ 1 ≤ j % 4 ∧ j % 4 ≤ 3 := by
  have := hj.2
  omega
theorem end_quiet {cls : sSt → Nat → sSt} (I : sI s) (hcl : ∀ s c, c < 4 → sI s → sDn s (cls s c)) (hc : c < 4) {k : Nat} (h1 : 1 ≤ k) (h2 : k ≤ 3) : ((s_end cls s c).ch (4 * c + k)).state ≠ 1 := by
  have D0 := d_end0 (c := c) I hc
  have I0 := D0.1 I
  have D1 := d_gone I0 hcl (isH.of hc (k := 1) (by decide) (by decide)) (end0_state (by decide) (by decide))
  have I1 := D1.1 I0
  have D2 := d_gone I1 hcl (isH.of hc (k := 2) (by decide) (by decide)) (D1.2.2.2.2.2.2.2.2.2.1 _ (end0_state (by decide) (by decide)))
  have I2 := D2.1 I1
  have D3 := d_gone I2 hcl (isH.of hc (k := 3) (by decide) (by decide)) (D2.2.2.2.2.2.2.2.2.2.1 _ (D1.2.2.2.2.2.2.2.2.2.1 _ (end0_state (by decide) (by decide))))
  have D4 := d_ownAll (c := c) hcl (s_end3 cls s c).qs.length (s_end3 cls s c) (D3.1 I2)
  rw [s_end_eq]
  exact (((D1.trans D2).trans D3).trans D4).2.2.2.2.2.2.2.2.2.1 _ (end0_state h1 h2)
theorem hard_quiet (I : sI s) (hj : isH j) {c1 m1 : Int32} : s_speaks (s_hard s (j / 4) code c1 m1) j = false := by
  have I1 := (d_send (b := s_closing 0 10 50 code c1 m1) I hj.div).1 I
  unfold s_hard
  dsimp only
  generalize s_send s (j / 4) (s_closing 0 10 50 code c1 m1) = s1 at I1
  unfold s_speaks
  split
  · rename_i h0
    rw [h0]
    rfl
  · rename_i h0
    have I2 := (d_cl6 (c := j / 4) (v := s1.clock) I1 h0).1 I1
    have := end_quiet (cls := s_close) I2 (fun s c hc I => d_close I hc) hj.div hj.eq.2.1 hj.eq.2.2
    rw [hj.eq.1] at this
    rw [beq_false_of_ne this, Bool.and_false]
theorem send_ch (I : sI s) (hj : isH j) (h1 : ((s_send s (j / 4) bb).ch j).state = 1) : (s_send s (j / 4) bb).ch j = s.ch j := by
  unfold s_send s_go at h1 ⊢
  split
  · rfl
  · rename_i h0
    rw [if_neg h0] at h1
    split
    · rename_i h5
      rw [if_pos h5] at h1
      unfold s_close at h1 ⊢
      rw [s_closeF, if_neg h0] at h1 ⊢
      dsimp only at h1 ⊢
      split
      · rename_i hs
        rw [if_pos hs] at h1
        have I1 := (d_cl0 (c := j / 4) I).1 I
        have := end_quiet (cls := s_closeF 4) I1 (d_closeF 4) hj.div hj.eq.2.1 hj.eq.2.2
        rw [hj.eq.1] at this
        exact absurd h1 this
      · rfl
    · rfl
theorem recov_eq : s_recovers s j rd = s_then (r_u8 rd).2 s (if (r_u8 rd).1 = 0 then s_hardF s 540 else s_ok (s_ans (s_backFree j [] (s.ch j).sent s) j 60 111 [])) := rfl
theorem rm_split {kp r : List Nat} (I : sI s) (hj : isH j) (hs : (s.ch j).sent = kp ++ x :: r) : s_ch s j (fun y => y.w_sent (kp ++ r)) = s_rm s j x ∧ s_ch s j (fun y => y.w_sent (y.sent.eraseIdx kp.length)) = s_rm s j x := by
  have hn := (I.sn.1 j hj).1
  have hx : (s.ch j).sent[kp.length]? = some x := by rw [hs, List.getElem?_append_right (Nat.le_refl _), Nat.sub_self]; rfl
  have e1 := eraseIdx_erase hn hx
  have e2 : (s.ch j).sent.eraseIdx kp.length = kp ++ r := by rw [hs, List.eraseIdx_append_of_length_le (Nat.le_refl _), Nat.sub_self]; rfl
  unfold s_rm
  refine ⟨?_, ?_⟩
  · show s.w_ch (sUp s.ch j ((s.ch j).w_sent (kp ++ r))) = s.w_ch (sUp s.ch j ((s.ch j).w_sent ((s.ch j).sent.erase x)))
    rw [← e1, e2]
  · show s.w_ch (sUp s.ch j ((s.ch j).w_sent ((s.ch j).sent.eraseIdx kp.length))) = s.w_ch (sUp s.ch j ((s.ch j).w_sent ((s.ch j).sent.erase x)))
    rw [e1]
theorem t_rec_40 (hj : isH j) (hm : g0.kind x0 = (1, 0)) (hx : g0.kind x1 = (3, j)) :
    ∀ (r kp : List Nat) (s : sSt) (g : sG) (h : zH), (s.ch j).sent = kp ++ r → tZ s0 F b s w g h → gL g0 g → sDn sS s →
      (∀ g1 h1, tZ s0 F b (s_backFree j kp r s) w g1 h1 → gL g0 g1 → sDn sS (s_backFree j kp r s) → (fR h1 x1 [9] 0) ∧ ((fI h1 x1 [9] 1) ∧ ((fC h1 x0 7 ∧ zX s0 m_X8_simple (d + 78) [zr x0, zr (gR h1 x1 0), .int (gI h1 x1 1), .int (60), .int (111)] h1 (fun _ h1 => (Q .null h1)) E)))) →
      zP s0 m_X8_recovers (d + 79) 40 [some (zr x0), some (zr x1), none, some (.int (Int32.ofNat kp.length))] [] h Q E
  | [], kp, s, g, h, hs, Z, L, D, K => by
    have hsl := Z.sent hj
    rw [List.append_nil] at hs
    refine b_X8_recovers_40 (e_I (Z.r.1.cell (L.k hx gSt3) (by decide)) fun (z1 : gI h x1 10 = Int32.ofNat (s.ch j).sent.length) => ?_)
    rw [z1, hs, i_le (by rw [← hs]; omega) (by rw [← hs]; omega)]
    exact ⟨fun _ => K g h Z L D, fun hh => absurd (Nat.le_refl _) hh⟩
  | x :: r, kp, s, g, h, hs, Z, L, D, K => by
    have hsl := Z.sent hj
    have hpl : (s.ch j).sent.length = kp.length + (r.length + 1) := by rw [hs, List.length_append]; rfl
    have hxi : (s.ch j).sent[kp.length]? = some x := by rw [hs, List.getElem?_append_right (Nat.le_refl _), Nat.sub_self]; rfl
    have hxm := List.mem_of_getElem? hxi
    have hk37 := (Z.sc.ch j hj).1 x hxm
    have hxk : g.kind (g.ref 37 x) = (37, x) := Z.r.al (by decide) (by decide) hk37
    have hx1 := L.k hx gSt3
    have hm1 := L.m hm
    have ex := Z.r.1.cell hx1 (by decide)
    obtain ⟨n5, f3, f4, f5⟩ := (Z.r.2.chok hj).2.2.1
    refine b_X8_recovers_40 (e_I ex fun (z1 : gI h x1 10 = Int32.ofNat (s.ch j).sent.length) => ?_)
    rw [z1, i_le (by omega) (by omega)]
    refine ⟨fun hh => absurd hh (by omega), fun _ => e_R ex fun (z2 : gR h x1 16 = g.ref 28 j) => ?_⟩
    rw [z2]
    refine g_El Z.r f5 rfl (by decide) hxi (by omega) fun z3 => ?_
    rw [z3]
    refine e_I (Z.r.1.cell hxk (by decide)) fun (z4 : gI h (g.ref 37 x) 3 = sB (s.se x).done) => ?_
    rw [z4, sB_0, i_succ]
    refine ⟨fun hd => ⟨⟨_, Z.r.main hm1⟩, t_take Z.r Z.sc hj hx1 hxi (by omega) fun g1 h1 R1 L1 => ⟨_, rfl, ?_⟩⟩, fun hd => ?_⟩
    · obtain ⟨e1, e2⟩ := rm_split Z.i hj hs
      rw [e2] at R1
      have hkp : (s.ch j).state = 1 → ∀ y ∈ (s.ch j).kept, x ∉ y.those := fun h1 y hy hxy => by
        have := (Z.i.sn.2.2 j hj h1 y hy x hxy).2
        rw [hd] at this
        cases this
      have Dr := d_rm (x := x) Z.i hj hkp
      have Z1 := Z.dn' Dr R1
      have hfr := (rms_free (l := [x]) Z.i hj (fun y hy => by rw [List.mem_singleton.mp hy]; exact hxm)) x (List.mem_singleton.mpr rfl)
      have hfr : (s_rm s j x).knd x = 37 ∧ sFree (s_rm s j x) ((s_rm s j x).se x).entry := hfr
      have hsnt : ((s_rm s j x).ch j).sent = kp ++ r := by
        rw [← e1, s_ch_ch]
        rfl
      rw [s_backFree, hd, if_neg (by decide), e1] at K
      have hse : (s_rm s j x).se = s.se := rfl
      rw [← hse] at K
      revert Z1 hfr hsnt K Dr
      clear e1 e2 R1 hse hkp
      generalize s_rm s j x = s1
      intro K Dr Z1 hfr hsnt
      have hL := L.trans L1
      have hxk1 : g1.kind (g.ref 37 x) = (37, x) := L1.th (by decide) (by decide) hxk
      have hkm := (Z1.sc.se x hfr.1).1
      have hmk : g1.kind (g1.ref 36 (s1.se x).entry) = (36, (s1.se x).entry) := Z1.r.al (by decide) (by decide) hkm
      refine e_R (Z1.r.1.cell hxk1 (by decide)) fun (z5 : gR h1 (g.ref 37 x) 1 = g1.ref 36 (s1.se x).entry) => ?_
      rw [z5]
      obtain ⟨D2, hp⟩ := d_requeue Z1.i hkm hfr.2
      have hff := Z1.facts
      refine ⟨⟨_, Z1.r.main (L1.m hm1)⟩, t_requeue (d := d + 72) (b := b + tP (s_requeue s1 (s1.se x).entry)) (Z1.r.less (by omega)) Z1.sc (L1.m hm1) hmk (by omega) Z1.i.cp.2.2.2.2.2.2.2.1 fun g2 h2 R2 L2 => ?_⟩
      exact t_rec_40 hj hm hx r kp _ g2 h2 (by rw [s_requeue_ch]; exact hsnt) (Z1.dn D2 R2) (hL.trans L2) ((D.trans Dr).trans D2) K
    · rw [Bool.not_eq_false] at hd
      have e1 : kp.length + 1 = (kp ++ [x]).length := by rw [List.length_append]; rfl
      rw [e1]
      rw [s_backFree, hd, if_pos rfl] at K
      exact t_rec_40 hj hm hx r (kp ++ [x]) s g h (by rw [hs, List.append_assoc]; rfl) Z L D K
theorem t_recovers (Z : tZ s0 F (b + 900 + tY s) s (dr, sz, rd, cl, me, u) g h) (hm : g.kind x0 = (1, 0)) (hx : g.kind x1 = (3, j)) (hj : isH j)
    (K : ∀ w1 g1 h1, tZ s0 F (b + tY (s_tld j cl me (s_recovers s j rd))) (s_tld j cl me (s_recovers s j rd)) w1 g1 h1 → tWm (dr, sz, rd, cl, me, u) w1 → gL g g1 → Q .null h1) : zX s0 m_X8_recovers (d + 79) [zr x0, zr x1] h Q E := by
  rw [recov_eq] at K
  refine c_X8_recovers ⟨⟨_, Z.r.main hm⟩, t_u8 Z.r hm fun h1 R1 => ⟨_, rfl, ?_⟩⟩
  have Z1 := Z.re R1
  revert K Z1
  generalize (r_u8 rd).1 = again
  generalize (r_u8 rd).2 = rd1
  intro K Z1
  have em := Z1.r.main hm
  refine ⟨⟨_, em⟩, t_then (d := d + 1) (N := fun h => Q .null h) (f := if again = 0 then s_hardF s 540 else s_ok (s_ans (s_backFree j [] (s.ch j).sent s) j 60 111 [])) ?_ Z1 hm hx hj (fun w3 g3 h3 Z3 W3 L3 => K w3 g3 h3 Z3 ⟨W3.1, W3.2⟩ L3) ?_⟩
  · exact fun h1 hq => ⟨fun hh => absurd hh (by decide), fun _ => hq⟩
  intro K
  refine ⟨fun _ => ⟨fun hn => ?_, fun h0 => ?_⟩, fun hh => absurd rfl hh⟩
  · rw [if_neg hn, tld_ok] at K
    refine t_rec_40 (d := d) (w := (dr, sz, rd1, cl, me, u)) (b := b + 900 + tY s) (sS := s) hj hm hx (s.ch j).sent [] s g h1 rfl Z1 (gL.refl g) (sDn.refl s) fun g2 h2 Z2 L2 D2 => ?_
    have hy := tY_any D2 Z.i
    have Z3 : tZ s0 F (b + tY (s_backFree j [] (s.ch j).sent s)) (s_backFree j [] (s.ch j).sent s) (dr, sz, rd1, cl, me, u) g2 h2 := Z2.le (by omega)
    generalize s_backFree j [] (s.ch j).sent s = s3 at Z3 K
    exact t_ansJ (d := d + 7) Z3 (L2.m hm) (L2.k hx gSt3) hj fun w4 g4 h4 Z4 W4 L4 => K w4 g4 h4 Z4 W4 (L2.trans L4)
  · rw [if_pos h0, tld_hard] at K
    exact t_hardJ (d := d + 2) Z1 hm hx hj K
end MY
