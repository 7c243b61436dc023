/-! ===== the twin: channels are gone, connections are closed ===== -/
set_option maxRecDepth 100000
section CE
variable {s0 : zE} {F : Nat → Option zC} {b : Nat} {s s' : sSt} {w w' : tW} {g g' : sG} {h h' : zH} {d x0 x1 x2 n D c i j q m : Nat} {Q : Value → zH → Prop} {E : Nat → zH → Prop} {cl : sSt → Nat → sSt} {bb : sBy}
/-- a cancelled consumer is no more -/
theorem cancel_cs (I : sI s) (hcl : ∀ s c, c < 4 → sI s → sDn s (cl s c)) (hi : i ∈ s.cs) : (s_cancel cl s i).cs.length < s.cs.length := by
  have D := d_takeOut (i := i) I
  have h1 : (s_takeOut s i).cs.length < s.cs.length := by
    show (s.cs.erase i).length < _
    rw [List.length_erase_of_mem hi]
    have := List.length_pos_of_mem hi
    omega
  unfold s_cancel
  dsimp only
  split
  · rename_i hc
    have D2 := d_delQ (D.1 I) hcl ((I.cp.2.2.2.2.2.2.2.2.2.2.1 i hi).mp hc.1)
    exact Nat.lt_of_le_of_lt D2.2.2.2.1.length_le h1
  · exact h1
theorem t_gone_scan (Z : tZ s0 F b s w g h) (hm : g.kind x0 = (1, 0)) (hx : g.kind x1 = (3, j)) (K0 : s.cs.find? (fun i => (s.co i).chan == j) = none → zP s0 m_X8_gone (d + 26) 41 [some (zr x0), some (zr x1), none] [] h Q E)
    (K1 : ∀ i, s.cs.find? (fun i => (s.co i).chan == j) = some i → zX s0 m_X8_cancel (d + 25) [zr x0, zr (g.ref 35 i)] h (fun _ h1 => zP s0 m_X8_gone (d + 26) 2 [some (zr x0), some (zr x1), some (.int ((-1) + 1))] [] h1 Q E) E) :
    ∀ (rest pre : List Nat), s.cs = pre ++ rest → s.cs.find? (fun i => (s.co i).chan == j) = rest.find? (fun i => (s.co i).chan == j) → zP s0 m_X8_gone (d + 26) 2 [some (zr x0), some (zr x1), some (.int (Int32.ofNat pre.length))] [] h Q E
  | [], pre, hcs, hf => by
    have hle := Z.r.2.ar8.le
    rw [List.length_map] at hle
    have hl : s.cs.length = pre.length := by rw [hcs, List.append_nil]
    refine b_X8_gone_2 (e_I (Z.r.main hm) fun (z1 : gI h x0 8 = Int32.ofNat s.cs.length) => ?_)
    rw [z1, i_le (by omega) (by omega)]
    exact ⟨fun _ => K0 hf, fun hn => absurd (Nat.le_of_eq hl) hn⟩
  | x :: rest, pre, hcs, hf => by
    have A := Z.r.2.ar8
    have hle := A.le
    rw [List.length_map] at hle
    have hl : s.cs.length = pre.length + rest.length + 1 := by rw [hcs]; simp; omega
    have hx5 : s.cs[pre.length]? = some x := by rw [hcs]; simp
    have hkx := Z.sc.cs x (List.mem_of_getElem? hx5)
    have ax := Z.r.al (c := 35) (by decide) (by decide) hkx
    refine b_X8_gone_2 (e_I (Z.r.main hm) fun (z1 : gI h x0 8 = Int32.ofNat s.cs.length) => ?_)
    rw [z1, i_le (by omega) (by omega)]
    refine ⟨fun hn => absurd hn (by omega), fun _ => e_R (Z.r.main hm) fun z2 => ?_⟩
    rw [z2]
    refine g_El Z.r A rfl (by decide) hx5 (by decide) fun z3 => ?_
    rw [z3]
    refine e_R (Z.r.1.cell ax (by decide)) fun (z4 : gR h (g.ref 35 x) 2 = g.ref 3 (s.co x).chan) => ?_
    rw [z4, Z.r.inj (Z.r.ch (Z.sc.co x hkx).2) hx (by decide), i_succ, show pre.length + 1 = (pre ++ [x]).length by simp]
    rw [List.find?_cons] at hf
    refine ⟨fun hne => ?_, fun heq => ?_⟩
    · rw [beq_false_of_ne hne] at hf
      exact t_gone_scan Z hm hx K0 K1 rest (pre ++ [x]) (by rw [hcs, List.append_assoc]; rfl) hf
    · rw [beq_iff_eq.mpr heq] at hf
      refine e_R (Z.r.main hm) fun _ => ⟨Z.r.el (t := 15) A rfl (by decide) hx5 (by decide), ⟨_, Z.r.main hm⟩, K1 x hf⟩
/-- the consumers of a channel are cancelled -/
theorem t_gone_2 (hC : tCL s0 F b n D) (hD : D ≤ d + 20) : ∀ (k : Nat) (s : sSt) (w : tW) (g : sG) (h : zH), tZ s0 F b s w g h → g.kind x0 = (1, 0) → g.kind x1 = (3, j) → s.cs.length ≤ k → sLive s ≤ n →
    (∀ w1 g1 h1, tZ s0 F b (s_cancelAll (s_closeF n) j k s) w1 g1 h1 → tWk (s_cancelAll (s_closeF n) j k s) w w1 → gL g g1 → zP s0 m_X8_gone (d + 26) 41 [some (zr x0), some (zr x1), none] [] h1 Q E) → zP s0 m_X8_gone (d + 26) 2 [some (zr x0), some (zr x1), some (.int (Int32.ofNat 0))] [] h Q E
  | 0, s, w, g, h, Z, hm, hx, hk, hn, K => by
    have hcs : s.cs = [] := List.eq_nil_of_length_eq_zero (by omega)
    refine t_gone_scan Z hm hx (fun _ => K w g h Z tWk.refl (gL.refl g)) (fun i hi => ?_) s.cs [] rfl rfl
    rw [hcs] at hi
    cases hi
  | k + 1, s, w, g, h, Z, hm, hx, hk, hn, K => by
    refine t_gone_scan Z hm hx (fun h0 => ?_) (fun i hi => ?_) s.cs [] rfl rfl
    · rw [s_cancelAll, h0] at K
      exact K w g h Z tWk.refl (gL.refl g)
    · rw [s_cancelAll, hi] at K
      have hmem := List.mem_of_find?_eq_some hi
      have ai := Z.r.al (c := 35) (by decide) (by decide) (Z.sc.cs i hmem)
      have Dc := d_cancel Z.i (d_closeF n) hmem
      have hlt := cancel_cs Z.i (d_closeF n) hmem
      refine t_cancelC hC hD Z hm ai hmem hn fun w1 g1 h1 Z1 W1 L1 => ?_
      rw [m1p1]
      have D2 := d_cancelAll (h := j) (cl := s_closeF n) (d_closeF n) k _ Z1.i
      exact t_gone_2 hC hD k _ w1 g1 h1 Z1 (L1.m hm) (L1.k hx gSt3) (by omega) (Nat.le_trans Dc.live hn) fun w2 g2 h2 Z2 W2 L2 => K w2 g2 h2 Z2 (W1.trans W2 (tZ.confs D2)) (L1.trans L2)
/-- what a channel was sent is put back -/
theorem t_gone_41 (hj : isH j) : ∀ (l : List Nat) (s : sSt) (g : sG) (h : zH), tZ s0 F b s w g h → g.kind x0 = (1, 0) → g.kind x1 = (3, j) → (s.ch j).state ≠ 1 → (s.ch j).sent = l →
    (∀ g1 h1, tZ s0 F b (s_backAll j l s) w g1 h1 → gL g g1 → zP s0 m_X8_gone (d + 26) 66 [none, some (zr x1), some (.int (Int32.ofNat 0))] [] h1 Q E) → zP s0 m_X8_gone (d + 26) 41 [some (zr x0), some (zr x1), none] [] h Q E
  | [], s, g, h, Z, hm, hx, h1, hl, K => by
    have e := Z.r.1.cell hx (by decide)
    refine b_X8_gone_41 (e_I e fun (z1 : gI h x1 10 = Int32.ofNat (s.ch j).sent.length) => ?_)
    rw [z1, hl]
    exact ⟨fun _ => K g h Z (gL.refl g), fun hn => absurd (by decide : Int32.ofNat ([] : List Nat).length ≤ 0) hn⟩
  | x :: r, s, g, h, Z, hm, hx, h1, hl, K => by
    have e := Z.r.1.cell hx (by decide)
    have hb := Z.sent hj
    rw [hl, List.length_cons] at hb
    have hxm : x ∈ (s.ch j).sent := by rw [hl]; exact List.mem_cons_self
    have hkx := (Z.sc.ch j hj).1 x hxm
    have Dp := d_pop Z.i hj hl h1
    have I1 := Dp.1 Z.i
    have hmm := (Z.sc.se x hkx).1
    have hreq := d_requeue (m := (s.se x).entry) I1 hmm (pop_free Z.i hj hl)
    refine b_X8_gone_41 (e_I e fun (z1 : gI h x1 10 = Int32.ofNat (s.ch j).sent.length) => ?_)
    rw [z1, hl, List.length_cons, show (0 : Int32) = Int32.ofNat 0 from rfl, i_le (by omega) (by decide)]
    refine ⟨fun hn => absurd hn (by omega), fun _ => ⟨⟨_, Z.r.main hm⟩, ?_⟩⟩
    have hk0 : (s.ch j).sent[0]? = some x := by rw [hl]; rfl
    refine t_take (k := 0) (m := x) Z.r Z.sc hj hx hk0 (by rw [hl, List.length_cons]; omega) fun g1 h1' R1 L1 => ⟨_, rfl, ?_⟩
    have he : s_ch s j (fun y => y.w_sent (y.sent.eraseIdx 0)) = s_ch s j (fun y => y.w_sent r) := by
      show s.w_ch (sUp s.ch j ((s.ch j).w_sent ((s.ch j).sent.eraseIdx 0))) = s.w_ch (sUp s.ch j ((s.ch j).w_sent r))
      rw [hl]
      rfl
    rw [he] at R1
    have Z1 := Z.dn' Dp R1
    have e5 : ((s_requeue (s_ch s j (fun y => y.w_sent r)) (s.se x).entry).ch j) = (s.ch j).w_sent r := by
      rw [s_requeue_ch, s_ch_ch]
    have hse : (s_ch s j (fun y => y.w_sent r)).se = s.se := rfl
    have hkn : (s_ch s j (fun y => y.w_sent r)).knd = s.knd := rfl
    rw [s_backAll] at K
    rw [← hse] at hreq e5 K hmm
    rw [← hkn] at hkx hmm
    have hst : ((s.ch j).w_sent r).state ≠ 1 := h1
    have hsr : ((s.ch j).w_sent r).sent = r := rfl
    have ak37 := Z.r.al (c := 37) (by decide) (by decide) ((Z.sc.ch j hj).1 x hxm)
    generalize s_ch s j (fun y => y.w_sent r) = s1 at hkx hmm hreq e5 K R1 Z1
    have hm1 := L1.m hm
    have ax : g1.kind (g.ref 37 x) = (37, x) := L1.th (by decide) (by decide) ak37
    refine e_R (R1.1.cell ax (by decide)) fun (z2 : gR h1' (g.ref 37 x) 1 = g1.ref 36 (s1.se x).entry) => ?_
    rw [z2]
    have am := R1.al (c := 36) (by decide) (by decide) hmm
    have R1' := Z1.r
    rw [show b + tP s1 = b + (tP s1 - 4 * s_reqN s1 (s1.se x).entry) + 4 * s_reqN s1 (s1.se x).entry by have := hreq.2; omega] at R1'
    refine ⟨⟨_, R1.main hm1⟩, t_requeue R1' Z1.sc hm1 am (by have := Z1.facts; omega) Z1.i.cp.2.2.2.2.2.2.2.1 fun g2 h2 R2 L2 => ?_⟩
    have Z2 : tZ s0 F b (s_requeue s1 (s1.se x).entry) w g2 h2 := Z1.dn hreq.1 (R2.less (by have := hreq.2; omega))
    refine t_gone_41 hj r _ g2 h2 Z2 (L2.m hm1) (L2.k (L1.k hx gSt3) gSt3) (by rw [e5]; exact hst) (by rw [e5]; exact hsr) fun g3 h3 Z3 L3 => K g3 h3 Z3 (L1.trans (L2.trans L3))
theorem fin_junk {k : sCh} : (((((((((k.w_junk true).w_kept []).w_confs []).w_due 0).w_cont none).w_mode 0).w_confirm 0).w_tag 0).w_junk false) = ((((((((k.w_kept []).w_confs []).w_due 0).w_cont none).w_mode 0).w_confirm 0).w_tag 0).w_junk false) := by
  obtain ⟨k1, k2, k3, k4, k5, k6, k7, k8, k9, k10, k11, k12, k13, k14, k15, k16⟩ := k
  have h1 : (((((((((sCh.w_junk (k1, k2, k3, k4, k5, k6, k7, k8, k9, k10, k11, k12, k13, k14, k15, k16) true).w_kept []).w_confs []).w_due 0).w_cont none).w_mode 0).w_confirm 0).w_tag 0).w_junk false) = ((k1, 0, k3, k4, 0, 0, k7, k8, k9, none, 0, k12, k13, [], [], false) : sCh) := rfl
  have h2 : ((((((((sCh.w_kept (k1, k2, k3, k4, k5, k6, k7, k8, k9, k10, k11, k12, k13, k14, k15, k16) []).w_confs []).w_due 0).w_cont none).w_mode 0).w_confirm 0).w_tag 0).w_junk false) = ((k1, 0, k3, k4, 0, 0, k7, k8, k9, none, 0, k12, k13, [], [], false) : sCh) := rfl
  exact h1.trans h2.symm
theorem t_goneC (hC : tCL s0 F b n D) (hD : D ≤ d + 20) (Z : tZ s0 F b s w g h) (hm : g.kind x0 = (1, 0)) (hj : isH j) (hx : g.kind x1 = (3, j)) (h1 : (s.ch j).state ≠ 1) (hn : sLive s ≤ n)
    (K : ∀ w1 g1 h1, tZ s0 F b (s_gone (s_closeF n) s j) w1 g1 h1 → tWk (s_gone (s_closeF n) s j) w w1 → gL g g1 → Q .null h1) : zX s0 m_X8_gone (d + 26) [zr x0, zr x1] h Q E := by
  rw [s_gone_eq] at K
  have D1 := d_cancelAll (h := j) (cl := s_closeF n) (d_closeF n) s.cs.length s Z.i
  refine c_X8_gone (t_gone_2 hC hD s.cs.length s w g h Z hm hx (Nat.le_refl _) hn fun w1 g1 h1' Z1 W1 L1 => ?_)
  have h2 := D1.2.2.2.2.2.2.2.2.2.1 j h1
  obtain ⟨D2, e2⟩ := d_backAll hj _ _ Z1.i h2 rfl
  have h3 := D2.2.2.2.2.2.2.2.2.2.1 j h2
  refine t_gone_41 hj _ _ g1 h1' Z1 (L1.m hm) (L1.k hx gSt3) h2 rfl fun g2 h2' Z2 L2 => ?_
  have D3 := d_fin Z2.i hj e2 h3
  have hx2 := L2.k (L1.k hx gSt3) gSt3
  generalize s_backAll j ((s_cancelAll (s_closeF n) j s.cs.length s).ch j).sent (s_cancelAll (s_closeF n) j s.cs.length s) = s2 at D2 K e2 Z2 D3 h3
  obtain ⟨g3, R3, L3, hno, hr, ha, hrf, hcf, hcr⟩ := Z2.r.junk (j := j)
  refine t_gone_66 R3 hno (by rw [s_ch_ch]; rfl) hj (L3.k hx2 gSt3) fun g4 h4 R4 L4 => ?_
  have hf : s_fin (s_ch s2 j (fun k => k.w_junk true)) j = s_fin s2 j := by
    unfold s_fin
    rw [w_ch_ch]
    exact congrArg (fun f => s_ch s2 j f) (funext fun k => fin_junk)
  rw [hf] at R4
  refine K _ g4 h4 (Z2.dn' D3 R4) (W1.trans ⟨rfl, rfl, rfl, rfl, rfl, fun k => ?_⟩ fun k hk => D3.2.2.2.2.2.2.2.2.1 k (D2.2.2.2.2.2.2.2.2.1 k hk)) (L1.trans (L2.trans (L3.trans L4)))
  by_cases e : k = j
  · subst e
    refine Or.inr ⟨sUp_self, ?_⟩
    show ((s_ch s2 k _).ch k).confs = []
    rw [s_ch_ch]
    rfl
  · exact Or.inl (sUp_ne e)
theorem t_end_2 {K : Nat → sSt → Prop} (hc : c < 4) (hx : g.kind x1 = (2, c)) (hch : ∀ k, 1 ≤ k → k ≤ 3 → gA1 g 3 (4 * c + k)) (R : tR s0 F b s w g h) (hk : 1 ≤ i) (hk3 : i ≤ 3)
    (K : ∀ h1, tR s0 F b (s_ch s (4 * c + i) (fun k => k.w_state 0)) w g h1 → zP s0 m_X8_end (d + 27) 2 [some (zr x0), some (zr x1), some (.int (Int32.ofNat (i + 1)))] [] h1 Q E) : zP s0 m_X8_end (d + 27) 2 [some (zr x0), some (zr x1), some (.int (Int32.ofNat i))] [] h Q E := by
  have e := R.1.cell hx (by decide)
  obtain ⟨-, -, A⟩ := R.2.2.2.2.2.1 c hc
  have eA : h.1 (g.ref 27 c) = some (1000 + 19, g.ar 27 c) := R.1.cell A.1 (by decide)
  have hel : (g.ar 27 c)[i]? = some (zr (g.ref 3 (4 * c + i))) := by
    refine pre_get A.2.2 ?_
    have hi : i = 1 ∨ i = 2 ∨ i = 3 := by omega
    rcases hi with rfl | rfl | rfl <;> rfl
  refine b_X8_end_2 ⟨fun hn => ?_, fun _ => e_R e fun (z1 : gR h x1 12 = g.ref 27 c) => ?_⟩
  · rw [show (3 : Int32) = Int32.ofNat 3 from rfl, i_lt (by decide) (by omega)] at hn
    omega
  rw [z1]
  refine g_ER eA (zin_of (by rw [A.2.1]; omega) (by omega)) (by rw [i_nat (by omega)]; exact hel) fun z2 => ?_
  rw [z2, i_succ]
  exact g_Ph R (hch i hk hk3) ((s.ch (4 * c + i)).w_state 0) rfl rfl (fun hok => hok) fun h1 R1 _ => K h1 R1
theorem t_end_25 (hC : tCL s0 F b n D) (hD : D ≤ d + 20) (Z : tZ s0 F b s w g h) (hm : g.kind x0 = (1, 0)) (hc : c < 4) (hx : g.kind x1 = (2, c)) (hn : sLive s ≤ n) (hk : 1 ≤ i) (hk3 : i ≤ 3) (h1 : (s.ch (4 * c + i)).state ≠ 1)
    (K : ∀ w1 g1 h1, tZ s0 F b (s_gone (s_closeF n) s (4 * c + i)) w1 g1 h1 → tWk (s_gone (s_closeF n) s (4 * c + i)) w w1 → gL g g1 → zP s0 m_X8_end (d + 27) 25 [some (zr x0), some (zr x1), some (.int (Int32.ofNat (i + 1)))] [] h1 Q E) : zP s0 m_X8_end (d + 27) 25 [some (zr x0), some (zr x1), some (.int (Int32.ofNat i))] [] h Q E := by
  have R := Z.r
  have e := R.1.cell hx (by decide)
  obtain ⟨-, -, A⟩ := R.2.2.2.2.2.1 c hc
  have eA : h.1 (g.ref 27 c) = some (1000 + 19, g.ar 27 c) := R.1.cell A.1 (by decide)
  have hel : (g.ar 27 c)[i]? = some (zr (g.ref 3 (4 * c + i))) := by
    refine pre_get A.2.2 ?_
    have hi : i = 1 ∨ i = 2 ∨ i = 3 := by omega
    rcases hi with rfl | rfl | rfl <;> rfl
  refine b_X8_end_25 ⟨fun hn => ?_, fun _ => e_R e fun (z1 : gR h x1 12 = g.ref 27 c) => ?_⟩
  · rw [show (3 : Int32) = Int32.ofNat 3 from rfl, i_lt (by decide) (by omega)] at hn
    omega
  rw [z1]
  refine g_ER eA (zin_of (by rw [A.2.1]; omega) (by omega)) (by rw [i_nat (by omega)]; exact hel) fun z2 => ?_
  rw [z2, i_succ]
  have hj := isH.of hc hk hk3
  exact ⟨⟨_, R.main hm⟩, t_goneC hC hD Z hm hj (R.ch hj) h1 hn fun w1 g1 h1 Z1 W1 L1 => K w1 g1 h1 Z1 W1 L1⟩
theorem t_end_scan (Z : tZ s0 F b s w g h) (hm : g.kind x0 = (1, 0)) (hc : c < 4) (hx : g.kind x1 = (2, c)) (K0 : s.qs.find? (fun q => (s.qu q).exc && (s.qu q).owner == some c) = none → Q .null h)
    (K1 : ∀ q, s.qs.find? (fun q => (s.qu q).exc && (s.qu q).owner == some c) = some q → zX s0 m_X8_delete (d + 26) [zr x0, zr (g.ref 33 q)] h (fun _ h1 => zP s0 m_X8_end (d + 27) 48 [some (zr x0), some (zr x1), some (.int ((-1) + 1))] [] h1 Q E) E) :
    ∀ (rest pre : List Nat), s.qs = pre ++ rest → s.qs.find? (fun q => (s.qu q).exc && (s.qu q).owner == some c) = rest.find? (fun q => (s.qu q).exc && (s.qu q).owner == some c) → zP s0 m_X8_end (d + 27) 48 [some (zr x0), some (zr x1), some (.int (Int32.ofNat pre.length))] [] h Q E
  | [], pre, hcs, hf => by
    have hle := Z.r.2.ar6.le
    rw [List.length_map] at hle
    have hl : s.qs.length = pre.length := by rw [hcs, List.append_nil]
    refine b_X8_end_48 (e_I (Z.r.main hm) fun (z1 : gI h x0 6 = Int32.ofNat s.qs.length) => ?_)
    rw [z1, i_le (by omega) (by omega)]
    exact ⟨fun _ => K0 hf, fun hn => absurd (Nat.le_of_eq hl) hn⟩
  | x :: rest, pre, hcs, hf => by
    have A := Z.r.2.ar6
    have hle := A.le
    rw [List.length_map] at hle
    have hl : s.qs.length = pre.length + rest.length + 1 := by rw [hcs]; simp; omega
    have hx5 : s.qs[pre.length]? = some x := by rw [hcs]; simp
    have hkx := Z.sc.qs x (List.mem_of_getElem? hx5)
    have ax := Z.r.al (c := 33) (by decide) (by decide) hkx
    have ex := Z.r.1.cell ax (by decide)
    have IH := fun e => t_end_scan Z hm hc hx K0 K1 rest (pre ++ [x]) (by rw [hcs, List.append_assoc]; rfl) e
    rw [show (pre ++ [x]).length = pre.length + 1 by simp] at IH
    refine b_X8_end_48 (e_I (Z.r.main hm) fun (z1 : gI h x0 6 = Int32.ofNat s.qs.length) => ?_)
    rw [z1, i_le (by omega) (by omega)]
    refine ⟨fun hn => absurd hn (by omega), fun _ => e_R (Z.r.main hm) fun z2 => ?_⟩
    rw [z2]
    refine g_El Z.r A rfl (by decide) hx5 (by decide) fun z3 => ?_
    rw [z3]
    refine e_I ex fun (z4 : gI h (g.ref 33 x) 2 = sB (s.qu x).exc) => ?_
    rw [z4, sB_0, i_succ]
    rw [List.find?_cons] at hf
    refine ⟨fun hne => ?_, fun heq => e_R (Z.r.main hm) fun _ => ⟨Z.r.el (t := 13) A rfl (by decide) hx5 (by decide), e_R ex fun (z5 : gR h (g.ref 33 x) 5 = gO g 2 (s.qu x).owner) => ?_⟩⟩
    · rw [hne, Bool.false_and] at hf
      exact IH hf
    · rw [Bool.not_eq_false] at heq
      rw [heq, Bool.true_and] at hf
      have hiff : gO g 2 (s.qu x).owner = x1 ↔ ((s.qu x).owner == some c) = true := by
        rw [beq_iff_eq]
        cases ho : (s.qu x).owner with
        | none => exact ⟨fun e => absurd e.symm (Z.r.1.pos hx (by decide)), fun e => nomatch e⟩
        | some y =>
          rw [show gO g 2 (some y) = g.ref 2 y from rfl, Z.r.inj (Z.r.cn ((Z.sc.qu x hkx).2.2 y ho)) hx (by decide)]
          exact ⟨fun e => by rw [e], fun e => by cases e; rfl⟩
      rw [z5, hiff]
      refine ⟨fun hne => ?_, fun ho => e_R (Z.r.main hm) fun _ => ⟨Z.r.el (t := 13) A rfl (by decide) hx5 (by decide), ⟨_, Z.r.main hm⟩, K1 x ?_⟩⟩
      · rw [Bool.not_eq_true] at hne
        rw [hne] at hf
        exact IH hf
      · rw [ho] at hf
        exact hf
theorem t_end_48 (hC : tCL s0 F b n D) (hD : D ≤ d + 20) (hc : c < 4) : ∀ (k : Nat) (s : sSt) (w : tW) (g : sG) (h : zH), tZ s0 F b s w g h → g.kind x0 = (1, 0) → g.kind x1 = (2, c) → s.qs.length ≤ k → sLive s ≤ n →
    (∀ w1 g1 h1, tZ s0 F b (s_ownAll (s_closeF n) c k s) w1 g1 h1 → tWk (s_ownAll (s_closeF n) c k s) w w1 → gL g g1 → Q .null h1) → zP s0 m_X8_end (d + 27) 48 [some (zr x0), some (zr x1), some (.int (Int32.ofNat 0))] [] h Q E
  | 0, s, w, g, h, Z, hm, hx, hk, hn, K => by
    have hcs : s.qs = [] := List.eq_nil_of_length_eq_zero (by omega)
    refine t_end_scan Z hm hc hx (fun _ => K w g h Z tWk.refl (gL.refl g)) (fun i hi => ?_) s.qs [] rfl rfl
    rw [hcs] at hi
    cases hi
  | k + 1, s, w, g, h, Z, hm, hx, hk, hn, K => by
    refine t_end_scan Z hm hc hx (fun h0 => ?_) (fun q hi => ?_) s.qs [] rfl rfl
    · rw [s_ownAll, h0] at K
      exact K w g h Z tWk.refl (gL.refl g)
    · rw [s_ownAll, hi] at K
      have hmem := List.mem_of_find?_eq_some hi
      have aq := Z.r.al (c := 33) (by decide) (by decide) (Z.sc.qs q hmem)
      have Dq := d_delQ Z.i (d_closeF n) hmem
      have hlt := delQ_qs Z.i (d_closeF n) hmem
      refine t_deleteC (d := d + 2) hC (by omega) Z hm aq hmem hn fun w1 g1 h1 Z1 W1 L1 => ?_
      rw [m1p1]
      have D2 := d_ownAll (c := c) (cl := s_closeF n) (d_closeF n) k _ Z1.i
      exact t_end_48 hC hD hc k _ w1 g1 h1 Z1 (L1.m hm) (L1.k hx gSt2) (by omega) (Nat.le_trans Dq.live hn) fun w2 g2 h2 Z2 W2 L2 => K w2 g2 h2 Z2 (W1.trans W2 (tZ.confs D2)) (L1.trans L2)
theorem t_endC (hC : tCL s0 F b n D) (hD : D ≤ d + 20) (Z : tZ s0 F b s w g h) (hm : g.kind x0 = (1, 0)) (hc : c < 4) (hx : g.kind x1 = (2, c)) (hn : sLive s ≤ n)
    (K : ∀ w1 g1 h1, tZ s0 F b (s_end (s_closeF n) s c) w1 g1 h1 → tWk (s_end (s_closeF n) s c) w w1 → gL g g1 → Q .null h1) : zX s0 m_X8_end (d + 27) [zr x0, zr x1] h Q E := by
  rw [s_end_eq] at K
  have hch : ∀ k, 1 ≤ k → k ≤ 3 → gA1 g 3 (4 * c + k) := fun k h1 h2 => Z.r.ch (isH.of hc h1 h2)
  have D0 := d_end0 (c := c) Z.i hc
  refine c_X8_end (t_end_2 (K := fun _ _ => True) (i := 1) hc hx hch Z.r (by decide) (by decide) fun h1 R1 => t_end_2 (K := fun _ _ => True) (i := 2) hc hx hch R1 (by decide) (by decide) fun h2 R2 => t_end_2 (K := fun _ _ => True) (i := 3) hc hx hch R2 (by decide) (by decide) fun h3 R3 => b_X8_end_2 ⟨fun _ => ?_, fun hn => absurd (by decide : (3 : Int32) < Int32.ofNat 4) hn⟩)
  have R3 : tR s0 F (b + tP s) (s_end0 s c) w g h3 := R3
  have Z3 := Z.dn' D0 R3
  have s1 := end0_state (s := s) (c := c) (k := 1) (by decide) (by decide)
  have s2 := end0_state (s := s) (c := c) (k := 2) (by decide) (by decide)
  have s3 := end0_state (s := s) (c := c) (k := 3) (by decide) (by decide)
  have K : ∀ w1 g1 h1, tZ s0 F b (s_ownAll (s_closeF n) c (s_gone (s_closeF n) (s_gone (s_closeF n) (s_gone (s_closeF n) (s_end0 s c) (4 * c + 1)) (4 * c + 2)) (4 * c + 3)).qs.length (s_gone (s_closeF n) (s_gone (s_closeF n) (s_gone (s_closeF n) (s_end0 s c) (4 * c + 1)) (4 * c + 2)) (4 * c + 3))) w1 g1 h1 → tWk (s_ownAll (s_closeF n) c (s_gone (s_closeF n) (s_gone (s_closeF n) (s_gone (s_closeF n) (s_end0 s c) (4 * c + 1)) (4 * c + 2)) (4 * c + 3)).qs.length (s_gone (s_closeF n) (s_gone (s_closeF n) (s_gone (s_closeF n) (s_end0 s c) (4 * c + 1)) (4 * c + 2)) (4 * c + 3))) w w1 → gL g g1 → Q .null h1 := K
  have hn3 : sLive (s_end0 s c) ≤ n := Nat.le_trans D0.live hn
  revert Z3 s1 s2 s3 K hn3
  generalize s_end0 s c = t0
  intro Z3 s1 s2 s3 K hn3
  have D1 := d_gone Z3.i (d_closeF n) (isH.of hc (k := 1) (by decide) (by decide)) s1
  refine t_end_25 (i := 1) hC hD Z3 hm hc hx hn3 (by decide) (by decide) s1 fun w1 g1 h1 Z1 W1 L1 => ?_
  have t2 := D1.2.2.2.2.2.2.2.2.2.1 _ s2
  have t3 := D1.2.2.2.2.2.2.2.2.2.1 _ s3
  have hn4 := Nat.le_trans D1.live hn3
  revert Z1 W1 t2 t3 hn4 K
  generalize s_gone (s_closeF n) t0 (4 * c + 1) = t1
  intro K Z1 W1 t2 t3 hn4
  have D2 := d_gone Z1.i (d_closeF n) (isH.of hc (k := 2) (by decide) (by decide)) t2
  refine t_end_25 (i := 2) hC hD Z1 (L1.m hm) hc (L1.k hx gSt2) hn4 (by decide) (by decide) t2 fun w2 g2 h2 Z2 W2 L2 => ?_
  have t4 := D2.2.2.2.2.2.2.2.2.2.1 _ t3
  have hn5 := Nat.le_trans D2.live hn4
  have W12 := W1.trans W2 (tZ.confs D2)
  have L12 := L1.trans L2
  revert Z2 W12 t4 hn5 K
  generalize s_gone (s_closeF n) t1 (4 * c + 2) = t2'
  intro K Z2 t4 hn5 W12
  have D3 := d_gone Z2.i (d_closeF n) (isH.of hc (k := 3) (by decide) (by decide)) t4
  refine t_end_25 (i := 3) hC hD Z2 (L12.m hm) hc (L12.k hx gSt2) hn5 (by decide) (by decide) t4 fun w3 g3 h3 Z3 W3 L3 => ?_
  have hn6 := Nat.le_trans D3.live hn5
  have W13 := W12.trans W3 (tZ.confs D3)
  have L13 := L12.trans L3
  revert Z3 W13 hn6 K
  generalize s_gone (s_closeF n) t2' (4 * c + 3) = t3'
  intro K Z3 hn6 W13
  have D4 := d_ownAll (c := c) (cl := s_closeF n) (d_closeF n) t3'.qs.length t3' Z3.i
  refine b_X8_end_25 ⟨fun _ => ?_, fun hn => absurd (by decide : (3 : Int32) < Int32.ofNat 4) hn⟩
  exact t_end_48 hC hD hc t3'.qs.length t3' w3 g3 h3 Z3 (L13.m hm) (L13.k hx gSt2) (Nat.le_refl _) hn6 fun w4 g4 h4 Z4 W4 L4 => K w4 g4 h4 Z4 (W13.trans W4 (tZ.confs D4)) (L13.trans L4)
theorem live_less (h0 : (s.cn c).state ≠ 0) (hc : c < 4) {f : sCn → sCn} (hf : ∀ k, (f k).state = 0) : sLive (s_cn s c f) < sLive s := by
  unfold sLive
  rw [← List.countP_eq_length_filter, ← List.countP_eq_length_filter]
  have e : ∀ x, ((s_cn s c f).cn x).state = if x = c then 0 else (s.cn x).state := fun x => by
    show (sUp s.cn c (f (s.cn c)) x).state = _
    by_cases ex : x = c
    · rw [ex, sUp_self, if_pos rfl, hf]
    · rw [sUp_ne ex, if_neg ex]
  simp only [e]
  have h4 : List.range 4 = [0, 1, 2, 3] := by decide
  rw [h4]
  have hcc : c = 0 ∨ c = 1 ∨ c = 2 ∨ c = 3 := by omega
  rcases hcc with rfl | rfl | rfl | rfl <;> simp [List.countP_cons, h0] <;> omega
theorem t_closeC : ∀ n, tCL s0 F b n (28 + 8 * n)
  | 0 => by
    intro d s w g h x0 x1 c Q E hd Z hm hx hc hn K
    have e := Z.r.1.cell hx (by decide)
    have h0 : (s.cn c).state = 0 := by
      by_cases h0 : (s.cn c).state = 0
      · exact h0
      · have := live_less h0 hc (f := fun k => k.w_state 0) (fun _ => rfl)
        omega
    obtain ⟨d, rfl⟩ : ∃ d', d = d' + 1 := ⟨d - 1, by omega⟩
    refine c_X8_close (e_I e fun (z1 : gI h x1 1 = (s.cn c).state) => ?_)
    rw [z1]
    exact ⟨fun hne => absurd h0 hne, fun _ => K w g h Z tWk.refl (gL.refl g)⟩
  | n + 1 => by
    intro d s w g h x0 x1 c Q E hd Z hm hx hc hn K
    have e := Z.r.1.cell hx (by decide)
    obtain ⟨d, rfl⟩ : ∃ d', d = d' + 28 := ⟨d - 28, by omega⟩
    refine c_X8_close (e_I e fun (z1 : gI h x1 1 = (s.cn c).state) => ?_)
    rw [z1]
    refine ⟨fun h0 => e_I e fun _ => ?_, fun h0 => ?_⟩
    · have D0 := d_cl0 (c := c) Z.i
      have hl := live_less h0 hc (f := fun k => ((k.w_state 0).w_inp []).w_deaf false) (fun _ => rfl)
      have hgo : ∀ t : Bool, (t = true ↔ (s.cn c).state = 5) → zP s0 m_X8_close (d + 28) 21 [some (zr x0), some (zr x1), none] [.int (sB t)] h Q E := fun t ht => by
        refine b_X8_close_21 ?_
        refine g_Pcn Z.r hx ((s.cn c).w_state 0) rfl (Z.r.2.cn fun hc4 => ⟨(Z.r.2.2.2.2.2.1 c hc4).1, (Z.r.2.2.2.2.2.1 c hc4).2.1.2⟩) fun h1 R1 _ => ?_
        have c1 : (s.w_cn (sUp s.cn c ((s.cn c).w_state 0))).cn c = (s.cn c).w_state 0 := sUp_self
        refine g_Pcn R1 hx (((s.cn c).w_state 0).w_inp []) (by rw [c1]; rfl) (R1.2.cn fun hc4 => ⟨⟨(Z.r.2.2.2.2.2.1 c hc4).1.1, (Z.r.2.2.2.2.2.1 c hc4).1.2.1, List.nil_prefix⟩, (Z.r.2.2.2.2.2.1 c hc4).2.1.2⟩) fun h2 R2 _ => ?_
        rw [wr_cn, sUp_sUp] at R2
        have R2 : tR s0 F (b + tP s) (s.w_cn (sUp s.cn c (((s.cn c).w_state 0).w_inp []))) w g h2 := R2
        have c2 : (s.w_cn (sUp s.cn c (((s.cn c).w_state 0).w_inp []))).cn c = ((s.cn c).w_state 0).w_inp [] := sUp_self
        refine g_Pcn R2 hx ((((s.cn c).w_state 0).w_inp []).w_deaf false) (by rw [c2]; rfl) (R2.2.cn fun hc4 => ⟨⟨(Z.r.2.2.2.2.2.1 c hc4).1.1, (Z.r.2.2.2.2.2.1 c hc4).1.2.1, List.nil_prefix⟩, (Z.r.2.2.2.2.2.1 c hc4).2.1.2⟩) fun h3 R3 _ => ?_
        rw [wr_cn, sUp_sUp] at R3
        have R3 : tR s0 F (b + tP s) (s_cn s c (fun k => ((k.w_state 0).w_inp []).w_deaf false)) w g h3 := R3
        have Z3 := Z.dn' D0 R3
        rw [s_closeF, if_neg h0] at K
        rw [sB_0]
        refine ⟨fun hf => ?_, fun hf => ?_⟩
        · have h5 : ¬ (s.cn c).state = 5 := fun h5 => by
            rw [hf] at ht
            exact absurd (ht.mpr h5) (by decide)
          dsimp only at K
          rw [if_neg h5] at K
          exact K w g h3 Z3 tWk.refl (gL.refl g)
        · rw [Bool.not_eq_false] at hf
          dsimp only at K
          rw [if_pos (ht.mp hf)] at K
          exact ⟨⟨_, R3.main hm⟩, t_endC (t_closeC n) (by omega) Z3 hm hc hx (by omega) K⟩
      refine ⟨fun h5 => hgo false ⟨fun h => absurd h (by decide), fun h => absurd h h5⟩, fun h5 => hgo true ⟨fun _ => h5, fun _ => rfl⟩⟩
    · rw [s_closeF, if_pos h0] at K
      exact K w g h Z tWk.refl (gL.refl g)
end CE
