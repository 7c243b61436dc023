/-! ===== the twin: frames of connections that are not open ===== -/
set_option maxRecDepth 100000
section NO
variable {s0 : zE} {F : Nat → Option zC} {b : Nat} {s : sSt} {w : tW} {g g' : sG} {h h' : zH} {d x0 x1 x4 j n c k : Nat} {Q : Value → zH → Prop} {E : Nat → zH → Prop} {dr : sBy} {sz cl me ty chan st bt beat x5 : Int32} {rd : sRd} {u : Int32 × List Nat × (Nat → Nat)} {v : Int32 × Int32 × Int32 × List Nat × (Nat → Nat)} {bs : sBy}
theorem tY_cnD {f : sCn → sCn} (D : sDn s (s_cn s c f)) : tY (s_cn s c f) ≤ tY s := by
  have h1 := D.live
  have h2 : sRdy (s_cn s c f) = sRdy s := rfl
  have h3 : (s_cn s c f).lastNum = s.lastNum := rfl
  unfold tY
  rw [h2, h3]
  omega
theorem t_onClosing (Z : tZ s0 F (b + tY s) s (dr, sz, (r_head ty bs).2.2, (r_head ty bs).1, (r_head ty bs).2.1, u) g h) (hm : g.kind x0 = (1, 0)) (hx : g.kind x1 = (2, c)) (hc : c < 4)
    (K : ∀ w1 g1 h1, tZ s0 F (b + tY (s_onClosing s c ty chan bs)) (s_onClosing s c ty chan bs) w1 g1 h1 → tWm (dr, sz, (r_head ty bs).2.2, (r_head ty bs).1, (r_head ty bs).2.1, u) w1 → gL g g1 → Q .null h1) : zX s0 m_X8_onClosing (d + 72) [zr x0, zr x1, .int chan] h Q E := by
  have em := Z.r.main hm
  unfold s_onClosing at K
  dsimp only at K
  generalize r_head ty bs = hd at *
  have h32 : hd.1 = 10 → chan = 0 → (hd.2.1 = 50 ∨ hd.2.1 = 51) → zP s0 m_X8_onClosing (d + 71 + 1) 32 [some (zr x0), some (zr x1), none] [] h Q E := fun e10 ec ho => by
    rw [if_neg (fun hh => hh.elim (fun q => q ec) fun hh => hh.elim (fun q => q e10) fun q => ho.elim q.1 q.2)] at K
    refine b_X8_onClosing_32 (e_I em fun (z1 : gI h x0 33 = hd.2.1) => ?_)
    rw [z1]
    refine ⟨fun h50 => ?_, fun h50 => ?_⟩
    · rw [if_neg h50] at K
      have hy := tY_close Z.i hc
      exact ⟨⟨_, em⟩, t_close (d := d + 3) Z hm hx hc fun w1 g1 h1 Z1 W1 L1 => K w1 g1 h1 (Z1.le (by omega)) W1.tom L1⟩
    · rw [if_pos h50] at K
      have hy := tY_simple (ch := 0) (k1 := 10) (me := 51) Z.i hc
      refine ⟨⟨_, em⟩, t_simple (d := d) Z hm hx hc fun w2 g2 h2 Z2 W2 L2 => ?_⟩
      have W2 := W2.tom
      generalize s_simple s c 0 10 51 = s2 at K hy Z2
      have hy2 := tY_close Z2.i hc
      exact ⟨⟨_, Z2.r.main (L2.m hm)⟩, t_close (d := d + 3) Z2 (L2.m hm) (L2.k hx gSt2) hc fun w3 g3 h3 Z3 W3 L3 => K w3 g3 h3 (Z3.le (by omega)) (W2.trans W3.tom) (L2.trans L3)⟩
  refine c_X8_onClosing ⟨fun hn => ?_, fun ec => e_I em fun (z1 : gI h x0 32 = hd.1) => ?_⟩
  · rw [if_pos (Or.inl hn)] at K
    exact K _ g h Z tWm.refl (gL.refl g)
  · rw [z1]
    refine ⟨fun h10 => ?_, fun h10 => e_I em fun (z2 : gI h x0 33 = hd.2.1) => ?_⟩
    · rw [if_pos (Or.inr (Or.inl h10))] at K
      exact K _ g h Z tWm.refl (gL.refl g)
    · rw [z2]
      refine ⟨fun h50 => h32 h10 ec (Or.inl h50), fun h50 => e_I em fun _ => ?_⟩
      refine ⟨fun h51 => h32 h10 ec (Or.inr h51), fun h51 => ?_⟩
      rw [if_pos (Or.inr (Or.inr ⟨h50, h51⟩))] at K
      exact K _ g h Z tWm.refl (gL.refl g)
/-- the greeting's last step: the state is raised, an answer goes -/
def s_up (s : sSt) (c : Nat) (bt st : Int32) : sSt := s_cn s c (fun k => (k.w_beat bt).w_state st)
theorem d_up (hc : c < 4) (hs : (s.cn c).state ≠ 0) (h0 : 0 ≤ st) (h6 : st ≤ 6) : sDn s (s_up s c bt st) := by
  unfold s_up s_cn
  exact sDn.cnUp (fun I => ⟨(I.cp.cn c hc).1, (I.cp.cn c hc).2.1, h0, h6⟩) fun e => absurd e hs
/-- what the answer to a greeting is -/
def s_ups (s : sSt) (c : Nat) (bt st : Int32) : sSt := if st = 3 then s_send (s_up s c bt st) c (w_method 0 10 30 (w_16 3 ++ w_32 400 ++ w_16 30)) else if st = 5 then s_simple (s_up s c bt st) c 0 10 41 else s_up s c bt st
theorem t_og_end (Z : tZ s0 F (b + tY s) s (dr, sz, rd, cl, me, u) g h) (hm : g.kind x0 = (1, 0)) (hx : g.kind x1 = (2, c)) (hc : c < 4) (hst : (s.cn c).state = st) (hs : st = 2 ∨ st = 3 ∨ st = 4)
    (K : ∀ w1 g1 h1, tZ s0 F (b + tY (s_ups s c x5 (st + 1))) (s_ups s c x5 (st + 1)) w1 g1 h1 → tWm (dr, sz, rd, cl, me, u) w1 → gL g g1 → Q .null h1) :
    (fC h x1 8) ∧ (∀ h3, h3 = zput h x1 2 (.int x5) → ((fI h3 x1 [8] 1) ∧ ((fC h3 x1 8) ∧ (∀ h4, h4 = zput h3 x1 1 (.int ((gI h3 x1 1) + 1)) → ((fI h4 x1 [8] 1) ∧ ((¬ gI h4 x1 1 = 3 → ((fI h4 x1 [8] 1) ∧ ((¬ gI h4 x1 1 = 5 → (Q .null h4)) ∧ (gI h4 x1 1 = 5 → ((fC h4 x0 7 ∧ zX s0 m_X8_simple (d + 71) [zr x0, zr (x1), .int (0), .int (10), .int (41)] h4 (fun _ h5 => (Q .null h5)) E)))))) ∧ (gI h4 x1 1 = 3 → ((fC h4 x0 7 ∧ zX s0 m_X8_beginMethod (d + 71) [zr x0, .int (0), .int (10), .int (30)] h4 (fun _ h6 => ((fC h6 x0 7 ∧ zX s0 m_X8_put16 (d + 71) [zr x0, .int (3)] h6 (fun _ h7 => ((fC h7 x0 7 ∧ zX s0 m_X8_put32 (d + 71) [zr x0, .int (400)] h7 (fun _ h8 => ((fC h8 x0 7 ∧ zX s0 m_X8_put16 (d + 71) [zr x0, .int (30)] h8 (fun _ h9 => ((fC h9 x0 7 ∧ zX s0 m_X8_goFrame (d + 71) [zr x0, zr (x1)] h9 (fun _ h10 => (Q .null h10)) E))) E))) E))) E))) E))))))))) := by
  refine g_Pcn Z.r hx ((s.cn c).w_beat x5) rfl (Z.r.2.cn fun hc4 => ⟨(Z.r.2.2.2.2.2.1 c hc4).1, (Z.r.2.2.2.2.2.1 c hc4).2.1.2⟩) fun h3 R3 _ => ?_
  refine e_I (R3.1.cell hx (by decide)) fun (z1 : gI h3 x1 1 = ((s.w_cn (sUp s.cn c ((s.cn c).w_beat x5))).cn c).state) => ?_
  have e1 : ((s.w_cn (sUp s.cn c ((s.cn c).w_beat x5))).cn c).state = st := by
    show (sUp s.cn c ((s.cn c).w_beat x5) c).state = st
    rw [sUp_self]
    exact hst
  rw [z1, e1]
  have hcn : (s.w_cn (sUp s.cn c ((s.cn c).w_beat x5))).cn c = (s.cn c).w_beat x5 := sUp_self
  refine g_Pcn R3 hx (((s.cn c).w_beat x5).w_state (st + 1)) (by rw [hcn]; rfl) (R3.2.cn fun hc4 => ?_) fun h4 R4 _ => ?_
  · have := R3.2.2.2.2.2.1 c hc4
    rw [hcn] at this
    exact ⟨this.1, this.2.1.2⟩
  have R4 : tR s0 F (b + tY s + tP s) (s_up s c x5 (st + 1)) (dr, sz, rd, cl, me, u) g h4 := by
    have e : (s.w_cn (sUp s.cn c ((s.cn c).w_beat x5))).w_cn (sUp (s.w_cn (sUp s.cn c ((s.cn c).w_beat x5))).cn c (((s.cn c).w_beat x5).w_state (st + 1))) = s_up s c x5 (st + 1) := by
      show s.w_cn (sUp (sUp s.cn c ((s.cn c).w_beat x5)) c (((s.cn c).w_beat x5).w_state (st + 1))) = _
      rw [sUp_sUp]
      rfl
    rw [← e]
    exact R4
  have hrng : 0 ≤ st + 1 ∧ st + 1 ≤ 6 := by rcases hs with e | e | e <;> subst e <;> decide
  have hnz : (s.cn c).state ≠ 0 := by rw [hst]; rcases hs with e | e | e <;> subst e <;> decide
  have D := d_up (s := s) (bt := x5) (st := st + 1) hc hnz hrng.1 hrng.2
  have hy := tY_cnD (f := fun k => (k.w_beat x5).w_state (st + 1)) D
  have hy : tY (s_up s c x5 (st + 1)) ≤ tY s := hy
  have Z4 := Z.dn' D R4
  have hcs : ((s_up s c x5 (st + 1)).cn c).state = st + 1 := by
    show (sUp s.cn c _ c).state = _
    rw [sUp_self]
    rfl
  unfold s_ups at K
  generalize s_up s c x5 (st + 1) = s4 at Z4 hy K hcs
  refine e_I (Z4.r.1.cell hx (by decide)) fun (z2 : gI h4 x1 1 = (s4.cn c).state) => ?_
  rw [z2, hcs]
  refine ⟨fun h3 => e_I (Z4.r.1.cell hx (by decide)) fun _ => ?_, fun h3 => ?_⟩
  · rw [if_neg h3] at K
    refine ⟨fun h5 => ?_, fun h5 => ?_⟩
    · rw [if_neg h5] at K
      exact K _ g h4 (Z4.le (by omega)) tWm.refl (gL.refl g)
    · rw [if_pos h5] at K
      have hy2 := tY_simple (ch := 0) (k1 := 10) (me := 41) Z4.i hc
      exact ⟨⟨_, Z4.r.main hm⟩, t_simple (d := d) Z4 hm hx hc fun w2 g2 h2 Z2 W2 L2 => K w2 g2 h2 (Z2.le (by omega)) W2.tom L2⟩
  · rw [if_pos h3] at K
    refine ⟨⟨_, Z4.r.main hm⟩, t_beginMethod (d := d + 67) Z4.r hm fun g1 h1 R1 L1 => ⟨⟨_, R1.main (L1.m hm)⟩, t_put16 (d := d + 70) R1 (L1.m hm) (by simp [w_head, w_8, w_16]) fun g2 h2 R2 L2 => ?_⟩⟩
    have L12 := L1.trans L2
    refine ⟨⟨_, R2.main (L12.m hm)⟩, t_put32 (d := d + 69) R2 (L12.m hm) (by simp [w_head, w_8, w_16]) fun g3 h3 R3 L3 => ?_⟩
    have L13 := L12.trans L3
    refine ⟨⟨_, R3.main (L13.m hm)⟩, t_put16 (d := d + 70) R3 (L13.m hm) (by simp [w_head, w_8, w_16, w_32]) fun g5 h5 R5 L5 => ?_⟩
    have L15 := L13.trans L5
    have hy2 := tY_send (b := w_method 0 10 30 (w_16 3 ++ w_32 400 ++ w_16 30)) Z4.i hc
    refine ⟨⟨_, R5.main (L15.m hm)⟩, t_goFrame (d := d + 1) (p := []) (ty := 1) (ch := 0) (body := w_16 10 ++ w_16 30 ++ (w_16 3 ++ w_32 400 ++ w_16 30)) (Z4.re R5) (L15.m hm) (L15.k hx gSt2) hc ?_ rfl (by simp [w_head, w_8, w_16, w_32]) fun w6 g6 h6 Z6 W6 L6 => ?_⟩
    · rw [List.nil_append]
      repeat rw [List.append_assoc]
    · have Z6 : tZ s0 F (b + tY s) (s_send s4 c (w_method 0 10 30 (w_16 3 ++ w_32 400 ++ w_16 30))) w6 g6 h6 := Z6
      have W6 := W6.tom
      exact K w6 g6 h6 (Z6.le (by omega)) ⟨W6.1, W6.2⟩ (L15.trans L6)
/-- what comes behind the arguments of a greeting -/
theorem t_og_154 {x4 : Int32} {N : Nat} (Z : tZ s0 F N s (dr, sz, rd, cl, me, u) g h) (hN : b + tY s ≤ N) (hm : g.kind x0 = (1, 0)) (hx : g.kind x1 = (2, c)) (hc : c < 4) (hst : (s.cn c).state = st) (hs : st = 2 ∨ st = 3 ∨ st = 4) {S : sSt}
    (hS : S = if x4 = 0 ∨ r_whole rd = false then s_close s c else s_ups s c x5 (st + 1))
    (K : ∀ w1 g1 h1, tZ s0 F (b + tY S) S w1 g1 h1 → tWm (dr, sz, rd, cl, me, u) w1 → gL g g1 → Q .null h1) :
    zP s0 m_X8_onGreeted (d + 72) 154 [some (zr x0), some (zr x1), none, none, some (.int x4), some (.int x5), none, none] [] h Q E := by
  have em := Z.r.main hm
  have hy := tY_close Z.i hc
  have hcl : (x4 = 0 ∨ r_whole rd = false) → fC h x0 7 ∧ zX s0 m_X8_close (d + 71) [zr x0, zr x1] h (fun _ h1 => Q .null h1) E := fun hb => by
    rw [if_pos hb] at hS
    subst hS
    exact ⟨⟨_, em⟩, t_close (d := d + 3) Z hm hx hc fun w1 g1 h1 Z1 W1 L1 => K w1 g1 h1 (Z1.le (by omega)) W1.tom L1⟩
  refine b_X8_onGreeted_154 ⟨fun h0 => hcl (Or.inl h0), fun h0 => ⟨⟨_, em⟩, t_whole Z.r hm ⟨_, rfl, ?_⟩⟩⟩
  rw [sB_0]
  refine ⟨fun hw => ?_, fun hw => hcl (Or.inr hw)⟩
  rw [if_neg (fun hh => hh.elim h0 hw)] at hS
  subst hS
  exact t_og_end (d := d) (Z.le hN) hm hx hc hst hs K
theorem og_bad {S : sSt} (hbad : ¬ (ty = 8 ∧ chan = 0 ∧ bs = [])) (hb : ¬ (ty = 1 ∧ chan = 0 ∧ (r_head ty bs).1 = 10 ∧ (r_head ty bs).2.1 = (if (s.cn c).state = 2 then 11 else if (s.cn c).state = 3 then 31 else 40))) : s_onGreeted s c ty chan bs = s_close s c := by
  unfold s_onGreeted
  dsimp only
  rw [if_neg hbad, if_pos hb]
theorem og_3 (hbad : ¬ (ty = 8 ∧ chan = 0 ∧ bs = [])) (hb : ty = 1 ∧ chan = 0 ∧ (r_head ty bs).1 = 10 ∧ (r_head ty bs).2.1 = (if (s.cn c).state = 2 then 11 else if (s.cn c).state = 3 then 31 else 40)) (h3 : (s.cn c).state = 3) {r1 r2 r3 : Int32 × sRd} (e1 : r1 = r_u16 (r_head ty bs).2.2) (e2 : r2 = r_u32 r1.2) (e3 : r3 = r_u16 r2.2) :
    s_onGreeted s c ty chan bs = if ¬ (r1.1 ≤ 3 ∧ 0 ≤ r2.1 ∧ r2.1 ≤ 400) ∨ r_whole r3.2 = false then s_close s c else s_ups s c r3.1 (3 + 1) := by
  subst e1 e2 e3
  unfold s_onGreeted
  dsimp only
  rw [if_neg hbad, if_neg (fun hh => hh hb), if_pos h3]
  have e4 : s_ups s c (r_u16 (r_u32 (r_u16 (r_head ty bs).2.2).2).2).1 (3 + 1) = s_cn s c (fun k => (k.w_beat (r_u16 (r_u32 (r_u16 (r_head ty bs).2.2).2).2).1).w_state 4) := by
    unfold s_ups
    rw [if_neg (by decide), if_neg (by decide)]
    rfl
  rw [e4]
  generalize r_u16 (r_u32 (r_u16 (r_head ty bs).2.2).2).2 = q3
  generalize r_u32 (r_u16 (r_head ty bs).2.2).2 = q2
  generalize r_u16 (r_head ty bs).2.2 = q1
  by_cases hw : r_whole q3.2 = true
  · by_cases hr : q1.1 ≤ 3 ∧ 0 ≤ q2.1 ∧ q2.1 ≤ 400
    · rw [if_pos ⟨hr.1, hr.2.1, hr.2.2, hw⟩, if_neg (fun hh => hh.elim (fun q => q hr) fun q => by rw [hw] at q; cases q)]
    · rw [if_neg (fun hh => hr ⟨hh.1, hh.2.1, hh.2.2.1⟩), if_pos (Or.inl hr)]
  · rw [if_neg (fun hh => hw hh.2.2.2), if_pos (Or.inr (by rwa [Bool.not_eq_true] at hw))]
theorem og_24 (hbad : ¬ (ty = 8 ∧ chan = 0 ∧ bs = [])) (hb : ty = 1 ∧ chan = 0 ∧ (r_head ty bs).1 = 10 ∧ (r_head ty bs).2.1 = (if (s.cn c).state = 2 then 11 else if (s.cn c).state = 3 then 31 else 40)) (hst : (s.cn c).state = st) (h3 : st = 2 ∨ st = 4) :
    s_onGreeted s c ty chan bs = if r_whole (r_short (r_head ty bs).2.2).2 = false then s_close s c else s_ups s c (s.cn c).beat (st + 1) := by
  have hn3 : ¬ (s.cn c).state = 3 := by rw [hst]; rcases h3 with e | e <;> subst e <;> decide
  unfold s_onGreeted
  dsimp only
  rw [if_neg hbad, if_neg (fun hh => hh hb), if_neg hn3, hst]
  by_cases hw : r_whole (r_short (r_head ty bs).2.2).2 = true
  · have hw2 : ¬ r_whole (r_short (r_head ty bs).2.2).2 = false := by rw [hw]; decide
    refine (if_neg (fun hh => hh hw)).trans (Eq.trans ?_ (if_neg hw2).symm)
    have e5 : s_cn s c (fun k => k.w_state (st + 1)) = s_up s c (s.cn c).beat (st + 1) := rfl
    rw [e5]
    unfold s_ups
    rcases h3 with e | e <;> subst e
    · rw [if_pos rfl, if_pos (by decide)]
    · rw [if_neg (by decide), if_neg (by decide), if_pos (by decide)]
  · rw [if_pos hw, if_pos (by rwa [Bool.not_eq_true] at hw)]
/-- a frame of a greeting -/
theorem t_onGreeted (Z : tZ s0 F (b + 36 + tY s) s (dr, sz, (r_head ty bs).2.2, (r_head ty bs).1, (r_head ty bs).2.1, u) g h) (hm : g.kind x0 = (1, 0)) (hx : g.kind x1 = (2, c)) (hc : c < 4) (hE : gB g (zst s0 "RelayHallModel" "EMPTY" "[B") []) (hst : (s.cn c).state = st) (hs : st = 2 ∨ st = 3 ∨ st = 4)
    (K : ∀ w1 g1 h1, tZ s0 F (b + tY (s_onGreeted s c ty chan bs)) (s_onGreeted s c ty chan bs) w1 g1 h1 → tWm (dr, sz, (r_head ty bs).2.2, (r_head ty bs).1, (r_head ty bs).2.1, u) w1 → gL g g1 → Q .null h1) :
    zX s0 m_X8_onGreeted (d + 72) [zr x0, zr x1, .int ty, .int chan] h Q E := by
  have em := Z.r.main hm
  have ex := Z.r.1.cell hx (by decide)
  have hl : bs.length ≤ 400 := by
    have := Z.r.2.frame.1.le
    rw [vB_len] at this
    have e : (r_head ty bs).2.2.1 = bs := head_1
    have this : (r_head ty bs).2.2.1.length ≤ 400 := this
    rwa [e] at this
  have h18 : ¬ (ty = 8 ∧ chan = 0 ∧ bs = []) → zP s0 m_X8_onGreeted (d + 71 + 1) 18 [some (zr x0), some (zr x1), some (.int ty), some (.int chan), none, none, none, none] [] h Q E := fun hn8 => by
    -- no frame that is due
    have h75 : ¬ (ty = 1 ∧ chan = 0 ∧ (r_head ty bs).1 = 10 ∧ (r_head ty bs).2.1 = (if (s.cn c).state = 2 then 11 else if (s.cn c).state = 3 then 31 else 40)) → zP s0 m_X8_onGreeted (d + 71 + 1) 75 [some (zr x0), some (zr x1), none, none, none, none, none, none] [] h Q E := fun hb => by
      rw [og_bad (S := s) hn8 hb] at K
      refine b_X8_onGreeted_75 (b_X8_onGreeted_76 (e_I ex fun (z1 : gI h x1 2 = (s.cn c).beat) => ⟨fun _ => ?_, fun hh => absurd rfl hh⟩))
      rw [z1]
      exact b_X8_onGreeted_144 ⟨fun _ => t_og_154 (d := d) (b := b) (st := st) Z (by omega) hm hx hc hst hs (S := s_close s c) (if_pos (Or.inl rfl)).symm K, fun hh => absurd rfl hh⟩
    -- the frame that is due
    have h76 : (ty = 1 ∧ chan = 0 ∧ (r_head ty bs).1 = 10 ∧ (r_head ty bs).2.1 = (if (s.cn c).state = 2 then 11 else if (s.cn c).state = 3 then 31 else 40)) → zP s0 m_X8_onGreeted (d + 71 + 1) 76 [some (zr x0), some (zr x1), none, none, none, none, none, none] [.int 1] h Q E := fun hb => by
      refine b_X8_onGreeted_76 (e_I ex fun (z1 : gI h x1 2 = (s.cn c).beat) => ⟨fun hh => absurd hh (by decide), fun _ => e_I ex fun (z2 : gI h x1 1 = (s.cn c).state) => ?_⟩)
      rw [z1, z2]
      refine ⟨fun hn3 => ?_, fun h3 => ?_⟩
      · have h24 : st = 2 ∨ st = 4 := by
          rcases hs with e | e | e
          · exact Or.inl e
          · exact absurd (hst.trans e) hn3
          · exact Or.inr e
        have eq := og_24 hn8 hb hst h24
        refine b_X8_onGreeted_144 ⟨fun hh => absurd hh (by decide), fun _ => ⟨⟨_, em⟩, t_shortZ (d := d + 70) (b := b + tY s) Z (by omega) hm hE fun n g1 h1 Z1 L1 _ => ⟨_, rfl, ?_⟩⟩⟩
        refine t_og_154 (d := d) (b := b) (st := st) Z1 (by omega) (L1.m hm) (L1.k hx gSt2) hc hst hs (S := s_onGreeted s c ty chan bs) ?_ fun w2 g2 h2 Z2 W2 L2 => K w2 g2 h2 Z2 ⟨W2.1, W2.2⟩ (L1.trans L2)
        rw [eq]
        by_cases hw : r_whole (r_short (r_head ty bs).2.2).2 = false
        · rw [if_pos hw, if_pos (Or.inr hw)]
        · rw [if_neg hw, if_neg (fun hh => hh.elim (by decide) hw)]
      · have es3 : st = 3 := hst.symm.trans h3
        subst es3
        have eq := fun r1 r2 r3 => og_3 (s := s) (c := c) hn8 hb h3 (r1 := r1) (r2 := r2) (r3 := r3)
        refine ⟨⟨_, em⟩, t_u16 (d := d + 70) Z.r hm fun h1 R1 => ⟨_, rfl, ⟨_, R1.main hm⟩, t_u32 (d := d + 69) R1 hm fun h2 R2 => ⟨_, rfl, ⟨_, R2.main hm⟩, t_u16 (d := d + 70) R2 hm fun h3 R3 => ⟨_, rfl, ?_⟩⟩⟩⟩
        have eq := eq _ _ _ rfl rfl rfl
        have Z3 := Z.re R3
        generalize s_onGreeted s c ty chan bs = S at eq K
        generalize r_u16 (r_u32 (r_u16 (r_head ty bs).2.2).2).2 = q3 at eq Z3 ⊢
        generalize r_u32 (r_u16 (r_head ty bs).2.2).2 = q2 at eq ⊢
        generalize r_u16 (r_head ty bs).2.2 = q1 at eq ⊢
        have h138 : ¬ (q1.1 ≤ 3 ∧ 0 ≤ q2.1 ∧ q2.1 ≤ 400) → zP s0 m_X8_onGreeted (d + 71 + 1) 138 [some (zr x0), some (zr x1), none, none, none, some (.int q3.1), none, none] [] h3 Q E := fun hr => by
          rw [if_pos (Or.inl hr)] at eq
          exact b_X8_onGreeted_138 (b_X8_onGreeted_139 (t_og_154 (d := d) (b := b) (st := 3) Z3 (by omega) hm hx hc hst hs (S := S) (by rw [eq, if_pos (Or.inl rfl)]) fun w2 g2 h2 Z2 W2 L2 => K w2 g2 h2 Z2 ⟨W2.1, W2.2⟩ L2))
        refine ⟨fun ha => h138 (fun hh => absurd hh.1 (Int32.not_le.mpr ha)), fun ha => ⟨fun hb => h138 (fun hh => absurd hh.2.1 (Int32.not_le.mpr hb)), fun hb => ⟨fun hd => h138 (fun hh => absurd hh.2.2 (Int32.not_le.mpr hd)), fun hd => ?_⟩⟩⟩
        have hr : q1.1 ≤ 3 ∧ 0 ≤ q2.1 ∧ q2.1 ≤ 400 := ⟨Int32.not_lt.mp ha, Int32.not_lt.mp hb, Int32.not_lt.mp hd⟩
        refine b_X8_onGreeted_139 (t_og_154 (d := d) (b := b) (st := 3) Z3 (by omega) hm hx hc hst hs (S := S) ?_ fun w2 g2 h2 Z2 W2 L2 => K w2 g2 h2 Z2 ⟨W2.1, W2.2⟩ L2)
        rw [eq]
        by_cases hw : r_whole q3.2 = false
        · rw [if_pos (Or.inr hw), if_pos (Or.inr hw)]
        · rw [if_neg (fun hh => hh.elim (fun q => q hr) hw), if_neg (fun hh => hh.elim (by decide) hw)]
    refine b_X8_onGreeted_18 ⟨fun h1 => h75 (fun hh => h1 hh.1), fun h1 => ⟨fun h0 => h75 (fun hh => h0 hh.2.1), fun h0 => e_I em fun (z1 : gI h x0 32 = (r_head ty bs).1) => ?_⟩⟩
    rw [z1]
    refine ⟨fun h10 => h75 (fun hh => h10 hh.2.2.1), fun h10 => e_I em fun (z2 : gI h x0 33 = (r_head ty bs).2.1) => e_I ex fun (z3 : gI h x1 1 = (s.cn c).state) => ?_⟩
    rw [z2, z3]
    have h68 : ∀ x : Int32, x = (if (s.cn c).state = 2 then 11 else if (s.cn c).state = 3 then 31 else 40) → zP s0 m_X8_onGreeted (d + 71 + 1) 68 [some (zr x0), some (zr x1), none, none, none, none, none, none] [.int x, .int (r_head ty bs).2.1] h Q E := fun x hx => b_X8_onGreeted_68 ⟨fun hh => h75 (fun q => hh (q.2.2.2.trans hx.symm)), fun hh => h76 ⟨h1, h0, h10, hh.trans hx⟩⟩
    refine ⟨fun hn2 => e_I ex fun _ => ?_, fun h2 => h68 11 (by rw [if_pos h2])⟩
    exact ⟨fun hn3 => h68 40 (by rw [if_neg hn2, if_neg hn3]), fun h3 => h68 31 (by rw [if_neg hn2, if_pos h3])⟩
  refine c_X8_onGreeted ⟨fun h8 => h18 (fun hh => h8 hh.1), fun h8 => ⟨fun h0 => h18 (fun hh => h0 hh.2.1), fun h0 => e_I em fun (z1 : gI h x0 30 = Int32.ofNat (r_head ty bs).2.2.1.length) => ?_⟩⟩
  rw [z1, head_1, show (0 : Int32) = Int32.ofNat 0 from rfl, i_inj (by omega) (by omega)]
  refine ⟨fun hl0 => h18 (fun hh => hl0 (by rw [hh.2.2]; rfl)), fun hl0 => ?_⟩
  have e0 : bs = [] := List.eq_nil_of_length_eq_zero hl0
  unfold s_onGreeted at K
  dsimp only at K
  rw [if_pos ⟨h8, h0, e0⟩] at K
  exact K _ g h (Z.le (by omega)) tWm.refl (gL.refl g)
end NO
