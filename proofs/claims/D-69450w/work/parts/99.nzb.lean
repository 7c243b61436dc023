/-! ===== the twin: what was typed is sent ===== -/
set_option maxRecDepth 100000
set_option maxHeartbeats 200000
section NZB
variable {s0 : zE} {F : Nat → Option zC} {b : Nat} {s s' S : sSt} {w w' : tW} {g g' g0 : sG} {h h' : zH} {d x0 x1 n m c i : Nat} {x : Int32} {Q : Value → zH → Prop} {E : Nat → zH → Prop} {dr : sBy} {sz cl me thr : Int32} {rd : sRd} {u : List Nat × (Nat → Nat)} {word : Int64}
theorem tG.tape0 (G : tG s w g) : tG (s.w_tape []) w g := by
  obtain ⟨b1, ⟨c1, c2, c3, c4, c5, c6, c7, c8, c9, c10, c11, c12, c13, c14⟩, b3, b4, b5, b6, b7, b8, b9, b10, b11, b12⟩ := G
  exact ⟨b1, ⟨c1, c2, c3, c4, c5, c6, c7, c8, c9, ⟨c10.1, c10.2.1, ⟨_, rfl⟩⟩, c11, c12, c13, c14⟩, b3, b4, b5, b6, b7, b8, b9, b10, b11, b12⟩
theorem pend_cn {v : Nat → sCn} {a : Nat} (hc : c < 4) (h1 : ∀ p, p ≠ c → (v p).inp.length ≤ (s.cn p).inp.length) (h2 : (v c).inp.length ≤ a) : sPend (s.w_cn v) + (s.cn c).inp.length ≤ sPend s + a := by
  unfold sPend
  have e1 : (s.w_cn v).tape = s.tape := rfl
  have e2 : (s.w_cn v).cn = v := rfl
  rw [e1, e2, sum4, sum4]
  have hh : c = 0 ∨ c = 1 ∨ c = 2 ∨ c = 3 := by omega
  rcases hh with e | e | e | e <;> subst e
  · have a1 := h1 1 (by decide); have a2 := h1 2 (by decide); have a3 := h1 3 (by decide); omega
  · have a1 := h1 0 (by decide); have a2 := h1 2 (by decide); have a3 := h1 3 (by decide); omega
  · have a1 := h1 0 (by decide); have a2 := h1 1 (by decide); have a3 := h1 3 (by decide); omega
  · have a1 := h1 0 (by decide); have a2 := h1 1 (by decide); have a3 := h1 2 (by decide); omega
theorem pend_in (hc : c < 4) (h1 : ∀ p, (S.cn p).inp.length ≤ (s.cn p).inp.length) (ht : S.tape = s.tape) : sPend S + (s.cn c).inp.length ≤ sPend s + (S.cn c).inp.length := by
  unfold sPend
  rw [ht, sum4, sum4]
  have a0 := h1 0
  have a1 := h1 1
  have a2 := h1 2
  have a3 := h1 3
  have hh : c = 0 ∨ c = 1 ∨ c = 2 ∨ c = 3 := by omega
  rcases hh with e | e | e | e <;> subst e <;> omega
theorem pend_ge (hc : c < 4) : (s.cn c).inp.length + s.tape.length ≤ sPend s := by
  unfold sPend
  rw [sum4]
  have hh : c = 0 ∨ c = 1 ∨ c = 2 ∨ c = 3 := by omega
  rcases hh with e | e | e | e <;> subst e <;> omega
/-- behind the copying: all is taken in -/
theorem t_send_end {s2 : sSt} {tp : sBy} {N : Nat} (J : tJs s0 F) (Z : tZ s0 F N s2 w g h) (hm : g.kind x0 = (1, 0)) (hx : g.kind x1 = (2, c)) (hc : c < 4) (hE : gB g (zst s0 "RelayHallModel" "EMPTY" "[B") []) (hG : gB g (zst s0 "RelayHallModel" "GREETS" "[B") s_greets) (V : sVV n s2) (hn : n ≤ 40000) (hcd : ∀ h, w.cd h = 0)
    (hfit : (s2.cn c).inp.length + tp.length ≤ 828) (hpre : vB ((s2.cn c).inp ++ tp) <+: g.ar 25 c) (ht0 : s2.tape = []) (hN : b + 300 * (sPend s2 + tp.length) + tK s2 + tY s2 ≤ N) {SS : sSt} (hS : SS = s_takeIn (s_cn s2 c (fun k => k.w_inp ((s2.cn c).inp ++ tp))) c)
    (K : ∀ n' w1 g1 h1, tZ s0 F (b + tV SS + tY SS) SS w1 g1 h1 → sVV n' SS → n' + sPend SS ≤ n + (sPend s2 + tp.length) → tWm w w1 → gL g g1 → Q (.int (SS.cn c).state) h1) :
    zP s0 m_X8_send (d + 88) 58 [some (zr x0), none, some (.int (Int32.ofNat tp.length)), some (zr x1), some (.int (Int32.ofNat tp.length))] [] h Q E := by
  have ex := Z.r.1.cell hx (by decide)
  refine b_X8_send_58 ⟨fun _ => e_I ex fun (z1 : gI h x1 3 = Int32.ofNat (s2.cn c).inp.length) => ?_, fun hh => absurd (Int32.le_refl _) hh⟩
  have hll : ((s2.cn c).inp ++ tp).length = (s2.cn c).inp.length + tp.length := List.length_append
  rw [z1, i_add, ← hll]
  have B0 := Z.r.2.2.2.2.2.1 c hc
  refine g_Pcn Z.r hx ((s2.cn c).w_inp ((s2.cn c).inp ++ tp)) rfl (Z.r.2.cn fun _ => ⟨⟨B0.1.1, B0.1.2.1, hpre⟩, B0.2.1.2⟩) fun h1 R1 _ => ?_
  have R1 : tR s0 F (N + tP s2) (s_cn s2 c (fun k => k.w_inp ((s2.cn c).inp ++ tp))) w g h1 := R1
  have D := d_inp (s := s2) (inp2 := (s2.cn c).inp ++ tp) hc (by omega)
  have hy := tY_cnD D
  have Z1 := Z.dn' D R1
  have V1 : sVV n (s_cn s2 c (fun k => k.w_inp ((s2.cn c).inp ++ tp))) := V
  have k1 : tK (s_cn s2 c (fun k => k.w_inp ((s2.cn c).inp ++ tp))) = tK s2 := rfl
  have i1 : ((s_cn s2 c (fun k => k.w_inp ((s2.cn c).inp ++ tp))).cn c).inp.length = (s2.cn c).inp.length + tp.length := by
    show (sUp s2.cn c _ c).inp.length = _
    rw [sUp_self]
    exact hll
  have p1 : sPend (s_cn s2 c (fun k => k.w_inp ((s2.cn c).inp ++ tp))) + (s2.cn c).inp.length ≤ sPend s2 + ((s2.cn c).inp.length + tp.length) := by
    refine pend_cn hc (fun p hp => by rw [sUp_ne hp]; exact Nat.le_refl _) ?_
    rw [sUp_self]
    exact Nat.le_of_eq hll
  generalize s_cn s2 c (fun k => k.w_inp ((s2.cn c).inp ++ tp)) = s3 at *
  have q1 := pend_ge (s := s3) hc
  refine ⟨⟨_, Z1.r.main hm⟩, t_takeIn (d := d) (b := b + 300 * (sPend s3 - (s3.cn c).inp.length)) J (Z1.le (by omega)) hm hx hc hE hG V1 hn hcd fun n' w2 g2 h2 Z2 V2 hn2 hp2 ht2 W2 L2 => ?_⟩
  rw [← hS] at Z2 V2 hn2 hp2 ht2
  have q2 := pend_in (S := SS) (s := s3) hc hp2 ht2
  refine e_I (Z2.r.1.cell (L2.k hx gSt2) (by decide)) fun (z4 : gI h2 x1 1 = (SS.cn c).state) => ?_
  rw [z4]
  refine K n' w2 g2 h2 (Z2.le ?_) V2 (by omega) W2 L2
  unfold tV
  omega
theorem t_send (J : tJs s0 F) (Z : tZ s0 F (b + tV s + tY s) s w g h) (hm : g.kind x0 = (1, 0)) (hE : gB g (zst s0 "RelayHallModel" "EMPTY" "[B") []) (hG : gB g (zst s0 "RelayHallModel" "GREETS" "[B") s_greets) (V : sVV n s) (hn : n ≤ 40000) (hcd : ∀ h, w.cd h = 0) (hpd : sPend s ≤ 828)
    (K : ∀ n' w1 g1 h1, tZ s0 F (b + tV (c_send s x).2 + tY (c_send s x).2) (c_send s x).2 w1 g1 h1 → sVV n' (c_send s x).2 → n' + sPend (c_send s x).2 ≤ n + sPend s → tWm (w.w_thr 0) w1 → gL g g1 → Q (.int (c_send s x).1) h1) : zX s0 m_X8_send (d + 88) [zr x0, .int x] h Q E := by
  obtain ⟨dr, sz, rd, cl, me, thr, u⟩ := w
  unfold c_send at K
  dsimp only at K
  have hpt : vB s.tape <+: g.ar 15 0 := Z.r.2.ar15.2.2
  refine c_X8_send (g_Thr Z hm fun h1 Z1 => e_I (Z1.r.main hm) fun (z0 : gI h1 x0 27 = Int32.ofNat s.tape.length) => ?_)
  rw [z0]
  refine g_PM Z1.r hm (s.w_tape []) (dr, sz, rd, cl, me, 0, u) rfl Z1.r.2.tape0 ⟨rfl, rfl, rfl, rfl, rfl, rfl, rfl, rfl, rfl⟩ fun h2 R2 _ => ?_
  have I2 := Z.i.w_tape (l := []) (Nat.zero_le _)
  have V2 := V_tape (l := []) V
  have p2 : sPend (s.w_tape []) + s.tape.length = sPend s := by
    unfold sPend
    have e1 : (s.w_tape []).tape = [] := rfl
    have e2 : (s.w_tape []).cn = s.cn := rfl
    rw [e1, e2]
    show 0 + _ + _ = _
    omega
  have k2 : tK (s.w_tape []) = tK s := rfl
  have y2 : tY (s.w_tape []) = tY s := rfl
  have tp2 : tP (s.w_tape []) = tP s := rfl
  have sw2 : sWt (s.w_tape []) = sWt s := rfl
  have cn2 : (s.w_tape []).cn = s.cn := rfl
  have ck2 : (s.w_tape []).clock = s.clock := rfl
  have tt2 : (s.w_tape []).tape = [] := rfl
  have hzc := Z.c
  generalize s.w_tape [] = s2 at *
  have Z2 : tZ s0 F (b + tV s + tY s) s2 (dr, sz, rd, cl, me, 0, u) g h2 := ⟨by rw [tp2]; exact R2, I2, by rw [tp2, sw2]; exact hzc⟩
  have hv2 : tV s2 ≤ tV s := by unfold tV; omega
  refine t_isC ⟨_, rfl, ?_⟩
  rw [sB_0]
  refine ⟨fun hf => ?_, fun ht => ?_⟩
  · rw [if_pos (Or.inl (by rw [hf]; decide))] at K
    try dsimp only at K
    exact K n _ g h2 (Z2.le (by omega)) V2 (by omega) tWm.refl (gL.refl g)
  · rw [Bool.not_eq_false] at ht
    obtain ⟨c, hc, ec, en⟩ := isC_of ht
    rw [en] at K
    subst ec
    have hx := Z2.r.cn hc
    have ex := Z2.r.1.cell hx (by decide)
    refine g_Con Z2.r hm hc fun z1 => ?_
    rw [z1]
    refine e_I ex fun (z2 : gI h2 (g.ref 2 c) 1 = (s2.cn c).state) => ?_
    rw [z2]
    refine ⟨fun hn0 => ?_, fun h0 => ?_⟩
    · rw [cn2] at hn0
      rw [if_neg (fun hh => hh.elim (fun q => q ht) hn0)] at K
      try dsimp only at K
      have hEE := g_Con (P := True) Z2.r hm hc fun _ => trivial
      rw [z1] at hEE
      refine ⟨hEE.1, hEE.2.1, ?_⟩
      have hpg := pend_ge (s := s) hc
      -- the state when the copying begins
      have go : ∀ (s4 : sSt) (h4 : zH), s4 = (if s.tape = [] then s2 else s_cn s2 c (fun k => k.w_lastIn s.clock)) → tZ s0 F (b + tV s + tY s) s4 (dr, sz, rd, cl, me, 0, u) g h4 → zP s0 m_X8_send (d + 87 + 1) 55 [some (zr x0), none, some (.int (Int32.ofNat s.tape.length)), some (zr (g.ref 2 c)), none] [] h4 Q E := fun s4 h4 e4 Z4 => by
        rw [← e4] at K
        have E4 : sE s2 s4 ∧ (s4.cn c).inp = (s2.cn c).inp ∧ tY s4 ≤ tY s2 := by
          rw [e4]
          split
          · exact ⟨sE.refl _, rfl, Nat.le_refl _⟩
          · refine ⟨e_cnUp fun _ => Nat.le_refl _, ?_, ?_⟩
            · show (sUp s2.cn c _ c).inp = _
              rw [sUp_self]
              rfl
            · refine tY_cnD ?_
              unfold s_cn
              exact sDn.cnUp (fun I => I.cp.cn c hc) fun e => e
        have V4 := V2.eE E4.1
        have hk4 := tK_e E4.1
        have hp4 := pend_e E4.1
        have ht4 := E4.1.2.2.1.2
        rw [tt2] at ht4
        have hi4 : (s4.cn c).inp.length + s.tape.length ≤ 828 := by rw [E4.2.1, cn2]; omega
        have hSS : s_takeIn (s_cn s4 c (fun k => k.w_inp ((s4.cn c).inp ++ s.tape))) c = s_takeIn (s_cn s4 c (fun k => if k.deaf = true then k else k.w_inp (k.inp ++ s.tape))) c := by
          by_cases hd : (s4.cn c).deaf = true
          · have e1 : s_cn s4 c (fun k => if k.deaf = true then k else k.w_inp (k.inp ++ s.tape)) = s_cn s4 c (fun k => k.w_inp (s4.cn c).inp) := by
              show s4.w_cn (sUp s4.cn c (if (s4.cn c).deaf = true then s4.cn c else _)) = _
              rw [if_pos hd]
              rfl
            rw [e1]
            exact takeIn_deaf hd
          · have e1 : s_cn s4 c (fun k => if k.deaf = true then k else k.w_inp (k.inp ++ s.tape)) = s_cn s4 c (fun k => k.w_inp ((s4.cn c).inp ++ s.tape)) := by
              show s4.w_cn (sUp s4.cn c (if (s4.cn c).deaf = true then s4.cn c else _)) = _
              rw [if_neg hd]
              rfl
            rw [e1]
        rw [← hSS] at K
        refine b_X8_send_55 (t_send_58 (d := d + 87) (tp := s.tape) (g0 := g) hc hm hx hi4 hpt (fun g5 h5 R5 L5 hp5 => ?_) s.tape.length 0 g h4 (by omega) Z4.r (gL.refl g) rfl (fun j hj => absurd hj (by omega)))
        refine t_send_end (d := d) (b := b) (N := b + tV s + tY s) (SS := s_takeIn (s_cn s4 c (fun k => k.w_inp ((s4.cn c).inp ++ s.tape))) c) J (Z4.re R5) (L5.m hm) (L5.k hx gSt2) hc (L5.B hE) (L5.B hG) V4 hn hcd hi4 hp5 ht4 ?_ rfl fun n' w6 g6 h6 Z6 V6 hn6 W6 L6 => K n' w6 g6 h6 Z6 V6 (by omega) W6 (L5.trans L6)
        unfold tV
        omega
      have hlen0 : (Int32.ofNat s.tape.length ≤ 0) ↔ s.tape.length ≤ 0 := by
        rw [show (0 : Int32) = Int32.ofNat 0 from rfl]
        exact i_le (by omega) (by decide)
      refine ⟨fun hl0 => go s2 h2 ?_ Z2, fun hl0 => ?_⟩
      · rw [if_pos (List.eq_nil_of_length_eq_zero (by have := hlen0.mp hl0; omega))]
      · refine e_I (Z2.r.main hm) fun (z4 : gI h2 x0 12 = s2.clock) => ?_
        rw [z4, ck2]
        refine g_Pcn Z2.r hx ((s2.cn c).w_lastIn s.clock) rfl (Z2.r.2.cn fun hc4 => ⟨(Z2.r.2.2.2.2.2.1 c hc4).1, (Z2.r.2.2.2.2.2.1 c hc4).2.1.2⟩) fun h4 R4 _ => ?_
        have R4 : tR s0 F (b + tV s + tY s + tP s2) (s_cn s2 c (fun k => k.w_lastIn s.clock)) (dr, sz, rd, cl, me, 0, u) g h4 := R4
        have D4 : sDn s2 (s_cn s2 c (fun k => k.w_lastIn s.clock)) := by
          unfold s_cn
          exact sDn.cnUp (fun I => I.cp.cn c hc) fun e => e
        refine go _ h4 ?_ (Z2.dn' D4 R4)
        rw [if_neg (fun e => hl0 (hlen0.mpr (by rw [e]; exact Nat.le_refl _)))]
    · rw [cn2] at h0
      rw [if_pos (Or.inr h0)] at K
      try dsimp only at K
      exact K n _ g h2 (Z2.le (by omega)) V2 (by omega) tWm.refl (gL.refl g)
end NZB
