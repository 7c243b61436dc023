/-! ===== the twin: the greeting ===== -/
set_option maxRecDepth 100000
section NQ
variable {s0 : zE} {F : Nat → Option zC} {b : Nat} {s s' : sSt} {w w' : tW} {g g' : sG} {h h' hS hB : zH} {d x0 x1 a j n c k m : Nat} {Q : Value → zH → Prop} {E : Nat → zH → Prop} {dr : sBy} {sz cl me : Int32} {rd : sRd} {u : Int32 × List Nat × (Nat → Nat)} {v : Int32 × Int32 × Int32 × List Nat × (Nat → Nat)} {bs inp inp2 nb : sBy} {fs L L' : List Value}
theorem take_step {l r : sBy} {i : Nat} {x y : UInt8} (hl : l[i]? = some x) (hr : r[i]? = some y) : decide (l.take (i + 1) = r.take (i + 1)) = (decide (l.take i = r.take i) && decide (x = y)) := by
  rw [List.take_add_one, List.take_add_one, hl, hr]
  have h1 := (List.getElem?_eq_some_iff.mp hl).1
  have h2 := (List.getElem?_eq_some_iff.mp hr).1
  have e : (l.take i ++ (some x).toList = r.take i ++ (some y).toList) ↔ (l.take i = r.take i ∧ x = y) := by
    constructor
    · intro hh
      have := List.append_inj hh (by rw [List.length_take, List.length_take]; omega)
      exact ⟨this.1, by have := this.2; injection this⟩
    · rintro ⟨e1, e2⟩
      rw [e1, e2]
  rw [decide_eq_decide.mpr e, Bool.decide_and]
theorem t_greet_4 (R : tR s0 F b s w g h) (hx : g.kind x1 = (2, c)) (hc : c < 4) (hl : 8 ≤ (s.cn c).inp.length) (hG : gB g (zst s0 "RelayHallModel" "GREETS" "[B") s_greets)
    (K : zP s0 m_X8_greet (d + 1) 4 [some (zr x0), some (zr x1), some (.int (sB (decide ((s.cn c).inp.take 8 = s_greets)))), some (.int 8)] [] h Q E) :
    ∀ (k i : Nat), 8 = i + k → zP s0 m_X8_greet (d + 1) 4 [some (zr x0), some (zr x1), some (.int (sB (decide ((s.cn c).inp.take i = s_greets.take i)))), some (.int (Int32.ofNat i))] [] h Q E
  | 0, i, hi => by
    have ei : i = 8 := by omega
    subst ei
    exact K
  | k + 1, i, hi => by
    have ih := t_greet_4 R hx hc hl hG K k (i + 1) (by omega)
    have A := (R.2.2.2.2.2.1 c hc).1
    obtain ⟨eA, hA⟩ := R.arr (t := 0) A rfl (by decide) (by decide)
    have eG := R.fz hG
    obtain ⟨x, hx5⟩ : ∃ x, (s.cn c).inp[i]? = some x := ⟨_, List.getElem?_eq_getElem (by omega)⟩
    obtain ⟨y, hy5⟩ : ∃ y, s_greets[i]? = some y := ⟨_, List.getElem?_eq_getElem (by show i < 8; omega)⟩
    refine b_X8_greet_4 ⟨fun h8 => ?_, fun _ => e_R (R.1.cell hx (by decide)) fun (z1 : gR h x1 10 = g.ref 25 c) => ?_⟩
    · rw [show (8 : Int32) = Int32.ofNat 8 from rfl, i_le (by omega) (by omega)] at h8
      omega
    · rw [z1]
      refine g_EI (t := 0) eA (zin_of (by rw [A.2.1]; omega) (by omega)) (by rw [i_nat (by omega)]; exact pre_get A.2.2 (vB_get hx5)) fun z2 => ?_
      refine g_EI (t := 0) (n := zst s0 "RelayHallModel" "GREETS" "[B") eG (zin_of (by rw [vB_len]; show i < 8; omega) (by omega)) (by rw [i_nat (by omega)]; exact vB_get hy5) fun z3 => ?_
      rw [z2, z3, i_succ, sx_inj]
      rw [take_step hx5 hy5] at ih
      refine ⟨fun e => ?_, fun e => ?_⟩
      · rw [decide_eq_true e, Bool.and_true] at ih
        exact ih
      · rw [decide_eq_false e, Bool.and_false] at ih
        exact ih
theorem greet_t (hg : (s.cn c).inp.take 8 = s_greets) : s_greet s c = s_send (s_cn (s_cn s c (fun k => k.w_inp (k.inp.drop 8))) c (fun k => k.w_state 2)) c (w_method 0 10 10 (w_8 0 ++ w_8 9)) := by
  unfold s_greet
  exact if_pos hg
theorem greet_f (hg : ¬ (s.cn c).inp.take 8 = s_greets) : s_greet s c = s_close (s_send (s_cn s c (fun k => k.w_inp (k.inp.drop 8))) c s_greets) c := by
  unfold s_greet
  exact if_neg hg
theorem d_drop (hc : c < 4) : sDn s (s_cn s c (fun k => k.w_inp (k.inp.drop n))) := by
  unfold s_cn
  exact sDn.cnUp (fun I => ⟨by have := (I.cp.cn c hc).1; show ((s.cn c).inp.drop n).length ≤ 828; rw [List.length_drop]; omega, (I.cp.cn c hc).2⟩) fun e => e
theorem d_st (hc : c < 4) {st : Int32} (h0 : 0 ≤ st) (h6 : st ≤ 6) (hn : (s.cn c).state ≠ 0) : sDn s (s_cn s c (fun k => k.w_state st)) := by
  unfold s_cn
  exact sDn.cnUp (fun I => ⟨(I.cp.cn c hc).1, (I.cp.cn c hc).2.1, h0, h6⟩) fun e => absurd e hn
theorem t_greet (Z : tZ s0 F (b + tY s) s w g h) (hm : g.kind x0 = (1, 0)) (hx : g.kind x1 = (2, c)) (hc : c < 4) (hl : 8 ≤ (s.cn c).inp.length) (hs0 : (s.cn c).state = 1) (hG : gB g (zst s0 "RelayHallModel" "GREETS" "[B") s_greets)
    (K : ∀ w1 g1 h1, tZ s0 F (b + tY (s_greet s c)) (s_greet s c) w1 g1 h1 → tWm w w1 → gL g g1 → Q .null h1) : zX s0 m_X8_greet (d + 72) [zr x0, zr x1] h Q E := by
  obtain ⟨dr, sz, rd, v⟩ := w
  refine c_X8_greet (t_greet_4 (d := d + 71) Z.r hx hc hl hG ?_ 8 0 rfl)
  refine b_X8_greet_4 ⟨fun _ => ⟨⟨_, Z.r.main hm⟩, t_drop (n := 8) Z.r hm hx hc hl fun g1 h1 R1 L1 => ?_⟩, fun hh => absurd (Int32.le_refl _) hh⟩
  have D1 := d_drop (s := s) (n := 8) hc
  have Z1 := Z.dn' D1 R1
  have hy1 := tY_cnD D1
  have hs1 : ((s_cn s c (fun k => k.w_inp (k.inp.drop 8))).cn c).state = 1 := by
    show (sUp s.cn c _ c).state = 1
    rw [sUp_self]
    exact hs0
  have eg := greet_t (s := s) (c := c)
  have ef := greet_f (s := s) (c := c)
  generalize s_cn s c (fun k => k.w_inp (k.inp.drop 8)) = s1 at Z1 hy1 hs1 eg ef
  have hm1 := L1.m hm
  have hx1 := L1.k hx gSt2
  refine ⟨fun h0 => ?_, fun h0 => ?_⟩
  · have hg : ¬ (s.cn c).inp.take 8 = s_greets := of_decide_eq_false (sB_0.mp h0)
    rw [ef hg] at K
    refine g_PM Z1.r hm1 s1 ([], sz, rd, v) rfl (Z1.r.2.drw ⟨_, rfl⟩) ⟨rfl, rfl, rfl, rfl, rfl, rfl, rfl, rfl, rfl⟩ fun h2 R2 _ => ?_
    refine ⟨⟨_, R2.main hm1⟩, t_putBytes (d := d + 70) R2 hm1 (L1.B hG) (by show 0 + 8 ≤ 1200; omega) fun g3 h3 R3 L3 => ?_⟩
    have hm3 := L3.m hm1
    have hx3 := L3.k hx1 gSt2
    have hy2 := tY_send (b := s_greets) Z1.i hc
    refine ⟨⟨_, R3.main hm3⟩, t_go (d := d + 2) (dr := s_greets) (Z1.re R3) hm3 hx3 hc fun w4 g4 h4 Z4 W4 L4 => ?_⟩
    have W4 := W4.tom
    generalize s_send s1 c s_greets = s4 at Z4 hy2 K
    have hy3 := tY_close Z4.i hc
    exact ⟨⟨_, Z4.r.main (L4.m hm3)⟩, t_close (d := d + 3) Z4 (L4.m hm3) (L4.k hx3 gSt2) hc fun w5 g5 h5 Z5 W5 L5 => K w5 g5 h5 (Z5.le (by omega)) (by have := W4.trans W5.tom; exact ⟨this.1, this.2⟩) (((L1.trans L3).trans L4).trans L5)⟩
  · have hg : (s.cn c).inp.take 8 = s_greets := of_decide_eq_true (by
      cases hh : decide ((s.cn c).inp.take 8 = s_greets) with
      | true => rfl
      | false => rw [hh] at h0; exact absurd rfl h0)
    rw [eg hg] at K
    refine g_Pcn Z1.r hx1 ((s1.cn c).w_state 2) rfl (Z1.r.2.cn fun hc4 => ⟨(Z1.r.2.2.2.2.2.1 c hc4).1, (Z1.r.2.2.2.2.2.1 c hc4).2.1.2⟩) fun h2 R2 _ => ?_
    have R2 : tR s0 F (b + tY s + tP s1) (s_cn s1 c (fun k => k.w_state 2)) (dr, sz, rd, v) g1 h2 := R2
    have D2 := d_st (s := s1) (st := 2) hc (by decide) (by decide) (by rw [hs1]; decide)
    have hy2 := tY_cnD D2
    have Z2 := Z1.dn' D2 R2
    generalize s_cn s1 c (fun k => k.w_state 2) = s2 at Z2 hy2 K
    refine ⟨⟨_, Z2.r.main hm1⟩, t_beginMethod (d := d + 67) Z2.r hm1 fun g3 h3 R3 L3 => ⟨⟨_, R3.main (L3.m hm1)⟩, t_put (d := d + 71) R3 (L3.m hm1) (by simp [w_head, w_8, w_16]) fun g4 h4 R4 L4 => ?_⟩⟩
    have L34 := L3.trans L4
    refine ⟨⟨_, R4.main (L34.m hm1)⟩, t_put (d := d + 71) R4 (L34.m hm1) (by simp [w_head, w_8, w_16]) fun g5 h5 R5 L5 => ?_⟩
    have L35 := L34.trans L5
    have hy3 := tY_send (b := w_method 0 10 10 (w_8 0 ++ w_8 9)) Z2.i hc
    refine ⟨⟨_, R5.main (L35.m hm1)⟩, t_goFrame (d := d + 1) (p := []) (ty := 1) (ch := 0) (body := w_16 10 ++ w_16 10 ++ (w_8 0 ++ w_8 9)) (Z2.re R5) (L35.m hm1) (L35.k hx1 gSt2) hc ?_ rfl (by simp [w_head, w_8, w_16]) fun w6 g6 h6 Z6 W6 L6 => ?_⟩
    · rw [List.nil_append, show w_8 0 = [lo8 0] from rfl, show w_8 9 = [lo8 9] from rfl]
      repeat rw [List.append_assoc]
    · have Z6 : tZ s0 F (b + tY s) (s_send s2 c (w_method 0 10 10 (w_8 0 ++ w_8 9))) w6 g6 h6 := Z6
      have W6 := W6.tom
      exact K w6 g6 h6 (Z6.le (by omega)) ⟨W6.1, W6.2⟩ ((L1.trans L35).trans L6)
end NQ
