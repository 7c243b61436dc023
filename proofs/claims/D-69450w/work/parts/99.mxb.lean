/-! ===== the twin: acknowledgements: joined ===== -/
set_option maxRecDepth 100000
section MXB
variable {s0 : zE} {F : Nat → Option zC} {b : Nat} {s s' s1 s2 : sSt} {w w' w1 w2 : tW} {g g' g0 : sG} {h h' : zH} {d x0 x1 x2 x3 x5 x7 i j q m p n a e x y : Nat} {Q : Value → zH → Prop} {E : Nat → zH → Prop} {dr nm key frm : sBy} {sz cl me code k bits tag what c4 c5 c6 : Int32} {rd : sRd} {u : Int32 × List Nat × (Nat → Nat)} {all v : Bool} {l : List Nat}
theorem t_acknowledges {N : Nat} (Z : tZ s0 F N s (dr, sz, rd, cl, me, u) g h) (hN : b + 1850 + tY s ≤ N) (hN2 : r_whole rd = true → b + 4000 + tY s ≤ N) (hm : g.kind x0 = (1, 0)) (hx : g.kind x1 = (3, j)) (hj : isH j) (hsl : (s.ch j).sent.length ≤ 12000)
    (K : ∀ w1 g1 h1, tZ s0 F (b + 950 + tY (s_tld j cl me (s_acks s j tag all what rd))) (s_tld j cl me (s_acks s j tag all what rd)) w1 g1 h1 → tWm (dr, sz, rd, cl, me, u) w1 → gL g g1 → Q .null h1) : zX s0 m_X8_acknowledges (d + 79) [zr x0, zr x1, .int tag, .int (sB all), .int what] h Q E := by
  rw [s_acks_eq] at K
  refine c_X8_acknowledges ⟨⟨_, Z.r.main hm⟩, t_thenW (d := d + 1) (b := b + 950) (N := fun h => Q .null h) (f := s_acksF s j tag all what) ?_ (Z.le (by omega)) hm hx hj K ?_⟩
  · exact fun h1 hq => ⟨fun hh => absurd hh (by decide), fun _ => hq⟩
  intro hwh K
  have Z : tZ s0 F (b + 4000 + tY s) s (dr, sz, rd, cl, me, u) g h := Z.le (hN2 hwh)
  refine ⟨fun _ => ⟨⟨_, Z.r.main hm⟩, t_told (d := d) (b := b + 1000) (Z.le (by omega)) hm hj hx hsl (fun hc w1 g1 h1 Z1 W1 L1 => ⟨0, rfl, fun hh => absurd rfl hh, fun _ => ?_⟩) fun hc n g1 h1 Z1 L1 hF => ⟨n, rfl, fun _ => ?_, fun hh => absurd hh (Z1.r.1.pos hF.1 (by decide))⟩⟩, fun hh => absurd rfl hh⟩
  · have e : s_acksF s j tag all what = s_softF s 406 := by
      unfold s_acksF
      dsimp only
      rw [if_pos ⟨by rw [hc.1]; decide, hc.2.imp (fun e => by rw [e]; decide) id⟩]
    rw [e, tld_soft] at K
    have Z1 : tZ s0 F (b + 1000 + tY (s_soft s j 406 cl me)) (s_soft s j 406 cl me) w1 g1 h1 := Z1
    exact K w1 g1 h1 (Z1.le (by omega)) W1 L1
  have hno : ¬ ((¬ ((s.ch j).sent.any (fun x => !(s.se x).done && (s.se x).tag == tag)) = true) ∧ (¬ all = true ∨ tag ≠ 0)) := fun hh => hc ⟨by have := hh.1; rw [Bool.not_eq_true] at this; exact this, hh.2.imp (fun e => by rw [Bool.not_eq_true] at e; exact e) id⟩
  have hl : ∀ x ∈ (s.ch j).sent.filter (fun x => s_meant s tag all x), x ∈ (s.ch j).sent := fun x hx => (List.mem_filter.mp hx).1
  have hle : ((s.ch j).sent.filter (fun x => s_meant s tag all x)).length ≤ (s.ch j).sent.length := List.length_filter_le _ _
  have hkp : (s.ch j).state = 1 → ∀ x ∈ (s.ch j).sent.filter (fun x => s_meant s tag all x), ∀ y ∈ (s.ch j).kept, x ∉ y.those := fun h1 x hx y hy hxy => by
    have hd := (Z.i.sn.2.2 j hj h1 y hy x hxy).2
    have := (List.mem_filter.mp hx).2
    unfold s_meant at this
    rw [hd] at this
    cases this
  have hg : ∀ x ∈ (s.ch j).sent.filter (fun x => s_meant s tag all x), g1.kind (g1.ref 37 x) = (37, x) := fun x hx => Z1.r.al (by decide) (by decide) ((Z1.sc.ch j hj).1 x (hl x hx))
  unfold s_acksF at K
  dsimp only at K
  rw [if_neg hno] at K
  have hm1 := L1.m hm
  have hx1 := L1.k hx gSt3
  refine e_I (Z1.r.1.cell hx1 (by decide)) fun (z1 : gI h1 x1 3 = (s.ch j).mode) => ?_
  rw [z1]
  refine ⟨fun h1m => ?_, fun h1m => ?_⟩
  · rw [if_neg (fun hh => hh h1m)] at K
    refine ⟨⟨_, Z1.r.main hm1⟩, t_keeps (d := d + 1) (b := b + 950) (Z1.le (by omega)) hm1 hx1 hj (fun h32 w2 g2 h2 Z2 W2 L2 => ⟨0, rfl, fun hh => absurd rfl hh, fun _ => ?_⟩) fun h32 n2 h2 hp2 e2 P2 => ⟨n2, rfl, fun _ => ?_, fun hh => absurd hh (by omega)⟩⟩
    · have e : s_keep s j (none, what, (s.ch j).sent.filter (fun x => s_meant s tag all x)) = s_hardF s 506 := by
        unfold s_keep
        exact if_pos h32
      rw [e, bind_s (fun hh => by unfold s_hardF at hh; cases hh), tld_hard] at K
      exact K w2 g2 h2 Z2 W2 (L1.trans L2)
    · have e : s_keep s j (none, what, (s.ch j).sent.filter (fun x => s_meant s tag all x)) = s_ok (s_ch s j (fun k => k.w_kept (k.kept ++ [(none, what, (s.ch j).sent.filter (fun x => s_meant s tag all x))]))) := by
        unfold s_keep
        exact if_neg h32
      rw [e, bind_n rfl, tld_ok] at K
      have K : ∀ w3 g3 h3, tZ s0 F (b + 950 + tY (s_ackK s j what ((s.ch j).sent.filter (fun x => s_meant s tag all x)))) (s_ackK s j what ((s.ch j).sent.filter (fun x => s_meant s tag all x))) w3 g3 h3 → tWm (dr, sz, rd, cl, me, u) w3 → gL g g3 → Q .null h3 := K
      have hkl := Z.i.cp.2.2.2.2.2.2.2.2.2.2.2.1 j hj
      have I3 := p_ackK (what := what) Z.i hj hl (by omega)
      obtain ⟨w1, w2⟩ := ackK_w (s := s) (j := j) (what := what) (l := (s.ch j).sent.filter (fun x => s_meant s tag all x))
      have w3 := ackK_wt (s := s) (what := what) (l := (s.ch j).sent.filter (fun x => s_meant s tag all x)) hj
      rw [w2] at K
      have hzc := Z1.c
      unfold s_ackK at K I3 w1 w3
      revert hl hle hkp hg hF I3 w1 w3 K P2
      generalize (s.ch j).sent.filter (fun x => s_meant s tag all x) = l
      intro hF hl hle hkp hg P2 K I3 w1 w3
      have e3 : (zput h2 n2 1 (.int what)).1 n2 = some (41, [zr 0, .int what, zr 0]) := zput_self e2
      refine ⟨⟨_, e2⟩, fun h3 hh3 => ?_⟩
      subst hh3
      refine ⟨⟨_, e3⟩, fun h4 hh4 => ?_⟩
      subst hh4
      obtain ⟨g4, R4, L4⟩ := P2 _ 0 n (none, what, l) ((zOth.put (k := 1) (v := .int what)).trans (zOth.put (k := 2) (v := zr n))) (zput_self e3) ⟨rfl, hF⟩
      have hg4 : ∀ x ∈ l, g4.kind (g1.ref 37 x) = (37, x) := fun x hx => L4.th (by decide) (by decide) (hg x hx)
      refine t_ack_118 (F := F) (b := b + 950 + tY s + tP s) (w := (dr, sz, rd, cl, me, u)) (d := d + 78) (g0 := g1) (s := s_ch s j (fun k => k.w_kept (k.kept ++ [(none, what, l)]))) (by omega) hg4 (L4.fz hF) (fun h5 R5 => K _ g4 h5 ⟨?_, I3, by omega⟩ tWm.refl (L1.trans L4)) l [] _ rfl ?_
      · rw [w1]
        exact R5.less (by omega)
      · rw [dones_nil]
        exact R4.less (by omega)
  · rw [if_pos h1m, tld_ok] at K
    have D := d_settleAll (what := what) Z.i hj hl hkp
    have hy := tY_any D Z.i
    rw [settleAll_eq Z.i hj hl hkp] at K hy D
    refine t_ack_35 (d := d + 71) (b := b + 950 + 900 + tY s) hj (by omega) hF hm1 hx1 hg _ [] s g1 h1 rfl (Z1.le (by omega)) hkp (gL.refl g1) fun g2 h2 Z2 L2 => ?_
    refine t_ack_62 (d := d + 71) (by omega) hF hm1 hg _ [] _ g2 h2 rfl Z2 (rms_free Z.i hj hl) L2 fun g3 h3 Z3 L3 => K _ g3 h3 (Z3.le (by omega)) tWm.refl (L1.trans L3)
theorem rem5 (hw : r_whole (r_u8 (r_u32 rd).2).2 = true) : 5 ≤ rRem rd := by
  have h1 := rd_u32 (r := rd)
  have h2 := rd_u8 (r := (r_u32 rd).2)
  generalize r_u8 (r_u32 rd).2 = q2 at *
  generalize r_u32 rd = q1 at *
  unfold r_whole at hw
  rw [Bool.and_eq_true, Bool.not_eq_true'] at hw
  obtain ⟨w1, w2⟩ := hw
  have w2 := beq_iff_eq.mp w2
  have a1 := h2.2 w1
  have a2 := h1.2 (by
    cases hh : q1.2.2.2 with
    | false => rfl
    | true => rw [h2.1.2.2 hh] at w1; cases w1)
  have e1 : q2.2.1 = rd.1 := h2.1.1.trans h1.1.1
  rw [e1] at w2
  unfold rRem
  omega
theorem t_onTag {N : Nat} (Z : tZ s0 F N s (dr, sz, rd, cl, me, u) g h) (hN : b + 1850 + tY s ≤ N) (hN2 : 5 ≤ rRem rd → b + 4000 + tY s ≤ N) (hm : g.kind x0 = (1, 0)) (hx : g.kind x1 = (3, j)) (hj : isH j) (hsl : (s.ch j).sent.length ≤ 12000)
    (K : ∀ w1 g1 h1, tZ s0 F (b + 950 + tY (s_tld j cl me (s_onTag s j me rd))) (s_tld j cl me (s_onTag s j me rd)) w1 g1 h1 → tWm (dr, sz, rd, cl, me, u) w1 → gL g g1 → Q .null h1) : zX s0 m_X8_onTag (d + 80) [zr x0, zr x1] h Q E := by
  refine c_X8_onTag ⟨⟨_, Z.r.main hm⟩, t_u32 (d := d + 77) Z.r hm fun h1 R1 => ⟨_, rfl, ⟨_, R1.main hm⟩, t_u8 R1 hm fun h2 R2 => ⟨_, rfl, ?_⟩⟩⟩
  have Z2 := Z.re R2
  have hN3 : r_whole (r_u8 (r_u32 rd).2).2 = true → b + 4000 + tY s ≤ N := fun hw => hN2 (rem5 hw)
  unfold s_onTag at K
  dsimp only at K
  revert K Z2 hN3
  generalize (r_u32 rd).1 = tag
  generalize (r_u32 rd).2 = rd1
  generalize (r_u8 rd1).1 = bits
  generalize (r_u8 rd1).2 = rd2
  intro K Z2 hN3
  have em := Z2.r.main hm
  refine e_I em fun (z1 : gI h2 x0 33 = me) => ?_
  rw [z1]
  have hfin : ∀ (v k : Int32) (al : Bool), v = sB al → (∀ w1 g1 h1, tZ s0 F (b + 950 + tY (s_tld j cl me (s_acks s j tag al k rd2))) (s_tld j cl me (s_acks s j tag al k rd2)) w1 g1 h1 → tWm (dr, sz, rd, cl, me, u) w1 → gL g g1 → Q .null h1) → zX s0 m_X8_acknowledges (d + 79) [zr x0, zr x1, .int tag, .int v, .int k] h2 (fun _ h3 => Q .null h3) E := fun v k al hv K => by
    subst hv
    exact t_acknowledges (d := d) (b := b) Z2 hN hN3 hm hx hj hsl fun w1 g1 h1 Z1 W1 L1 => K w1 g1 h1 Z1 ⟨W1.1, W1.2⟩ L1
  refine ⟨fun h80 => e_I em fun _ => ?_, fun h80 => ?_⟩
  · rw [if_neg h80] at K
    refine ⟨fun h90 => ?_, fun h90 => ?_⟩
    · rw [if_neg h90] at K
      have hf80 : ∀ v, v = sB (s_bit bits 1) → zP s0 m_X8_onTag (d + 79 + 1) 80 [none, none, none, some (.int bits)] [.int v, .int tag, zr x1, zr x0] h2 Q E := fun v hv => by
        refine b_X8_onTag_80 ⟨fun hb => ⟨⟨_, em⟩, hfin v 2 (s_bit bits 1) hv ?_⟩, fun hb => ⟨⟨_, em⟩, hfin v 1 (s_bit bits 1) hv ?_⟩⟩
        · rw [if_neg (by rw [bit_0.mpr hb]; decide)] at K
          exact K
        · rw [if_pos (bit_1 hb)] at K
          exact K
      exact ⟨fun hb => hf80 0 (bit_v0 hb), fun hb => hf80 1 (bit_v1 hb)⟩
    · rw [if_pos h90] at K
      refine ⟨fun h0 => ⟨⟨_, em⟩, hfin 0 2 false rfl ?_⟩, fun h0 => ⟨⟨_, em⟩, hfin 0 1 false rfl ?_⟩⟩
      · rw [if_pos h0] at K
        exact K
      · rw [if_neg h0] at K
        exact K
  · rw [if_pos h80] at K
    refine ⟨fun h0 => ⟨⟨_, em⟩, hfin 0 0 false rfl ?_⟩, fun h0 => ⟨⟨_, em⟩, hfin 1 0 true rfl ?_⟩⟩
    · rw [beq_iff_eq.mpr h0] at K
      exact K
    · rw [beq_false_of_ne h0] at K
      exact K
end MXB
