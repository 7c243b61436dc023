/-! ===== the twin: what is to be published ===== -/
set_option maxRecDepth 100000
/-- a content is to come to a channel -/
def s_due (s : sSt) (j : Nat) (frm key : sBy) (bits : Int32) : sSt := s_ch s j (fun k => (k.w_cont (some (frm, key, s_bit bits 1, false, 0, -1, none, []))).w_due 2)
def s_pubF (s : sSt) (j : Nat) (frm key : sBy) (bits : Int32) : sRs := match s_exch s frm with
  | none => if frm = [] then s_ok (s_due s j frm key bits) else s_softF s 404
  | some e => if (s.ex e).int then s_softF s 403 else s_ok (s_due s j frm key bits)
section MU
variable {s0 : zE} {F : Nat → Option zC} {b : Nat} {s s' s1 : sSt} {w w' w1 w2 : tW} {g g' g0 : sG} {h h' : zH} {d x0 x1 x2 x3 x5 i j q m n a e ky hd bd : Nat} {Q : Value → zH → Prop} {E : Nat → zH → Prop} {l : List Value} {dr nm key frm : sBy} {sz cl me code k bits : Int32} {rd : sRd} {u : Int32 × List Nat × (Nat → Nat)} {c : sCont}
theorem s_publishes_eq : s_publishes s j rd = s_then (r_u8 (r_short (r_short rd).2).2).2 s (s_pubF s j (r_short rd).1 (r_short (r_short rd).2).1 (r_u8 (r_short (r_short rd).2).2).1) := rfl
theorem p_due (I : sI s) (hj : isH j) (h1 : frm.length ≤ 40) (h2 : key.length ≤ 40) : sI (s_due s j frm key bits) ∧ tP (s_due s j frm key bits) = tP s ∧ sWt (s_due s j frm key bits) = sWt s ∧ tY (s_due s j frm key bits) = tY s := by
  have hS : s_due s j frm key bits = s.w_ch (sUp s.ch j (((s.ch j).w_cont (some (frm, key, s_bit bits 1, false, 0, -1, none, []))).w_due 2)) := rfl
  rw [hS]
  refine ⟨I.chSame hj rfl rfl (fun hx => ?_) rfl, tP_ch, sWt_chUp (u := 0) hj rfl, tY_ch⟩
  refine ⟨hx.1, hx.2.1, fun _ c hc => ?_, hx.2.2.2.1, Or.inr (Or.inl rfl), ⟨fun e => absurd e (by show ¬ (2 : Int32) = 0; decide), fun e => (nomatch e)⟩, hx.2.2.2.2.2.2⟩
  have hc : (frm, key, s_bit bits 1, false, 0, -1, none, []) = c := Option.some.inj hc
  subst hc
  exact ⟨⟨h1, h2, fun t ht => (nomatch ht), (by decide : (0 : Int32) ≤ 0), (by decide : (0 : Int32) ≤ 255), Or.inl rfl⟩, Nat.zero_le _, fun _ => ⟨rfl, rfl, rfl, rfl, rfl⟩⟩
theorem due_ch (hjk : (s.ch j).junk = false) : s_ch (s_ch (s_ch s j (fun k => k.w_junk true)) j (fun k => k.w_due 2)) j (fun k => (k.w_cont (some (frm, key, s_bit bits 1, false, 0, -1, none, []))).w_junk false) = s_due s j frm key bits := by
  rw [w_ch_ch, w_ch_ch]
  unfold s_due s_ch
  refine congrArg (fun z => s.w_ch (sUp s.ch j z)) ?_
  revert hjk
  generalize s.ch j = kk
  generalize ((frm, key, s_bit bits 1, false, 0, -1, none, []) : sCont) = c
  intro hjk
  obtain ⟨k1, k2, k3, k4, k5, k6, k7, k8, k9, k10, k11, k12, k13, k14, k15, k16⟩ := kk
  have hjk : k16 = false := hjk
  subst hjk
  rfl
theorem t_pub_75 (Z : tZ s0 F (b + 2 + tY s) s w g h) (hm : g.kind x0 = (1, 0)) (hx : g.kind x1 = (3, j)) (hj : isH j) (hjk : (s.ch j).junk = false) (B1 : gB g x2 frm) (B2 : gB g x3 key) (h1 : frm.length ≤ 40) (h2 : key.length ≤ 40)
    (K : ∀ w1 g1 h1, tZ s0 F (b + tY (s_due s j frm key bits)) (s_due s j frm key bits) w1 g1 h1 → tWm w w1 → gL g g1 → Q .null h1) :
    zP s0 m_X8_publishes (d + 78) 75 [none, some (zr x1), some (zr x2), some (zr x3), some (.int bits), none] [] h Q E := by
  obtain ⟨p1, p2, p3, p4⟩ := p_due (bits := bits) Z.i hj h1 h2
  have hc := Z.c
  have K : ∀ g1 h1, tR s0 F (b + tY s + tP s) (s_due s j frm key bits) w g1 h1 → gL g g1 → Q .null h1 := fun g1 h1 R1 L1 => K w g1 h1 ⟨by rw [p2, p4]; exact R1, p1, by omega⟩ tWm.refl L1
  obtain ⟨ga, Ra, La, hno, -⟩ := Z.r.junk (j := j)
  have hj1 : ((s_ch s j (fun k => k.w_junk true)).ch j).junk = true := by rw [s_ch_ch]; rfl
  have hdue := due_ch (frm := frm) (key := key) (bits := bits) hjk
  have B1 := La.B B1
  have B2 := La.B B2
  have hx := La.k hx gSt3
  revert Ra hj1 hdue
  generalize s_ch s j (fun k => k.w_junk true) = s1
  intro Ra hj1 hdue
  refine b_X8_publishes_75 (g_N (u := 2) (b := b + tY s + tP s) (Ra.less (by omega)) (by decide) (zle rfl) Ra.big fun n1 h1 R1 U1 => ⟨⟨_, _, U1.2.2.1⟩, c_X43_init ⟨⟨_, _, U1.2.2.1⟩, g_PF R1 U1 fun h2 R2 U2 O2 => ?_⟩⟩)
  have hnx : n1 ≠ x1 := U2.ne (by rw [hx]; exact (by decide : (3 : Nat) ≠ 0))
  refine g_P15 (n := n1) R2 hx hj1 fun gb h3 R3 L3 r3 k3 O3 => ?_
  have U3 : zUn s0 F gb h3 n1 40 _ := ⟨by rw [k3]; exact U2.1, (U2.oth O3 hnx).2⟩
  have hx3 : gb.kind x1 = (3, j) := by rw [k3]; exact hx
  have hno3 : ∀ m, gb.kind m ≠ (38, j) := fun m => by rw [k3]; exact hno m
  have ez : ∀ (h : zH), tR s0 F (b + tY s + tP s) s1 w gb h → h.1 x1 = some (9, tCh (s1.ch j) w gb j) := fun h R => R.1.cell hx3 (by decide)
  have e15 : (tCh (s1.ch j) w gb j)[15]? = some (zr n1) := by
    show some (zr (gb.rf 3 j 15)) = _
    rw [r3]
  refine e_R (x := n1) (ez h3 R3) (fun z3 => ?_) (hv := e15)
  rw [z3]
  refine g_PF R3 U3 fun h4 R4 U4 O4 => e_R (x := n1) (ez h4 R4) (fun z4 => ?_) (hv := e15)
  rw [z4]
  refine g_PF R4 U4 fun h5 R5 U5 O5 => e_R (x := n1) (ez h5 R5) (fun z5 => ?_) (hv := e15)
  rw [z5]
  have hfin : ∀ v, v = sB (s_bit bits 1) → (fC h5 n1 40) ∧ (∀ h6, h6 = zput h5 n1 2 (.int v) → ((fC h6 x1 9) ∧ (∀ h7, h7 = zput h6 x1 12 (.int 2) → Q .null h7))) := fun v hv => by
    subst hv
    refine g_PF R5 U5 fun h6 R6 U6 O6 => g_Pcj R6 hno3 hx3 ((s1.ch j).w_due 2) rfl (fun ok => ⟨ok.1, fun hh => absurd hh (by show ¬ (s1.ch j).junk = false; rw [hj1]; decide), ok.2.2⟩) fun h7 R7 O7 => ?_
    have U7 : zUn s0 F gb h7 n1 40 [zr x2, zr x3, vZ (s_bit bits 1), vZ false, .int 0, .long (-1), zr 0, zr 0, vI 0] := U6.oth O7 hnx
    have R7 : tR s0 F (b + tY s + tP s) (s_ch s1 j (fun k => k.w_due 2)) w gb h7 := R7
    have hj2 : ((s_ch s1 j (fun k => k.w_due 2)).ch j).junk = true := by rw [s_ch_ch]; exact hj1
    have hd2 : ((s_ch s1 j (fun k => k.w_due 2)).ch j).due = 2 := by rw [s_ch_ch]; rfl
    obtain ⟨gc, Rc, Lc, -⟩ := R7.cont (c := (frm, key, s_bit bits 1, false, 0, -1, none, [])) hj2 hno3 U7 r3 (L3.B B1) (L3.B B2) rfl (by rw [hd2]; rfl) (fun e => by rw [hd2] at e; exact absurd e (by decide))
    rw [hdue] at Rc
    exact K gc h7 Rc ((La.trans L3).trans Lc)
  exact ⟨fun hb => hfin 0 (bit_v0 hb), fun hb => hfin 1 (bit_v1 hb)⟩
theorem t_publishes (Z : tZ s0 F (b + 1000 + tY s) s (dr, sz, rd, cl, me, u) g h) (hm : g.kind x0 = (1, 0)) (hx : g.kind x1 = (3, j)) (hj : isH j) (hE : gB g (zst s0 "RelayHallModel" "EMPTY" "[B") []) (hjk : (s.ch j).junk = false)
    (K : ∀ w1 g1 h1, tZ s0 F (b + tY (s_tld j cl me (s_publishes s j rd))) (s_tld j cl me (s_publishes s j rd)) w1 g1 h1 → tWm (dr, sz, rd, cl, me, u) w1 → gL g g1 → Q .null h1) : zX s0 m_X8_publishes (d + 79) [zr x0, zr x1] h Q E := by
  rw [s_publishes_eq] at K
  refine c_X8_publishes ⟨⟨_, Z.r.main hm⟩, t_shortZ (d := d + 77) (b := b + 950 + tY s) Z (by omega) hm hE fun n1 g1 h1 Z1 L1 B1 => ⟨_, rfl, ⟨_, Z1.r.main (L1.m hm)⟩, t_shortZ (d := d + 77) (b := b + 902 + tY s) Z1 (by omega) (L1.m hm) (L1.B hE) fun n2 g2 h2 Z2 L2 B2 => ⟨_, rfl, ?_⟩⟩⟩
  have hl1 := r_short_len (rd := rd)
  have hl2 := r_short_len (rd := (r_short rd).2)
  revert K Z2 B1 B2 hl1 hl2
  generalize (r_short rd).1 = nm
  generalize (r_short rd).2 = rd1
  generalize (r_short rd1).1 = key
  generalize (r_short rd1).2 = rd2
  intro K B1 Z2 B2 hl1 hl2
  have L12 := L1.trans L2
  have hm2 := L12.m hm
  have hx2 := L12.k hx gSt3
  have B1' := L2.B B1
  refine ⟨⟨_, Z2.r.main hm2⟩, t_u8 Z2.r hm2 fun h3 R3 => ⟨_, rfl, ?_⟩⟩
  have Z3 := Z2.re R3
  revert K Z3
  generalize (r_u8 rd2).1 = bits
  generalize (r_u8 rd2).2 = rd3
  intro K Z3
  have em := Z3.r.main hm2
  have Zh : tZ s0 F (b + 900 + tY s) s (dr, sz, rd3, cl, me, u) g2 h3 := Z3.le (by omega)
  refine ⟨⟨_, em⟩, t_then (d := d + 1) (N := fun h => Q .null h) (f := s_pubF s j nm key bits) ?_ Zh hm2 hx2 hj (fun w3 g3 h3 Z3 W3 L3 => K w3 g3 h3 Z3 ⟨W3.1, W3.2⟩ (L12.trans L3)) ?_⟩
  · exact fun h1 hq => ⟨fun hh => absurd hh (by decide), fun _ => hq⟩
  intro K
  refine ⟨fun _ => ⟨⟨_, em⟩, t_exchange (d := d + 77) Z3.r Z3.sc hm2 B1' (by omega) (fun q hq => by have := (Z3.i.tx.1 q (Z3.sc.es q hq)).1; omega) ⟨_, rfl, ?_⟩⟩, fun hh => absurd rfl hh⟩
  unfold s_pubF at K
  have h75 : (∀ w3 g3 h3, tZ s0 F (b + tY (s_due s j nm key bits)) (s_due s j nm key bits) w3 g3 h3 → tWm (dr, sz, rd3, cl, me, u) w3 → gL g2 g3 → Q .null h3) → zP s0 m_X8_publishes (d + 78 + 1) 75 [none, some (zr x1), some (zr n1), some (zr n2), some (.int bits), none] [] h3 Q E := fun K =>
    t_pub_75 (d := d + 1) (Z3.le (by omega)) hm2 hx2 hj hjk B1' B2 hl1 hl2 K
  cases he : s_exch s nm with
  | none =>
    simp only [he] at K
    have eb := Z3.r.fz B1'
    refine ⟨fun hh => absurd rfl hh, fun _ => ⟨⟨_, eb⟩, ?_⟩⟩
    have hlt : ((0 : Int32) < Int32.ofNat nm.length) ↔ nm ≠ [] := by
      rw [show (0 : Int32) = Int32.ofNat 0 from rfl, i_lt (by decide) (by omega)]
      exact List.length_pos_iff
    rw [gA_of eb, vB_len, hlt]
    refine ⟨fun hn => ?_, fun hn => ?_⟩
    · simp only [if_neg hn, tld_soft] at K
      exact b_X8_publishes_55 ⟨fun hh => absurd rfl hh, fun _ => ⟨⟨_, em⟩, t_softZ (d := d + 1) Zh hm2 hx2 hj fun w5 g5 h5 Z5 W5 L5 => K w5 g5 h5 Z5 W5.tom L5⟩⟩
    · have hn : nm = [] := Decidable.not_not.mp hn
      simp only [if_pos hn, tld_ok] at K
      exact b_X8_publishes_42 ⟨fun _ => h75 K, fun hh => absurd rfl hh⟩
  | some e =>
    simp only [he] at K
    have hek : g2.kind (g2.ref 32 e) = (32, e) := Z3.r.al (by decide) (by decide) (Z3.sc.es e (exch_mem he))
    have hgo : gO g2 32 (some e) = g2.ref 32 e := rfl
    have hne := Z3.r.1.pos hek (by decide)
    rw [hgo]
    refine ⟨fun _ => b_X8_publishes_42 ⟨fun hh => absurd hh hne, fun _ => e_I (Z3.r.1.cell hek (by decide)) fun (z1 : gI h3 (g2.ref 32 e) 4 = sB (s.ex e).int) => ?_⟩, fun hh => absurd hh hne⟩
    rw [z1, sB_0]
    refine ⟨fun hi => ?_, fun hi => ?_⟩
    · rw [if_neg (by rw [hi]; decide), tld_ok] at K
      exact h75 K
    · rw [Bool.not_eq_false] at hi
      rw [if_pos hi, tld_soft] at K
      exact b_X8_publishes_55 ⟨fun _ => ⟨⟨_, em⟩, t_softZ (d := d + 1) Zh hm2 hx2 hj fun w5 g5 h5 Z5 W5 L5 => K w5 g5 h5 Z5 W5.tom L5⟩, fun hh => absurd hh hne⟩
end MU
