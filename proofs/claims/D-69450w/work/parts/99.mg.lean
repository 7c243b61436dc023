/-! ===== the twin: exchanges deleted, consumers cancelled, queues purged and deleted ===== -/
set_option maxRecDepth 100000
section MG
variable {s0 : zE} {F : Nat → Option zC} {b : Nat} {s s' s1 : sSt} {w w' w1 w2 : tW} {g g' g0 : sG} {h h' : zH} {d x0 x1 x2 x3 x5 i j q m n e : Nat} {Q : Value → zH → Prop} {E : Nat → zH → Prop} {dr : sBy} {sz cl me code : Int32} {rd : sRd} {u : Int32 × List Nat × (Nat → Nat)} {f : sRs}
theorem tZ.cut {N k : Nat} (Z : tZ s0 F N s w g h) (hk : b + k ≤ N) (R : tR s0 F (b + tP s) s w1 g' h') : tZ s0 F b s w1 g' h' := ⟨R, Z.i, by have := Z.c; omega⟩
/-- a short text is read -/
theorem t_shortZ {N : Nat} {u : Int32 × Int32 × Int32 × List Nat × (Nat → Nat)} (Z : tZ s0 F N s (dr, sz, rd, u) g h) (hN : b + 36 ≤ N) (hm : g.kind x0 = (1, 0)) (hE : gB g (zst s0 "RelayHallModel" "EMPTY" "[B") [])
    (K : ∀ n g1 h1, tZ s0 F b s (dr, sz, (r_short rd).2, u) g1 h1 → gL g g1 → gB g1 n (r_short rd).1 → Q (zr n) h1) : zX s0 m_X8_shortText (d + 1) [zr x0] h Q E :=
  t_shortText (d := d) (b := b + tP s) (Z.r.less (by omega)) hm hE fun n g1 h1 R1 L1 B1 => K n g1 h1 (Z.cut hN R1) L1 B1
theorem t_ans32 {k1 ms x : Int32} (Z : tZ s0 F (b + tY s) s w g h) (hm : g.kind x0 = (1, 0)) (hx : g.kind x1 = (3, j)) (hj : isH j)
    (K : ∀ w1 g1 h1, tZ s0 F (b + tY (s_ans s j k1 ms (w_32 x))) (s_ans s j k1 ms (w_32 x)) w1 g1 h1 → tWk (s_ans s j k1 ms (w_32 x)) w w1 → gL g g1 → Q .null h1) :
    (fI h x1 [9] 1) ∧ ((fC h x0 7 ∧ zX s0 m_X8_beginMethod (d + 77) [zr x0, .int (gI h x1 1), .int k1, .int ms] h (fun _ h1 => ((fC h1 x0 7 ∧ zX s0 m_X8_put32 (d + 77) [zr x0, .int x] h1 (fun _ h2 => ((fR h2 x1 [9] 0) ∧ ((fC h2 x0 7 ∧ zX s0 m_X8_goFrame (d + 77) [zr x0, zr (gR h2 x1 0)] h2 (fun _ h3 => (Q .null h3)) E)))) E))) E)) := by
  obtain ⟨dr, sz, rd, u⟩ := w
  refine e_I (Z.r.1.cell hx (by decide)) fun (z1 : gI h x1 1 = Int32.ofNat (j % 4)) => ?_
  rw [z1]
  refine ⟨⟨_, Z.r.main hm⟩, t_beginMethod (d := d + 73) Z.r hm fun g1 h1 R1 L1 => ⟨⟨_, R1.main (L1.m hm)⟩, t_put32 (d := d + 75) R1 (L1.m hm) (by simp [w_head, w_8, w_16]) fun g2 h2 R2 L2 => ?_⟩⟩
  have L12 := L1.trans L2
  have hx2 := L12.k hx gSt3
  refine e_R (R2.1.cell hx2 (by decide)) fun (z2 : gR h2 x1 0 = g2.ref 2 (j / 4)) => ?_
  rw [z2]
  have hy := tY_ans (h := j) (k1 := k1) (me := ms) (b := w_32 x) Z.i hj
  refine ⟨⟨_, R2.main (L12.m hm)⟩, t_goFrame (d := d + 7) (p := []) (ty := 1) (ch := Int32.ofNat (j % 4)) (body := w_16 k1 ++ w_16 ms ++ w_32 x) (Z.re R2) (L12.m hm) (R2.cn hj.div) hj.div ?_ rfl (by simp [w_head, w_8, w_16, w_32]) fun w5 g5 h5 Z5 W5 L5 => ?_⟩
  · rw [List.nil_append, List.append_assoc]
  · have Z5 : tZ s0 F (b + tY s) (s_ans s j k1 ms (w_32 x)) w5 g5 h5 := Z5
    exact K w5 g5 h5 (Z5.le (Nat.add_le_add_left hy b)) W5 (L12.trans L5)
theorem t_delEZ (Z : tZ s0 F b s w g h) (hm : g.kind x0 = (1, 0)) (hx : g.kind x1 = (32, e)) (hi : e ∈ s.es) (K : ∀ g1 h1, tZ s0 F b (s_delE s e) w g1 h1 → gL g g1 → Q .null h1) : zX s0 m_X8_delete_2 (d + 3) [zr x0, zr x1] h Q E := by
  obtain ⟨D, hp⟩ := d_delE Z.i hi
  have hw := D.2.2.1 Z.i
  have hc := Z.c
  have hf := Z.facts
  exact t_delE (d := d) (b := b + tP (s_delE s e)) (Z.r.less (by omega)) Z.sc hm hx hi (by omega) fun g1 h1 R1 L1 => K g1 h1 (Z.dn D R1) L1
theorem s_removeE_eq : s_removeE s j rd = s_then (r_u8 (r_short rd).2).2 s (match s_exch s (r_short rd).1 with
  | none => s_softF s (if (r_short rd).1 = [] then 403 else 404)
  | some e => if s_bit (r_u8 (r_short rd).2).1 1 ∧ s_bindsE s e ≠ [] then s_softF s 406 else s_ok (if s_bit (r_u8 (r_short rd).2).1 2 then s_delE s e else s_ans (s_delE s e) j 40 21 [])) := rfl
theorem bit_0 {x k : Int32} : s_bit x k = false ↔ x &&& k = 0 := by
  unfold s_bit
  by_cases h : x &&& k = 0
  · rw [beq_iff_eq.mpr h]
    exact ⟨fun _ => h, fun _ => rfl⟩
  · rw [beq_false_of_ne h]
    exact ⟨fun e => (nomatch e), fun e => absurd e h⟩
theorem t_softZ {code : Int32} (Z : tZ s0 F (b + 900 + tY s) s w g h) (hm : g.kind x0 = (1, 0)) (hx : g.kind x1 = (3, j)) (hj : isH j)
    (K : ∀ w1 g1 h1, tZ s0 F (b + tY (s_soft s j code w.cl w.me)) (s_soft s j code w.cl w.me) w1 g1 h1 → tWk (s_soft s j code w.cl w.me) w w1 → gL g g1 → Q .null h1) : zX s0 m_X8_soft (d + 77) [zr x0, zr x1, .int code] h Q E := by
  have hy := tY_soft (code := code) (c1 := w.cl) (m1 := w.me) Z.i hj
  exact t_soft (d := d) Z hm hx hj fun w1 g1 h1 Z1 W1 L1 => K w1 g1 h1 (Z1.le (by omega)) W1 L1
theorem t_deleteExchange (Z : tZ s0 F (b + 936 + tY s) s (dr, sz, rd, cl, me, u) g h) (hm : g.kind x0 = (1, 0)) (hx : g.kind x1 = (3, j)) (hj : isH j) (hE : gB g (zst s0 "RelayHallModel" "EMPTY" "[B") [])
    (K : ∀ w1 g1 h1, tZ s0 F (b + tY (s_tld j cl me (s_removeE s j rd))) (s_tld j cl me (s_removeE s j rd)) w1 g1 h1 → tWm (dr, sz, rd, cl, me, u) w1 → gL g g1 → Q .null h1) : zX s0 m_X8_deleteExchange (d + 78) [zr x0, zr x1] h Q E := by
  rw [s_removeE_eq] at K
  refine c_X8_deleteExchange ⟨⟨_, Z.r.main hm⟩, t_shortZ (d := d + 76) (b := b + 900 + tY s) Z (by omega) hm hE fun n1 g1 h1 Z1 L1 B1 => ⟨_, rfl, ?_⟩⟩
  have hl := r_short_len (rd := rd)
  revert K Z1 B1 hl
  generalize (r_short rd).1 = nm
  generalize (r_short rd).2 = rd1
  intro K Z1 B1 hl
  have hm1 := L1.m hm
  have hx1 := L1.k hx gSt3
  refine ⟨⟨_, Z1.r.main hm1⟩, t_u8 Z1.r hm1 fun h2 R2 => ⟨_, rfl, ?_⟩⟩
  have Z2 := Z1.re R2
  revert K Z2
  generalize (r_u8 rd1).1 = bits
  generalize (r_u8 rd1).2 = rd2
  intro K Z2
  have K' : ∀ w3 g3 h3, tZ s0 F (b + tY (s_tld j cl me (s_then rd2 s (match s_exch s nm with
    | none => s_softF s (if nm = [] then 403 else 404)
    | some e => if s_bit bits 1 ∧ s_bindsE s e ≠ [] then s_softF s 406 else s_ok (if s_bit bits 2 then s_delE s e else s_ans (s_delE s e) j 40 21 []))))) (s_tld j cl me (s_then rd2 s (match s_exch s nm with
    | none => s_softF s (if nm = [] then 403 else 404)
    | some e => if s_bit bits 1 ∧ s_bindsE s e ≠ [] then s_softF s 406 else s_ok (if s_bit bits 2 then s_delE s e else s_ans (s_delE s e) j 40 21 [])))) w3 g3 h3 → tWm (dr, sz, rd2, cl, me, u) w3 → gL g1 g3 → Q .null h3 := fun w3 g3 h3 Z3 W3 L3 => K w3 g3 h3 Z3 ⟨W3.1, W3.2⟩ (L1.trans L3)
  clear K
  refine ⟨⟨_, R2.main hm1⟩, t_then (d := d) (M := fun r2 h3 => ((r2 = 0 → ((fC h3 x0 7 ∧ zX s0 m_X8_exchange (d + 77) [zr x0, zr (n1)] h3 (fun v4 h4 => ∃ n2 : Nat, v4 = zr (n2) ∧ ((¬ n2 = 0 → ((bits &&& 1 = 0 → (zP s0 m_X8_deleteExchange (d + 77 + 1) 76 [some (zr (x0)), some (zr (x1)), none, some (.int (bits)), some (zr (n2))] [] h4 Q E)) ∧ (¬ bits &&& 1 = 0 → ((fC h4 x0 7 ∧ zX s0 m_X8_bindingsOf (d + 77) [zr x0, zr (n2), zr (0)] h4 (fun v5 h5 => ∃ r3 : Int32, v5 = .int (r3) ∧ ((r3 ≤ 0 → (zP s0 m_X8_deleteExchange (d + 77 + 1) 76 [some (zr (x0)), some (zr (x1)), none, some (.int (bits)), some (zr (n2))] [] h5 Q E)) ∧ (¬ r3 ≤ 0 → ((fC h5 x0 7 ∧ zX s0 m_X8_soft (d + 77) [zr x0, zr (x1), .int (406)] h5 (fun _ h6 => (Q .null h6)) E))))) E))))) ∧ (n2 = 0 → ((fC h4 n1 1000) ∧ ((¬ Int32.ofNat (gA h4 n1).length = 0 → ((fC h4 x0 7 ∧ zX s0 m_X8_soft (d + 77) [zr x0, zr (x1), .int (404)] h4 (fun _ h7 => (Q .null h7)) E))) ∧ (Int32.ofNat (gA h4 n1).length = 0 → ((fC h4 x0 7 ∧ zX s0 m_X8_soft (d + 77) [zr x0, zr (x1), .int (403)] h4 (fun _ h8 => (Q .null h8)) E)))))))) E))) ∧ (¬ r2 = 0 → (Q .null h3)))) (N := fun h => Q .null h) (fun h1 hq => ⟨fun hh => absurd hh (by decide), fun _ => hq⟩) Z2 hm1 hx1 hj K' fun K => ⟨fun _ => ?_, fun hh => absurd rfl hh⟩⟩
  clear K'
  have em := Z2.r.main hm1
  refine ⟨⟨_, em⟩, t_exchange (d := d + 76) Z2.r Z2.sc hm1 B1 (by omega) (fun q hq => by have := (Z2.i.tx.1 q (Z2.sc.es q hq)).1; omega) ⟨_, rfl, ?_⟩⟩
  have hz : (Int32.ofNat nm.length = 0) ↔ nm = [] := by
    rw [show (0 : Int32) = Int32.ofNat 0 from rfl, i_inj (by omega) (by decide)]
    exact List.length_eq_zero_iff
  cases he : s_exch s nm with
  | none =>
    rw [he] at K
    have eb := Z2.r.fz B1
    refine ⟨fun hh => absurd rfl hh, fun _ => ⟨⟨_, eb⟩, ?_⟩⟩
    rw [gA_of eb, vB_len, hz]
    refine ⟨fun hn => ⟨⟨_, em⟩, ?_⟩, fun hn => ⟨⟨_, em⟩, ?_⟩⟩
    · simp only [if_neg hn, tld_soft] at K
      exact t_softZ (d := d) Z2 hm1 hx1 hj fun w4 g4 h4 Z4 W4 L4 => K w4 g4 h4 Z4 W4.tom L4
    · simp only [if_pos hn, tld_soft] at K
      exact t_softZ (d := d) Z2 hm1 hx1 hj fun w4 g4 h4 Z4 W4 L4 => K w4 g4 h4 Z4 W4.tom L4
  | some e =>
    rw [he] at K
    simp only at K
    have hem := exch_mem he
    have hek : g1.kind (g1.ref 32 e) = (32, e) := Z2.r.al (by decide) (by decide) (Z2.sc.es e hem)
    have h76 : ¬ (s_bit bits 1 = true ∧ s_bindsE s e ≠ []) → zP s0 m_X8_deleteExchange (d + 77 + 1) 76 [some (zr x0), some (zr x1), none, some (.int bits), some (zr (g1.ref 32 e))] [] h2 Q E := fun hno => by
      rw [if_neg hno, tld_ok] at K
      have hye := tY_any (d_delE Z2.i hem).1 Z2.i
      refine b_X8_deleteExchange_76 ⟨⟨_, em⟩, t_delEZ (d := d + 74) Z2 hm1 hek hem fun g4 h4 Z4 L4 => ?_⟩
      have Z5 := Z4.le (b' := b + tY (s_delE s e)) (by omega)
      clear hye Z4
      generalize s_delE s e = s4 at K Z5
      have hx4 := L4.k hx1 gSt3
      rw [← bit_0]
      refine ⟨fun hb => ?_, fun hb => e_R (Z5.r.1.cell hx4 (by decide)) fun (z1 : gR h4 x1 0 = g4.ref 2 (j / 4)) => e_I (Z5.r.1.cell hx4 (by decide)) fun (z2 : gI h4 x1 1 = Int32.ofNat (j % 4)) => ?_⟩
      · rw [Bool.not_eq_false] at hb
        rw [if_pos hb] at K
        exact K _ g4 h4 Z5 ⟨rfl, fun h => h⟩ L4
      · rw [if_neg (by rw [hb]; decide)] at K
        rw [z1, z2]
        exact ⟨⟨_, Z5.r.main (L4.m hm1)⟩, t_simpleZ (d := d + 6) Z5 (L4.m hm1) hj fun w6 g6 h6 Z6 W6 L6 => K w6 g6 h6 Z6 ⟨W6.tom.1, W6.tom.2⟩ (L4.trans L6)⟩
    have hgo : gO g1 32 (some e) = g1.ref 32 e := rfl
    rw [hgo]
    refine ⟨fun _ => ⟨fun hb => h76 (fun hh => ?_), fun hb => ⟨⟨_, em⟩, ?_⟩⟩, fun hh => absurd hh (Z2.r.1.pos hek (by decide))⟩
    · rw [← bit_0] at hb
      rw [hb] at hh
      exact absurd hh.1 (by decide)
    · have hb1 : s_bit bits 1 = true := by
        cases hbb : s_bit bits 1 with
        | true => rfl
        | false => exact absurd (bit_0.mp hbb) hb
      refine t_bindingsOf (oe := some e) (oq := none) Z2.r Z2.sc hm1 hek rfl ⟨_, rfl, ?_⟩
      have hfl : s.bs.filter (fun x => oeq (some e) (s.bi x).exch && oeq none (s.bi x).queue) = s_bindsE s e := List.filter_congr fun x _ => by
        show ((s.bi x).exch == e && true) = _
        rw [Bool.and_true]
      have hbl := Z2.i.cp.2.2.2.2.2.1
      have hle : (s_bindsE s e).length ≤ s.bs.length := List.length_filter_le _ _
      rw [hfl, show (0 : Int32) = Int32.ofNat 0 from rfl, i_le (by omega) (by decide)]
      refine ⟨fun h0 => h76 (fun hh => hh.2 (List.eq_nil_of_length_eq_zero (by omega))), fun h0 => ⟨⟨_, em⟩, ?_⟩⟩
      rw [if_pos ⟨hb1, fun e0 => h0 (by rw [e0]; exact Nat.le_refl _)⟩, tld_soft] at K
      exact t_softZ (d := d) Z2 hm1 hx1 hj fun w4 g4 h4 Z4 W4 L4 => K w4 g4 h4 Z4 W4.tom L4
end MG
