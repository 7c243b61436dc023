/-! ===== the twin: consumers cancelled, queues purged and deleted, messages got ===== -/
set_option maxRecDepth 100000
def s_cancelsF (s : sSt) (j : Nat) (tag : sBy) (silent : Int32) : sRs :=
  let s1 := match s_cons s j tag with
    | none => s
    | some i => s_cancel s_close s i
  s_ok (if silent = 0 ∧ s_speaks s1 j then s_ans s1 j 60 31 (w_short tag) else s1)
def s_removeQF (s : sSt) (j : Nat) (name : sBy) (bits : Int32) : sRs := s_withQ s j name (fun q =>
  let n := (s_ready s q).length
  if (s_bit bits 1 ∧ s_consQ s q ≠ []) ∨ (s_bit bits 2 ∧ 0 < n) then s_softF s 406 else
  let s1 := s_delQ s_close s q
  s_ok (if s_bit bits 4 ∨ ¬ s_speaks s1 j then s1 else s_ans s1 j 50 41 (w_32 (Int32.ofNat n))))
section MH
variable {s0 : zE} {F : Nat → Option zC} {b : Nat} {s s' s1 : sSt} {w w' w1 w2 : tW} {g g' g0 : sG} {h h' : zH} {d x0 x1 x2 x3 x5 i j q m n e : Nat} {Q : Value → zH → Prop} {E : Nat → zH → Prop} {dr : sBy} {sz cl me code : Int32} {rd : sRd} {u : Int32 × List Nat × (Nat → Nat)} {f : sRs}
/-- a name, a byte, no more: what many methods begin with -/
theorem t_pre {MM : Nat → Int32 → Int32 → zH → Prop} {N : zH → Prop} {ff : sBy → Int32 → sRs} (hN : ∀ n r h, N h → MM n r 1 h) (Z : tZ s0 F (b + 936 + tY s) s (dr, sz, rd, cl, me, u) g h) (hm : g.kind x0 = (1, 0)) (hx : g.kind x1 = (3, j)) (hj : isH j) (hE : gB g (zst s0 "RelayHallModel" "EMPTY" "[B") [])
    (K : ∀ w1 g1 h1, tZ s0 F (b + tY (s_tld j cl me (s_then (r_u8 (r_short rd).2).2 s (ff (r_short rd).1 (r_u8 (r_short rd).2).1)))) (s_tld j cl me (s_then (r_u8 (r_short rd).2).2 s (ff (r_short rd).1 (r_u8 (r_short rd).2).1))) w1 g1 h1 → tWm (dr, sz, rd, cl, me, u) w1 → gL g g1 → N h1)
    (K0 : ∀ (n1 : Nat) (nm : sBy) (bits : Int32) (rd2 : sRd) (g1 : sG) (h1 : zH), nm.length ≤ 40 → tZ s0 F (b + 900 + tY s) s (dr, sz, rd2, cl, me, u) g1 h1 → gL g g1 → gB g1 n1 nm → (∀ w3 g3 h3, tZ s0 F (b + tY (s_tld j cl me (ff nm bits))) (s_tld j cl me (ff nm bits)) w3 g3 h3 → tWm (dr, sz, rd2, cl, me, u) w3 → gL g1 g3 → N h3) → MM n1 bits 0 h1) :
    (fC h x0 7 ∧ zX s0 m_X8_shortText (d + 77) [zr x0] h (fun v1 h1 => ∃ n1 : Nat, v1 = zr (n1) ∧ ((fC h1 x0 7 ∧ zX s0 m_X8_u8 (d + 77) [zr x0] h1 (fun v2 h2 => ∃ r1 : Int32, v2 = .int (r1) ∧ ((fC h2 x0 7 ∧ zX s0 m_X8_wrong (d + 77) [zr x0, zr (x1)] h2 (fun v3 h3 => ∃ r2 : Int32, v3 = .int (r2) ∧ MM n1 r1 r2 h3) E))) E))) E) := by
  refine ⟨⟨_, Z.r.main hm⟩, t_shortZ (d := d + 76) (b := b + 900 + tY s) Z (by omega) hm hE fun n1 g1 h1 Z1 L1 B1 => ⟨_, rfl, ?_⟩⟩
  have hl := r_short_len (rd := rd)
  revert K Z1 B1 hl
  generalize (r_short rd).1 = nm
  generalize (r_short rd).2 = rd1
  intro K Z1 B1 hl
  have hm1 := L1.m hm
  have hx1 := L1.k hx gSt3
  refine ⟨⟨_, Z1.r.main hm1⟩, t_u8 Z1.r hm1 fun h2 R2 => ⟨_, rfl, ?_⟩⟩
  have Z2 := Z1.re R2
  revert K Z2
  generalize (r_u8 rd1).1 = bits
  generalize (r_u8 rd1).2 = rd2
  intro K Z2
  exact ⟨⟨_, Z2.r.main hm1⟩, t_then (d := d) (M := fun r2 h3 => MM n1 bits r2 h3) (N := N) (f := ff nm bits) (fun h1 hq => hN n1 bits h1 hq) Z2 hm1 hx1 hj (fun w3 g3 h3 Z3 W3 L3 => K w3 g3 h3 Z3 ⟨W3.1, W3.2⟩ (L1.trans L3)) fun K => K0 n1 nm bits rd2 g1 h2 hl Z2 L1 B1 K⟩
theorem s_cancels_eq : s_cancels s j rd = s_then (r_u8 (r_short rd).2).2 s (s_cancelsF s j (r_short rd).1 (r_u8 (r_short rd).2).1) := rfl
theorem t_cancels (Z : tZ s0 F (b + 936 + tY s) s (dr, sz, rd, cl, me, u) g h) (hm : g.kind x0 = (1, 0)) (hx : g.kind x1 = (3, j)) (hj : isH j) (hE : gB g (zst s0 "RelayHallModel" "EMPTY" "[B") [])
    (K : ∀ w1 g1 h1, tZ s0 F (b + tY (s_tld j cl me (s_cancels s j rd))) (s_tld j cl me (s_cancels s j rd)) w1 g1 h1 → tWm (dr, sz, rd, cl, me, u) w1 → gL g g1 → Q .null h1) : zX s0 m_X8_cancels (d + 78) [zr x0, zr x1] h Q E := by
  rw [s_cancels_eq] at K
  refine c_X8_cancels (t_pre (ff := s_cancelsF s j) (d := d) (N := fun h => Q .null h) (MM := fun n1 r1 r2 h3 => ((r2 = 0 → ((fC h3 x0 7 ∧ zX s0 m_X8_consumer (d + 77) [zr x0, zr (x1), zr (n1)] h3 (fun v4 h4 => ∃ n2 : Nat, v4 = zr (n2) ∧ ((n2 = 0 → (zP s0 m_X8_cancels (d + 77 + 1) 38 [some (zr (x0)), some (zr (x1)), some (zr (n1)), some (.int (r1)), none] [] h4 Q E)) ∧ (¬ n2 = 0 → ((fC h4 x0 7 ∧ zX s0 m_X8_cancel (d + 77) [zr x0, zr (n2)] h4 (fun _ h5 => (zP s0 m_X8_cancels (d + 77 + 1) 38 [some (zr (x0)), some (zr (x1)), some (zr (n1)), some (.int (r1)), none] [] h5 Q E)) E))))) E))) ∧ (¬ r2 = 0 → (Q .null h3)))) (fun n r h hq => ⟨fun hh => absurd hh (by decide), fun _ => hq⟩) Z hm hx hj hE K ?_)
  intro n1 nm bits rd2 g1 h1 hl Z1 L1 B1 K
  refine ⟨fun _ => ?_, fun hh => absurd rfl hh⟩
  have hm1 := L1.m hm
  have hx1 := L1.k hx gSt3
  have em := Z1.r.main hm1
  have h38 : ∀ (s2 : sSt) (w2 : tW) (g2 : sG) (h2 : zH), tZ s0 F (b + tY s2) s2 w2 g2 h2 → tWm (dr, sz, rd2, cl, me, u) w2 → gL g1 g2 →
      (∀ w3 g3 h3, tZ s0 F (b + tY (if bits = 0 ∧ s_speaks s2 j then s_ans s2 j 60 31 (w_short nm) else s2)) (if bits = 0 ∧ s_speaks s2 j then s_ans s2 j 60 31 (w_short nm) else s2) w3 g3 h3 → tWm (dr, sz, rd2, cl, me, u) w3 → gL g1 g3 → Q .null h3) →
      zP s0 m_X8_cancels (d + 77 + 1) 38 [some (zr x0), some (zr x1), some (zr n1), some (.int bits), none] [] h2 Q E := fun s2 w2 g2 h2 Z2 W2 L2 K => by
    have hm2 := L2.m hm1
    have hx2 := L2.k hx1 gSt3
    refine b_X8_cancels_38 ⟨fun hne => ?_, fun h0 => t_speaks (d := d + 77) Z2.r hx2 hj ⟨_, rfl, ?_⟩⟩
    · rw [if_neg (fun hh => hne hh.1)] at K
      exact K w2 g2 h2 Z2 W2 L2
    · rw [sB_0]
      refine ⟨fun hs => ?_, fun hs => ⟨⟨_, Z2.r.main hm2⟩, ?_⟩⟩
      · rw [if_neg (fun hh => by rw [hs] at hh; exact absurd hh.2 (by decide))] at K
        exact K w2 g2 h2 Z2 W2 L2
      · rw [Bool.not_eq_false] at hs
        rw [if_pos ⟨h0, hs⟩] at K
        have hy := tY_ans (h := j) (k1 := 60) (me := 31) (b := w_short nm) Z2.i hj
        exact t_sendTag (d := d + 6) Z2 hm2 hx2 hj (L2.B B1) hl fun w3 g3 h3 Z3 W3 L3 => K w3 g3 h3 (Z3.le (Nat.add_le_add_left hy b)) (W2.trans W3.tom) (L2.trans L3)
  refine ⟨⟨_, em⟩, t_consumer (d := d + 76) Z1.r Z1.sc hm1 hx1 B1 (by omega) (fun i hi => by have := (Z1.i.tx.2.2.2.1 i (Z1.sc.cs i hi)).1; omega) ⟨_, rfl, ?_⟩⟩
  cases hc : s_cons s j nm with
  | none =>
    unfold s_cancelsF at K
    simp only [hc, tld_ok] at K
    exact ⟨fun _ => h38 s _ g1 h1 (Z1.le (by omega)) tWm.refl (gL.refl g1) K, fun hh => absurd rfl hh⟩
  | some i =>
    unfold s_cancelsF at K
    simp only [hc, tld_ok] at K
    have hi : i ∈ s.cs := List.mem_of_find?_eq_some hc
    have hik : g1.kind (g1.ref 35 i) = (35, i) := Z1.r.al (by decide) (by decide) (Z1.sc.cs i hi)
    have hgo : gO g1 35 (some i) = g1.ref 35 i := rfl
    rw [hgo]
    refine ⟨fun hh => absurd hh (Z1.r.1.pos hik (by decide)), fun _ => ⟨⟨_, em⟩, ?_⟩⟩
    have D := d_cancel (cl := s_closeF 5) Z1.i (d_closeF 5) hi
    have hy := tY_any D Z1.i
    refine t_cancelC (n := 5) (D := 68) (d := d + 52) (t_closeC 5) (by omega) Z1 hm1 hik hi sLive_le fun w2 g2 h2 Z2 W2 L2 => ?_
    have Z2 : tZ s0 F (b + tY (s_cancel s_close s i)) (s_cancel s_close s i) w2 g2 h2 := Z2.le (by
      have hy : tY (s_cancel s_close s i) ≤ tY s + 900 := hy
      omega)
    exact h38 _ w2 g2 h2 Z2 W2.tom L2 K
theorem s_removeQ_eq : s_removeQ s j rd = s_then (r_u8 (r_short rd).2).2 s (s_removeQF s j (r_short rd).1 (r_u8 (r_short rd).2).1) := rfl
theorem t_deleteQueue (Z : tZ s0 F (b + 936 + tY s) s (dr, sz, rd, cl, me, u) g h) (hm : g.kind x0 = (1, 0)) (hx : g.kind x1 = (3, j)) (hj : isH j) (hE : gB g (zst s0 "RelayHallModel" "EMPTY" "[B") [])
    (K : ∀ w1 g1 h1, tZ s0 F (b + tY (s_tld j cl me (s_removeQ s j rd))) (s_tld j cl me (s_removeQ s j rd)) w1 g1 h1 → tWm (dr, sz, rd, cl, me, u) w1 → gL g g1 → Q .null h1) : zX s0 m_X8_deleteQueue (d + 79) [zr x0, zr x1] h Q E := by
  rw [s_removeQ_eq] at K
  refine c_X8_deleteQueue (t_pre (ff := s_removeQF s j) (d := d + 1) (N := fun h => Q .null h) (MM := fun n1 r1 r2 h3 => ((r2 = 0 → ((fC h3 x0 7 ∧ zX s0 m_X8_asked (d + 78) [zr x0, zr (x1), zr (n1)] h3 (fun v4 h4 => ∃ n2 : Nat, v4 = zr (n2) ∧ ((¬ n2 = 0 → ((fC h4 x0 7 ∧ zX s0 m_X8_ready (d + 78) [zr x0, zr (n2)] h4 (fun v5 h5 => ∃ r3 : Int32, v5 = .int (r3) ∧ ((r1 &&& 1 = 0 → (zP s0 m_X8_deleteQueue (d + 78 + 1) 56 [some (zr (x0)), some (zr (x1)), none, some (.int (r1)), some (zr (n2)), some (.int (r3))] [] h5 Q E)) ∧ (¬ r1 &&& 1 = 0 → ((fC h5 x0 7 ∧ zX s0 m_X8_consumersOf (d + 78) [zr x0, zr (n2)] h5 (fun v6 h6 => ∃ r4 : Int32, v6 = .int (r4) ∧ ((0 < r4 → ((fC h6 x0 7 ∧ zX s0 m_X8_soft (d + 78) [zr x0, zr (x1), .int (406)] h6 (fun _ h7 => (Q .null h7)) E))) ∧ (¬ 0 < r4 → (zP s0 m_X8_deleteQueue (d + 78 + 1) 56 [some (zr (x0)), some (zr (x1)), none, some (.int (r1)), some (zr (n2)), some (.int (r3))] [] h6 Q E)))) E))))) E))) ∧ (n2 = 0 → (Q .null h4)))) E))) ∧ (¬ r2 = 0 → (Q .null h3)))) (fun n r h hq => ⟨fun hh => absurd hh (by decide), fun _ => hq⟩) Z hm hx hj hE K ?_)
  intro n1 nm bits rd2 g1 h1 hl Z1 L1 B1 K
  refine ⟨fun _ => ?_, fun hh => absurd rfl hh⟩
  have hm1 := L1.m hm
  have hx1 := L1.k hx gSt3
  have em := Z1.r.main hm1
  unfold s_removeQF s_withQ at K
  refine ⟨⟨_, em⟩, t_asked (d := d) Z1 hm1 hx1 hj B1 hl (fun q hq ha => ⟨_, rfl, ?_⟩) fun code ha w2 g2 h2 Z2 W2 L2 => ⟨0, rfl, fun hh => absurd rfl hh, fun _ => ?_⟩⟩
  · simp only [ha] at K
    have hqk : g1.kind (g1.ref 33 q) = (33, q) := Z1.r.al (by decide) (by decide) (Z1.sc.qs q hq)
    have hnr : (s_ready s q).length ≤ 300 := Nat.le_trans (List.length_filter_le _ _) (Nat.le_trans (ents_le Z1.i.ms hq) Z1.i.ms.2.2.2)
    refine ⟨fun _ => ⟨⟨_, em⟩, t_ready (d := d + 78) Z1.r Z1.sc hqk ⟨_, rfl, ?_⟩⟩, fun hh => absurd hh (Z1.r.1.pos hqk (by decide))⟩
    have hsoft : ((s_bit bits 1 = true ∧ s_consQ s q ≠ []) ∨ (s_bit bits 2 = true ∧ 0 < (s_ready s q).length)) → zX s0 m_X8_soft (d + 78) [zr x0, zr x1, .int 406] h1 (fun _ h7 => Q .null h7) E := fun hc => by
      rw [if_pos hc, tld_soft] at K
      exact t_softZ (d := d + 1) Z1 hm1 hx1 hj fun w4 g4 h4 Z4 W4 L4 => K w4 g4 h4 Z4 W4.tom L4
    have h56 : ¬ (s_bit bits 1 = true ∧ s_consQ s q ≠ []) → zP s0 m_X8_deleteQueue (d + 78 + 1) 56 [some (zr x0), some (zr x1), none, some (.int bits), some (zr (g1.ref 33 q)), some (.int (Int32.ofNat (s_ready s q).length))] [] h1 Q E := fun hno => by
      have h76 : ¬ ((s_bit bits 1 = true ∧ s_consQ s q ≠ []) ∨ (s_bit bits 2 = true ∧ 0 < (s_ready s q).length)) → zP s0 m_X8_deleteQueue (d + 78 + 1) 76 [some (zr x0), some (zr x1), none, some (.int bits), some (zr (g1.ref 33 q)), some (.int (Int32.ofNat (s_ready s q).length))] [] h1 Q E := fun hno => by
        rw [if_neg hno, tld_ok] at K
        have hy := tY_any (d_delQ (cl := s_closeF 5) Z1.i (d_closeF 5) hq) Z1.i
        generalize Int32.ofNat (s_ready s q).length = nr at K ⊢
        refine b_X8_deleteQueue_76 ⟨⟨_, em⟩, t_deleteC (n := 5) (D := 68) (d := d + 54) (t_closeC 5) (by omega) Z1 hm1 hqk hq sLive_le fun w2 g2 h2 Z2 W2 L2 => ?_⟩
        have Z2 : tZ s0 F (b + tY (s_delQ s_close s q)) (s_delQ s_close s q) w2 g2 h2 := Z2.le (by
          have hy : tY (s_delQ s_close s q) ≤ tY s + 900 := hy
          omega)
        clear hy
        have W2 := W2.tom
        generalize s_delQ s_close s q = s2 at K Z2
        have hm2 := L2.m hm1
        have hx2 := L2.k hx1 gSt3
        rw [← bit_0]
        refine ⟨fun hb => ?_, fun hb => t_speaks (d := d + 78) Z2.r hx2 hj ⟨_, rfl, ?_⟩⟩
        · rw [Bool.not_eq_false] at hb
          rw [if_pos (Or.inl hb)] at K
          exact K w2 g2 h2 Z2 W2 L2
        · rw [sB_0]
          refine ⟨fun hs => ?_, fun hs => ?_⟩
          · rw [Bool.not_eq_false] at hs
            rw [if_neg (fun hh => hh.elim (fun h => by rw [hb] at h; cases h) fun h => h hs)] at K
            exact t_ans32 (d := d + 1) Z2 hm2 hx2 hj fun w3 g3 h3 Z3 W3 L3 => K w3 g3 h3 Z3 (W2.trans W3.tom) (L2.trans L3)
          · rw [if_pos (Or.inr (by rw [hs]; decide))] at K
            exact K w2 g2 h2 Z2 W2 L2
      refine b_X8_deleteQueue_56 ?_
      rw [← bit_0, show (0 : Int32) = Int32.ofNat 0 from rfl, i_le (by omega) (by decide)]
      refine ⟨fun hb => h76 (fun hh => hh.elim hno fun h => by rw [hb] at h; exact absurd h.1 (by decide)), fun hb => ⟨fun h0 => h76 (fun hh => hh.elim hno fun h => by omega), fun h0 => ⟨⟨_, em⟩, hsoft (Or.inr ⟨?_, by omega⟩)⟩⟩⟩
      rw [Bool.not_eq_false] at hb
      exact hb
    have hcl : (s_consQ s q).length ≤ 16 := Nat.le_trans (List.length_filter_le _ _) Z1.i.cp.2.2.2.2.2.2.1
    rw [← bit_0]
    refine ⟨fun hb => h56 (fun hh => by rw [hb] at hh; exact absurd hh.1 (by decide)), fun hb => ⟨⟨_, em⟩, t_consumersOf (d := d + 78) Z1.r Z1.sc hm1 hqk ⟨_, rfl, ?_⟩⟩⟩
    rw [Bool.not_eq_false] at hb
    rw [show (0 : Int32) = Int32.ofNat 0 from rfl, i_lt (by decide) (by omega)]
    refine ⟨fun hp => ⟨⟨_, em⟩, hsoft (Or.inl ⟨hb, fun e => by rw [e] at hp; exact absurd hp (by decide)⟩)⟩, fun hp => h56 (fun hh => hh.2 (List.eq_nil_of_length_eq_zero (by omega)))⟩
  · simp only [ha, tld_soft] at K
    exact K w2 g2 h2 Z2 W2.tom L2
end MH
