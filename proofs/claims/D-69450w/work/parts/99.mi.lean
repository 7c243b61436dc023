/-! ===== the twin: queues purged, messages got ===== -/
set_option maxRecDepth 100000
def s_purgeF (s : sSt) (j : Nat) (name : sBy) (silent : Int32) : sRs := s_withQ s j name (fun q =>
  let n := (s_ready s q).length
  let s1 := s_purgeN q n s
  s_ok (if silent = 0 then s_ans s1 j 50 31 (w_32 (Int32.ofNat n)) else s1))
def s_gotS (s s1 : sSt) (j q m : Nat) : sSt := s_send s1 (j / 4) (w_method (Int32.ofNat (j % 4)) 60 71 (w_32 ((s.ch j).tag + 1) ++ w_8 (sB (s.en m).redel) ++ w_short (s.en m).exch ++ w_short (s.en m).key ++ w_32 (Int32.ofNat (s_ready s1 q).length)) ++ w_content (Int32.ofNat (j % 4)) (s.en m).cont (s.en m).expi)
def s_getF (s : sSt) (j : Nat) (name : sBy) (free : Int32) : sRs := s_withQ s j name (fun q => match s_first s q with
  | none => s_ok (s_ans s j 60 72 [])
  | some m => s_ok (s_gotS s (s_hand s j m none (!(free == 0))) j q m))
section MI
variable {s0 : zE} {F : Nat → Option zC} {b : Nat} {s s' s1 : sSt} {w w' w1 w2 : tW} {g g' g0 : sG} {h h' : zH} {d x0 x1 x2 x3 x4 x5 i j q m n e : Nat} {Q : Value → zH → Prop} {E : Nat → zH → Prop} {dr : sBy} {sz cl me code : Int32} {rd : sRd} {u : Int32 × List Nat × (Nat → Nat)} {f : sRs}
theorem s_purge_eq : s_purge s j rd = s_then (r_u8 (r_short rd).2).2 s (s_purgeF s j (r_short rd).1 (r_u8 (r_short rd).2).1) := rfl
theorem s_get_eq : s_get s j rd = s_then (r_u8 (r_short rd).2).2 s (s_getF s j (r_short rd).1 (r_u8 (r_short rd).2).1) := rfl
theorem ready_lf (I : sI s) (hk : s.knd q = 33) (hm : m ∈ s_ready s q) (L : sLf s s' m) : s_ready s' q = (s_ready s q).erase m := by
  have hmem := (List.mem_filter.mp hm).1
  have hmq := ((I.sc.qu q hk).1 m hmem).2
  have hnd := (I.ms.2.1 q hk).1
  obtain ⟨D, X, h3, h4, -⟩ := L
  have hst : ∀ x, x ≠ m → ((s'.en x).state == 0) = ((s.en x).state == 0) := fun x hx => by rw [h4 x, if_neg hx]
  unfold s_ready
  rw [h3 q, if_pos hmq.symm]
  exact filter_off2 hnd hst
theorem t_leavesZ (Z : tZ s0 F (b + tY s) s w g h) (hm : g.kind x0 = (1, 0)) (hx : g.kind x1 = (36, m)) (hi : m ∈ (s.qu (s.en m).queue).ents)
    (K : ∀ g1 h1, tZ s0 F (b + tY (s_leaves s m)) (s_leaves s m) w g1 h1 → gL g g1 → Q .null h1) : zX s0 m_X8_leaves (d + 3) [zr x0, zr x1] h Q E := by
  have hk := Z.r.ak (by decide) (by decide) hx
  obtain ⟨D, hp⟩ := d_lf Z.i (Z.sc.lv hk) hk hi lf_leaves
  have hy := tY_lf Z.i hk hi lf_leaves
  have hw := D.2.2.1 Z.i
  have hc := Z.c
  have hf := Z.facts
  refine t_leaves (d := d) (b := b + tY (s_leaves s m) + tP (s_leaves s m)) (Z.r.less (by omega)) Z.sc hm hx hi (by omega) fun g1 h1 R1 L1 => K g1 h1 ⟨R1, D.1 Z.i, by omega⟩ L1
theorem t_purge_44 {silent : Int32} {nn : Nat} (hnn : nn ≤ 300) (hm : g0.kind x0 = (1, 0)) (hx : g0.kind x1 = (3, j)) (hj : isH j) (hq : g0.kind x4 = (33, q)) :
    ∀ (k i : Nat) (s : sSt) (g : sG) (h : zH), i + k = nn → (s_ready s q).length = k → tZ s0 F (b + tY s) s w g h → gL g0 g →
      (∀ w3 g3 h3, tZ s0 F (b + tY (if silent = 0 then s_ans (s_purgeN q k s) j 50 31 (w_32 (Int32.ofNat nn)) else s_purgeN q k s)) (if silent = 0 then s_ans (s_purgeN q k s) j 50 31 (w_32 (Int32.ofNat nn)) else s_purgeN q k s) w3 g3 h3 → tWm w w3 → gL g0 g3 → Q .null h3) →
      zP s0 m_X8_purge (d + 79) 44 [some (zr x0), some (zr x1), none, some (.int silent), some (zr x4), some (.int (Int32.ofNat nn)), some (.int (Int32.ofNat i))] [] h Q E
  | 0, i, s, g, h, hik, hr, Z, L, K => by
    refine b_X8_purge_44 ?_
    rw [i_le (by omega) (by omega)]
    refine ⟨fun _ => ⟨fun h0 => ?_, fun h0 => ?_⟩, fun hh => absurd (by omega) hh⟩
    · rw [if_pos h0] at K
      exact t_ans32 (d := d + 1) Z (L.m hm) (L.k hx gSt3) hj fun w3 g3 h3 Z3 W3 L3 => K w3 g3 h3 Z3 W3.tom (L.trans L3)
    · rw [if_neg h0] at K
      exact K w g h Z tWm.refl L
  | k + 1, i, s, g, h, hik, hr, Z, L, K => by
    have em := Z.r.main (L.m hm)
    have hqk := L.th (by decide) (by decide) hq
    have hkq := Z.r.ak (by decide) (by decide) hqk
    refine b_X8_purge_44 ?_
    rw [i_le (by omega) (by omega), i_succ]
    refine ⟨fun hh => absurd hh (by omega), fun _ => ⟨⟨_, em⟩, t_first (d := d + 76) Z.r Z.sc hqk ?_⟩⟩
    cases hf : s_first s q with
    | none =>
      rw [s_first_none hf] at hr
      cases hr
    | some m =>
      obtain ⟨hmem, hst⟩ := s_best_mem (f := fun m => (s.en m).state == 0) hf
      obtain ⟨hkm, hmq⟩ := (Z.sc.qu q hkq).1 m hmem
      have hmr : m ∈ s_ready s q := List.mem_filter.mpr ⟨hmem, hst⟩
      refine ⟨g.ref 36 m, rfl, ⟨_, em⟩, t_leavesZ (d := d + 75) Z (L.m hm) (Z.r.al (by decide) (by decide) hkm) (by rw [hmq]; exact hmem) fun g1 h1 Z1 L1 => ?_⟩
      have hpn : s_purgeN q (k + 1) s = s_purgeN q k (s_leaves s m) := by
        rw [s_purgeN, hf]
      rw [hpn] at K
      refine t_purge_44 hnn hm hx hj hq k (i + 1) (s_leaves s m) g1 h1 (by omega) ?_ Z1 (L.trans L1) K
      rw [ready_lf Z.i hkq hmr lf_leaves, List.length_erase_of_mem hmr, hr]
      rfl
theorem t_purge (Z : tZ s0 F (b + 936 + tY s) s (dr, sz, rd, cl, me, u) g h) (hm : g.kind x0 = (1, 0)) (hx : g.kind x1 = (3, j)) (hj : isH j) (hE : gB g (zst s0 "RelayHallModel" "EMPTY" "[B") [])
    (K : ∀ w1 g1 h1, tZ s0 F (b + tY (s_tld j cl me (s_purge s j rd))) (s_tld j cl me (s_purge s j rd)) w1 g1 h1 → tWm (dr, sz, rd, cl, me, u) w1 → gL g g1 → Q .null h1) : zX s0 m_X8_purge (d + 79) [zr x0, zr x1] h Q E := by
  rw [s_purge_eq] at K
  refine c_X8_purge (t_pre (ff := s_purgeF s j) (d := d + 1) (N := fun h => Q .null h) (MM := fun n1 r1 r2 h3 => ((r2 = 0 → ((fC h3 x0 7 ∧ zX s0 m_X8_asked (d + 78) [zr x0, zr (x1), zr (n1)] h3 (fun v4 h4 => ∃ n2 : Nat, v4 = zr (n2) ∧ ((¬ n2 = 0 → ((fC h4 x0 7 ∧ zX s0 m_X8_ready (d + 78) [zr x0, zr (n2)] h4 (fun v5 h5 => ∃ r3 : Int32, v5 = .int (r3) ∧ (zP s0 m_X8_purge (d + 78 + 1) 44 [some (zr (x0)), some (zr (x1)), none, some (.int (r1)), some (zr (n2)), some (.int (r3)), some (.int (0))] [] h5 Q E)) E))) ∧ (n2 = 0 → (Q .null h4)))) E))) ∧ (¬ r2 = 0 → (Q .null h3)))) (fun n r h hq => ⟨fun hh => absurd hh (by decide), fun _ => hq⟩) Z hm hx hj hE K ?_)
  intro n1 nm bits rd2 g1 h1 hl Z1 L1 B1 K
  refine ⟨fun _ => ?_, fun hh => absurd rfl hh⟩
  have hm1 := L1.m hm
  have hx1 := L1.k hx gSt3
  have em := Z1.r.main hm1
  unfold s_purgeF s_withQ at K
  refine ⟨⟨_, em⟩, t_asked (d := d) Z1 hm1 hx1 hj B1 hl (fun q hq ha => ⟨_, rfl, ?_⟩) fun code ha w2 g2 h2 Z2 W2 L2 => ⟨0, rfl, fun hh => absurd rfl hh, fun _ => ?_⟩⟩
  · simp only [ha, tld_ok] at K
    have hqk : g1.kind (g1.ref 33 q) = (33, q) := Z1.r.al (by decide) (by decide) (Z1.sc.qs q hq)
    have hnr : (s_ready s q).length ≤ 300 := Nat.le_trans (List.length_filter_le _ _) (Nat.le_trans (ents_le Z1.i.ms hq) Z1.i.ms.2.2.2)
    refine ⟨fun _ => ⟨⟨_, em⟩, t_ready (d := d + 78) Z1.r Z1.sc hqk ⟨_, rfl, ?_⟩⟩, fun hh => absurd hh (Z1.r.1.pos hqk (by decide))⟩
    exact t_purge_44 (d := d) (b := b) hnr hm1 hx1 hj hqk (s_ready s q).length 0 s g1 h1 (Nat.zero_add _) rfl (Z1.le (by omega)) (gL.refl g1) K
  · simp only [ha, tld_soft] at K
    exact K w2 g2 h2 Z2 W2.tom L2
/-- what an answer with a message is, ahead of the flag on -/
theorem t_get_114 {B : sBy} {t1 : Int32} {rd : sRd} {u : Int32 × Int32 × Int32 × List Nat × (Nat → Nat)} (Z : tZ s0 F b s (w_head 1 (Int32.ofNat (j % 4)) ++ (w_16 60 ++ w_16 71 ++ B), Int32.ofNat 3, rd, u) g h) (hm : g.kind x0 = (1, 0)) (hy : g.kind x5 = (36, m)) (hq : g.kind x4 = (33, q)) (hx : g.kind x1 = (3, j)) (hj : isH j) (hB : B.length ≤ 50)
    (K : ∀ w1 g1 h1, tZ s0 F b (s_send s (j / 4) (w_method (Int32.ofNat (j % 4)) 60 71 (B ++ w_8 t1 ++ w_short (s.en m).exch ++ w_short (s.en m).key ++ w_32 (Int32.ofNat (s_ready s q).length)) ++ w_content (Int32.ofNat (j % 4)) (s.en m).cont (s.en m).expi)) w1 g1 h1 →
      tWm ([], 0, rd, u) w1 → gL g g1 → Q .null h1) : zP s0 m_X8_get (d + 79) 114 [some (zr x0), some (zr x1), none, none, some (zr x4), some (zr x5), none] [.int t1, zr x0] h Q E := by
  have hkm := Z.r.ak (by decide) (by decide) hy
  obtain ⟨t1', t2', t3', -⟩ := Z.i.tx.2.2.2.2.1 m hkm
  obtain ⟨⟨-, -, hh, -⟩, hbl⟩ := t1'
  refine b_X8_get_114 ⟨⟨_, Z.r.main hm⟩, t_put Z.r hm (by simp [w_head, w_8, w_16]; omega) fun g1 h1 R1 L1 => ?_⟩
  have hm1 := L1.m hm
  have hy1 := L1.th (by decide) (by decide) hy
  refine e_R (R1.1.cell hy1 (by decide)) fun (z1 : gR h1 x5 1 = g1.rf 36 m 1) => ?_
  rw [z1]
  refine ⟨⟨_, R1.main hm1⟩, t_putShort (d := d + 76) R1 hm1 (R1.ent hkm).2.1 (by simp [w_head, w_8, w_16]; omega) fun g2 h2 R2 L2 => ?_⟩
  have hm2 := L2.m hm1
  have hy2 := L2.th (by decide) (by decide) hy1
  refine e_R (R2.1.cell hy2 (by decide)) fun (z2 : gR h2 x5 2 = g2.rf 36 m 2) => ?_
  rw [z2]
  refine ⟨⟨_, R2.main hm2⟩, t_putShort (d := d + 76) R2 hm2 (R2.ent hkm).2.2 (by simp [w_head, w_8, w_16, w_short]; omega) fun g3 h3 R3 L3 => ?_⟩
  have L13 := (L1.trans L2).trans L3
  have hm3 := L13.m hm
  have hq3 := L13.th (by decide) (by decide) hq
  refine ⟨⟨_, R3.main hm3⟩, t_ready (d := d + 78) R3 Z.sc hq3 ⟨_, rfl, ⟨_, R3.main hm3⟩, t_put32 (d := d + 76) R3 hm3 (by simp [w_head, w_8, w_16, w_short]; omega) fun g4 h4 R4 L4 => ?_⟩⟩
  have L14 := L13.trans L4
  have hm4 := L14.m hm
  refine ⟨⟨_, R4.main hm4⟩, t_endFrame (d := d + 77) (p := []) (ty := 1) (ch := Int32.ofNat (j % 4)) (body := w_16 60 ++ w_16 71 ++ (B ++ w_8 t1 ++ w_short (s.en m).exch ++ w_short (s.en m).key ++ w_32 (Int32.ofNat (s_ready s q).length))) R4 hm4 (by simp [w_8]) rfl (by simp [w_head, w_8, w_16, w_32, w_short]; omega) fun g5 h5 R5 L5 => ?_⟩
  have L15 := L14.trans L5
  have hm5 := L15.m hm
  have hy5 := L15.th (by decide) (by decide) hy
  have hx5 := L15.k hx gSt3
  refine e_I (R5.1.cell hx5 (by decide)) fun (z3 : gI h5 x1 1 = Int32.ofNat (j % 4)) => e_R (R5.1.cell hy5 (by decide)) fun (z4 : gR h5 x5 0 = g5.rf 36 m 0) => e_J (R5.1.cell hy5 (by decide)) fun (z5 : gJ h5 x5 3 = (s.en m).expi) => ?_
  rw [z3, z4, z5]
  rw [List.nil_append] at R5
  refine ⟨⟨_, R5.main hm5⟩, t_putContent (d := d + 74) R5 hm5 (R5.ent hkm).1 (by simp [w_frame, w_8, w_16, w_32, w_short]; omega) hbl (fun t ht => (hh t ht).1) fun sz6 g6 h6 R6 L6 => ?_⟩
  have L16 := L15.trans L6
  have hx6 := L6.k hx5 gSt3
  refine e_R (R6.1.cell hx6 (by decide)) fun (z6 : gR h6 x1 0 = g6.ref 2 (j / 4)) => ?_
  rw [z6]
  exact ⟨⟨_, R6.main (L16.m hm)⟩, t_go (d := d + 9) (Z.re R6) (L16.m hm) (R6.cn hj.div) hj.div fun w7 g7 h7 Z7 W7 L7 => K w7 g7 h7 Z7 ⟨W7.tom.1, W7.tom.2⟩ (L16.trans L7)⟩
theorem t_get_77 {fr : Bool} {rd : sRd} {u : Int32 × Int32 × Int32 × List Nat × (Nat → Nat)} (Z : tZ s0 F (b + tY s) s (dr, sz, rd, u) g h) (hm : g.kind x0 = (1, 0)) (hq : g.kind x4 = (33, q)) (hx : g.kind x1 = (3, j)) (hj : isH j) (hf : s_first s q = some m)
    (K : ∀ w1 g1 h1, tZ s0 F (b + tY (s_gotS s (s_hand s j m none fr) j q m)) (s_gotS s (s_hand s j m none fr) j q m) w1 g1 h1 → tWm (dr, sz, rd, u) w1 → gL g g1 → Q .null h1) :
    zP s0 m_X8_get (d + 79) 77 [some (zr x0), some (zr x1), none, none, some (zr x4), some (zr (g.ref 36 m)), none] [.int (sB fr), zr 0, zr (g.ref 36 m), zr x1, zr x0] h Q E := by
  have hkq := Z.r.ak (by decide) (by decide) hq
  obtain ⟨hmem, hst⟩ := s_best_mem (f := fun m => (s.en m).state == 0) hf
  have h0 : (s.en m).state = 0 := eq_of_beq hst
  obtain ⟨hkm, hmq⟩ := (Z.sc.qu q hkq).1 m hmem
  have hy : g.kind (g.ref 36 m) = (36, m) := Z.r.al (by decide) (by decide) hkm
  refine b_X8_get_77 ⟨⟨_, Z.r.main hm⟩, t_handZ (d := d + 74) (oc := none) (fr := fr) Z hm hj hx hy rfl (fun y hy => nomatch hy) (by rw [hmq]; exact hmem) h0 fun g3 h3 Z3 L3 => ⟨_, rfl, ?_⟩⟩
  have hin := hand_in (s := s) (j := j) (m := m) (o := none) (fr := fr)
  have Yn := fun bb => tY_send (b := bb) (c := j / 4) Z3.i hj.div
  unfold s_gotS at K
  revert Z3 hin K Yn
  generalize s_hand s j m none fr = s3
  intro K Z3 hin Yn
  have hx3 := L3.k hx gSt3
  have hm3 := L3.m hm
  have hy3 := L3.th (by decide) (by decide) hy
  refine e_I (Z3.r.1.cell hx3 (by decide)) fun (z3 : gI h3 x1 1 = Int32.ofNat (j % 4)) => ?_
  rw [z3]
  refine ⟨⟨_, Z3.r.main hm3⟩, t_beginMethod (d := d + 74) Z3.r hm3 fun g4 h4 R4 L4 => ⟨⟨_, R4.main (L4.m hm3)⟩, t_put32 (d := d + 76) R4 (L4.m hm3) (by simp [w_head, w_8, w_16]) fun g5 h5 R5 L5 => ?_⟩⟩
  have L35 := L4.trans L5
  have hy5 := L35.th (by decide) (by decide) hy3
  refine e_I (R5.1.cell hy5 (by decide)) fun (z5 : gI h5 (g.ref 36 m) 9 = sB (s3.en m).redel) => ?_
  rw [z5]
  rw [List.append_assoc] at R5
  have L05 := L3.trans L35
  have hfin : ∀ t1 : Int32, t1 = sB (s3.en m).redel → zP s0 m_X8_get (d + 79) 114 [some (zr x0), some (zr x1), none, none, some (zr x4), some (zr (g.ref 36 m)), none] [.int t1, zr x0] h5 Q E := fun t1 ht => by
    refine t_get_114 (d := d) (B := w_32 ((s.ch j).tag + 1)) (Z3.re R5) (L05.m hm) hy5 (L05.th (by decide) (by decide) hq) (L05.k hx gSt3) hj (by simp [w_32, w_16]) fun w8 g8 h8 Z8 W8 L8 => ?_
    rw [ht, hin.1, hin.2.1, hin.2.2.1, hin.2.2.2.1, hin.2.2.2.2] at Z8
    exact K w8 g8 h8 (Z8.le (Nat.add_le_add_left (Yn _) b)) ⟨W8.1, W8.2⟩ (L05.trans L8)
  rw [sB_0]
  refine ⟨fun hr => hfin 0 (by rw [hr]; rfl), fun hr => hfin 1 ?_⟩
  rw [Bool.not_eq_false] at hr
  rw [hr]
  rfl
theorem t_get (Z : tZ s0 F (b + 936 + tY s) s (dr, sz, rd, cl, me, u) g h) (hm : g.kind x0 = (1, 0)) (hx : g.kind x1 = (3, j)) (hj : isH j) (hE : gB g (zst s0 "RelayHallModel" "EMPTY" "[B") [])
    (K : ∀ w1 g1 h1, tZ s0 F (b + tY (s_tld j cl me (s_get s j rd))) (s_tld j cl me (s_get s j rd)) w1 g1 h1 → tWm (dr, sz, rd, cl, me, u) w1 → gL g g1 → Q .null h1) : zX s0 m_X8_get (d + 79) [zr x0, zr x1] h Q E := by
  rw [s_get_eq] at K
  refine c_X8_get (t_pre (ff := s_getF s j) (d := d + 1) (N := fun h => Q .null h) (MM := fun n1 r1 r2 h3 => ((r2 = 0 → ((fC h3 x0 7 ∧ zX s0 m_X8_asked (d + 78) [zr x0, zr (x1), zr (n1)] h3 (fun v4 h4 => ∃ n2 : Nat, v4 = zr (n2) ∧ ((¬ n2 = 0 → ((fC h4 x0 7 ∧ zX s0 m_X8_first (d + 78) [zr x0, zr (n2)] h4 (fun v5 h5 => ∃ n3 : Nat, v5 = zr (n3) ∧ ((¬ n3 = 0 → ((r1 = 0 → (zP s0 m_X8_get (d + 78 + 1) 77 [some (zr (x0)), some (zr (x1)), none, none, some (zr (n2)), some (zr (n3)), none] [.int (0), zr (0), zr (n3), zr (x1), zr (x0)] h5 Q E)) ∧ (¬ r1 = 0 → (zP s0 m_X8_get (d + 78 + 1) 77 [some (zr (x0)), some (zr (x1)), none, none, some (zr (n2)), some (zr (n3)), none] [.int (1), zr (0), zr (n3), zr (x1), zr (x0)] h5 Q E)))) ∧ (n3 = 0 → ((fR h5 x1 [9] 0) ∧ ((fI h5 x1 [9] 1) ∧ ((fC h5 x0 7 ∧ zX s0 m_X8_simple (d + 78) [zr x0, zr (gR h5 x1 0), .int (gI h5 x1 1), .int (60), .int (72)] h5 (fun _ h6 => (Q .null h6)) E))))))) E))) ∧ (n2 = 0 → (Q .null h4)))) E))) ∧ (¬ r2 = 0 → (Q .null h3)))) (fun n r h hq => ⟨fun hh => absurd hh (by decide), fun _ => hq⟩) Z hm hx hj hE K ?_)
  intro n1 nm bits rd2 g1 h1 hl Z1 L1 B1 K
  refine ⟨fun _ => ?_, fun hh => absurd rfl hh⟩
  have hm1 := L1.m hm
  have hx1 := L1.k hx gSt3
  have em := Z1.r.main hm1
  unfold s_getF s_withQ at K
  refine ⟨⟨_, em⟩, t_asked (d := d) Z1 hm1 hx1 hj B1 hl (fun q hq ha => ⟨_, rfl, ?_⟩) fun code ha w2 g2 h2 Z2 W2 L2 => ⟨0, rfl, fun hh => absurd rfl hh, fun _ => ?_⟩⟩
  · simp only [ha] at K
    have hqk : g1.kind (g1.ref 33 q) = (33, q) := Z1.r.al (by decide) (by decide) (Z1.sc.qs q hq)
    have Z1' : tZ s0 F (b + tY s) s (dr, sz, rd2, cl, me, u) g1 h1 := Z1.le (by omega)
    refine ⟨fun _ => ⟨⟨_, em⟩, t_first (d := d + 76) Z1.r Z1.sc hqk ?_⟩, fun hh => absurd hh (Z1.r.1.pos hqk (by decide))⟩
    cases hf : s_first s q with
    | none =>
      simp only [hf, tld_ok] at K
      refine ⟨0, rfl, fun hh => absurd rfl hh, fun _ => e_R (Z1.r.1.cell hx1 (by decide)) fun (z1 : gR h1 x1 0 = g1.ref 2 (j / 4)) => e_I (Z1.r.1.cell hx1 (by decide)) fun (z2 : gI h1 x1 1 = Int32.ofNat (j % 4)) => ?_⟩
      rw [z1, z2]
      exact ⟨⟨_, em⟩, t_simpleZ (d := d + 7) Z1' hm1 hj fun w6 g6 h6 Z6 W6 L6 => K w6 g6 h6 Z6 W6.tom L6⟩
    | some m =>
      simp only [hf, tld_ok] at K
      have hmem := (s_best_mem (f := fun m => (s.en m).state == 0) hf).1
      have hkm := ((Z1.sc.qu q (Z1.sc.qs q hq)).1 m hmem).1
      have hmk : g1.kind (g1.ref 36 m) = (36, m) := Z1.r.al (by decide) (by decide) hkm
      have h77 : ∀ (fr : Bool) (v : Int32), v = sB fr → (!(bits == 0)) = fr → zP s0 m_X8_get (d + 78 + 1) 77 [some (zr x0), some (zr x1), none, none, some (zr (g1.ref 33 q)), some (zr (g1.ref 36 m)), none] [.int v, zr 0, zr (g1.ref 36 m), zr x1, zr x0] h1 Q E := fun fr v hv hfr => by
        subst hv
        rw [hfr] at K
        exact t_get_77 (d := d) Z1' hm1 hqk hx1 hj hf fun w6 g6 h6 Z6 W6 L6 => K w6 g6 h6 Z6 W6 L6
      exact ⟨g1.ref 36 m, rfl, fun _ => ⟨fun h0 => h77 false 0 rfl (by rw [beq_iff_eq.mpr h0]; rfl), fun h0 => h77 true 1 rfl (by rw [beq_false_of_ne h0]; rfl)⟩, fun hh => absurd hh (Z1.r.1.pos hmk (by decide))⟩
  · simp only [ha, tld_soft] at K
    exact K w2 g2 h2 Z2 W2.tom L2
end MI
