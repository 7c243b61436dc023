/-! ===== the twin: a header, whole ===== -/
set_option maxRecDepth 100000
section NM
variable {s0 : zE} {F : Nat → Option zC} {b : Nat} {s : sSt} {w : tW} {g g' : sG} {h h' : zH} {d x0 x1 j n c k e ky hd nn : Nat} {Q : Value → zH → Prop} {E : Nat → zH → Prop} {dr : sBy} {sz marks N prio cls cl me : Int32} {expi : Int64} {rd : sRd} {u : Int32 × List Nat × (Nat → Nat)} {mand pers : Bool} {ct : sCont} {o : Option sTab}
theorem rRem_ok {r r' : sRd} (H : rdOk r r') : rRem r' ≤ rRem r := by
  unfold rRem
  rw [H.1]
  have := H.2.1
  omega
theorem wh_bad {r : sRd} (hb : r.2.2 = true) : r_whole r = false := by
  unfold r_whole
  rw [hb]
  rfl
theorem wh_ok {r : sRd} (hb : r_whole r = true) : r.2.2 = false := by
  cases hh : r.2.2 with
  | false => rfl
  | true => rw [wh_bad hh] at hb; cases hb
theorem headF_bad {wh : Bool} {c1 : sCont} (hb : wh = false ∨ cls ≠ 60 ∨ 15 < marks) : s_headF s j cls N marks wh c1 = s_at (s_hardF (s_junk s j) 502) 0 0 := by
  unfold s_headF
  exact if_pos hb
/-- a header's walk from the place where what it begins with is read: an early fault -/
theorem t_hd_bad {g1 : sG} (J : tJs s0 F) (Z : tZ s0 F (b + 942 + tY s) s w g h) (hm : g1.kind x0 = (1, 0)) (hx : g1.kind x1 = (3, j)) (hj : isH j) (hcd : ∀ h, u.2.2 h = 0) (hjk : (s.ch j).junk = false) (hc : (s.ch j).cont = some ct) (hd2 : (s.ch j).due = 2)
    (R : tR s0 (zF1 F nn (40, zCt e ky ct.mand false 0 (-1) 0)) (b + 942 + tY s + tP s) (s_junk s j) (dr, sz, rd, cl, me, u) g1 h') (hF : F nn = none) (hn0 : 0 < nn) (hns : s0.1.heap.size < nn) (hno : ∀ m, g1.kind m ≠ (38, j)) (h15 : g1.rf 3 j 15 = nn) (B1 : gB g1 e ct.exch) (B2 : gB g1 ky ct.key)
    (hb : rd.2.2 = true ∨ cls ≠ 60 ∨ 15 < marks)
    (K : ∀ w1 g2 h1, tZ s0 F (b + tY (s_told (j / 4) j (s_at (s_hardF (s_junk s j) 502) 0 0))) (s_told (j / 4) j (s_at (s_hardF (s_junk s j) 502) 0 0)) w1 g2 h1 → tWm (dr, sz, rd, cl, me, u) w1 → gL g1 g2 → Q .null h1) :
    zP s0 m_X8_header (d + 82) 120 [some (zr x0), some (zr x1), some (.int cls), some (.int N), some (.int marks), some (zr nn)] [] h' Q E := by
  have e1 : s_headF s j cls N marks (r_whole rd) (ct.exch, ct.key, ct.mand, false, 0, -1, none, []) = s_at (s_hardF (s_junk s j) 502) 0 0 := headF_bad (by
    rcases hb with hb | hb
    · exact Or.inl (wh_bad hb)
    · exact Or.inr hb)
  rw [← e1] at K
  exact t_hd_120 (d := d) (o := none) J Z hm hx hj hcd hjk hc hd2 R hF hn0 hns hno h15 B1 B2 (fun _ => ⟨rfl, fun t ht => nomatch ht⟩) zero_rng (Or.inl rfl) K
/-- the fields, one behind the other -/
theorem t_hd_fields {g1 : sG} {r3 : sRd} (J : tJs s0 F) (Z : tZ s0 F (b + 942 + tY s) s w g h) (hm : g1.kind x0 = (1, 0)) (hx : g1.kind x1 = (3, j)) (hj : isH j) (hcd : ∀ h, u.2.2 h = 0) (hjk : (s.ch j).junk = false) (hc : (s.ch j).cont = some ct) (hd2 : (s.ch j).due = 2) (hE : gB g1 (zst s0 "RelayHallModel" "EMPTY" "[B") [])
    (R : tR s0 (zF1 F nn (40, zCt e ky ct.mand false (h_p marks r3).1 (-1) 0)) (b + 942 + tY s + tP s + 12 * rRem r3 + 200) (s_junk s j) (dr, sz, (h_p marks r3).2, cl, me, u) g1 h') (hF : F nn = none) (hn0 : 0 < nn) (hns : s0.1.heap.size < nn) (hno : ∀ m, g1.kind m ≠ (38, j)) (h15 : g1.rf 3 j 15 = nn) (B1 : gB g1 e ct.exch) (B2 : gB g1 ky ct.key)
    (K : ∀ p q : Int32 × sRd, ∀ x : Int64 × sRd, ∀ t : Option sTab × sRd, p = h_p marks r3 → q = h_q marks p.2 → x = h_x marks q.2 → t = h_t marks x.2 → ∀ w1 g2 h1, tZ s0 F (b + tY (s_told (j / 4) j (s_headF s j cls N marks (r_whole t.2) (ct.exch, ct.key, ct.mand, !(q.1 == 0), p.1, x.1, t.1, [])))) (s_told (j / 4) j (s_headF s j cls N marks (r_whole t.2) (ct.exch, ct.key, ct.mand, !(q.1 == 0), p.1, x.1, t.1, []))) w1 g2 h1 → w1.thr = u.1 → ((∀ h, u.2.2 h = 0) → ∀ h, w1.cd h = 0) → gL g1 g2 → Q .null h1) :
    zP s0 m_X8_header (d + 82) 58 [some (zr x0), some (zr x1), some (.int cls), some (.int N), some (.int marks), some (zr nn)] [] h' Q E := by
  have hp := rd_hp (marks := marks) (rd := r3)
  have hpr := hp_rng (marks := marks) (rd := r3)
  have K := fun q x t => K (h_p marks r3) q x t rfl
  generalize h_p marks r3 = p at R K hp hpr
  refine t_hd_58 (d := d + 81) R hm fun h4 R4 => ?_
  have hq := hp.trans (rd_hq (marks := marks) (rd := p.2))
  have K := fun x t => K (h_q marks p.2) x t rfl
  generalize h_q marks p.2 = q at R4 K hq
  refine t_hd_82 (d := d + 79) R4 hm fun h5 R5 => ?_
  have hx5 := hq.trans (rd_hx (marks := marks) (rd := q.2))
  have hxr := hx_rng (marks := marks) (rd := q.2)
  have K := fun t => K (h_x marks q.2) t rfl
  generalize h_x marks q.2 = x at R5 K hx5 hxr
  have hrem := rRem_ok hx5
  refine t_hd_103M (d := d + 77) (b := b + 942 + tY s + tP s) (R5.less (by omega)) hm hE fun hd9 g6 h6 R6 M6 T6 => ?_
  have K := K (h_t marks x.2) rfl
  generalize h_t marks x.2 = t at R6 K T6
  exact t_hd_120 (d := d) (o := t.1) J Z (M6.m hm) (M6.1.k hx gSt3) hj hcd hjk hc hd2 R6 hF hn0 hns (fun m => M6.no (by decide) (by decide) (hno m)) (by rw [M6.2.1]; exact h15) (M6.B B1) (M6.B B2) (fun hw => T6 (wh_ok hw)) hpr hxr
    fun w1 g2 h1 Z1 W1 L1 => K w1 g2 h1 Z1 W1.1 W1.2 (M6.1.trans L1)
theorem t_header (J : tJs s0 F) (Z : tZ s0 F (b + 1142 + 12 * rRem rd + tY s) s (dr, sz, rd, cl, me, u) g h) (hm : g.kind x0 = (1, 0)) (hx : g.kind x1 = (3, j)) (hj : isH j) (hcd : ∀ h, u.2.2 h = 0) (hjk : (s.ch j).junk = false) (hc : (s.ch j).cont = some ct) (hd2 : (s.ch j).due = 2) (hE : gB g (zst s0 "RelayHallModel" "EMPTY" "[B") [])
    (K : ∀ w1 g1 h1, tZ s0 F (b + tY (s_told (j / 4) j (s_header s j rd))) (s_told (j / 4) j (s_header s j rd)) w1 g1 h1 → tWm (dr, sz, rd, cl, me, u) w1 → gL g g1 → Q .null h1) : zX s0 m_X8_header (d + 82) [zr x0, zr x1] h Q E := by
  have X := Z.i.tx.ch j hj
  obtain ⟨p1, p2, p3⟩ := X.2.2.1 hjk ct hc
  obtain ⟨g1, e, ky, R1, L1, hno, hrf, U, B1, B2⟩ := Z.r.lentH hj hjk hc hd2 (p3 hd2)
  have R2 := R1.lend U
  have h15 : g1.rf 3 j 15 = g.rf 3 j 15 := by rw [hrf]
  generalize hnn : g.rf 3 j 15 = nn at U R2 h15
  have hm1 := L1.m hm
  have hx1 := L1.k hx gSt3
  have hE1 := L1.B hE
  refine c_X8_header ⟨⟨_, R2.main hm1⟩, t_u16 (d := d + 80) R2 hm1 fun h3 R3 => ⟨_, rfl, ⟨_, R3.main hm1⟩, t_u32 (d := d + 79) R3 hm1 fun h4 R4 => ⟨_, rfl, ⟨_, R4.main hm1⟩, t_u16 (d := d + 80) R4 hm1 fun h5 R5 => ⟨_, rfl, ?_⟩⟩⟩⟩
  have ho : rdOk rd (rd_h3 rd) := (rd_u16.1.trans rd_u32.1).trans rd_u16.1
  have hrem := rRem_ok ho
  have he := header_early (s := s) (j := j) (rd := rd)
  have hl := fun hb p q x t => header_late (s := s) (j := j) (rd := rd) (ct := ct) hc hb (p := p) (q := q) (x := x) (t := t)
  have R5 : tR s0 (zF1 F nn (40, zCt e ky ct.mand false 0 (-1) 0)) (b + 1142 + 12 * rRem rd + tY s + tP s) (s_junk s j) (dr, sz, rd_h3 rd, cl, me, u) g1 h5 := R5
  generalize (r_u16 rd).1 = cls at he hl ⊢
  generalize (r_u32 (r_u16 rd).2).1 = N at he hl ⊢
  generalize (r_u16 (r_u32 (r_u16 rd).2).2).1 = marks at he hl ⊢
  generalize rd_h3 rd = r3 at R5 he hl ho hrem
  have ex5 := R5.1.cell hx1 (by decide)
  have em5 := R5.main hm1
  refine e_R ex5 fun (z1 : gR h5 x1 15 = g1.rf 3 j 15) => e_I em5 fun (z2 : gI h5 x0 34 = sB r3.2.2) => ?_
  rw [z1, z2, h15, sB_0]
  have Z9 : tZ s0 F (b + 942 + tY s) s (dr, sz, rd, cl, me, u) g h := Z.le (by omega)
  have hearly : (r3.2.2 = true ∨ cls ≠ 60 ∨ 15 < marks) → zP s0 m_X8_header (d + 81 + 1) 120 [some (zr x0), some (zr x1), some (.int cls), some (.int N), some (.int marks), some (zr nn)] [] h5 Q E := fun hb => by
    have K := K
    rw [he hb] at K
    exact t_hd_bad (d := d) J Z9 hm1 hx1 hj hcd hjk hc hd2 (R5.less (by omega)) U.2.1 U.2.2.2.1 U.2.2.2.2.2 hno h15 B1 B2 hb fun w1 g2 h1 Z1 W1 L2 => K w1 g2 h1 Z1 ⟨W1.1, W1.2⟩ (L1.trans L2)
  refine ⟨fun hb => hearly (Or.inl (by rw [Bool.not_eq_false] at hb; exact hb)), fun hb => ⟨fun hc6 => hearly (Or.inr (Or.inl hc6)), fun hc6 => ⟨fun hmk => hearly (Or.inr (Or.inr hmk)), fun hmk => ?_⟩⟩⟩
  have hno2 : ¬ (r3.2.2 = true ∨ cls ≠ 60 ∨ 15 < marks) := by
    rintro (h | h | h)
    · rw [hb] at h; cases h
    · exact h hc6
    · exact hmk h
  have K9 : ∀ p q : Int32 × sRd, ∀ x : Int64 × sRd, ∀ t : Option sTab × sRd, p = h_p marks r3 → q = h_q marks p.2 → x = h_x marks q.2 → t = h_t marks x.2 → ∀ w1 g2 h1, tZ s0 F (b + tY (s_told (j / 4) j (s_headF s j cls N marks (r_whole t.2) (ct.exch, ct.key, ct.mand, !(q.1 == 0), p.1, x.1, t.1, [])))) (s_told (j / 4) j (s_headF s j cls N marks (r_whole t.2) (ct.exch, ct.key, ct.mand, !(q.1 == 0), p.1, x.1, t.1, []))) w1 g2 h1 → w1.thr = u.1 → ((∀ h, u.2.2 h = 0) → ∀ h, w1.cd h = 0) → gL g1 g2 → Q .null h1 := fun p q x t e1 e2 e3 e4 w1 g2 h1 Z1 W1 W2 L2 => by
    have K := K
    rw [hl hno2 p q x t e1 e2 e3 e4] at K
    exact K w1 g2 h1 Z1 ⟨W1, W2⟩ (L1.trans L2)
  refine ⟨fun h1 => ?_, fun h1 => ⟨⟨_, em5⟩, t_u8 R5 hm1 fun h6 R6 => ⟨_, rfl, g_PL R6 fun h7 R7 => ?_⟩⟩⟩
  · have ep : h_p marks r3 = (0, r3) := if_neg (by rw [bit_0.mpr h1]; decide)
    refine t_hd_fields (d := d) (cl := cl) (me := me) (dr := dr) (sz := sz) (r3 := r3) J Z9 hm1 hx1 hj hcd hjk hc hd2 hE1 ?_ U.2.1 U.2.2.2.1 U.2.2.2.2.2 hno h15 B1 B2 K9
    rw [ep]
    exact R5.less (by omega)
  · have ep : h_p marks r3 = r_u8 r3 := if_pos (bit_1 h1)
    refine t_hd_fields (d := d) (cl := cl) (me := me) (dr := dr) (sz := sz) (r3 := r3) J Z9 hm1 hx1 hj hcd hjk hc hd2 hE1 ?_ U.2.1 U.2.2.2.1 U.2.2.2.2.2 hno h15 B1 B2 K9
    rw [ep]
    exact R7.less (by omega)
end NM
