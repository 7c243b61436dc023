/-! ===== the twin: a body ===== -/
set_option maxRecDepth 100000
section NG
variable {s0 : zE} {F : Nat → Option zC} {b : Nat} {s s' s1 s2 sS : sSt} {w w' w1 w2 : tW} {g g' g0 : sG} {h h' : zH} {d x0 x1 x2 x3 x5 x7 i j q m p n a e x y c ra t ky hd bd nn : Nat} {Q : Value → zH → Prop} {E : Nat → zH → Prop} {dr nm key frm bb old : sBy} {sz cl me code bits tag what : Int32} {N : Nat} {rd : sRd} {u : Int32 × Int32 × Int32 × List Nat × (Nat → Nat)} {all v : Bool} {l : List Value} {ct : sCont} {kk : sKe} {L0 : List sKe} {v0 v1 v2 v3 v4 v5 v6 : Value}
theorem t_body_38 (hm : g.kind x0 = (1, 0)) (hne : nn ≠ bd) (hN : N ≤ 200) (hs : old.length + rd.1.length ≤ N)
    (K : ∀ h1 L, tR s0 F b s (dr, sz, rd, u) g h1 → zUn s0 F g h1 nn 40 [v0, v1, v2, v3, v4, v5, v6, zr bd, vI (old.length + rd.1.length)] → zUn s0 F g h1 bd 1000 L → L.length = N → vB (old ++ rd.1) <+: L →
      (old.length + rd.1.length ≠ N → Q .null h1) ∧ (old.length + rd.1.length = N → zX s0 m_X8_arrived d [zr x0, zr x1] h1 (fun _ h2 => Q .null h2) E)) :
    ∀ (r pre : sBy) (L : List Value) (h : zH), rd.1 = pre ++ r → tR s0 F b s (dr, sz, rd, u) g h → zUn s0 F g h nn 40 [v0, v1, v2, v3, v4, v5, v6, zr bd, vI old.length] → zUn s0 F g h bd 1000 L → L.length = N → vB (old ++ pre) <+: L →
      zP s0 m_X8_body (d + 1) 38 [some (zr x0), some (zr x1), some (zr nn), some (.int (Int32.ofNat pre.length))] [] h Q E
  | [], pre, L, h, hp, R, Un, Ub, hl, hpre => by
    have hp : rd.1 = pre := by rw [hp, List.append_nil]
    have em := R.main hm
    have eN := Un.2.2.1
    refine b_X8_body_38 (e_I em fun (z1 : gI h x0 30 = Int32.ofNat rd.1.length) => ?_)
    rw [z1, ← hp]
    refine ⟨fun _ => e_I eN fun (z2 : gI h nn 8 = Int32.ofNat old.length) => e_I em fun _ => ?_, fun hh => absurd (Int32.le_refl _) hh⟩
    rw [z2, i_add]
    refine g_PF R Un fun h1 R1 U1 O1 => ?_
    have Ub1 := Ub.oth O1 (Ne.symm hne)
    have e1 := U1.2.2.1
    refine e_I e1 fun (z3 : gI h1 nn 8 = Int32.ofNat (old.length + rd.1.length)) => e_R e1 fun (z4 : gR h1 nn 7 = bd) => ?_
    rw [z3, z4]
    refine ⟨⟨_, Ub1.2.2.1⟩, ?_⟩
    rw [gA_of Ub1.2.2.1, hl]
    rw [← hp] at hpre
    obtain ⟨k0, k1⟩ := K h1 L R1 U1 Ub1 hl hpre
    exact ⟨fun hh => k0 (fun e => hh (by rw [e])), fun hh => ⟨⟨_, R1.main hm⟩, k1 ((i_inj (by omega) (by omega)).mp hh)⟩⟩
  | y :: r, pre, L, h, hp, R, Un, Ub, hl, hpre => by
    have em := R.main hm
    have eN := Un.2.2.1
    have hpl : rd.1.length = pre.length + (r.length + 1) := by rw [hp, List.length_append]; rfl
    have hy : rd.1[pre.length]? = some y := by rw [hp, List.getElem?_append_right (Nat.le_refl _), Nat.sub_self]; rfl
    have A : gAr g 16 0 400 (vB rd.1) := R.2.frame.1
    have hl4 : rd.1.length ≤ 400 := by have := A.le; rwa [vB_len] at this
    obtain ⟨eA, hA⟩ := R.arr A rfl (by decide) (by decide)
    have hvl : (vB (old ++ pre)).length = old.length + pre.length := by rw [vB_len, List.length_append]
    refine b_X8_body_38 (e_I em fun (z1 : gI h x0 30 = Int32.ofNat rd.1.length) => ?_)
    rw [z1, i_le (by omega) (by omega)]
    refine ⟨fun hh => absurd hh (by omega), fun _ => e_R eN fun (z2 : gR h nn 7 = bd) => e_I eN fun (z3 : gI h nn 8 = Int32.ofNat old.length) => e_R em fun (z4 : gR h x0 29 = g.ref 16 0) => ?_⟩
    rw [z2, z3, z4]
    refine g_EI eA (zin_of (by rw [A.2.1]; omega) (by omega)) (by rw [i_nat (by omega)]; exact pre_get A.2.2 (vB_get hy)) fun z5 => ?_
    rw [z5, i_add]
    refine g_S (t := 0) Ub.2.2.1 Ub.2.2.2.2.2 (zin_of (by rw [hl]; omega) (by omega)) ?_
    rintro h3 rfl
    rw [i_nat (by omega), i_succ, sx_lo, lo_sx]
    have e1 : pre.length + 1 = (pre ++ [y]).length := by rw [List.length_append]; rfl
    rw [e1]
    refine t_body_38 hm hne hN hs K r (pre ++ [y]) _ _ (by rw [hp, List.append_assoc]; rfl) (R.putF Ub.1 Ub.2.1) (Un.oth zOth.put hne) ⟨Ub.1, Ub.2.1, zput_self Ub.2.2.1, Ub.2.2.2⟩ (by rw [List.length_set]; exact hl) ?_
    have hsn := pre_snoc hpre (v := .int (sx y)) (by rw [hvl, hl]; omega)
    rw [hvl] at hsn
    rw [← List.append_assoc, vB_app]
    exact hsn
theorem body_bad (hc : (s.ch j).cont = some ct) (hw : (s.ch j).want < ct.body.length + bb.length) : s_told (j / 4) j (s_body s j bb) = s_hard s (j / 4) 501 0 0 := by
  unfold s_body
  rw [hc]
  dsimp only
  rw [if_pos hw]
  rfl
theorem body_end (hc : (s.ch j).cont = some ct) (hw : ct.body.length + bb.length = (s.ch j).want) : s_told (j / 4) j (s_body s j bb) = s_tld j 60 40 (s_arrived s j (ct.w_body (ct.body ++ bb))) := by
  unfold s_body
  rw [hc]
  dsimp only
  rw [if_neg (by omega), if_pos (by show (ct.body ++ bb).length = _; rw [List.length_append]; exact hw)]
  rfl
theorem body_more (hc : (s.ch j).cont = some ct) (hw : ct.body.length + bb.length < (s.ch j).want) : s_told (j / 4) j (s_body s j bb) = s_ch s j (fun k => k.w_cont (some (ct.w_body (ct.body ++ bb)))) := by
  unfold s_body
  rw [hc]
  dsimp only
  rw [if_neg (by omega), if_neg (by show ¬ (ct.body ++ bb).length = _; rw [List.length_append]; omega)]
  rfl
theorem ch_junked {o : Option sCont} : ∀ k : sCh, k.junk = false → ((k.w_junk true).w_cont o).w_junk false = k.w_cont o := fun k hk => by
  rw [← hk]
  rfl
theorem arrived_cont {o : Option sCont} {c1 : sCont} : s_arrived (s_ch s j (fun k => k.w_cont o)) j c1 = s_arrived s j c1 := by
  unfold s_arrived
  dsimp only
  rw [w_ch_ch, s_ch_ch]
  rfl
end NG
section NG2
variable {s0 : zE} {F : Nat → Option zC} {b : Nat} {s : sSt} {g : sG} {h : zH} {d x0 x1 j : Nat} {Q : Value → zH → Prop} {E : Nat → zH → Prop} {dr : sBy} {sz cl me : Int32} {rd : sRd} {u : Int32 × List Nat × (Nat → Nat)} {ct : sCont}
theorem t_body (J : tJs s0 F) (Z : tZ s0 F (b + 906 + tY s) s (dr, sz, rd, cl, me, u) g h) (hm : g.kind x0 = (1, 0)) (hx : g.kind x1 = (3, j)) (hj : isH j) (hcd : ∀ h, u.2.2 h = 0) (hjk : (s.ch j).junk = false) (hc : (s.ch j).cont = some ct) (hd : (s.ch j).due = 3)
    (K : ∀ w1 g1 h1, tZ s0 F (b + tY (s_told (j / 4) j (s_body s j rd.1))) (s_told (j / 4) j (s_body s j rd.1)) w1 g1 h1 → tWm (dr, sz, rd, cl, me, u) w1 → gL g g1 → Q .null h1) : zX s0 m_X8_body (d + 82) [zr x0, zr x1] h Q E := by
  have em := Z.r.main hm
  have ex := Z.r.1.cell hx (by decide)
  have X := Z.i.tx.ch j hj
  obtain ⟨p1, p2, -⟩ := X.2.2.1 hjk ct hc
  have p200 := X.2.1
  have hl4 : rd.1.length ≤ 400 := by
    have := Z.r.2.frame.1.le
    rwa [vB_len] at this
  obtain ⟨g3, e, ky, hd9, R3, L3, no3, hrf3, hne, hl, hpre, Un, Ub, B1, B2, B3⟩ := Z.r.lentC hj hjk hc hd
  have eN := Un.2.2.1
  refine c_X8_body (e_R ex fun (z1 : gR h x1 15 = g.rf 3 j 15) => e_I em fun (z2 : gI h x0 30 = Int32.ofNat rd.1.length) => ?_)
  rw [z1, z2]
  refine e_R eN fun (z3 : gR h (g.rf 3 j 15) 7 = g.ref 39 j) => ?_
  rw [z3]
  refine ⟨⟨_, Ub.2.2.1⟩, e_I eN fun (z4 : gI h (g.rf 3 j 15) 8 = Int32.ofNat ct.body.length) => ?_⟩
  rw [z4, gA_of Ub.2.2.1, hl, i_sub p2, i_le (by omega) (by omega)]
  refine ⟨fun hfit => ?_, fun hbad => e_R ex fun (z5 : gR h x1 0 = g.ref 2 (j / 4)) => ?_⟩
  · have dJ : ((s_ch s j (fun k => k.w_junk true)).ch j).due = 3 := by
      rw [s_ch_ch]
      exact hd
    have jJ : ((s_ch s j (fun k => k.w_junk true)).ch j).junk = true := by
      rw [s_ch_ch]
      rfl
    have wJ : ((s_ch s j (fun k => k.w_junk true)).ch j).want = (s.ch j).want := by
      rw [s_ch_ch]
      rfl
    have hchk : ∀ q : sCh, q.junk = false → s_ch s j (fun k => ((k.w_junk true).w_cont (some (ct.w_body (ct.body ++ rd.1)))).w_junk false) = s_ch s j (fun k => k.w_cont (some (ct.w_body (ct.body ++ rd.1)))) := fun _ _ => by
      unfold s_ch
      dsimp only
      rw [ch_junked _ hjk]
    refine t_body_38 (d := d + 81) (b := b + 906 + tY s + tP s) (s := s_ch s j (fun k => k.w_junk true)) (u := (cl, me, u)) (old := ct.body) (N := (s.ch j).want) (L3.m hm) hne p200 (by omega) (fun h1 L R1 U1 Ub1 hl1 hp1 => ?_) rd.1 [] _ h rfl R3 Un Ub hl (by rw [List.append_nil]; exact hpre)
    have h15 : g3.rf 3 j 15 = g.rf 3 j 15 := by rw [hrf3]
    generalize g.rf 3 j 15 = nn at U1 h15 hne
    generalize g.ref 39 j = bd at U1 Ub1 hne
    obtain ⟨g4, R4, L4, k39, r39, a39, rf4, kz4, no4⟩ := R1.n39 hj jJ no3 Ub1
    have U4 : zUn s0 F g4 h1 nn 40 [zr e, zr ky, vZ ct.mand, vZ ct.pers, .int ct.prio, .long ct.expi, zr hd9, zr bd, vI (ct.body ++ rd.1).length] := by
      rw [List.length_append]
      exact ⟨kz4 _ U1.1 hne, U1.2⟩
    obtain ⟨g5, R5, L5, -⟩ := R4.cont (c := ct.w_body (ct.body ++ rd.1)) jJ no4 U4 (by rw [rf4]; exact h15) (L4.B B1) (L4.B B2) (by
      show gTo g4 hd9 ct.heads
      revert B3
      cases ct.heads with
      | none => exact id
      | some t => exact fun T => L4.Tab T) (by rw [if_pos dJ, r39]) (fun _ => ⟨by unfold gA1; rw [r39]; exact k39, by rw [a39, wJ]; exact hl1, by rw [a39]; exact hp1⟩)
    rw [w_ch_ch, hchk (s.ch j) hjk] at R5
    have hblen : (ct.body ++ rd.1).length = ct.body.length + rd.1.length := List.length_append ..
    have Z5 : tZ s0 F (b + 906 + tY s) (s_ch s j (fun k => k.w_cont (some (ct.w_body (ct.body ++ rd.1))))) (dr, sz, rd, cl, me, u) g5 h1 := Z.chp hj R5 rfl rfl (fun q => ⟨q.1, q.2.1, (fun _ c hc2 => by
        obtain rfl := Option.some.inj hc2
        refine ⟨p1, ?_, fun e2 => absurd (e2.symm.trans hd) (by decide)⟩
        show (ct.body ++ rd.1).length ≤ (s.ch j).want
        omega), q.2.2.2.1, q.2.2.2.2.1, ⟨fun e0 => absurd (e0.symm.trans hd) (by decide), fun e0 => nomatch e0⟩, q.2.2.2.2.2.2.1, q.2.2.2.2.2.2.2⟩) rfl rfl
    have Y5 : tY (s_ch s j (fun k => k.w_cont (some (ct.w_body (ct.body ++ rd.1))))) = tY s := tY_ch
    rw [← Y5] at Z5
    have L := L3.trans (L4.trans L5)
    refine ⟨fun hlt => ?_, fun heq => ?_⟩
    · rw [body_more hc (by omega)] at K
      exact K _ g5 h1 (Z5.le (by omega)) tWm.refl L
    · rw [body_end hc heq, ← arrived_cont (o := some (ct.w_body (ct.body ++ rd.1)))] at K
      exact t_arrived (d := d) J Z5 (L.m hm) (L.k hx gSt3) hj hcd (by rw [s_ch_ch]; exact hjk) (by rw [s_ch_ch]; rfl) (by rw [s_ch_ch]; exact hd) (by rw [s_ch_ch]; show (ct.body ++ rd.1).length = (s.ch j).want; omega) fun w6 g6 h6 Z6 W6 L6 => K w6 g6 h6 Z6 W6 (L.trans L6)
  · rw [z5]
    rw [body_bad hc (by omega)] at K
    have hcn := Z.r.2.1.2.2.2.1 (j / 4) hj.div
    exact ⟨⟨_, em⟩, t_hardZ (d := d + 5) (Z.le (by omega)) hm hcn hj.div fun w6 g6 h6 Z6 W6 L6 => K w6 g6 h6 Z6 W6.tom L6⟩
end NG2
