/-! ===== the twin: transactions, their methods ===== -/
set_option maxRecDepth 100000
/-- what transactions keep is apart -/
def sApt (l : List sKe) : Prop := l.Pairwise (fun k1 k2 => ∀ x ∈ k2.those, x ∉ k1.those) ∧ ∀ k ∈ l, k.those.Nodup
def s_noK (s : sSt) (j : Nat) : sSt := s_ch s j (fun k => k.w_kept [])
def s_back0 (s : sSt) (j : Nat) : sSt := s_dones (s_noK s j) (s.ch j).sent false
section NB
variable {s0 : zE} {F : Nat → Option zC} {b : Nat} {s s' s1 s2 sS : sSt} {w w' w1 w2 : tW} {g g' g0 : sG} {h h' : zH} {d x0 x1 x2 x3 x5 x7 i j q m p n a e x y c ra t : Nat} {Q : Value → zH → Prop} {E : Nat → zH → Prop} {dr nm key frm bb : sBy} {sz cl me code k bits tag what N : Int32} {rd : sRd} {u : Int32 × List Nat × (Nat → Nat)} {all v : Bool} {l rs : List Nat} {ct : sCont} {kk : sKe} {L0 : List sKe}
theorem nodup_len : ∀ (l L : List Nat), l.Nodup → (∀ x ∈ l, x ∈ L) → l.length ≤ L.length
  | [], L, _, _ => Nat.zero_le _
  | x :: r, L, hn, hs => by
    have hn' := List.nodup_cons.mp hn
    have hx := hs x List.mem_cons_self
    have h1 := nodup_len r (L.erase x) hn'.2 (fun y hy => (List.mem_erase_of_ne (fun e => hn'.1 (by rw [← e]; exact hy))).mpr (hs y (List.mem_cons_of_mem _ hy)))
    rw [List.length_erase_of_mem hx] at h1
    have h2 := List.length_pos_of_mem hx
    rw [List.length_cons]
    omega
theorem noK_rd : ((s_noK s j).ch j).kept = [] ∧ ((s_noK s j).ch j).sent = (s.ch j).sent ∧ ((s_noK s j).ch j).state = (s.ch j).state ∧ tP (s_noK s j) = tP s ∧ tY (s_noK s j) = tY s := by
  refine ⟨?_, ?_, ?_, rfl, rfl⟩ <;> (unfold s_noK; rw [s_ch_ch]; rfl)
theorem noK_w (hj : isH j) : sWt (s_noK s j) = sWt s := sWt_chUp (u := 0) hj rfl
theorem d_noK (I : sI s) (hj : isH j) : sI (s_noK s j) := I.chUp ⟨(I.sn.1 j hj).1, fun _ hx => hx⟩ (fun x hx => nomatch hx) (fun hx => ⟨hx.1, hx.2.1, hx.2.2.1, (fun x hx => nomatch hx), hx.2.2.2.2⟩) (Nat.zero_le _) (fun _ y hy => nomatch hy)
theorem okK_nil (ok : tChOk (s.ch j) w g j) : tChOk ((s.ch j).w_kept []) w g j := ⟨ok.1, ok.2.1, ok.2.2.1, ⟨ok.2.2.2.1.1, ok.2.2.2.1.2.1, Nat.zero_le _, fun j x hx => by have hx : (none : Option sKe) = some x := hx; cases hx⟩, ok.2.2.2.2⟩
theorem t_com_13 (hj : isH j) (hx : g.kind x1 = (3, j)) (hrl : rs.length ≤ 32) (hpre : rs.map zr <+: g.ar 29 j) (hkr : ∀ (i r : Nat), rs[i]? = some r → ∃ q, gF g r (41, q)) (A : gA1 g 29 j) (hA : (g.ar 29 j).length = 32)
    (K : ∀ h1, tR s0 F b (s_noK s j) w (gFz g n (1021, rs.map zr)) h1 → gL g (gFz g n (1021, rs.map zr)) → gF (gFz g n (1021, rs.map zr)) n (1021, rs.map zr) → gX g (gFz g n (1021, rs.map zr)) 0 0 → zP s0 m_X8_commits (d + 1) 44 [some (zr x0), some (zr x1), some (.int (Int32.ofNat rs.length)), some (zr n), some (.int 0), none] [] h1 Q E) :
    ∀ (k i : Nat) (h : zH), i + k = rs.length → tR s0 F b s w g h → zUn s0 F g h n 1021 ((rs.take i).map zr ++ List.replicate k (zr 0)) → zP s0 m_X8_commits (d + 1) 13 [some (zr x0), some (zr x1), some (.int (Int32.ofNat rs.length)), some (zr n), some (.int (Int32.ofNat i)), none] [] h Q E
  | 0, i, h, hik, R, U => by
    have hi : i = rs.length := by omega
    subst hi
    rw [List.take_length, List.replicate_zero, List.append_nil] at U
    have R1 := R.freeze U
    have L1 : gL g (gFz g n (1021, rs.map zr)) := gL.frz U.1
    refine b_X8_commits_13 ⟨fun _ => g_Phf (f := fun k => k.w_kept []) R1 (L1.k hx gSt3) rfl rfl okK_nil fun h2 R2 _ => K h2 R2 L1 gFz_F (gFz.x U.1), fun hh => absurd (Int32.le_refl _) hh⟩
  | k + 1, i, h, hik, R, U => by
    have ex := R.1.cell hx (by decide)
    have eA : h.1 (g.ref 29 j) = some (1000 + 21, g.ar 29 j) := R.1.cell A (by decide)
    have hri : rs[i]? = some rs[i] := List.getElem?_eq_getElem (by omega)
    obtain ⟨q, hq⟩ := hkr i _ hri
    have hel : (g.ar 29 j)[i]? = some (zr rs[i]) := pre_get hpre (by rw [List.getElem?_map, hri]; rfl)
    have htl : ((rs.take i).map zr).length = i := by rw [List.length_map, List.length_take]; omega
    refine b_X8_commits_13 ?_
    rw [i_le (by omega) (by omega)]
    refine ⟨fun hh => absurd hh (by omega), fun _ => e_R ex fun (z1 : gR h x1 17 = g.ref 29 j) => ?_⟩
    rw [z1]
    refine g_ER (t := 21) eA (zin_of (by rw [hA]; omega) (by omega)) (by rw [i_nat (by omega)]; exact hel) fun z2 => ?_
    rw [z2]
    refine g_S (t := 21) U.2.2.1 U.2.2.2.2.2 (zin_of (by rw [List.length_append, htl, List.length_replicate]; omega) (by omega)) ⟨Or.inr (zAsg_own (R.fz hq) zcl_41 rfl), ?_⟩
    rintro h2 rfl
    rw [i_nat (by omega), i_succ]
    refine t_com_13 hj hx hrl hpre hkr A hA K k (i + 1) _ (by omega) (R.putF U.1 U.2.1) ⟨U.1, U.2.1, ?_, U.2.2.2⟩
    rw [zput_self U.2.2.1, List.set_append_right _ _ (by omega), htl, Nat.sub_self, List.replicate_succ, List.set_cons_zero, List.take_add_one, hri, List.map_append, List.append_assoc]
    rfl
theorem t_commits (J : tJs s0 F) (Z : tZ s0 F (b + 1000 + 950 * (s.ch j).kept.length + tY s) s w g h) (hm : g.kind x0 = (1, 0)) (hx : g.kind x1 = (3, j)) (hj : isH j) (hcd : ∀ h, w.cd h = 0) (hst : (s.ch j).state = 1) (hap : sApt (s.ch j).kept)
    (K : ∀ w1 g1 h1, tZ s0 F (b + tY (s_comS j w.cl w.me (s.ch j).kept (s_noK s j))) (s_comS j w.cl w.me (s.ch j).kept (s_noK s j)) w1 g1 h1 → tWm w w1 → gL g g1 → Q .null h1) : zX s0 m_X8_commits (d + 81) [zr x0, zr x1] h Q E := by
  have ex := Z.r.1.cell hx (by decide)
  have A4 := (Z.r.2.chok hj).2.2.2.1
  have hkl := Z.i.cp.2.2.2.2.2.2.2.2.2.2.2.1 j hj
  obtain ⟨rs, hrl, hpre, hrs⟩ := A4.refs
  have hzc := Z.c
  refine c_X8_commits (e_I ex fun (z1 : gI h x1 9 = Int32.ofNat (s.ch j).kept.length) => ?_)
  rw [z1]
  refine ⟨i_nn (by omega), ?_⟩
  rw [i_nat (by omega)]
  refine g_N (u := 7) (b := b + 900 + 950 * (s.ch j).kept.length + tY s + tP s) (Z.r.less (by omega)) (by decide) (by omega) Z.r.big fun n1 h1 R1 U1 => ?_
  rw [← hrl] at U1 ⊢
  have hkr : ∀ (i r : Nat), rs[i]? = some r → ∃ q, gF g r (41, q) := fun i r hi => by
    have hlt := (List.getElem?_eq_some_iff.mp hi).1
    obtain ⟨r2, h2, c, t, hf, -⟩ := hrs i _ (List.getElem?_eq_getElem (l := (s.ch j).kept) (by omega))
    rw [hi] at h2
    obtain rfl := Option.some.inj h2
    exact ⟨_, hf⟩
  refine t_com_13 (d := d + 80) (s := s) hj hx (by omega) hpre hkr A4.1 A4.2.1 (fun h2 R2 L2 hF X => ?_) rs.length 0 h1 (Nat.zero_add _) R1 U1
  obtain ⟨q1, q2, q3, q4, q5⟩ := noK_rd (s := s) (j := j)
  have q6 := noK_w (s := s) hj
  rw [hrl]
  have hsl := Z.sent hj
  have hsub := Z.i.sn.2.2 j hj hst
  refine t_com_44 (d := d) (b := b) (cl := w.cl) (me := w.me) J hj hF hrl (by omega) (fun i k hk => ?_) (fun k hk c hc => (Z.i.tx.ch j hj).2.2.2.1 k hk c hc) (L2.m hm) (L2.k hx gSt3) (fun k hk _ x hx => ?_) (fun k hk => ?_) (s.ch j).kept [] (s_noK s j) w _ h2 rfl ⟨?_, d_noK Z.i hj, by rw [q4, q5, q6]; omega⟩ (gL.refl _) hcd rfl rfl (fun _ => ⟨q1, fun k hk x hx => ?_⟩) hap.1 fun w3 g3 h3 Z3 W3 L3 => K w3 g3 h3 Z3 W3 (L2.trans L3)
  · obtain ⟨r, hr1, hr2⟩ := hrs i k hk
    exact ⟨r, hr1, X.Ke (by decide) hr2⟩
  · exact R2.al (by decide) (by decide) ((Z.sc.ch j hj).2 k hk x hx)
  · have := nodup_len k.those (s.ch j).sent (hap.2 k hk) (fun x hx => (hsub k hk x hx).1)
    omega
  · rw [q4, q5]
    exact R2.less (by omega)
  · rw [q2]
    exact (hsub k hk x hx).1
theorem s_deal_eq : s_deal s j me rd = s_then rd s (if me = 10 then (if (s.ch j).mode = 2 then s_softF s 406 else s_ok (s_ans (s_ch s j (fun k => k.w_mode 1)) j 90 11 [])) else
    if (s.ch j).mode ≠ 1 then s_softF s 406 else
    if me = 20 then s_bind (s_commits j (s.ch j).kept (s_noK s j)) (fun s1 => s_ok (if s_speaks s1 j then s_ans s1 j 90 21 [] else s1)) else s_ok (s_ans (s_back0 s j) j 90 31 [])) := by
  have e : s_back0 s j = (s_noK s j).w_se (fun x => if x ∈ ((s_noK s j).ch j).sent then ((s_noK s j).se x).w_done false else (s_noK s j).se x) := by
    rw [noK_rd.2.1]
    rfl
  rw [e]
  rfl
theorem t_roll_90 (hj : isH j) (hm : g.kind x0 = (1, 0)) (hx : g.kind x1 = (3, j)) (I : sScope s) (hsl : (s.ch j).sent.length ≤ 960000)
    (K : ∀ h1, tR s0 F b (s_dones s (s.ch j).sent false) w g h1 → (fR h1 x1 [9] 0) ∧ ((fI h1 x1 [9] 1) ∧ ((fC h1 x0 7 ∧ zX s0 m_X8_simple (d + 1) [zr x0, zr (gR h1 x1 0), .int (gI h1 x1 1), .int (90), .int (31)] h1 (fun _ h1 => (Q .null h1)) E)))) :
    ∀ (r pre : List Nat) (h : zH), (s.ch j).sent = pre ++ r → tR s0 F b (s_dones s pre false) w g h → zP s0 m_X8_transaction (d + 2) 90 [some (zr x0), some (zr x1), none, some (.int (Int32.ofNat pre.length))] [] h Q E
  | [], pre, h, hp, R => by
    rw [List.append_nil] at hp
    subst hp
    refine b_X8_transaction_90 (e_I (R.1.cell hx (by decide)) fun (z1 : gI h x1 10 = Int32.ofNat (s.ch j).sent.length) => ?_)
    rw [z1]
    exact ⟨fun _ => K h R, fun hh => absurd (Int32.le_refl _) hh⟩
  | y :: r, pre, h, hp, R => by
    have ex := R.1.cell hx (by decide)
    have hpl : (s.ch j).sent.length = pre.length + (r.length + 1) := by rw [hp, List.length_append]; rfl
    have hy : (s.ch j).sent[pre.length]? = some y := by rw [hp, List.getElem?_append_right (Nat.le_refl _), Nat.sub_self]; rfl
    have hk37 := (I.ch j hj).1 y (List.mem_of_getElem? hy)
    have hyk : g.kind (g.ref 37 y) = (37, y) := R.al (c := 37) (by decide) (by decide) hk37
    obtain ⟨n5, f3, f4, f5⟩ := (R.2.chok hj).2.2.1
    refine b_X8_transaction_90 (e_I ex fun (z1 : gI h x1 10 = Int32.ofNat (s.ch j).sent.length) => ?_)
    rw [z1, i_le (by omega) (by omega)]
    refine ⟨fun hh => absurd hh (by omega), fun _ => e_R ex fun (z2 : gR h x1 16 = g.ref 28 j) => ?_⟩
    rw [z2]
    refine g_El (l := (s.ch j).sent) R f5 rfl (by decide) hy (by omega) fun z3 => ?_
    rw [z3, i_succ]
    have e1 : pre.length + 1 = (pre ++ [y]).length := by rw [List.length_append]; rfl
    rw [e1]
    refine g_Pse R hyk (((s_dones s pre false).se y).w_done false) rfl R.2.se fun h2 R2 _ => ?_
    rw [dones_snoc (r := r)] at R2
    exact t_roll_90 hj hm hx I hsl K r (pre ++ [y]) h2 (by rw [hp, List.append_assoc]; rfl) R2
theorem p_back0 (I : sI s) (hj : isH j) (hdj : ∀ h, isH h → h ≠ j → ∀ x ∈ (s.ch h).sent, x ∉ (s.ch j).sent) : sI (s_back0 s j) := by
  have e : s_back0 s j = (s_ch s j (fun k => k.w_kept [])).w_se (fun x => if x ∈ (s.ch j).sent then (s.se x).w_done false else s.se x) := rfl
  rw [e]
  refine I.marks hj dones_ok (Nat.zero_le _) (fun z hz => nomatch hz) (fun z hz => nomatch hz) (fun _ z hz => nomatch hz) fun h hh hne h1 z hz x hx => ?_
  obtain ⟨p1, p2⟩ := I.sn.2.2 h hh h1 z hz x hx
  show (if x ∈ (s.ch j).sent then (s.se x).w_done false else s.se x).done = true
  rw [if_neg (hdj h hh hne x p1)]
  exact p2
theorem back0_w (hj : isH j) : tP (s_back0 s j) = tP s ∧ tY (s_back0 s j) = tY s ∧ sWt (s_back0 s j) = sWt s := ⟨rfl, rfl, noK_w (s := s) hj⟩
theorem t_transaction {k0 : Nat} (hk1 : me = 20 → k0 = 0) (hk2 : k0 ≤ 950 * (s.ch j).kept.length) (J : tJs s0 F) (Z : tZ s0 F (b + 1000 + 950 * (s.ch j).kept.length + tY s) s (dr, sz, rd, cl, me, u) g h) (hm : g.kind x0 = (1, 0)) (hx : g.kind x1 = (3, j)) (hj : isH j) (hcd : ∀ h, u.2.2 h = 0) (hst : (s.ch j).state = 1) (hap : sApt (s.ch j).kept) (hdj : ∀ h, isH h → h ≠ j → ∀ x ∈ (s.ch h).sent, x ∉ (s.ch j).sent)
    (K : ∀ w1 g1 h1, tZ s0 F (b + k0 + tY (s_tld j cl me (s_deal s j me rd))) (s_tld j cl me (s_deal s j me rd)) w1 g1 h1 → tWm (dr, sz, rd, cl, me, u) w1 → gL g g1 → Q .null h1) : zX s0 m_X8_transaction (d + 82) [zr x0, zr x1, .int me] h Q E := by
  rw [s_deal_eq] at K
  obtain ⟨b2, hb2⟩ : ∃ b2, b2 = b + k0 := ⟨_, rfl⟩
  rw [← hb2] at K
  have em := Z.r.main hm
  have ex := Z.r.1.cell hx (by decide)
  have Zh : tZ s0 F (b2 + 900 + tY s) s (dr, sz, rd, cl, me, u) g h := Z.le (by omega)
  refine c_X8_transaction ⟨⟨_, em⟩, t_then (d := d + 4) (N := fun h => Q .null h) ?_ Zh hm hx hj K ?_⟩
  · exact fun h1 hq => ⟨fun hh => absurd hh (by decide), fun _ => hq⟩
  intro K
  refine ⟨fun _ => ⟨fun h10 => e_I ex fun (z1 : gI h x1 3 = (s.ch j).mode) => ?_, fun h10 => e_I ex fun (z1 : gI h x1 3 = (s.ch j).mode) => ?_⟩, fun hh => absurd rfl hh⟩
  · rw [if_neg h10] at K
    rw [z1]
    refine ⟨fun h1 => ?_, fun h1 => ?_⟩
    · rw [if_neg (fun hh => hh h1)] at K
      refine ⟨fun h20 => ?_, fun h20 => ?_⟩
      · rw [if_neg h20, tld_ok] at K
        refine g_Phf (f := fun k => k.w_kept []) Zh.r hx rfl rfl okK_nil fun h2 R2 _ => ?_
        have hsl := Z.sent hj
        have R2 : tR s0 F (b2 + 900 + tY s + tP s) (s_noK s j) (dr, sz, rd, cl, me, u) g h2 := R2
        obtain ⟨q1, q2, q3, q4, q5⟩ := noK_rd (s := s) (j := j)
        have I3 := p_back0 Z.i hj hdj
        obtain ⟨v1, v2, v3⟩ := back0_w (s := s) hj
        unfold s_back0 at K I3 v1 v2 v3
        have I1 := d_noK Z.i hj
        rw [← q2] at K I3 v1 v2 v3 hsl
        have hzc := Z.c
        revert R2 K I3 v1 v2 v3 I1 hsl
        generalize s_noK s j = s1
        intro K hsl R2 I3 v1 v2 v3 I1
        refine t_roll_90 (F := F) (b := b2 + 900 + tY s + tP s) (w := (dr, sz, rd, cl, me, u)) (d := d + 80) (s := s1) hj hm hx I1.sc (by omega) (fun h3 R3 => ?_) (s1.ch j).sent [] h2 rfl ?_
        · have Z3 : tZ s0 F (b2 + tY (s_dones s1 (s1.ch j).sent false)) (s_dones s1 (s1.ch j).sent false) (dr, sz, rd, cl, me, u) g h3 := ⟨by rw [v1, v2]; exact R3.less (by omega), I3, by omega⟩
          generalize s_dones s1 (s1.ch j).sent false = s3 at Z3 K
          exact t_ansJ (d := d + 10) Z3 hm hx hj K
        · rw [dones_nil]
          exact R2
      · rw [if_pos h20] at K
        have K : ∀ w1 g1 h1, tZ s0 F (b2 + tY (s_comS j cl me (s.ch j).kept (s_noK s j))) (s_comS j cl me (s.ch j).kept (s_noK s j)) w1 g1 h1 → tWm (dr, sz, rd, cl, me, u) w1 → gL g g1 → Q .null h1 := K
        exact ⟨⟨_, em⟩, t_commits (d := d) (b := b2) J (Z.le (by have := hk1 h20; omega)) hm hx hj hcd hst hap K⟩
    · rw [if_pos h1, tld_soft] at K
      exact ⟨⟨_, em⟩, t_softZ (d := d + 4) Zh hm hx hj fun w4 g4 h4 Z4 W4 L4 => K w4 g4 h4 Z4 W4.tom L4⟩
  · rw [if_pos h10] at K
    rw [z1]
    refine ⟨fun h2 => ?_, fun h2 => ?_⟩
    · rw [if_neg h2, tld_ok] at K
      refine g_Phf (f := fun k => k.w_mode 1) Zh.r hx rfl rfl (fun ok => ok) fun h3 R3 _ => ?_
      have Z3 := Zh.chp hj R3 rfl rfl (fun hx => ⟨hx.1, hx.2.1, hx.2.2.1, hx.2.2.2.1, hx.2.2.2.2.1, hx.2.2.2.2.2.1, (by decide : (0 : Int32) ≤ 1), (by decide : (1 : Int32) ≤ 2)⟩) rfl rfl
      have Y3 : tY (s_ch s j (fun k => k.w_mode 1)) = tY s := tY_ch
      have Z3 : tZ s0 F (b2 + 900 + tY (s_ch s j (fun k => k.w_mode 1))) (s_ch s j (fun k => k.w_mode 1)) (dr, sz, rd, cl, me, u) g h3 := by rw [Y3]; exact Z3
      clear R3 Y3
      generalize s_ch s j (fun k => k.w_mode 1) = s3 at Z3 K
      exact t_ansJ (d := d + 10) (Z3.le (by omega)) hm hx hj K
    · rw [if_pos h2, tld_soft] at K
      exact ⟨⟨_, em⟩, t_softZ (d := d + 4) Zh hm hx hj fun w4 g4 h4 Z4 W4 L4 => K w4 g4 h4 Z4 W4.tom L4⟩
end NB
