/-! ===== the twin: a message comes, what it costs ===== -/
set_option maxRecDepth 100000
section CZ
variable {s0 : zE} {F : Nat → Option zC} {b : Nat} {s s' s1 s2 : sSt} {w w' : tW} {g g' : sG} {h h' : zH} {d x0 x1 x2 x3 x4 n i j q m : Nat} {Q : Value → zH → Prop} {E : Nat → zH → Prop} {c : sCont} {ex ky : sBy} {xp : Int64} {dt : Int32}
theorem ni_qu : ∀ j, (s_in s q m (s.messages + 1)).qu j = (s.qu j).w_ents ((s_in s q m (s.messages + 1)).qu j).ents := fun j => by
  rw [in_qu]
  by_cases e : j = q
  · subst e
    rw [sUp_self]
    exact rfl
  · rw [sUp_ne e]
    exact rfl
theorem ni_ents : ∀ j, ((s_in s q m (s.messages + 1)).qu j).ents = if j = q then (s.qu j).ents ++ [m] else (s.qu j).ents := fun j => by
  rw [in_qu]
  by_cases e : j = q
  · subst e
    rw [sUp_self, if_pos rfl]
    exact rfl
  · rw [sUp_ne e, if_neg e]
theorem ni_in (hr : sRecM s m = false) : sNi s (s_in s q m (s.messages + 1)) q m :=
  ⟨⟨in_knd, in_cn, in_ch, in_qs, in_es, in_bs, in_cs, in_ex, in_bi, in_co, in_se, ni_qu, fun j => by rw [in_en]; exact rfl⟩, ⟨in_next, in_clock, in_lastNum, in_tape, in_ses, in_sqs, in_sbs, in_sen⟩, ni_ents, fun j => by rw [in_en], in_messages, by rw [in_facts, hr]; exact (List.append_nil _).symm, in_dead⟩
theorem ni_tell (hr : sRecM s m = true) : sNi s (s_tell (s_in s q m (s.messages + 1)) 6 m) q m :=
  ⟨⟨by rw [wt_knd, in_knd], by rw [wt_cn, in_cn], by rw [wt_ch, in_ch], by rw [wt_qs, in_qs], by rw [wt_es, in_es], by rw [wt_bs, in_bs], by rw [wt_cs, in_cs], by rw [wt_ex, in_ex], by rw [wt_bi, in_bi], by rw [wt_co, in_co], by rw [wt_se, in_se], fun j => by rw [wt_qu]; exact ni_qu j, fun j => by rw [wt_en, in_en]; exact rfl⟩,
    ⟨by rw [wt_next, in_next], by rw [wt_clock, in_clock], by rw [wt_lastNum, in_lastNum], by rw [wt_tape, in_tape], by rw [wt_ses, in_ses], by rw [wt_sqs, in_sqs], by rw [wt_sbs, in_sbs], by rw [wt_sen, in_sen]⟩, fun j => by rw [wt_qu]; exact ni_ents j, fun j => by rw [wt_en, in_en], by rw [wt_messages, in_messages], by rw [wt_facts, in_facts, hr]; exact rfl, by rw [wt_dead, in_dead]⟩
theorem p_come4 (I : sI s) (hq : q ∈ s.qs) (hc : sContOk c) (he : ex.length ≤ 40) (hk : ky.length ≤ 40) (hx : xp = -1 ∨ (0 ≤ xp ∧ xp ≤ 4294967295)) (hE : sEnts s < 300) (hl : s.lastNum < 12000) :
    sI (s_come4 s q c ex ky xp dt) ∧ tP (s_come4 s q c ex ky xp dt) + 6 = tP s ∧ sWt (s_come4 s q c ex ky xp dt) ≤ sWt s + 1 ∧ tY (s_come4 s q c ex ky xp dt) = tY s ∧ (s_come4 s q c ex ky xp dt).knd q = 33 := by
  have hkq := I.sc.qs q hq
  have Isc := I.sc.come4 (c := c) (ex := ex) (ky := ky) (xp := xp) (dt := dt) hkq
  have hL0 : 0 ≤ s.lastNum := I.cp.2.2.2.2.2.2.2.2.2.2.2.2.2.1
  have hLn := i_of hL0
  have hn : s.lastNum.toNatClampNeg < 12000 := by
    rw [← hLn, show (12000 : Int32) = Int32.ofNat 12000 from rfl, i_lt (by have := Int32.toNatClampNeg_lt s.lastNum; omega) (by decide)] at hl
    exact hl
  have hL1 : s.lastNum + 1 = Int32.ofNat (s.lastNum.toNatClampNeg + 1) := by rw [← i_succ, hLn]
  have hlt1 : s.lastNum < s.lastNum + 1 := by
    rw [hL1]
    conv => lhs; rw [← hLn]
    rw [i_lt (by omega) (by omega)]
    omega
  have hle1 : s.lastNum + 1 ≤ 12000 := by
    rw [hL1, show (12000 : Int32) = Int32.ofNat 12000 from rfl, i_le (by omega) (by decide)]
    omega
  have hpo : 0 < s.lastNum + 1 := by
    rw [hL1, show (0 : Int32) = Int32.ofNat 0 from rfl, i_lt (by decide) (by omega)]
    omega
  have hcl : (s.lastNum + 1).toNatClampNeg = s.lastNum.toNatClampNeg + 1 := by rw [hL1, i_nat (by omega)]
  have I1 := I.num (v := s.lastNum + 1) (Int32.le_of_lt hlt1) hle1
  have hU : s_come4 s q c ex ky xp dt = if s_rec (s.qu q) c then s_tell (s_in (s_b36 (s.w_lastNum (s.lastNum + 1)) (c, ex, ky, xp, q, s.lastNum + 1, s.clock, dt, 0, false)) q s.next (s.messages + 1)) 6 s.next else s_in (s_b36 (s.w_lastNum (s.lastNum + 1)) (c, ex, ky, xp, q, s.lastNum + 1, s.clock, dt, 0, false)) q s.next (s.messages + 1) := rfl
  rw [hU] at Isc ⊢
  clear hU
  have E1 : sEnts (s.w_lastNum (s.lastNum + 1)) = sEnts s := rfl
  have P1 : tP (s.w_lastNum (s.lastNum + 1)) + 16 = tP s := by
    unfold tP
    rw [E1, wr_lastNum, hcl, wr_dead_lastNum, wr_es_lastNum, wr_qs_lastNum]
    omega
  have Y1 : tY (s.w_lastNum (s.lastNum + 1)) + 3 = tY s := by
    have e1 : sRdy (s.w_lastNum (s.lastNum + 1)) = sRdy s := rfl
    have e2 : sLive (s.w_lastNum (s.lastNum + 1)) = sLive s := rfl
    unfold tY
    rw [e1, e2, wr_lastNum, hcl]
    omega
  have W1 : sWt (s.w_lastNum (s.lastNum + 1)) = sWt s := rfl
  have S1 : ∀ n, sSafe (s.w_lastNum (s.lastNum + 1)) n = sSafe s n := fun n => rfl
  have r1 : (s.w_lastNum (s.lastNum + 1)).lastNum = s.lastNum + 1 := wr_lastNum
  have r2 : (s.w_lastNum (s.lastNum + 1)).knd = s.knd := wr_knd_lastNum
  have r3 : (s.w_lastNum (s.lastNum + 1)).next = s.next := wr_next_lastNum
  have r4 : (s.w_lastNum (s.lastNum + 1)).messages = s.messages := wr_messages_lastNum
  have r5 : (s.w_lastNum (s.lastNum + 1)).qu = s.qu := wr_qu_lastNum
  have r6 : (s.w_lastNum (s.lastNum + 1)).en = s.en := wr_en_lastNum
  have r7 : (s.w_lastNum (s.lastNum + 1)).qs = s.qs := wr_qs_lastNum
  have r8 : (s.w_lastNum (s.lastNum + 1)).facts = s.facts := wr_facts_lastNum
  have hnum : ∀ x, x ∈ (s.qu q).ents → (s.en x).number < s.lastNum + 1 := fun x hx => Int32.lt_of_le_of_lt (I.hi.2.2.2.2.2.2 q hkq x hx).2 hlt1
  have hnum2 : ∀ x, x ∈ (sSafe s s.facts.length).2.2.2 → (s.en x).number < s.lastNum + 1 := fun x hx => Int32.lt_of_le_of_lt ((I.hi.1 _).2.2.2.2.2.2.2.2.2.2.1 x hx).2.2.2.2 hlt1
  have hsk : ∀ x, x ∈ (sSafe s s.facts.length).2.2.2 → s.knd x = 36 := fun x hx => ((I.hi.1 _).2.2.2.2.2.2.2.2.2.2.1 x hx).1
  have hnew : s.next ∉ (s.qu q).ents := fun hx => I.sc.old ((I.sc.qu q hkq).1 _ hx).1 (by decide) rfl
  have hqk := I.sc.qu q hkq
  have hold : ∀ x, s.knd x = 36 → x ≠ s.next := fun x hx => I.sc.old hx (by decide)
  revert Isc I1 E1 P1 Y1 W1 S1 r1 r2 r3 r4 r5 r6 r7 r8
  generalize s.w_lastNum (s.lastNum + 1) = s1
  generalize s.lastNum + 1 = L at *
  intro Isc I1 E1 P1 Y1 W1 S1 r1 r2 r3 r4 r5 r6 r7 r8
  have B := bn36 (s := s1) (v := (c, ex, ky, xp, q, L, s.clock, dt, 0, false))
  have Isc2 : sScope (s_b36 s1 (c, ex, ky, xp, q, L, s.clock, dt, 0, false)) := I1.sc.born B b36_next (by decide) (fun e => absurd e (by decide)) (fun e => absurd e (by decide)) (fun e => absurd e (by decide)) (fun _ => by rw [b36_at, r2]; exact hkq) (fun e => absurd e (by decide))
  have I2 := I1.born B Isc2 b36_messages b36_lastNum (fun e => absurd e (by decide)) (fun e => absurd e (by decide)) (fun e => absurd e (by decide)) (fun e => absurd e (by decide)) (fun _ => by
    rw [b36_at]
    exact ⟨hc, he, hk, hx⟩)
  have E2 := sEnts.born I1.sc B
  have P2 := tP_born I1.sc B b36_lastNum
  have W2 := sWt_born B
  have Y2 := tY_born I1.sc B b36_lastNum
  have S2 := safe_born I1.sc B
  have t1 : (s_b36 s1 (c, ex, ky, xp, q, L, s.clock, dt, 0, false)).lastNum = L := b36_lastNum.trans r1
  have t2 : (s_b36 s1 (c, ex, ky, xp, q, L, s.clock, dt, 0, false)).knd = sUp s.knd s.next 36 := by rw [b36_knd, r2, r3]
  have t3 : (s_b36 s1 (c, ex, ky, xp, q, L, s.clock, dt, 0, false)).messages = s.messages := b36_messages.trans r4
  have t4 : (s_b36 s1 (c, ex, ky, xp, q, L, s.clock, dt, 0, false)).qu = s.qu := b36_qu.trans r5
  have t5 : (s_b36 s1 (c, ex, ky, xp, q, L, s.clock, dt, 0, false)).en = sUp s.en s.next (c, ex, ky, xp, q, L, s.clock, dt, 0, false) := by rw [b36_en, r6, r3]
  have t6 : (s_b36 s1 (c, ex, ky, xp, q, L, s.clock, dt, 0, false)).qs = s.qs := b36_qs.trans r7
  have t7 : (s_b36 s1 (c, ex, ky, xp, q, L, s.clock, dt, 0, false)).facts = s.facts := b36_facts.trans r8
  revert Isc I2 E2 P2 W2 Y2 S2 t1 t2 t3 t4 t5 t6 t7
  clear B Isc2
  generalize s_b36 s1 (c, ex, ky, xp, q, L, s.clock, dt, 0, false) = s2
  intro Isc I2 E2 P2 W2 Y2 S2 t1 t2 t3 t4 t5 t6 t7
  have en2 : s2.en s.next = (c, ex, ky, xp, q, L, s.clock, dt, 0, false) := by rw [t5]; exact sUp_self
  have f1 : (s2.en s.next).queue = q := Eq.trans (congrArg (fun (z : sEn) => z.queue) en2) rfl
  have f2 : (s2.en s.next).state = 0 := Eq.trans (congrArg (fun (z : sEn) => z.state) en2) rfl
  have f3 : (s2.en s.next).number = L := Eq.trans (congrArg (fun (z : sEn) => z.number) en2) rfl
  have f4 : (s2.en s.next).cont = c := Eq.trans (congrArg (fun (z : sEn) => z.cont) en2) rfl
  have hr : sRecM s2 s.next = s_rec (s.qu q) c := by
    unfold sRecM
    rw [f1, f4, t4]
  have hk2 : s2.knd s.next = 36 := by rw [t2]; exact sUp_self
  have hlt2 : ∀ x ∈ (s2.qu q).ents, (s2.en x).number < (s2.en s.next).number := fun x hx => by
    rw [t4] at hx
    rw [f3, t5, sUp_ne (hold x (hqk.1 x hx).1)]
    exact hnum x hx
  have hlt3 : ∀ x ∈ (sSafe s2 s2.facts.length).2.2.2, (s2.en x).number < (s2.en s.next).number := fun x hx => by
    rw [S2, S1, t7] at hx
    rw [f3, t5, sUp_ne (hold x (hsk x hx))]
    exact hnum2 x hx
  have hqs2 : q ∈ s2.qs := by rw [t6]; exact hq
  have hfin : ∀ s3, sScope s3 → sNi s2 s3 q s.next → sI s3 ∧ tP s3 + 6 = tP s ∧ sWt s3 ≤ sWt s + 1 ∧ tY s3 = tY s ∧ s3.knd q = 33 := fun s3 Is3 N => by
    have h1 := tP_ni I2.ms hqs2 N
    have h2 := sWt_ni N
    have h3 := tY_ni I2.ms hqs2 f2 N
    refine ⟨I2.ni Is3 hk2 hqs2 f1 f2 (by rw [t4]; exact hnew) hlt2 hlt3 (by rw [f3, t1]; exact ⟨hpo, Int32.le_refl _⟩) (by omega) N, by omega, by omega, by omega, ?_⟩
    rw [N.1.1]
    exact I2.sc.qs q hqs2
  rw [← t3] at Isc ⊢
  cases hb : s_rec (s.qu q) c with
  | false =>
    rw [hb] at Isc
    exact hfin _ Isc (ni_in (hr.trans hb))
  | true =>
    rw [hb] at Isc
    exact hfin _ Isc (ni_tell (hr.trans hb))
theorem full_no (I : sI s) (hf : s_full s = false) : sEnts s < 300 ∧ s.lastNum < 12000 := by
  unfold s_full at hf
  rw [Bool.or_eq_false_iff] at hf
  obtain ⟨h1, h2⟩ := hf
  have h1 := of_decide_eq_false h1
  have h2 := of_decide_eq_false h2
  refine ⟨?_, Int32.not_le.mp h2⟩
  rw [I.ms.2.2.1, show (300 : Int32) = Int32.ofNat 300 from rfl, i_le (by decide) (by have := I.ms.2.2.2; omega)] at h1
  omega
theorem ents_le (I : sMs s) (hq : q ∈ s.qs) : (s.qu q).ents.length ≤ sEnts s := mem_sum_le (f := fun q => (s.qu q).ents.length) hq
theorem p_comes (I : sI s) (hq : q ∈ s.qs) (hc : sContOk c) (he : ex.length ≤ 40) (hk : ky.length ≤ 40) (hx : xp = -1 ∨ (0 ≤ xp ∧ xp ≤ 4294967295)) (hf : s_full s = false) :
    sI (s_comes s q c ex ky xp dt) ∧ tP (s_comes s q c ex ky xp dt) + 4 * s_shortN q ((s_come4 s q c ex ky xp dt).qu q).ents.length (s_come4 s q c ex ky xp dt) + 6 ≤ tP s ∧ sWt (s_comes s q c ex ky xp dt) + tP (s_comes s q c ex ky xp dt) + 5 ≤ sWt s + tP s ∧ tY (s_comes s q c ex ky xp dt) ≤ tY s := by
  obtain ⟨hE, hl⟩ := full_no I hf
  obtain ⟨a1, a2, a3, a4, a5⟩ := p_come4 (dt := dt) I hq hc he hk hx hE hl
  rw [s_comes_eq]
  obtain ⟨D, hp⟩ := d_trim a1 a5
  have hy := tY_trim a1 a5
  have hw := D.2.2.1 a1
  exact ⟨D.1 a1, by omega, by omega, by omega⟩
theorem t_comesZ (Z : tZ s0 F (b + tY s) s w g h) (hm : g.kind x0 = (1, 0)) (hx : g.kind x1 = (33, q)) (hq : q ∈ s.qs) (hc : gCont g x2 c) (he : gB g x3 ex) (hk : gB g x4 ky) (oc : sContOk c) (oe : ex.length ≤ 40) (ok : ky.length ≤ 40) (ox : xp = -1 ∨ (0 ≤ xp ∧ xp ≤ 4294967295)) (hf : s_full s = false)
    (K : ∀ g1 h1, tZ s0 F (b + tY (s_comes s q c ex ky xp dt)) (s_comes s q c ex ky xp dt) w g1 h1 → gL g g1 → Q .null h1) : zX s0 m_X8_comes (d + 6) [zr x0, zr x1, zr x2, zr x3, zr x4, .long xp, .int dt] h Q E := by
  obtain ⟨a1, a2, a3, a4⟩ := p_comes (dt := dt) Z.i hq oc oe ok ox hf
  have hE := (full_no Z.i hf).1
  have hle := ents_le Z.i.ms hq
  have hz := Z.c
  have hfa : s.facts.length ≤ sWt s := Nat.le_add_right _ _
  refine t_comes (b := b + tY (s_comes s q c ex ky xp dt) + tP (s_comes s q c ex ky xp dt)) (Z.r.less (by omega)) Z.sc hm hx hc he hk (by omega) (by omega) Z.i.cp.2.2.2.2.2.2.2.1 fun g1 h1 R1 L1 => K g1 h1 ⟨R1, a1, by omega⟩ L1
end CZ
