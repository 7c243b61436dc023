/-! ===== the twin: methods, dealt out ===== -/
set_option maxRecDepth 100000
/-- what a frame for a channel may lean on -/
def sMay (s : sSt) (j : Nat) : Prop := ((∀ q ∈ s.qs, (s.qu q).there = true) ∧ 0 ≤ s.gener ∧ s.gener ≤ 1000000) ∧ (0 ≤ (s.ch j).tags ∧ (s.ch j).tags ≤ 1000000) ∧ (s.ch j).sent.length ≤ 12000 ∧ ((s.ch j).state = 0 → (s.ch j).kept = []) ∧ ((s.ch j).due = 0 → (s.ch j).state ≠ 0 → (s.ch j).junk = false) ∧ sApt (s.ch j).kept ∧ ∀ h, isH h → h ≠ j → ∀ x ∈ (s.ch h).sent, x ∉ (s.ch j).sent
/-- what an acknowledgement may want, if there are bytes enough for one -/
def rA (r : sRd) : Nat := if 5 ≤ rRem r then 4000 else 2500
theorem rA_lo {r : sRd} : 2500 ≤ rA r := by unfold rA; split <;> omega
theorem rA_hi {r : sRd} : rA r ≤ 4000 := by unfold rA; split <;> omega
theorem rA_5 {r : sRd} (h : 5 ≤ rRem r) : rA r = 4000 := if_pos h
section NC
variable {s0 : zE} {F : Nat → Option zC} {b : Nat} {s s' s1 s2 sS : sSt} {w w' w1 w2 : tW} {g g' g0 : sG} {h h' : zH} {d x0 x1 x2 x3 x5 x7 i j q m p n a e x y c ra t : Nat} {Q : Value → zH → Prop} {E : Nat → zH → Prop} {dr nm key frm bb : sBy} {sz cl me code k bits tag what N : Int32} {rd : sRd} {u : Int32 × List Nat × (Nat → Nat)} {all v : Bool} {l rs : List Nat} {ct : sCont} {kk : sKe} {L0 : List sKe}
def s_onQ (s : sSt) (h : Nat) (me : Int32) (r : sRd) : sRs := if me = 10 then s_declQ s h r else if me = 20 then s_binds s h true r else if me = 30 then s_purge s h r else if me = 40 then s_removeQ s h r else s_binds s h false r
def s_onM (s : sSt) (h : Nat) (me : Int32) (r : sRd) : sRs := if me = 10 then s_qos s h r else if me = 20 then s_consume s h r else if me = 30 then s_cancels s h r else if me = 40 then s_publishes s h r else if me = 70 then s_get s h r else
    if me = 110 then s_recovers s h r else s_onTag s h me r
theorem t_onQueue (J : tJs s0 F) (Z : tZ s0 F (b + 1500 + 12 * rRem rd + tY s) s (dr, sz, rd, cl, me, u) g h) (hm : g.kind x0 = (1, 0)) (hx : g.kind x1 = (3, j)) (hj : isH j) (hE : gB g (zst s0 "RelayHallModel" "EMPTY" "[B") []) (B : sMay s j)
    (K : ∀ w1 g1 h1, tZ s0 F (b + tY (s_tld j cl me (s_onQ s j me rd))) (s_tld j cl me (s_onQ s j me rd)) w1 g1 h1 → tWm (dr, sz, rd, cl, me, u) w1 → gL g g1 → Q .null h1) : zX s0 m_X8_onQueue (d + 83) [zr x0, zr x1] h Q E := by
  have em := Z.r.main hm
  refine c_X8_onQueue (e_I em fun (z1 : gI h x0 33 = me) => ?_)
  rw [z1]
  unfold s_onQ at K
  refine ⟨fun e1 => ?_, fun e1 => ⟨fun e2 => ?_, fun e2 => ⟨fun e3 => ?_, fun e3 => ⟨fun e4 => ?_, fun e4 => ?_⟩⟩⟩⟩
  · rw [if_pos e1] at K
    exact ⟨⟨_, em⟩, t_declareQueue (d := d) J (Z.le (by omega)) hm hx hj hE B.1.2.1 B.1.2.2 K⟩
  · rw [if_neg e1, if_pos e2] at K
    exact ⟨⟨_, em⟩, t_bind (d := d + 3) (on := true) J (Z.le (by omega)) hm hx hj hE K⟩
  · rw [if_neg e1, if_neg e2, if_pos e3] at K
    exact ⟨⟨_, em⟩, t_purge (d := d + 3) (Z.le (by omega)) hm hx hj hE K⟩
  · rw [if_neg e1, if_neg e2, if_neg e3, if_pos e4] at K
    exact ⟨⟨_, em⟩, t_deleteQueue (d := d + 3) (Z.le (by omega)) hm hx hj hE K⟩
  · rw [if_neg e1, if_neg e2, if_neg e3, if_neg e4] at K
    exact ⟨⟨_, em⟩, t_bind (d := d + 3) (on := false) J (Z.le (by omega)) hm hx hj hE K⟩
theorem t_onMessage (J : tJs s0 F) (Z : tZ s0 F (b + rA rd + 12 * rRem rd + tY s) s (dr, sz, rd, cl, me, u) g h) (hm : g.kind x0 = (1, 0)) (hx : g.kind x1 = (3, j)) (hj : isH j) (hE : gB g (zst s0 "RelayHallModel" "EMPTY" "[B") []) (B : sMay s j) (hst : (s.ch j).state ≠ 0) (hdue : (s.ch j).due = 0)
    (K : ∀ w1 g1 h1, tZ s0 F (b + 950 + tY (s_tld j cl me (s_onM s j me rd))) (s_tld j cl me (s_onM s j me rd)) w1 g1 h1 → tWm (dr, sz, rd, cl, me, u) w1 → gL g g1 → Q .null h1) : zX s0 m_X8_onMessage (d + 83) [zr x0, zr x1] h Q E := by
  have hA := rA_lo (r := rd)
  have em := Z.r.main hm
  refine c_X8_onMessage (e_I em fun (z1 : gI h x0 33 = me) => ?_)
  rw [z1]
  unfold s_onM at K
  refine ⟨fun e1 => ?_, fun e1 => ⟨fun e2 => ?_, fun e2 => ⟨fun e3 => ?_, fun e3 => ⟨fun e4 => ?_, fun e4 => ⟨fun e5 => ?_, fun e5 => ⟨fun e6 => ?_, fun e6 => ?_⟩⟩⟩⟩⟩⟩
  · rw [if_pos e1] at K
    exact ⟨⟨_, em⟩, t_qos (d := d + 4) (Z.le (by omega)) hm hx hj K⟩
  · rw [if_neg e1, if_pos e2] at K
    exact ⟨⟨_, em⟩, t_consume (d := d + 3) J (Z.le (by omega)) hm hx hj hE B.1.1 B.2.1.1 B.2.1.2 K⟩
  · rw [if_neg e1, if_neg e2, if_pos e3] at K
    exact ⟨⟨_, em⟩, t_cancels (d := d + 4) (Z.le (by omega)) hm hx hj hE K⟩
  · rw [if_neg e1, if_neg e2, if_neg e3, if_pos e4] at K
    exact ⟨⟨_, em⟩, t_publishes (d := d + 3) (Z.le (by omega)) hm hx hj hE (B.2.2.2.2.1 hdue hst) K⟩
  · rw [if_neg e1, if_neg e2, if_neg e3, if_neg e4, if_pos e5] at K
    exact ⟨⟨_, em⟩, t_get (d := d + 3) (Z.le (by omega)) hm hx hj hE K⟩
  · rw [if_neg e1, if_neg e2, if_neg e3, if_neg e4, if_neg e5, if_pos e6] at K
    exact ⟨⟨_, em⟩, t_recovers (d := d + 3) (Z.le (by omega)) hm hx hj K⟩
  · rw [if_neg e1, if_neg e2, if_neg e3, if_neg e4, if_neg e5, if_neg e6] at K
    exact ⟨⟨_, em⟩, t_onTag (d := d + 2) (b := b) Z (by omega) (fun h5 => by have := rA_5 h5; omega) hm hx hj B.2.2.1 K⟩
/-- a method of a channel is dealt out -/
theorem t_onCh_120 {k0 : Nat} {op : Bool} (hk1 : cl = 90 → me = 20 → k0 = 0) (hk2 : k0 ≤ 950 * (s.ch j).kept.length) (J : tJs s0 F) (Z : tZ s0 F (b + rA rd + 12 * rRem rd + 950 * (s.ch j).kept.length + tY s) s (dr, sz, rd, cl, me, u) g h) (hm : g.kind x0 = (1, 0)) (hx : g.kind x2 = (3, j)) (hj : isH j) (hE : gB g (zst s0 "RelayHallModel" "EMPTY" "[B") []) (B : sMay s j) (hs : (s.ch j).state = 0 ∨ (s.ch j).state = 1) (hcd : ∀ h, u.2.2 h = 0) (ho1 : op = decide (cl = 20 ∧ me = 10)) (ho2 : op = decide ((s.ch j).state = 0)) (hdue : (s.ch j).due = 0) (ht : s_isTold cl me = true) (h41 : ¬ (cl = 20 ∧ me = 41))
    (K : ∀ w1 g1 h1, tZ s0 F (b + 950 + k0 + tY (s_tld j cl me (s_onMethod s j cl me rd))) (s_tld j cl me (s_onMethod s j cl me rd)) w1 g1 h1 → tWm (dr, sz, rd, cl, me, u) w1 → gL g g1 → Q .null h1) :
    zP s0 m_X8_onChannel (d + 84) 120 [some (zr x0), some (zr x1), some (zr x2), some (.int (sB op)), none] [.int 0] h Q E := by
  have hA := rA_lo (r := rd)
  have em := Z.r.main hm
  have hst : cl ≠ 20 → (s.ch j).state = 1 := fun hc => hs.resolve_left (fun h0 => by
    rw [decide_eq_true h0] at ho2
    rw [ho2] at ho1
    exact hc (of_decide_eq_true ho1.symm).1)
  have hz : cl ≠ 20 → (s.ch j).state ≠ 0 := fun hc h0 => absurd (h0.symm.trans (hst hc)) (by decide)
  unfold s_onMethod at K
  refine b_X8_onChannel_120 ⟨fun _ => e_I em fun (z1 : gI h x0 32 = cl) => ?_, fun hh => absurd rfl hh⟩
  rw [z1]
  refine ⟨fun e20 => e_I em fun _ => ?_, fun e20 => ⟨fun ho => ?_, fun ho => ?_⟩⟩
  · rw [if_neg e20] at K
    refine ⟨fun e40 => e_I em fun _ => ?_, fun e40 => e_I em fun (z2 : gI h x0 33 = me) => ?_⟩
    · rw [if_neg e40] at K
      refine ⟨fun e50 => e_I em fun _ => ?_, fun e50 => ?_⟩
      · rw [if_neg e50] at K
        refine ⟨fun e60 => e_I em fun _ => ?_, fun e60 => ?_⟩
        · rw [if_neg e60] at K
          refine ⟨fun e85 => e_I em fun (z2 : gI h x0 33 = me) => ?_, fun e85 => ?_⟩
          · rw [if_neg e85] at K
            rw [z2]
            have e90 : cl = 90 := by
              unfold s_isTold at ht
              rw [if_neg e20, if_neg e40, if_neg e50, if_neg e60, if_neg e85] at ht
              by_cases e90 : cl = 90
              · exact e90
              · rw [if_neg e90] at ht
                cases ht
            exact ⟨⟨_, em⟩, t_transaction (d := d + 1) (b := b + 950) (hk1 e90) hk2 J (Z.le (by omega)) hm hx hj hcd (hst e20) B.2.2.2.2.2.1 B.2.2.2.2.2.2 K⟩
          · rw [if_pos e85] at K
            exact ⟨⟨_, em⟩, t_confirms (d := d + 5) (Z.le (by omega)) hm hx hj K⟩
        · rw [if_pos e60] at K
          exact ⟨⟨_, em⟩, t_onMessage (d := d) (b := b + k0) J (Z.le (by omega)) hm hx hj hE B (hz e20) hdue fun w1 g1 h1 Z1 W1 L1 => by
            unfold s_onM at Z1
            exact K w1 g1 h1 (Z1.le (by omega)) W1 L1⟩
      · rw [if_pos e50] at K
        exact ⟨⟨_, em⟩, t_onQueue (d := d) (b := b + k0 + 950) J (Z.le (by omega)) hm hx hj hE B fun w1 g1 h1 Z1 W1 L1 => by
          unfold s_onQ at Z1
          exact K w1 g1 h1 (Z1.le (by omega)) W1 L1⟩
    · rw [if_pos e40] at K
      rw [z2]
      refine ⟨fun e10 => ?_, fun e10 => ?_⟩
      · rw [if_neg e10] at K
        exact ⟨⟨_, em⟩, t_deleteExchange (d := d + 5) (Z.le (by omega)) hm hx hj hE K⟩
      · rw [if_pos e10] at K
        exact ⟨⟨_, em⟩, t_declareExchange (d := d + 4) J (Z.le (by omega)) hm hx hj hE K⟩
  · rw [if_pos e20] at K
    have ho : op = false := sB_0.mp ho
    refine e_I em fun (z2 : gI h x0 33 = me) => ?_
    rw [z2]
    have e10 : me ≠ 10 := fun hh => by
      rw [decide_eq_true ⟨e20, hh⟩] at ho1
      rw [ho1] at ho
      cases ho
    refine ⟨fun e2 => ?_, fun e2 => ?_⟩
    · have e40 : me = 40 := by
        unfold s_isTold at ht
        rw [if_pos e20] at ht
        rw [beq_false_of_ne e10, beq_false_of_ne e2, beq_false_of_ne (fun hh : me = 41 => h41 ⟨e20, hh⟩), Bool.false_or, Bool.false_or, Bool.or_false] at ht
        exact eq_of_beq ht
      subst e40
      exact ⟨⟨_, em⟩, t_closesChannel (d := d + 5) (Z.le (by omega)) hm hx hj hE K⟩
    · subst e2
      exact ⟨⟨_, em⟩, t_flow (d := d + 5) (Z.le (by omega)) hm hx hj K⟩
  · rw [if_pos e20] at K
    have ho : op = true := by
      cases op with
      | true => rfl
      | false => exact absurd rfl ho
    rw [ho] at ho1 ho2
    have e10 := (of_decide_eq_true ho1.symm).2
    have hs0 := of_decide_eq_true ho2.symm
    have eK : s_onChan s j me rd = s_then rd s (s_ok (s_opens s j)) := by
      unfold s_onChan
      rw [if_pos e10]
    rw [eK] at K
    have Z9 : tZ s0 F (b + 950 + k0 + 900 + tY s) s (dr, sz, rd, cl, me, u) g h := Z.le (by omega)
    refine ⟨⟨_, em⟩, t_then (d := d + 6) (N := fun h => Q .null h) ?_ Z9 hm hx hj K ?_⟩
    · exact fun h1 hq => ⟨fun _ => hq, fun hh => absurd hh (by decide)⟩
    · intro K
      rw [tld_ok] at K
      exact ⟨fun hh => absurd rfl hh, fun _ => ⟨⟨_, em⟩, t_opens (d := d + 11) (Z9.le (by omega)) hm hx hj (B.2.2.2.1 hs0) K⟩⟩
/-- a method of a channel that is a fault -/
theorem t_onCh_hard (hcode : code ≠ 0) (Z : tZ s0 F (b + 900 + tY s) s (dr, sz, rd, cl, me, u) g h) (hm : g.kind x0 = (1, 0)) (hc : g.kind x1 = (2, c)) (hc4 : c < 4) {z : Int32}
    (K : ∀ w1 g1 h1, tZ s0 F (b + tY (s_hard s c code cl me)) (s_hard s c code cl me) w1 g1 h1 → tWm (dr, sz, rd, cl, me, u) w1 → gL g g1 → Q .null h1) :
    zP s0 m_X8_onChannel (d + 84) 120 [some (zr x0), some (zr x1), some (zr x2), some (.int z), none] [.int code] h Q E := by
  have em := Z.r.main hm
  refine b_X8_onChannel_120 ⟨fun hh => absurd hh hcode, fun _ => e_I em fun (z1 : gI h x0 32 = cl) => e_I em fun (z2 : gI h x0 33 = me) => ?_⟩
  rw [z1, z2]
  exact ⟨⟨_, em⟩, t_hardZ (d := d + 7) Z hm hc hc4 fun w1 g1 h1 Z1 W1 L1 => K w1 g1 h1 Z1 W1.tom L1⟩
theorem t_onChannel {k0 : Nat} (hk1 : cl = 90 → me = 20 → k0 = 0) (hk2 : k0 ≤ 950 * (s.ch j).kept.length) (J : tJs s0 F) (Z : tZ s0 F (b + rA rd + 12 * rRem rd + 950 * (s.ch j).kept.length + tY s) s (dr, sz, rd, cl, me, u) g h) (hm : g.kind x0 = (1, 0)) (hc : g.kind x1 = (2, j / 4)) (hx : g.kind x2 = (3, j)) (hj : isH j) (hE : gB g (zst s0 "RelayHallModel" "EMPTY" "[B") []) (B : sMay s j) (hs : (s.ch j).state = 0 ∨ (s.ch j).state = 1) (hcd : ∀ h, u.2.2 h = 0)
    (K : ∀ w1 g1 h1, tZ s0 F (b + 950 + k0 + tY (s_tld j cl me (s_onChannel s j cl me rd))) (s_tld j cl me (s_onChannel s j cl me rd)) w1 g1 h1 → tWm (dr, sz, rd, cl, me, u) w1 → gL g g1 → Q .null h1) :
    zX s0 m_X8_onChannel (d + 84) [zr x0, zr x1, zr x2] h Q E := by
  have hA := rA_lo (r := rd)
  have em := Z.r.main hm
  have ex := Z.r.1.cell hx (by decide)
  have Zh : tZ s0 F (b + 950 + k0 + 900 + tY s) s (dr, sz, rd, cl, me, u) g h := Z.le (by omega)
  have c4 := hj.div
  unfold s_onChannel at K
  dsimp only at K
  have h23 : ∀ (op : Bool) (t0 : Int32), t0 = sB op → op = decide (cl = 20 ∧ me = 10) → zP s0 m_X8_onChannel (d + 83 + 1) 23 [some (zr x0), some (zr x1), some (zr x2), none, none] [.int t0] h Q E := fun op t0 et ho1 => by
    subst et
    refine b_X8_onChannel_23 (e_I em fun (z1 : gI h x0 32 = cl) => ?_)
    rw [z1]
    refine ⟨fun e10 => e_I ex fun (z2 : gI h x2 2 = (s.ch j).state) => ?_, fun e10 => ?_⟩
    · rw [if_neg e10, ← ho1] at K
      rw [z2]
      have h52 : ∀ (o2 : Bool) (t1 : Int32), t1 = sB o2 → o2 = decide ((s.ch j).state = 0) → zP s0 m_X8_onChannel (d + 83 + 1) 52 [some (zr x0), some (zr x1), some (zr x2), some (.int (sB op)), none] [.int t1, .int (sB op)] h Q E := fun o2 t1 et ho2 => by
        subst et
        rw [← ho2] at K
        refine b_X8_onChannel_52 ⟨fun eo => e_I ex fun (z3 : gI h x2 12 = (s.ch j).due) => ?_, fun eo => ?_⟩
        · have eo : op = o2 := sB_eq.mp eo
          subst eo
          rw [if_neg (fun hh => hh rfl)] at K
          rw [z3]
          refine ⟨fun hd => e_I em fun _ => e_I em fun (z4 : gI h x0 33 = me) => ?_, fun hd => ?_⟩
          · rw [if_neg (fun hh => hh hd)] at K
            rw [z1, z4]
            refine ⟨⟨_, em⟩, t_isTold ⟨_, rfl, fun ht => e_I em fun _ => ?_, fun ht => ?_⟩⟩
            · have ht : s_isTold cl me = true := by
                cases hh : s_isTold cl me with
                | true => rfl
                | false => rw [hh] at ht; exact absurd rfl ht
              rw [if_neg (fun hh => hh ht)] at K
              rw [z1]
              refine ⟨fun e20 => ?_, fun e20 => e_I em fun _ => ?_⟩
              · exact t_onCh_120 (d := d) hk1 hk2 J Z hm hx hj hE B hs hcd ho1 ho2 hd ht (fun hh => e20 hh.1) K
              · rw [z4]
                refine ⟨fun e41 => ?_, fun e41 => ?_⟩
                · exact t_onCh_120 (d := d) hk1 hk2 J Z hm hx hj hE B hs hcd ho1 ho2 hd ht (fun hh => e41 hh.2) K
                · have e : s_onMethod s j cl me rd = s_hardF s 503 := by
                    unfold s_onMethod s_onChan
                    rw [if_pos e20, if_neg (by rw [e41]; decide), if_neg (by rw [e41]; decide), if_neg (by rw [e41]; decide), if_pos e41]
                  rw [e, tld_hard] at K
                  exact t_onCh_hard (d := d) (by decide) Zh hm hc c4 K
            · have ht : s_isTold cl me = false := sB_0.mp ht
              rw [if_pos (by rw [ht]; decide), tld_hard] at K
              exact t_onCh_hard (d := d) (by decide) Zh hm hc c4 K
          · rw [if_pos hd, tld_hard] at K
            exact t_onCh_hard (d := d) (by decide) Zh hm hc c4 K
        · have eo : op ≠ o2 := fun hh => eo (by rw [hh])
          rw [if_pos eo, tld_hard] at K
          exact t_onCh_hard (d := d) (by decide) Zh hm hc c4 K
      exact ⟨fun h0 => h52 false 0 rfl (decide_eq_false h0).symm, fun h0 => h52 true 1 rfl (decide_eq_true h0).symm⟩
    · rw [if_pos e10, tld_hard] at K
      exact t_onCh_hard (d := d) (by decide) Zh hm hc c4 K
  refine c_X8_onChannel (e_I em fun (z1 : gI h x0 32 = cl) => ?_)
  rw [z1]
  refine ⟨fun e20 => ?_, fun e20 => e_I em fun (z2 : gI h x0 33 = me) => ?_⟩
  · exact b_X8_onChannel_22 (h23 false 0 rfl (decide_eq_false (fun hh => e20 hh.1)).symm)
  · rw [z2]
    exact ⟨fun e10 => b_X8_onChannel_22 (h23 false 0 rfl (decide_eq_false (fun hh => e10 hh.2)).symm), fun e10 => h23 true 1 rfl (decide_eq_true ⟨e20, e10⟩).symm⟩
end NC
