/-! ===== the twin: messages come, bindings are added ===== -/
set_option maxRecDepth 100000
section CM
variable {s0 : zE} {F : Nat → Option zC} {b : Nat} {s s' : sSt} {w w' : tW} {g g' : sG} {h h' : zH} {d x0 x1 x2 x3 x4 n c i j q m : Nat} {Q : Value → zH → Prop} {E : Nat → zH → Prop}
/-- a message that comes, ahead of its record -/
def s_come3 (s : sSt) (q : Nat) (c : sCont) (exch key : sBy) (expi : Int64) (deaths : Int32) : sSt :=
  s_in (s_b36 (s.w_lastNum (s.lastNum + 1)) (c, exch, key, expi, q, s.lastNum + 1, s.clock, deaths, 0, false)) q s.next (s.messages + 1)
/-- .. ahead of its queue's being shortened -/
def s_come4 (s : sSt) (q : Nat) (c : sCont) (exch key : sBy) (expi : Int64) (deaths : Int32) : sSt :=
  if s_rec (s.qu q) c then s_tell (s_come3 s q c exch key expi deaths) 6 s.next else s_come3 s q c exch key expi deaths
theorem s_comes_eq {c : sCont} {ex ky : sBy} {xp : Int64} {dt : Int32} : s_comes s q c ex ky xp dt = s_trim (s_come4 s q c ex ky xp dt) q := by
  unfold s_comes s_come4 s_come3 s_in s_b36
  rw [wr_next_lastNum]
theorem sScope.come3 (I : sScope s) (hq : s.knd q = 33) {c : sCont} {ex ky : sBy} {xp : Int64} {dt : Int32} : sScope (s_come3 s q c ex ky xp dt) := by
  have I1 : sScope (s.w_lastNum (s.lastNum + 1)) := I.lastNum
  have k1 : (s.w_lastNum (s.lastNum + 1)).knd = s.knd := wr_knd_lastNum
  have n1 : (s.w_lastNum (s.lastNum + 1)).next = s.next := wr_next_lastNum
  unfold s_come3
  revert I1 k1 n1
  generalize s.w_lastNum (s.lastNum + 1) = s1
  intro I1 k1 n1
  have I2 := I1.born (bn36 (v := (c, ex, ky, xp, q, s.lastNum + 1, s.clock, dt, 0, false))) b36_next (by decide) (fun e => absurd e (by decide)) (fun e => absurd e (by decide)) (fun e => absurd e (by decide)) (fun _ => by rw [b36_at, k1]; exact hq) (fun e => absurd e (by decide))
  refine I2.in_ ?_ ?_
  · rw [b36_knd, n1]
    exact sUp_self
  · rw [b36_en, n1, sUp_self]
    rfl
theorem come3_knd {c : sCont} {ex ky : sBy} {xp : Int64} {dt : Int32} : (s_come3 s q c ex ky xp dt).knd s.next = 36 := by
  unfold s_come3
  rw [in_knd, b36_knd, wr_next_lastNum]
  exact sUp_self
theorem come3_fd {c : sCont} {ex ky : sBy} {xp : Int64} {dt : Int32} : (s_come3 s q c ex ky xp dt).facts = s.facts ∧ (s_come3 s q c ex ky xp dt).dead = s.dead := by
  unfold s_come3
  rw [in_facts, in_dead, b36_facts, b36_dead, wr_facts_lastNum, wr_dead_lastNum]
  exact ⟨rfl, rfl⟩
theorem come3_qu {c : sCont} {ex ky : sBy} {xp : Int64} {dt : Int32} : (s_come3 s q c ex ky xp dt).qu q = (s.qu q).w_ents ((s.qu q).ents ++ [s.next]) := by
  unfold s_come3
  rw [in_qu, sUp_self, b36_qu, wr_qu_lastNum]
theorem sScope.come4 (I : sScope s) (hq : s.knd q = 33) {c : sCont} {ex ky : sBy} {xp : Int64} {dt : Int32} : sScope (s_come4 s q c ex ky xp dt) := by
  unfold s_come4
  split
  · exact (I.come3 hq).tell' (by decide) (by decide) (by rw [come3_knd]; decide)
  · exact I.come3 hq
/-- a new message goes to the end of its queue, and is counted -/
theorem g_In {s1 : sSt} {n1 : Nat} {c : sCont} {ex ky : sBy} {xp : Int64} {num came dt : Int32} {rd : Bool} {P : zH → Prop} (R : tR s0 F b s1 w g h) (I : sScope s1) (hm : g.kind x0 = (1, 0)) (hx : g.kind (g.ref 33 q) = (33, q)) (U : zUn s0 F g h n1 33 [zr x2, zr x3, zr x4, .long xp, zr (g.ref 33 q), .int num, .int came, .int dt, .int 0, vZ rd])
    (hc : gCont g x2 c) (he : gB g x3 ex) (hk : gB g x4 ky) (hl : (s1.qu q).ents.length < 301)
    (K : ∀ g1 h1, tR s0 F b (s_in (s_b36 s1 (c, ex, ky, xp, q, num, came, dt, 0, rd)) q s1.next (s1.messages + 1)) w g1 h1 → gL g g1 → g1.kind n1 = (36, s1.next) → P h1) :
    (fR h (g.ref 33 q) [37] 11) ∧ ((fI h (g.ref 33 q) [37] 12) ∧ ((fS s0 h (gR h (g.ref 33 q) 11) 18 (gI h (g.ref 33 q) 12)) ∧ ((n1 = 0 ∨ zAsg h n1 (.object "RelayHallModel$Entry")) ∧ (∀ h7, h7 = zput h (gR h (g.ref 33 q) 11) ((gI h (g.ref 33 q) 12)).toNatClampNeg (zr n1) → ((fI h7 (g.ref 33 q) [37] 12) ∧ ((fC h7 (g.ref 33 q) 37) ∧ (∀ h8, h8 = zput h7 (g.ref 33 q) 12 (.int ((gI h7 (g.ref 33 q) 12) + 1)) → ((fI h8 x0 [7] 9) ∧ ((fC h8 x0 7) ∧ (∀ h9, h9 = zput h8 x0 9 (.int ((gI h8 x0 9) + 1)) → P h9)))))))))) := by
  have h0 : s1.knd s1.next = 0 := I.new _ (Nat.le_refl _)
  have Ra := R.rf (c := 36) (i := s1.next) (by decide) h0 (fun k => if k = 0 then x2 else if k = 1 then x3 else x4)
  have La : gL g (gRf g 36 s1.next (fun k => if k = 0 then x2 else if k = 1 then x3 else x4)) := gRf.l
  have Ua : zUn s0 F (gRf g 36 s1.next (fun k => if k = 0 then x2 else if k = 1 then x3 else x4)) h n1 33 [zr x2, zr x3, zr x4, .long xp, zr (g.ref 33 q), .int num, .int came, .int dt, .int 0, vZ rd] := U
  have r0 : (gRf g 36 s1.next (fun k => if k = 0 then x2 else if k = 1 then x3 else x4)).rf 36 s1.next 0 = x2 := gRf_at
  have r1 : (gRf g 36 s1.next (fun k => if k = 0 then x2 else if k = 1 then x3 else x4)).rf 36 s1.next 1 = x3 := gRf_at
  have r2 : (gRf g 36 s1.next (fun k => if k = 0 then x2 else if k = 1 then x3 else x4)).rf 36 s1.next 2 = x4 := gRf_at
  have hg33 : (gRf g 36 s1.next (fun k => if k = 0 then x2 else if k = 1 then x3 else x4)).ref 33 q = g.ref 33 q := rfl
  have hc1 := La.Cont hc
  have he1 := La.B he
  have hk1 := La.B hk
  revert Ra La Ua r0 r1 r2 hc1 he1 hk1 hg33
  generalize gRf g 36 s1.next (fun k => if k = 0 then x2 else if k = 1 then x3 else x4) = ga
  intro Ra La Ua r0 r1 r2 hg33 hc1 he1 hk1
  have Rb := Ra.born (s' := s_b36 s1 (c, ex, ky, xp, q, num, came, dt, 0, rd)) (c := 36) I Ua (by decide) bn36 (Or.inl (by decide)) (tMain_new (by decide) bn36 ⟨b36_messages, b36_lastNum, b36_gener, b36_clock, b36_deadOnes, b36_crashes⟩) (by
      show (33, tEn ((s_b36 s1 (c, ex, ky, xp, q, num, came, dt, 0, rd)).en s1.next) _ _) = _
      rw [b36_at]
      show (33, [zr (ga.rf 36 s1.next 0), zr (ga.rf 36 s1.next 1), zr (ga.rf 36 s1.next 2), .long xp, zr (ga.ref 33 q), .int num, .int came, .int dt, .int 0, vZ rd]) = _
      rw [r0, r1, r2, hg33]) (fun e => absurd e (by decide)) (fun e => absurd e (by decide)) (fun e => absurd e (by decide)) (fun e => absurd e (by decide)) (fun _ => by
      rw [b36_at]
      show gCont _ (ga.rf 36 s1.next 0) c ∧ gB _ (ga.rf 36 s1.next 1) ex ∧ gB _ (ga.rf 36 s1.next 2) ky
      rw [r0, r1, r2]
      exact ⟨hc1, he1, hk1⟩)
  have Lb : gL ga (gNw ga n1 36 s1.next []) := gNw.l Ua.1
  have hn1 : (gNw ga n1 36 s1.next []).kind n1 = (36, s1.next) := gNw.at
  have Lb2 := La.trans Lb
  have hx2 : (gNw ga n1 36 s1.next []).kind (g.ref 33 q) = (33, q) := Lb2.th (by decide) (by decide) hx
  have hm2 := Lb2.m hm
  have hqu2 : (s_b36 s1 (c, ex, ky, xp, q, num, came, dt, 0, rd)).qu = s1.qu := b36_qu
  have hme2 : (s_b36 s1 (c, ex, ky, xp, q, num, came, dt, 0, rd)).messages = s1.messages := b36_messages
  revert Rb hn1 Lb2 hx2 hm2 hqu2 hme2 K
  generalize gNw ga n1 36 s1.next [] = gb
  generalize s_b36 s1 (c, ex, ky, xp, q, num, came, dt, 0, rd) = s2
  intro K Rb hn1 Lb2 hx2 hm2 hqu2 hme2
  refine g_AppQ (m := s1.next) Rb hx2 (Rb.1.a1 hn1 (by decide)) (Rb.1.at hn1 (by decide)).symm (by rw [hqu2]; exact hl) fun g5 h13 R13 L13 => ?_
  have hm3 := L13.m hm2
  refine e_I (R13.main hm3) fun z4 => ?_
  rw [z4, wr_messages_qu, hme2]
  refine g_Mmessages R13 hm3 (s1.messages + 1) fun h14 R14 _ => ?_
  exact K g5 h14 R14 (Lb2.trans L13) (L13.th (by decide) (by decide) hn1)
theorem t_comes {c : sCont} {ex ky : sBy} {xp : Int64} {dt : Int32} (R : tR s0 F (b + 4 * s_shortN q ((s_come4 s q c ex ky xp dt).qu q).ents.length (s_come4 s q c ex ky xp dt) + 5) s w g h) (I : sScope s) (hm : g.kind x0 = (1, 0)) (hx : g.kind x1 = (33, q)) (hc : gCont g x2 c) (he : gB g x3 ex) (hk : gB g x4 ky)
    (hl : (s.qu q).ents.length < 301) (hf : s.facts.length < 960000) (hd : s.dead.length ≤ 300)
    (K : ∀ g1 h1, tR s0 F b (s_comes s q c ex ky xp dt) w g1 h1 → gL g g1 → Q .null h1) : zX s0 m_X8_comes (d + 6) [zr x0, zr x1, zr x2, zr x3, zr x4, .long xp, .int dt] h Q E := by
  have hq := R.ak (by decide) (by decide) hx
  obtain rfl : g.ref 33 q = x1 := R.1.at hx (by decide)
  rw [s_comes_eq] at K
  have I4 := I.come4 (c := c) (ex := ex) (ky := ky) (xp := xp) (dt := dt) hq
  generalize hN : 4 * s_shortN q ((s_come4 s q c ex ky xp dt).qu q).ents.length (s_come4 s q c ex ky xp dt) = N at R
  rw [show b + N + 5 = b + N + 3 + 2 by omega] at R
  refine c_X8_comes (g_N (u := 2) R (by decide) (zle rfl) R.big fun n1 h1 R1 U1 => ⟨⟨_, _, U1.2.2.1⟩, c_X36_init ⟨⟨_, _, U1.2.2.1⟩, ?_⟩⟩)
  refine g_PF R1 U1 fun h3 R3 U3 _ => g_PF R3 U3 fun h4 R4 U4 _ => g_PF R4 U4 fun h5 R5 U5 _ => g_PF R5 U5 fun h6 R6 U6 _ => g_PF R6 U6 fun h7 R7 U7 _ => g_PF R7 U7 fun h8 R8 U8 _ => ?_
  have hnx : n1 ≠ x0 := U8.ne (by rw [hm]; decide)
  refine e_I (R8.main hm) fun (z1 : gI h8 x0 10 = s.lastNum) => ?_
  rw [z1]
  refine g_MlastNum R8 hm (s.lastNum + 1) fun h9 R9 O9 => ?_
  have U9 := U8.oth O9 hnx
  have hS : s_come3 s q c ex ky xp dt = s_in (s_b36 (s.w_lastNum (s.lastNum + 1)) (c, ex, ky, xp, q, s.lastNum + 1, s.clock, dt, 0, false)) q s.next (s.messages + 1) := rfl
  have I1 : sScope (s.w_lastNum (s.lastNum + 1)) := I.lastNum
  have e1 : (s.w_lastNum (s.lastNum + 1)).lastNum = s.lastNum + 1 := wr_lastNum
  have e2 : (s.w_lastNum (s.lastNum + 1)).clock = s.clock := wr_clock_lastNum
  have e3 : (s.w_lastNum (s.lastNum + 1)).next = s.next := wr_next_lastNum
  have e4 : (s.w_lastNum (s.lastNum + 1)).messages = s.messages := wr_messages_lastNum
  have e5 : (s.w_lastNum (s.lastNum + 1)).qu = s.qu := wr_qu_lastNum
  revert R9 U9 hS I1 e1 e2 e3 e4 e5
  generalize s.w_lastNum (s.lastNum + 1) = s1
  intro R9 U9 hS I1 e1 e2 e3 e4 e5
  refine e_I (R9.main hm) fun (z2 : gI h9 x0 10 = s1.lastNum) => ?_
  rw [z2, e1]
  refine g_PF R9 U9 fun h10 R10 U10 _ => e_I (R10.main hm) fun (z3 : gI h10 x0 12 = s1.clock) => ?_
  rw [z3, e2]
  refine g_PF R10 U10 fun h11 R11 U11 _ => ?_
  have U11 : zUn s0 F g h11 n1 33 [zr x2, zr x3, zr x4, .long xp, zr (g.ref 33 q), .int (s.lastNum + 1), .int s.clock, .int dt, .int 0, vZ false] := U11
  refine g_In R11 I1 hm hx U11 hc he hk (by rw [e5]; exact hl) fun g5 h14 R14 L5 hn5 => ?_
  rw [e3, e4, ← hS] at R14
  have hm3 := L5.m hm
  have hx5 : g5.kind (g.ref 33 q) = (33, q) := L5.th (by decide) (by decide) hx
  have hrec : s_rec ((s_come3 s q c ex ky xp dt).qu q) c = s_rec (s.qu q) c := by
    rw [come3_qu]
    rfl
  refine ⟨⟨_, R14.main hm3⟩, t_recorded R14 hx5 (L5.Cont hc) ⟨_, rfl, ?_⟩⟩
  rw [sB_0, hrec]
  have hfin : ∀ g6 h6, tR s0 F (b + N) (s_come4 s q c ex ky xp dt) w g6 h6 → gL g g6 → zX s0 m_X8_shorten (d + 5) [zr x0, zr (g.ref 33 q)] h6 (fun _ h16 => Q .null h16) E := fun g6 h6 R6 L6 => by
    rw [← hN] at R6
    refine t_shorten R6 I4 (L6.m hm) (L6.th (by decide) (by decide) hx) ?_ ?_ fun g7 h7 R7 L7 => K g7 h7 R7 (L6.trans L7)
    · unfold s_come4
      split
      · rw [wt_facts, List.length_append, come3_fd.1]
        simp only [List.length_singleton]
        omega
      · rw [come3_fd.1]
        omega
    · unfold s_come4
      split
      · rw [wt_dead, come3_fd.2]
        exact hd
      · rw [come3_fd.2]
        exact hd
  refine ⟨fun hr => ⟨⟨_, R14.main hm3⟩, ?_⟩, fun hr => ⟨⟨_, R14.main hm3⟩, ?_⟩⟩
  · refine hfin g5 h14 ?_ L5
    unfold s_come4
    rw [hr]
    exact R14.less (by omega)
  · rw [Bool.not_eq_false] at hr
    rw [e3] at hn5
    refine t_tell (id := s.next) R14 hm3 (by rw [come3_fd.1]; omega) ⟨fun e => absurd e (by decide), fun e => absurd e (by decide), fun e => absurd e (by decide), fun _ => ?_, by decide, by decide⟩ fun g6 h6 R6 L6 => ⟨⟨_, R6.main (L6.m hm3)⟩, hfin g6 h6 ?_ (L5.trans L6)⟩
    · exact (R14.1.at hn5 (by decide)).symm
    · unfold s_come4
      rw [hr]
      exact R6
end CM
