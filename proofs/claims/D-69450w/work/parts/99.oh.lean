/-! ===== the twin: a message is put back from what is safe ===== -/
set_option maxRecDepth 100000
set_option maxHeartbeats 200000
section OH
variable {s0 : zE} {F : Nat → Option zC} {b : Nat} {s s' S T : sSt} {w w' : tW} {g g' g0 : sG} {h h' : zH} {d x0 x1 x2 x3 x4 n m c i j q e k a : Nat} {Q : Value → zH → Prop} {E : Nat → zH → Prop} {x : Int32}
theorem g_AppQ2 {n1 : Nat} {P : zH → Prop} (R : tR s0 F b s w g h) (hx : g.kind x1 = (33, q)) (ha : gA1 g 36 m) (hn1 : n1 = g.ref 36 m) (hl : (s.qu q).ents.length < 301) (K : ∀ g1 h1, tR s0 F b (s.w_qu (sUp s.qu q ((s.qu q).w_ents ((s.qu q).ents ++ [m])))) w g1 h1 → gL g g1 → g1.ar 14 0 = g.ar 14 0 → P h1) :
    (fR h x1 [37] 11) ∧ ((fI h x1 [37] 12) ∧ ((fS s0 h (gR h x1 11) 18 (gI h x1 12)) ∧ ((n1 = 0 ∨ zAsg h n1 (.object "RelayHallModel$Entry")) ∧ (∀ h7, h7 = zput h (gR h x1 11) ((gI h x1 12)).toNatClampNeg (zr n1) → ((fI h7 x1 [37] 12) ∧ ((fC h7 x1 37) ∧ (∀ h8, h8 = zput h7 x1 12 (.int ((gI h7 x1 12) + 1)) → P h8))))))) := by
  have hq := R.ak (by decide) (by decide) hx
  have A := R.ents hq
  obtain ⟨eA, hA⟩ := R.arr (t := 18) A rfl (by decide) (by decide)
  have hne : x1 ≠ g.ref 31 q := kne hx A.1 fun e => absurd (congrArg Prod.fst e) (by show ¬ (33 : Nat) = 31; decide)
  have ec := R.1.cell ha (by decide)
  have ex := R.1.cell hx (by decide)
  subst hn1
  refine e_R ex fun (z1 : gR h x1 11 = g.ref 31 q) => e_I ex fun (z2 : gI h x1 12 = Int32.ofNat (s.qu q).ents.length) => ?_
  rw [z1, z2]
  refine g_S (t := 18) eA hA (zin_of (by rw [A.2.1]; exact hl) (by omega)) ⟨Or.inr (zAsg_own ec zcl_33 rfl), ?_⟩
  rintro h7 rfl
  rw [i_nat (by omega)]
  have e1 : (zput h (g.ref 31 q) (s.qu q).ents.length (zr (g.ref 36 m))).1 x1 = some (37, tQu (s.qu q) g q) := by rw [zput_ne hne]; exact ex
  refine e_I e1 fun (z3 : gI _ x1 12 = Int32.ofNat (s.qu q).ents.length) => g_C e1 ?_
  rw [z3, i_succ]
  rintro h8 rfl
  refine K (gSet g 31 q ((g.ar 31 q).set (s.qu q).ents.length (zr (g.ref 36 m)))) _ (R.arQ (x := (s.qu q).w_ents ((s.qu q).ents ++ [m])) hx rfl (fun k q1 q2 => by rw [zput_ne q1, zput_ne q2]) ?_ ?_ (by rw [List.length_set]; exact A.2.1) ?_ ⟨rfl, rfl, rfl⟩) gL.set (gSet_ne (fun e => absurd e.1 (by decide)))
  · rw [zput_self e1]
    have e9 : (s.qu q).ents.length + 1 = ((s.qu q).ents ++ [m]).length := by simp
    rw [e9]
    rfl
  · show (zput _ _ _ _).1 (g.ref 31 q) = _
    rw [zput_ne hne.symm]
    exact zput_self eA
  · have := pre_snoc A.2.2 (v := zr (g.ref 36 m)) (by rw [List.length_map, A.2.1]; exact hl)
    rw [List.length_map] at this
    show ((s.qu q).ents ++ [m]).map _ <+: _
    rw [List.map_append]
    exact this
/-- a new message goes to the end of its queue, and is counted -/
theorem g_In2 {s1 : sSt} {n1 : Nat} {c : sCont} {ex ky : sBy} {xp : Int64} {num came dt : Int32} {rd : Bool} {P : zH → Prop} (R : tR s0 F b s1 w g h) (I : sScope s1) (hm : g.kind x0 = (1, 0)) (hx : g.kind (g.ref 33 q) = (33, q)) (U : zUn s0 F g h n1 33 [zr x2, zr x3, zr x4, .long xp, zr (g.ref 33 q), .int num, .int came, .int dt, .int 0, vZ rd])
    (hc : gCont g x2 c) (he : gB g x3 ex) (hk : gB g x4 ky) (hl : (s1.qu q).ents.length < 301)
    (K : ∀ g1 h1, tR s0 F b (s_in (s_b36 s1 (c, ex, ky, xp, q, num, came, dt, 0, rd)) q s1.next (s1.messages + 1)) w g1 h1 → gL g g1 → g1.kind n1 = (36, s1.next) → g1.ar 14 0 = g.ar 14 0 → P h1) :
    (fR h (g.ref 33 q) [37] 11) ∧ ((fI h (g.ref 33 q) [37] 12) ∧ ((fS s0 h (gR h (g.ref 33 q) 11) 18 (gI h (g.ref 33 q) 12)) ∧ ((n1 = 0 ∨ zAsg h n1 (.object "RelayHallModel$Entry")) ∧ (∀ h7, h7 = zput h (gR h (g.ref 33 q) 11) ((gI h (g.ref 33 q) 12)).toNatClampNeg (zr n1) → ((fI h7 (g.ref 33 q) [37] 12) ∧ ((fC h7 (g.ref 33 q) 37) ∧ (∀ h8, h8 = zput h7 (g.ref 33 q) 12 (.int ((gI h7 (g.ref 33 q) 12) + 1)) → ((fI h8 x0 [7] 9) ∧ ((fC h8 x0 7) ∧ (∀ h9, h9 = zput h8 x0 9 (.int ((gI h8 x0 9) + 1)) → P h9)))))))))) := by
  have h0 : s1.knd s1.next = 0 := I.new _ (Nat.le_refl _)
  have Ra := R.rf (c := 36) (i := s1.next) (by decide) h0 (fun k => if k = 0 then x2 else if k = 1 then x3 else x4)
  have La : gL g (gRf g 36 s1.next (fun k => if k = 0 then x2 else if k = 1 then x3 else x4)) := gRf.l
  have Ua : zUn s0 F (gRf g 36 s1.next (fun k => if k = 0 then x2 else if k = 1 then x3 else x4)) h n1 33 [zr x2, zr x3, zr x4, .long xp, zr (g.ref 33 q), .int num, .int came, .int dt, .int 0, vZ rd] := U
  have r0 : (gRf g 36 s1.next (fun k => if k = 0 then x2 else if k = 1 then x3 else x4)).rf 36 s1.next 0 = x2 := gRf_at
  have r1 : (gRf g 36 s1.next (fun k => if k = 0 then x2 else if k = 1 then x3 else x4)).rf 36 s1.next 1 = x3 := gRf_at
  have r2 : (gRf g 36 s1.next (fun k => if k = 0 then x2 else if k = 1 then x3 else x4)).rf 36 s1.next 2 = x4 := gRf_at
  have hg33 : (gRf g 36 s1.next (fun k => if k = 0 then x2 else if k = 1 then x3 else x4)).ref 33 q = g.ref 33 q := rfl
  have hc1 := La.Cont hc
  have he1 := La.B he
  have hk1 := La.B hk
  have hga : (gRf g 36 s1.next (fun k => if k = 0 then x2 else if k = 1 then x3 else x4)).ar 14 0 = g.ar 14 0 := rfl
  revert Ra La Ua r0 r1 r2 hc1 he1 hk1 hg33 hga
  generalize gRf g 36 s1.next (fun k => if k = 0 then x2 else if k = 1 then x3 else x4) = ga
  intro Ra La Ua r0 r1 r2 hg33 hc1 he1 hk1 hga
  have Rb := Ra.born (s' := s_b36 s1 (c, ex, ky, xp, q, num, came, dt, 0, rd)) (c := 36) I Ua (by decide) bn36 (Or.inl (by decide)) (tMain_new (by decide) bn36 ⟨b36_messages, b36_lastNum, b36_gener, b36_clock, b36_deadOnes, b36_crashes⟩) (by
      show (33, tEn ((s_b36 s1 (c, ex, ky, xp, q, num, came, dt, 0, rd)).en s1.next) _ _) = _
      rw [b36_at]
      show (33, [zr (ga.rf 36 s1.next 0), zr (ga.rf 36 s1.next 1), zr (ga.rf 36 s1.next 2), .long xp, zr (ga.ref 33 q), .int num, .int came, .int dt, .int 0, vZ rd]) = _
      rw [r0, r1, r2, hg33]) (fun e => absurd e (by decide)) (fun e => absurd e (by decide)) (fun e => absurd e (by decide)) (fun e => absurd e (by decide)) (fun _ => by
      rw [b36_at]
      show gCont _ (ga.rf 36 s1.next 0) c ∧ gB _ (ga.rf 36 s1.next 1) ex ∧ gB _ (ga.rf 36 s1.next 2) ky
      rw [r0, r1, r2]
      exact ⟨hc1, he1, hk1⟩)
  have Lb : gL ga (gNw ga n1 36 s1.next []) := gNw.l Ua.1
  have ha14 : (gNw ga n1 36 s1.next []).ar 14 0 = g.ar 14 0 := by
    rw [← hga]
    exact if_neg fun e => absurd e.1 (by decide)
  have hn1 : (gNw ga n1 36 s1.next []).kind n1 = (36, s1.next) := gNw.at
  have Lb2 := La.trans Lb
  have hx2 : (gNw ga n1 36 s1.next []).kind (g.ref 33 q) = (33, q) := Lb2.th (by decide) (by decide) hx
  have hm2 := Lb2.m hm
  have hqu2 : (s_b36 s1 (c, ex, ky, xp, q, num, came, dt, 0, rd)).qu = s1.qu := b36_qu
  have hme2 : (s_b36 s1 (c, ex, ky, xp, q, num, came, dt, 0, rd)).messages = s1.messages := b36_messages
  revert Rb hn1 Lb2 hx2 hm2 hqu2 hme2 ha14 K
  generalize gNw ga n1 36 s1.next [] = gb
  generalize s_b36 s1 (c, ex, ky, xp, q, num, came, dt, 0, rd) = s2
  intro K Rb ha14 hn1 Lb2 hx2 hm2 hqu2 hme2
  refine g_AppQ2 (m := s1.next) Rb hx2 (Rb.1.a1 hn1 (by decide)) (Rb.1.at hn1 (by decide)).symm (by rw [hqu2]; exact hl) fun g5 h13 R13 L13 a13 => ?_
  have hm3 := L13.m hm2
  refine e_I (R13.main hm3) fun z4 => ?_
  rw [z4, wr_messages_qu, hme2]
  refine g_Mmessages R13 hm3 (s1.messages + 1) fun h14 R14 _ => ?_
  exact K g5 h14 R14 (Lb2.trans L13) (L13.th (by decide) (by decide) hn1) (a13.trans ha14)
/-- a message is back in its queue -/
def s_back0 (s : sSt) (m : Nat) : sSt := s_in (s_b36 s ((s.en m).cont, (s.en m).exch, (s.en m).key, (s.en m).expi, (s.en m).queue, (s.en m).number, s.clock, (s.en m).deaths, 0, true)) (s.en m).queue s.next (s.messages + 1)
theorem back_eq : s_back s m = (s_back0 s m).w_sen (s.sen ++ [s.next]) := rfl
theorem t_restore (R : tR s0 F (b + 2) s w g h) (I : sScope s) (hm : g.kind x0 = (1, 0)) (hx : g.kind x1 = (36, m)) (hl : (s.qu (s.en m).queue).ents.length < 301)
    (K : ∀ g1 h1, tR s0 F b (s_back0 s m) w g1 h1 → gL g g1 → g1.ar 14 0 = g.ar 14 0 → Q .null h1) : zX s0 m_X8_restoreEntry (d + 1) [zr x0, zr x1] h Q E := by
  have hkm := R.ak (by decide) (by decide) hx
  have hkq := I.en m hkm
  have aq := R.al (by decide) (by decide) hkq
  obtain ⟨f1, f2, f3⟩ := R.2.2.2.2.2.2.2.2.2.2.2.1 m hkm
  refine c_X8_restoreEntry (g_N (u := 2) R (by decide) (zle rfl) R.big fun n1 h1 R1 U1 => ⟨⟨_, _, U1.2.2.1⟩, c_X36_init ⟨⟨_, _, U1.2.2.1⟩, ?_⟩⟩)
  have ne1 : n1 ≠ x1 := U1.ne (by rw [hx]; show (36 : Nat) ≠ 0; decide)
  have nex : n1 ≠ x0 := U1.ne (by rw [hm]; decide)
  have gx : ∀ {h2 : zH}, tR s0 F b s w g h2 → h2.1 x1 = some (33, tEn (s.en m) g m) := fun R2 => R2.1.cell hx (by decide)
  refine e_R (gx R1) fun (z1 : gR h1 x1 0 = g.rf 36 m 0) => ?_
  rw [z1]
  refine g_PF R1 U1 fun h2 R2 U2 _ => e_R (gx R2) fun (z2 : gR h2 x1 1 = g.rf 36 m 1) => ?_
  rw [z2]
  refine g_PF R2 U2 fun h3 R3 U3 _ => e_R (gx R3) fun (z3 : gR h3 x1 2 = g.rf 36 m 2) => ?_
  rw [z3]
  refine g_PF R3 U3 fun h4 R4 U4 _ => e_J (gx R4) fun (z4 : gJ h4 x1 3 = (s.en m).expi) => ?_
  rw [z4]
  refine g_PF R4 U4 fun h5 R5 U5 _ => e_I (gx R5) fun (z5 : gI h5 x1 7 = (s.en m).deaths) => ?_
  rw [z5]
  refine g_PF R5 U5 fun h6 R6 U6 _ => e_R (gx R6) fun (z6 : gR h6 x1 4 = g.ref 33 (s.en m).queue) => ?_
  rw [z6]
  refine g_PF R6 U6 fun h7 R7 U7 _ => e_I (gx R7) fun (z7 : gI h7 x1 5 = (s.en m).number) => ?_
  rw [z7]
  refine g_PF R7 U7 fun h8 R8 U8 _ => e_I (R8.main hm) fun (z8 : gI h8 x0 12 = s.clock) => ?_
  rw [z8]
  refine g_PF R8 U8 fun h9 R9 U9 _ => g_PF R9 U9 fun h10 R10 U10 _ => ?_
  have U10 : zUn s0 F g h10 n1 33 [zr (g.rf 36 m 0), zr (g.rf 36 m 1), zr (g.rf 36 m 2), .long (s.en m).expi, zr (g.ref 33 (s.en m).queue), .int (s.en m).number, .int s.clock, .int (s.en m).deaths, .int 0, vZ true] := U10
  have en := U10.2.2.1
  refine e_R en fun (z9 : gR h10 n1 4 = g.ref 33 (s.en m).queue) => ?_
  rw [z9]
  obtain ⟨p1, p2, p3, p4, p5⟩ := g_In2 (P := fun h1 => Q .null h1) R10 I hm aq U10 f1 f2 f3 hl fun g1 h1 R1 L1 _ a1 => K g1 h1 R1 L1 a1
  refine ⟨p1, fR_of en m1 rfl, p2, p3, p4, fun h11 e11 => ?_⟩
  have z10 : gR h10 (g.ref 33 (s.en m).queue) 11 = g.ref 31 (s.en m).queue := gR_of (R10.1.cell aq (by decide)) rfl
  have hn11 : n1 ≠ g.ref 31 (s.en m).queue := U10.ne (by rw [(R10.ents hkq).1]; show (31 : Nat) ≠ 0; decide)
  have en11 : h11.1 n1 = some (33, [zr (g.rf 36 m 0), zr (g.rf 36 m 1), zr (g.rf 36 m 2), .long (s.en m).expi, zr (g.ref 33 (s.en m).queue), .int (s.en m).number, .int s.clock, .int (s.en m).deaths, .int 0, vZ true]) := by
    rw [e11, z10, zput_ne hn11]
    exact en
  obtain ⟨q1, q2, q3⟩ := p5 h11 e11
  refine e_R en11 fun (z11 : gR h11 n1 4 = g.ref 33 (s.en m).queue) => ?_
  rw [z11]
  exact ⟨q1, q2, q3⟩
end OH
