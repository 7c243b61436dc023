/-! ===== the twin: bindings made and dropped ===== -/
set_option maxRecDepth 100000
def s_bindF (s : sSt) (j : Nat) (on : Bool) (nm frm key : sBy) (silent : Int32) (t : sTab) : sRs := s_withQ s j nm (fun q => match s_exch s frm with
  | none => s_softF s (if frm = [] then 403 else 404)
  | some e => match s_findB s q e key t with
    | none => if on then (if s.bs.length = 40 then s_hardF s 506 else s_ok (if silent = 0 then s_ans (s_addB s q e key t) j 50 21 [] else s_addB s q e key t)) else s_ok (s_ans s j 50 51 [])
    | some b => if on then s_ok (if silent = 0 then s_ans s j 50 21 [] else s) else s_ok (s_ans (s_dropB s b) j 50 51 []))
section MM
variable {s0 : zE} {F : Nat → Option zC} {b : Nat} {s s' s1 : sSt} {w w' w1 w2 : tW} {g g' g0 : sG} {h h' : zH} {d x0 x1 x2 x3 x4 x5 x6 x7 i j q m n e x : Nat} {Q : Value → zH → Prop} {E : Nat → zH → Prop} {dr nm frm key : sBy} {sz cl me code k bits silent : Int32} {rd : sRd} {u : Int32 × List Nat × (Nat → Nat)} {f : sRs} {t : sTab} {v : sBi} {on : Bool}
theorem s_addB_eq : s_addB s q e key t = s_addX (s_b34 s (q, e, key, t)) s.next := by
  have h1 : ((s_b34 s (q, e, key, t)).bi s.next) = (q, e, key, t) := b34_at
  unfold s_addX
  rw [h1, b34_ex, b34_qu, b34_bs]
  rfl
theorem s_dropB_eq : s_dropB s x = if (s.ex (s.bi x).exch).auto = true ∧ s_bindsE (s_offX s x) (s.bi x).exch = [] then s_delE (s_offX s x) (s.bi x).exch else s_offX s x := rfl
theorem p_newX (I : sI s) (hl : s.bs.length < 40) (he : v.exch ∈ s.es) (hq : v.queue ∈ s.qs) (hk : v.key.length ≤ 40) (ok : sTabOk v.tab) : sI (s_addX (s_b34 s v) s.next) ∧ tP (s_addX (s_b34 s v) s.next) = tP s ∧ sWt (s_addX (s_b34 s v) s.next) ≤ sWt s + 1 ∧ tY (s_addX (s_b34 s v) s.next) = tY s := by
  have I1 : sScope (s_b34 s v) := I.sc.born bn34 b34_next (by decide) (fun e => absurd e (by decide)) (fun _ => by rw [b34_at]; exact ⟨I.sc.qs _ hq, I.sc.es _ he⟩) (fun e => absurd e (by decide)) (fun e => absurd e (by decide)) (fun e => absurd e (by decide))
  have I2 : sI (s_b34 s v) := I.born bn34 I1 b34_messages b34_lastNum (fun e => absurd e (by decide)) (fun e => absurd e (by decide)) (fun _ => by rw [b34_at]; exact ⟨hk, ok⟩) (fun e => absurd e (by decide)) (fun e => absurd e (by decide))
  obtain ⟨a1, a2, a3⟩ := addX_w (s := s_b34 s v) (x := s.next)
  exact ⟨p_addX I2 bn34.kn (by rw [b34_bs]; exact fun hh => I.sc.old (I.sc.bs _ hh) (by decide) rfl) (by rw [b34_bs]; exact hl) (by rw [b34_at, b34_es]; exact he) (by rw [b34_at, b34_qs]; exact hq), by rw [a1, tP_born I.sc bn34 b34_lastNum], by rw [← sWt_born (s := s) (bn34 (v := v))]; exact a2, by rw [a3, tY_born I.sc bn34 b34_lastNum]⟩
theorem t_addBinding (Z : tZ s0 F (b + 4 + tY s) s w g h) (hm : g.kind x0 = (1, 0)) (hxq : g.kind x1 = (33, q)) (hxe : g.kind x2 = (32, e)) (hq : q ∈ s.qs) (he : e ∈ s.es) (B : gB g x3 key) (hl : key.length ≤ 40) (T : gTab g x4 t) (ok : sTabOk t) (hb : s.bs.length < 40)
    (K : ∀ g1 h1, tZ s0 F (b + tY (s_addB s q e key t)) (s_addB s q e key t) w g1 h1 → gL g g1 → Q .null h1) : zX s0 m_X8_addBinding (d + 3) [zr x0, zr x1, zr x2, zr x3, zr x4] h Q E := by
  rw [s_addB_eq] at K
  obtain ⟨p1, p2, p3, p4⟩ := p_newX (v := (q, e, key, t)) Z.i hb he hq hl ok
  rw [p4] at K
  have hc := Z.c
  have hf := Z.facts
  have h0 : s.knd s.next = 0 := Z.sc.new _ (Nat.le_refl _)
  obtain rfl : g.ref 33 q = x1 := Z.r.1.at hxq (by decide)
  obtain rfl : g.ref 32 e = x2 := Z.r.1.at hxe (by decide)
  have K : ∀ g1 h1, tR s0 F (b + tY s + tP s) (s_addX (s_b34 s (q, e, key, t)) s.next) w g1 h1 → gL g g1 → Q .null h1 := fun g1 h1 R1 L1 => K g1 h1 ⟨by rw [p2]; exact R1, p1, by omega⟩ L1
  refine c_X8_addBinding (g_N (u := 1) (b := b + tY s + tP s + 3) (Z.r.less (by omega)) (by decide) (zle rfl) Z.r.big fun n1 h1 R1 U1 => ⟨⟨_, _, U1.2.2.1⟩, c_X41_init ⟨⟨_, _, U1.2.2.1⟩, g_PF R1 U1 fun h3 R3 U3 _ => g_PF R3 U3 fun h4 R4 U4 _ => g_PF R4 U4 fun h5 R5 U5 _ => g_PF R5 U5 fun h6 R6 U6 _ => ?_⟩⟩)
  have U6 : zUn s0 F g h6 n1 38 [zr (g.ref 33 q), zr (g.ref 32 e), zr x3, zr x4] := U6
  have Ra := R6.rf (c := 34) (i := s.next) (by decide) h0 (fun k => if k = 2 then x3 else x4)
  have La : gL g (gRf g 34 s.next (fun k => if k = 2 then x3 else x4)) := gRf.l
  have Ua : zUn s0 F (gRf g 34 s.next (fun k => if k = 2 then x3 else x4)) h6 n1 38 [zr (g.ref 33 q), zr (g.ref 32 e), zr x3, zr x4] := U6
  have r2 : (gRf g 34 s.next (fun k => if k = 2 then x3 else x4)).rf 34 s.next 2 = x3 := gRf_at
  have r3 : (gRf g 34 s.next (fun k => if k = 2 then x3 else x4)).rf 34 s.next 3 = x4 := gRf_at
  have e33 : (gRf g 34 s.next (fun k => if k = 2 then x3 else x4)).ref 33 q = g.ref 33 q := rfl
  have e32 : (gRf g 34 s.next (fun k => if k = 2 then x3 else x4)).ref 32 e = g.ref 32 e := rfl
  have hB1 := La.B B
  have hT1 := La.Tab T
  revert Ra La Ua r2 r3 hB1 hT1 e33 e32
  generalize gRf g 34 s.next (fun k => if k = 2 then x3 else x4) = ga
  intro Ra La Ua r2 r3 e33 e32 hB1 hT1
  have Rb := Ra.born (s' := s_b34 s (q, e, key, t)) (c := 34) Z.sc Ua (by decide) bn34 (Or.inl (by decide)) (tMain_new (by decide) bn34 ⟨b34_messages, b34_lastNum, b34_gener, b34_clock, b34_deadOnes, b34_crashes⟩) (by
      show (38, tBi ((s_b34 s (q, e, key, t)).bi s.next) _ _) = _
      rw [b34_at]
      show (38, [zr (ga.ref 33 q), zr (ga.ref 32 e), zr (ga.rf 34 s.next 2), zr (ga.rf 34 s.next 3)]) = _
      rw [r2, r3, e33, e32]) (fun e => absurd e (by decide)) (fun e => absurd e (by decide)) (fun _ => by
      rw [b34_at, r2, r3]
      exact ⟨hB1, hT1⟩) (fun e => absurd e (by decide)) (fun e => absurd e (by decide))
  have Lb : gL ga (gNw ga n1 34 s.next []) := gNw.l Ua.1
  have hn1 : (gNw ga n1 34 s.next []).kind n1 = (34, s.next) := gNw.at
  have Lb2 := La.trans Lb
  revert Rb hn1 Lb2
  clear Lb
  generalize gNw ga n1 34 s.next [] = gb
  intro Rb hn1 Lb2
  refine g_App7 (x := s.next) Rb (Lb2.m hm) (Rb.1.a1 hn1 (by decide)) (Rb.1.at hn1 (by decide)).symm (by rw [b34_bs]; exact hb) fun g5 h7 R7 L7 => ?_
  have L5 := Lb2.trans L7
  have hm5 := L5.m hm
  have hn5 : g5.kind n1 = (34, s.next) := L7.th (by decide) (by decide) hn1
  have hq5 : g5.kind (g.ref 33 q) = (33, q) := L5.th (by decide) (by decide) hxq
  have he5 : g5.kind (g.ref 32 e) = (32, e) := L5.th (by decide) (by decide) hxe
  have hS : s_addX (s_b34 s (q, e, key, t)) s.next = if (s.ex e).dur = true ∧ s_kept (s.qu q) = true then s_tell ((s_b34 s (q, e, key, t)).w_bs ((s_b34 s (q, e, key, t)).bs ++ [s.next])) 4 s.next else (s_b34 s (q, e, key, t)).w_bs ((s_b34 s (q, e, key, t)).bs ++ [s.next]) := by
    have h1 : ((s_b34 s (q, e, key, t)).bi s.next) = (q, e, key, t) := b34_at
    unfold s_addX
    rw [h1, b34_ex, b34_qu]
    rfl
  rw [hS] at K
  clear hS p1 p2 p3 p4
  have hex : ((s_b34 s (q, e, key, t)).w_bs ((s_b34 s (q, e, key, t)).bs ++ [s.next])).ex = s.ex := by rw [wr_ex_bs, b34_ex]
  have hqu : ((s_b34 s (q, e, key, t)).w_bs ((s_b34 s (q, e, key, t)).bs ++ [s.next])).qu = s.qu := by rw [wr_qu_bs, b34_qu]
  have hfa : ((s_b34 s (q, e, key, t)).w_bs ((s_b34 s (q, e, key, t)).bs ++ [s.next])).facts = s.facts := by rw [wr_facts_bs, b34_facts]
  revert R7 K hex hqu hfa
  generalize (s_b34 s (q, e, key, t)).w_bs ((s_b34 s (q, e, key, t)).bs ++ [s.next]) = s5
  intro K R7 hex hqu hfa
  refine e_I (R7.1.cell he5 (by decide)) fun (z : gI h7 (g.ref 32 e) 2 = sB (s5.ex e).dur) => ?_
  rw [z, hex, sB_0]
  refine ⟨fun hd => ?_, fun hd => ⟨⟨_, R7.1.cell hq5 (by decide)⟩, t_kept (d := d + 2) R7 hq5 ⟨_, rfl, ?_⟩⟩⟩
  · rw [if_neg (by rw [hd]; exact fun hh => absurd hh.1 (by decide))] at K
    exact K g5 h7 (R7.less (by omega)) L5
  · rw [hqu, sB_0]
    rw [Bool.not_eq_false] at hd
    refine ⟨fun hk => ?_, fun hk => ⟨⟨_, R7.main hm5⟩, ?_⟩⟩
    · rw [if_neg (by rw [hk]; exact fun hh => absurd hh.2 (by decide))] at K
      exact K g5 h7 (R7.less (by omega)) L5
    · rw [Bool.not_eq_false] at hk
      rw [if_pos ⟨hd, hk⟩] at K
      exact t_tell (d := d) (id := s.next) R7 hm5 (by rw [hfa]; omega) ⟨fun e => absurd e (by decide), fun e => absurd e (by decide), fun _ => (R7.1.at hn5 (by decide)).symm, fun e => absurd e (by decide), by decide, by decide⟩ fun g6 h6 R6 L6 => K g6 h6 R6 (L5.trans L6)
theorem eraseIdx_erase : ∀ {l : List Nat} {j x : Nat}, l.Nodup → l[j]? = some x → l.eraseIdx j = l.erase x
  | y :: l, 0, x, hn, hx => by
    have : y = x := Option.some.inj hx
    subst this
    rw [List.eraseIdx_cons_zero, List.erase_cons_head]
  | y :: l, j + 1, x, hn, hx => by
    have hx : l[j]? = some x := hx
    have hn' := List.nodup_cons.mp hn
    have hne : y ≠ x := fun e => hn'.1 (by rw [e]; exact List.mem_of_getElem? hx)
    rw [List.eraseIdx_cons_succ, List.erase_cons_tail (by rw [beq_false_of_ne hne]; decide), eraseIdx_erase hn'.2 hx]
  | [], j, x, _, hx => by rw [List.getElem?_nil] at hx; cases hx
theorem t_dropB_41 (Z : tZ s0 F (b + 900 + tY s) s w g h) (hm : g.kind x0 = (1, 0)) (hx : g.kind x2 = (34, x)) (he : (s.bi x).exch ∈ s.es)
    (K : ∀ g1 h1, tZ s0 F (b + tY (if (s.ex (s.bi x).exch).auto = true ∧ s_bindsE s (s.bi x).exch = [] then s_delE s (s.bi x).exch else s)) (if (s.ex (s.bi x).exch).auto = true ∧ s_bindsE s (s.bi x).exch = [] then s_delE s (s.bi x).exch else s) w g1 h1 → gL g g1 → Q .null h1) : zP s0 m_X8_dropBinding (d + 4) 41 [some (zr x0), none, some (zr x2)] [] h Q E := by
  have hek : g.kind (g.ref 32 (s.bi x).exch) = (32, (s.bi x).exch) := Z.r.al (by decide) (by decide) (Z.sc.es _ he)
  have ex := Z.r.1.cell hx (by decide)
  have em := Z.r.main hm
  have Z' : tZ s0 F (b + tY s) s w g h := Z.le (by omega)
  refine b_X8_dropBinding_41 (e_R ex fun (z1 : gR h x2 1 = g.ref 32 (s.bi x).exch) => ?_)
  rw [z1]
  refine e_I (Z.r.1.cell hek (by decide)) fun (z2 : gI h (g.ref 32 (s.bi x).exch) 3 = sB (s.ex (s.bi x).exch).auto) => ?_
  rw [z2, sB_0]
  refine ⟨fun ha => ?_, fun ha => e_R ex fun _ => ⟨⟨_, em⟩, t_bindingsOf (oe := some (s.bi x).exch) (oq := none) Z.r Z.sc hm hek rfl ⟨_, rfl, ?_⟩⟩⟩
  · rw [if_neg (by rw [ha]; exact fun hh => absurd hh.1 (by decide))] at K
    exact K g h Z' (gL.refl g)
  · have hfl : s.bs.filter (fun y => oeq (some (s.bi x).exch) (s.bi y).exch && oeq none (s.bi y).queue) = s_bindsE s (s.bi x).exch := List.filter_congr fun y _ => by
      show ((s.bi y).exch == (s.bi x).exch && true) = _
      rw [Bool.and_true]
    have hbl := Z.i.cp.2.2.2.2.2.1
    have hle : (s_bindsE s (s.bi x).exch).length ≤ s.bs.length := List.length_filter_le _ _
    rw [Bool.not_eq_false] at ha
    rw [hfl, show (0 : Int32) = Int32.ofNat 0 from rfl, i_inj (by omega) (by decide), List.length_eq_zero_iff]
    refine ⟨fun hne => ?_, fun h0 => e_R ex fun _ => ?_⟩
    · rw [if_neg (fun hh => hne hh.2)] at K
      exact K g h Z' (gL.refl g)
    · rw [if_pos ⟨ha, h0⟩] at K
      rw [z1]
      have hye := tY_any (d_delE Z.i he).1 Z.i
      exact ⟨⟨_, em⟩, t_delEZ (d := d) Z hm hek he fun g4 h4 Z4 L4 => K g4 h4 (Z4.le (by omega)) L4⟩
theorem t_dropBinding (Z : tZ s0 F (b + 904 + tY s) s w g h) (hm : g.kind x0 = (1, 0)) (hj : s.bs[j]? = some x)
    (K : ∀ g1 h1, tZ s0 F (b + tY (s_dropB s x)) (s_dropB s x) w g1 h1 → gL g g1 → Q .null h1) : zX s0 m_X8_dropBinding (d + 4) [zr x0, .int (Int32.ofNat j)] h Q E := by
  rw [s_dropB_eq] at K
  have hxb := List.mem_of_getElem? hj
  obtain ⟨hlt, -⟩ := List.getElem?_eq_some_iff.mp hj
  have hkx := Z.sc.bs x hxb
  have hxk : g.kind (g.ref 34 x) = (34, x) := Z.r.al (by decide) (by decide) hkx
  obtain ⟨he, hq⟩ := Z.i.cp.2.2.2.2.2.2.2.2.1 x hxb
  have hbl := Z.i.cp.2.2.2.2.2.1
  have I1 := p_offX Z.i hxb
  obtain ⟨p2, p3, p4⟩ := offX_w (s := s) (x := x)
  have hc := Z.c
  have hf := Z.facts
  have em := Z.r.main hm
  have A7 := Z.r.2.ar7
  have o1 : (s_offX s x).ex = s.ex := by unfold s_offX; split <;> rfl
  have o2 : (s_offX s x).bi = s.bi := by unfold s_offX; split <;> rfl
  have o3 : (s_offX s x).es = s.es := by unfold s_offX; split <;> rfl
  rw [← o1, ← o2] at K
  have h41 : ∀ g2 h2, tR s0 F (b + 900 + tY s + tP s) (s_offX s x) w g2 h2 → gL g g2 → zP s0 m_X8_dropBinding (d + 3 + 1) 41 [some (zr x0), none, some (zr (g.ref 34 x))] [] h2 Q E := fun g2 h2 R2 L2 => by
    refine t_dropB_41 (d := d) (s := s_offX s x) (b := b) ⟨by rw [p2, p4]; exact R2, I1, by omega⟩ (L2.m hm) (L2.th (by decide) (by decide) hxk) (by rw [o2, o3]; exact he) fun g3 h3 Z3 L3 => K g3 h3 Z3 (L2.trans L3)
  refine c_X8_dropBinding (e_R em fun (z1 : gR h x0 3 = g.ref 7 0) => ?_)
  rw [z1]
  refine g_El Z.r A7 rfl (by decide) hj (by decide) fun z2 => ?_
  rw [z2]
  refine ⟨⟨_, em⟩, t_takeBinding (Z.r.less (b' := b + 900 + tY s + tP s + 3) (by omega)) Z.sc hm hlt fun g1 h1 R1 L1 => ?_⟩
  rw [eraseIdx_erase Z.i.cp.2.1 hj] at R1
  have hm1 := L1.m hm
  have hx1 : g1.kind (g.ref 34 x) = (34, x) := L1.th (by decide) (by decide) hxk
  have r1 : (s.w_bs (s.bs.erase x)).bi = s.bi := wr_bi_bs
  have r2 : (s.w_bs (s.bs.erase x)).ex = s.ex := wr_ex_bs
  have r3 : (s.w_bs (s.bs.erase x)).qu = s.qu := wr_qu_bs
  have r4 : (s.w_bs (s.bs.erase x)).facts = s.facts := wr_facts_bs
  have r5 : (s.w_bs (s.bs.erase x)).knd = s.knd := wr_knd_bs
  unfold s_offX at h41
  revert R1 h41 r1 r2 r3 r4 r5
  generalize s.w_bs (s.bs.erase x) = s2
  intro h41 R1 r1 r2 r3 r4 r5
  have ex1 := R1.1.cell hx1 (by decide)
  have hek : g1.kind (g1.ref 32 (s2.bi x).exch) = (32, (s2.bi x).exch) := R1.al (by decide) (by decide) (by rw [r1, r5]; exact Z.sc.es _ he)
  have hqk : g1.kind (g1.ref 33 (s2.bi x).queue) = (33, (s2.bi x).queue) := R1.al (by decide) (by decide) (by rw [r1, r5]; exact Z.sc.qs _ hq)
  refine e_R ex1 fun (z3 : gR h1 (g.ref 34 x) 1 = g1.ref 32 (s2.bi x).exch) => ?_
  rw [z3]
  refine e_I (R1.1.cell hek (by decide)) fun (z4 : gI h1 (g1.ref 32 (s2.bi x).exch) 2 = sB (s2.ex (s2.bi x).exch).dur) => ?_
  rw [z4, sB_0]
  refine ⟨fun hd => ?_, fun hd => e_R ex1 fun (z5 : gR h1 (g.ref 34 x) 0 = g1.ref 33 (s2.bi x).queue) => ?_⟩
  · rw [r1, r2] at hd
    rw [if_neg (fun hh => by rw [hd] at hh; exact absurd hh.1 (by decide))] at h41
    exact h41 g1 h1 (R1.less (by omega)) L1
  rw [z5]
  refine ⟨⟨_, R1.1.cell hqk (by decide)⟩, t_kept (d := d + 3) R1 hqk ⟨_, rfl, ?_⟩⟩
  rw [sB_0]
  rw [Bool.not_eq_false, r1, r2] at hd
  rw [r1, r3]
  refine ⟨fun hk => ?_, fun hk => ⟨⟨_, R1.main hm1⟩, ?_⟩⟩
  · rw [if_neg (fun hh => by rw [hk] at hh; exact absurd hh.2 (by decide))] at h41
    exact h41 g1 h1 (R1.less (by omega)) L1
  · rw [Bool.not_eq_false] at hk
    rw [if_pos ⟨hd, hk⟩] at h41
    exact t_tell (d := d + 1) (id := x) R1 hm1 (by rw [r4]; omega) ⟨fun e => absurd e (by decide), fun e => absurd e (by decide), fun _ => (R1.1.at hx1 (by decide)).symm, fun e => absurd e (by decide), by decide, by decide⟩ fun g6 h6 R6 L6 => h41 g6 h6 R6 (L1.trans L6)
theorem t_bind_166 (Z : tZ s0 F (b + tY s) s w g h) (hm : g.kind x0 = (1, 0)) (hx : g.kind x1 = (3, j)) (hj : isH j)
    (K : ∀ w3 g3 h3, tZ s0 F (b + tY (if silent = 0 then s_ans s j 50 (if on then 21 else 51) [] else s)) (if silent = 0 then s_ans s j 50 (if on then 21 else 51) [] else s) w3 g3 h3 → tWm w w3 → gL g g3 → Q .null h3) :
    zP s0 m_X8_bind (d + 79) 166 [some (zr x0), some (zr x1), some (.int (sB on)), none, none, none, some (.int silent), none, none, none, none] [] h Q E := by
  refine b_X8_bind_166 ⟨fun hn => ?_, fun h0 => ?_⟩
  · rw [if_neg hn] at K
    exact K w g h Z tWm.refl (gL.refl g)
  rw [if_pos h0] at K
  refine e_R (Z.r.1.cell hx (by decide)) fun (z1 : gR h x1 0 = g.ref 2 (j / 4)) => e_I (Z.r.1.cell hx (by decide)) fun (z2 : gI h x1 1 = Int32.ofNat (j % 4)) => ?_
  rw [z1, z2, sB_0]
  refine ⟨fun ho => ⟨⟨_, Z.r.main hm⟩, t_simpleZ (d := d + 7) Z hm hj fun w1 g1 h1 Z1 W1 L1 => ?_⟩, fun ho => ⟨⟨_, Z.r.main hm⟩, t_simpleZ (d := d + 7) Z hm hj fun w1 g1 h1 Z1 W1 L1 => ?_⟩⟩
  · rw [ho] at K
    exact K w1 g1 h1 Z1 W1.tom L1
  · rw [Bool.not_eq_false] at ho
    rw [ho] at K
    exact K w1 g1 h1 Z1 W1.tom L1
theorem findB_mem (hf : s_findB s q e key t = some x) : x ∈ s.bs := List.mem_of_find?_eq_some hf
theorem t_bind_29 (J : tJs s0 F) (Z : tZ s0 F (b + 1110 + 12 * rRem rd + tY s) s (dr, sz, rd, cl, me, u) g h) (hm : g.kind x0 = (1, 0)) (hx : g.kind x1 = (3, j)) (hj : isH j) (hE : gB g (zst s0 "RelayHallModel" "EMPTY" "[B") []) (B3 : gB g x3 nm) (B4 : gB g x4 frm) (B5 : gB g x5 key) (hl3 : nm.length ≤ 40) (hl4 : frm.length ≤ 40) (hl5 : key.length ≤ 40) (hs0 : on = false → silent = 0)
    (K : ∀ w1 g1 h1, tZ s0 F (b + tY (s_tld j cl me (s_then (r_table rd).2 s (s_bindF s j on nm frm key silent (r_table rd).1)))) (s_tld j cl me (s_then (r_table rd).2 s (s_bindF s j on nm frm key silent (r_table rd).1))) w1 g1 h1 → tWm (dr, sz, rd, cl, me, u) w1 → gL g g1 → Q .null h1) :
    zP s0 m_X8_bind (d + 79) 29 [some (zr x0), some (zr x1), some (.int (sB on)), some (zr x3), some (zr x4), some (zr x5), none, none, none, none, none] [.int silent] h Q E := by
  refine b_X8_bind_29 ⟨⟨_, Z.r.main hm⟩, t_tableZ (d := d + 74) (b := b + 904 + tY s) Z (by omega) hm hE fun n3 g4 h4 Z4 L4 T4 => ⟨_, rfl, ?_⟩⟩
  revert K Z4 T4
  generalize (r_table rd).1 = t
  generalize (r_table rd).2 = rd4
  intro K Z4 T4
  have hm4 := L4.m hm
  have hx4 := L4.k hx gSt3
  have em := Z4.r.main hm4
  refine ⟨⟨_, em⟩, t_thenW (d := d + 1) (N := fun h => Q .null h) (f := s_bindF s j on nm frm key silent t) ?_ (Z4.le (by omega)) hm4 hx4 hj (fun w3 g3 h3 Z3 W3 L3 => K w3 g3 h3 Z3 ⟨W3.1, W3.2⟩ (L4.trans L3)) ?_⟩
  · exact fun h1 hq => ⟨fun hh => absurd hh (by decide), fun _ => hq⟩
  intro hw K
  obtain ⟨T, ok⟩ := T4 (whole_bad hw)
  refine ⟨fun _ => ?_, fun hh => absurd rfl hh⟩
  have Zh : tZ s0 F (b + 900 + tY s) s (dr, sz, rd4, cl, me, u) g4 h4 := Z4.le (by omega)
  have Z0 : tZ s0 F (b + tY s) s (dr, sz, rd4, cl, me, u) g4 h4 := Z4.le (by omega)
  unfold s_bindF s_withQ at K
  refine ⟨⟨_, em⟩, t_asked (d := d) Zh hm4 hx4 hj (L4.B B3) hl3 (fun q hq ha => ⟨_, rfl, ?_⟩) fun code ha w2 g2 h2 Z2 W2 L2 => ⟨0, rfl, fun hh => absurd rfl hh, fun _ => ?_⟩⟩
  rotate_left
  · simp only [ha, tld_soft] at K
    exact K w2 g2 h2 Z2 W2.tom L2
  simp only [ha] at K
  have hqk : g4.kind (g4.ref 33 q) = (33, q) := Z4.r.al (by decide) (by decide) (Z4.sc.qs q hq)
  refine ⟨fun _ => ⟨⟨_, em⟩, t_boundTo (d := d) Zh hm4 hx4 hj (L4.B B4) hl4 (fun e he => ⟨_, rfl, ?_⟩) fun he w2 g2 h2 Z2 W2 L2 => ⟨0, rfl, fun hh => absurd rfl hh, fun _ => ?_⟩⟩, fun hh => absurd hh (Z4.r.1.pos hqk (by decide))⟩
  rotate_left
  · simp only [he, tld_soft] at K
    exact K w2 g2 h2 Z2 W2.tom L2
  simp only [he] at K
  have hem := exch_mem he
  have hek : g4.kind (g4.ref 32 e) = (32, e) := Z4.r.al (by decide) (by decide) (Z4.sc.es e hem)
  have hbl := Z4.i.cp.2.2.2.2.2.1
  refine ⟨fun _ => ⟨⟨_, em⟩, t_findBinding (d := d + 73) Z4.r Z4.sc Z4.i.tx Z4.i.cp hm4 hqk hek (L4.B B5) hl5 T ok (fun hf => ⟨_, rfl, ?_⟩) fun jb x hjx hf => ⟨_, rfl, ?_⟩⟩, fun hh => absurd hh (Z4.r.1.pos hek (by decide))⟩
  · simp only [hf] at K
    cases on with
    | false =>
      have h0 := hs0 rfl
      subst h0
      have K : ∀ w1 g1 h1, tZ s0 F (b + tY (s_ans s j 50 51 [])) (s_ans s j 50 51 []) w1 g1 h1 → tWm (dr, sz, rd4, cl, me, u) w1 → gL g4 g1 → Q .null h1 := K
      refine ⟨fun _ => b_X8_bind_128 ⟨fun _ => b_X8_bind_150 ⟨fun hh => absurd rfl hh, fun _ => ⟨fun _ => t_bind_166 (d := d) (on := false) (silent := 0) Z0 hm4 hx4 hj K, fun hh => absurd rfl hh⟩⟩, fun hh => absurd rfl hh⟩, fun hh => absurd rfl hh⟩
    | true =>
      refine ⟨fun hh => absurd hh (by decide), fun _ => ⟨fun hh => absurd rfl hh, fun _ => e_I em fun (z1 : gI h4 x0 7 = Int32.ofNat s.bs.length) => ?_⟩⟩
      rw [z1, show (40 : Int32) = Int32.ofNat 40 from rfl, i_inj (by omega) (by decide)]
      refine ⟨fun h40 => b_X8_bind_128 ⟨fun hh => absurd hh (by decide), fun _ => ⟨fun hh => absurd rfl hh, fun _ => ⟨⟨_, em⟩, ?_⟩⟩⟩, fun h40 => ?_⟩
      · simp only [if_neg h40, if_true] at K
        refine t_addBinding (d := d + 75) (b := b) (Z4.le (by omega)) hm4 hqk hek hq hem (L4.B B5) hl5 T ok (by omega) fun g5 h5 Z5 L5 => b_X8_bind_150 ⟨fun _ => ?_, fun hh => absurd hh (by decide)⟩
        exact t_bind_166 (d := d) (on := true) (silent := silent) Z5 (L5.m hm4) (L5.k hx4 gSt3) hj fun w6 g6 h6 Z6 W6 L6 => K w6 g6 h6 Z6 W6 (L5.trans L6)
      · simp only [if_pos h40, if_true, tld_hard] at K
        exact t_hardJ (d := d + 2) Zh hm4 hx4 hj K
  · simp only [hf] at K
    have hn1 : ¬ Int32.ofNat jb = -1 := fun hh => by
      have := (List.getElem?_eq_some_iff.mp hjx).1
      exact (i_neg1 (by omega)).mp hh
    cases on with
    | false =>
      have h0 := hs0 rfl
      subst h0
      refine ⟨fun _ => b_X8_bind_128 ⟨fun _ => b_X8_bind_150 ⟨fun hh => absurd rfl hh, fun _ => ⟨fun hh => absurd hh hn1, fun _ => ⟨⟨_, em⟩, ?_⟩⟩⟩, fun hh => absurd rfl hh⟩, fun hh => absurd rfl hh⟩
      refine t_dropBinding (d := d + 74) (b := b) Z4 hm4 hjx fun g5 h5 Z5 L5 => ?_
      have K : ∀ w1 g1 h1, tZ s0 F (b + tY (s_ans (s_dropB s x) j 50 51 [])) (s_ans (s_dropB s x) j 50 51 []) w1 g1 h1 → tWm (dr, sz, rd4, cl, me, u) w1 → gL g4 g1 → Q .null h1 := K
      exact t_bind_166 (d := d) (on := false) (silent := 0) Z5 (L5.m hm4) (L5.k hx4 gSt3) hj fun w6 g6 h6 Z6 W6 L6 => K w6 g6 h6 Z6 W6 (L5.trans L6)
    | true =>
      have K : ∀ w1 g1 h1, tZ s0 F (b + tY (if silent = 0 then s_ans s j 50 21 [] else s)) (if silent = 0 then s_ans s j 50 21 [] else s) w1 g1 h1 → tWm (dr, sz, rd4, cl, me, u) w1 → gL g4 g1 → Q .null h1 := K
      exact ⟨fun hh => absurd hh (by decide), fun _ => ⟨fun _ => b_X8_bind_128 ⟨fun hh => absurd hh (by decide), fun _ => ⟨fun _ => b_X8_bind_150 ⟨fun _ => t_bind_166 (d := d) (on := true) (silent := silent) Z0 hm4 hx4 hj K, fun hh => absurd hh (by decide)⟩, fun hh => absurd hh hn1⟩⟩, fun hh => absurd hh hn1⟩⟩
theorem s_binds_t : s_binds s j true rd = s_then (r_table (r_u8 (r_short (r_short (r_short rd).2).2).2).2).2 s (s_bindF s j true (r_short rd).1 (r_short (r_short rd).2).1 (r_short (r_short (r_short rd).2).2).1 (r_u8 (r_short (r_short (r_short rd).2).2).2).1 (r_table (r_u8 (r_short (r_short (r_short rd).2).2).2).2).1) := rfl
theorem s_binds_f : s_binds s j false rd = s_then (r_table (r_short (r_short (r_short rd).2).2).2).2 s (s_bindF s j false (r_short rd).1 (r_short (r_short rd).2).1 (r_short (r_short (r_short rd).2).2).1 0 (r_table (r_short (r_short (r_short rd).2).2).2).1) := rfl
theorem t_bind (J : tJs s0 F) (Z : tZ s0 F (b + 1220 + 12 * rRem rd + tY s) s (dr, sz, rd, cl, me, u) g h) (hm : g.kind x0 = (1, 0)) (hx : g.kind x1 = (3, j)) (hj : isH j) (hE : gB g (zst s0 "RelayHallModel" "EMPTY" "[B") [])
    (K : ∀ w1 g1 h1, tZ s0 F (b + tY (s_tld j cl me (s_binds s j on rd))) (s_tld j cl me (s_binds s j on rd)) w1 g1 h1 → tWm (dr, sz, rd, cl, me, u) w1 → gL g g1 → Q .null h1) : zX s0 m_X8_bind (d + 79) [zr x0, zr x1, .int (sB on)] h Q E := by
  refine c_X8_bind ⟨⟨_, Z.r.main hm⟩, t_shortZ (d := d + 77) (b := b + 1184 + 12 * rRem rd + tY s) Z (by omega) hm hE fun n1 g1 h1 Z1 L1 B1 => ⟨_, rfl, ⟨_, Z1.r.main (L1.m hm)⟩, t_shortZ (d := d + 77) (b := b + 1147 + 12 * rRem rd + tY s) Z1 (by omega) (L1.m hm) (L1.B hE) fun n2 g2 h2 Z2 L2 B2 => ⟨_, rfl, ⟨_, Z2.r.main (L2.m (L1.m hm))⟩, t_shortZ (d := d + 77) (b := b + 1110 + 12 * rRem rd + tY s) Z2 (by omega) (L2.m (L1.m hm)) (L2.B (L1.B hE)) fun n3 g3 h3 Z3 L3 B3 => ⟨_, rfl, ?_⟩⟩⟩⟩
  have hl1 := r_short_len (rd := rd)
  have hl2 := r_short_len (rd := (r_short rd).2)
  have hl3 := r_short_len (rd := (r_short (r_short rd).2).2)
  have q1 := rRem_le (rd_short (r := rd)).1
  have q2 := rRem_le (rd_short (r := (r_short rd).2)).1
  have q3 := rRem_le (rd_short (r := (r_short (r_short rd).2).2)).1
  have L13 := (L1.trans L2).trans L3
  have hm3 := L13.m hm
  have B1' := L3.B (L2.B B1)
  have B2' := L3.B B2
  cases on with
  | true =>
    rw [s_binds_t] at K
    refine ⟨fun hh => absurd hh (by decide), fun _ => ?_⟩
    revert K Z3 B1' B2' B3 hl1 hl2 hl3 q1 q2 q3
    generalize (r_short rd).1 = nm
    generalize (r_short rd).2 = rd1
    generalize (r_short rd1).1 = frm
    generalize (r_short rd1).2 = rd2
    generalize (r_short rd2).1 = key
    generalize (r_short rd2).2 = rd3
    intro Z3 B3 hl1 hl2 hl3 q1 q2 q3 B1' B2' K
    refine ⟨⟨_, Z3.r.main hm3⟩, t_u8 Z3.r hm3 fun h4 R4 => ⟨_, rfl, ?_⟩⟩
    have Z4 := Z3.re R4
    have q4 := rRem_le (rd_u8 (r := rd3)).1
    exact t_bind_29 (d := d) (b := b) (on := true) J (Z4.le (by omega)) hm3 (L13.k hx gSt3) hj (L13.B hE) B1' B2' B3 hl1 hl2 hl3 (fun hh => nomatch hh) fun w5 g5 h5 Z5 W5 L5 => K w5 g5 h5 Z5 ⟨W5.1, W5.2⟩ (L13.trans L5)
  | false =>
    rw [s_binds_f] at K
    refine ⟨fun _ => ?_, fun hh => absurd rfl hh⟩
    revert K Z3 B1' B2' B3 hl1 hl2 hl3 q1 q2 q3
    generalize (r_short rd).1 = nm
    generalize (r_short rd).2 = rd1
    generalize (r_short rd1).1 = frm
    generalize (r_short rd1).2 = rd2
    generalize (r_short rd2).1 = key
    generalize (r_short rd2).2 = rd3
    intro Z3 B3 hl1 hl2 hl3 q1 q2 q3 B1' B2' K
    exact t_bind_29 (d := d) (b := b) (on := false) J (Z3.le (by omega)) hm3 (L13.k hx gSt3) hj (L13.B hE) B1' B2' B3 hl1 hl2 hl3 (fun _ => rfl) fun w5 g5 h5 Z5 W5 L5 => K w5 g5 h5 Z5 ⟨W5.1, W5.2⟩ (L13.trans L5)
end MM
