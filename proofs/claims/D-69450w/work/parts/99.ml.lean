/-! ===== the twin: exchanges declared ===== -/
set_option maxRecDepth 100000
def s_alt (t : sTab) : Option sBy := match s_text t "alt" with
  | some [] => none
  | a => a
def s_madeF (s : sSt) (nm : sBy) (k bits : Int32) (alt : Option sBy) : sRs :=
  if nm = [] then s_softF s 403 else if k = -1 then s_hardF s 503 else match s_exch s nm with
  | some e => if (s.ex e).kind == k && (s.ex e).dur == s_bit bits 2 && (s.ex e).auto == s_bit bits 4 && (s.ex e).int == s_bit bits 8 && (s.ex e).alt == alt then s_ok s else s_softF s 406
  | none => if s.es.length = 12 then s_hardF s 506 else s_ok (s_addE (s_b32 s (nm, k, s_bit bits 2, s_bit bits 4, s_bit bits 8, true, alt)) s.next)
def s_declEF (s : sSt) (j : Nat) (nm kd : sBy) (bits : Int32) (t : sTab) : sRs :=
  s_bind (if s_bit bits 1 then (if s_exch s nm = none ∧ nm ≠ [] then s_softF s 404 else s_ok s) else s_madeE s nm kd bits t) (fun s1 => s_ok (if s_bit bits 16 then s1 else s_ans s1 j 40 11 []))
section ML
variable {s0 : zE} {F : Nat → Option zC} {b : Nat} {s s' s1 : sSt} {w w' w1 w2 : tW} {g g' g0 : sG} {h h' : zH} {d x0 x1 x2 x3 x5 x6 x7 i j q m n e : Nat} {Q : Value → zH → Prop} {E : Nat → zH → Prop} {dr nm kd : sBy} {sz cl me code k bits : Int32} {rd : sRd} {u : Int32 × List Nat × (Nat → Nat)} {f : sRs} {t : sTab} {alt : Option sBy} {v : sEx}
theorem sB_eq {x y : Bool} : (sB x = sB y) ↔ x = y := by
  cases x <;> cases y <;> decide
theorem sB_01 {x : Bool} : sB x = 0 ∨ sB x = 1 := by
  cases x
  · exact Or.inl rfl
  · exact Or.inr rfl
theorem bit_1 {x k : Int32} (hb : ¬ x &&& k = 0) : s_bit x k = true := by
  cases h : s_bit x k with
  | true => rfl
  | false => exact absurd (bit_0.mp h) hb
theorem bit_v0 {x k : Int32} (hb : x &&& k = 0) : (0 : Int32) = sB (s_bit x k) := by rw [bit_0.mpr hb]; rfl
theorem bit_v1 {x k : Int32} (hb : ¬ x &&& k = 0) : (1 : Int32) = sB (s_bit x k) := by rw [bit_1 hb]; rfl
theorem len_0 {l : sBy} (hl : l.length < 2147483648) : (Int32.ofNat l.length = 0) ↔ l = [] := by
  rw [show (0 : Int32) = Int32.ofNat 0 from rfl, i_inj hl (by decide)]
  exact List.length_eq_zero_iff
theorem len_le0 {l : sBy} (hl : l.length < 2147483648) : (Int32.ofNat l.length ≤ 0) ↔ l = [] := by
  rw [show (0 : Int32) = Int32.ofNat 0 from rfl, i_le hl (by decide), Nat.le_zero]
  exact List.length_eq_zero_iff
theorem rRem_le {r r' : sRd} (H : rdOk r r') : rRem r' ≤ rRem r := by
  obtain ⟨h1, h2, -⟩ := H
  unfold rRem
  rw [h1]
  omega
/-- a fault that is hard, told within a method -/
theorem t_hardJ {P : zH → Prop} (Z : tZ s0 F (b + 900 + tY s) s w g h) (hm : g.kind x0 = (1, 0)) (hx : g.kind x1 = (3, j)) (hj : isH j)
    (K : ∀ w1 g1 h1, tZ s0 F (b + tY (s_hard s (j / 4) code w.cl w.me)) (s_hard s (j / 4) code w.cl w.me) w1 g1 h1 → tWm w w1 → gL g g1 → P h1) :
    (fR h x1 [9] 0) ∧ ((fI h x0 [7] 32) ∧ ((fI h x0 [7] 33) ∧ ((fC h x0 7 ∧ zX s0 m_X8_hard (d + 76) [zr x0, zr (gR h x1 0), .int code, .int (gI h x0 32), .int (gI h x0 33)] h (fun _ h5 => P h5) E)))) := by
  refine e_R (Z.r.1.cell hx (by decide)) fun (z1 : gR h x1 0 = g.ref 2 (j / 4)) => e_I (Z.r.main hm) fun (z2 : gI h x0 32 = w.cl) => e_I (Z.r.main hm) fun (z3 : gI h x0 33 = w.me) => ?_
  rw [z1, z2, z3]
  exact ⟨⟨_, Z.r.main hm⟩, t_hardZ (d := d) Z hm (Z.r.cn hj.div) hj.div fun w1 g1 h1 Z1 W1 L1 => K w1 g1 h1 Z1 W1.tom L1⟩
/-- a plain answer within a method -/
theorem t_ansJ {P : zH → Prop} {k1 ms : Int32} (Z : tZ s0 F (b + tY s) s w g h) (hm : g.kind x0 = (1, 0)) (hx : g.kind x1 = (3, j)) (hj : isH j)
    (K : ∀ w1 g1 h1, tZ s0 F (b + tY (s_ans s j k1 ms [])) (s_ans s j k1 ms []) w1 g1 h1 → tWm w w1 → gL g g1 → P h1) :
    (fR h x1 [9] 0) ∧ ((fI h x1 [9] 1) ∧ ((fC h x0 7 ∧ zX s0 m_X8_simple (d + 71) [zr x0, zr (gR h x1 0), .int (gI h x1 1), .int k1, .int ms] h (fun _ h5 => P h5) E))) := by
  refine e_R (Z.r.1.cell hx (by decide)) fun (z1 : gR h x1 0 = g.ref 2 (j / 4)) => e_I (Z.r.1.cell hx (by decide)) fun (z2 : gI h x1 1 = Int32.ofNat (j % 4)) => ?_
  rw [z1, z2]
  exact ⟨⟨_, Z.r.main hm⟩, t_simpleZ (d := d) Z hm hj fun w1 g1 h1 Z1 W1 L1 => K w1 g1 h1 Z1 W1.tom L1⟩
/-- .. and all was read as told -/
theorem t_thenW {M : Int32 → zH → Prop} {N : zH → Prop} (hN : ∀ h1, N h1 → M 1 h1) (Z : tZ s0 F (b + 900 + tY s) s (dr, sz, rd, cl, me, u) g h) (hm : g.kind x0 = (1, 0)) (hx : g.kind x1 = (3, j)) (hj : isH j)
    (K : ∀ w1 g1 h1, tZ s0 F (b + tY (s_tld j cl me (s_then rd s f))) (s_tld j cl me (s_then rd s f)) w1 g1 h1 → tWm (dr, sz, rd, cl, me, u) w1 → gL g g1 → N h1)
    (K0 : r_whole rd = true → (∀ w1 g1 h1, tZ s0 F (b + tY (s_tld j cl me f)) (s_tld j cl me f) w1 g1 h1 → tWm (dr, sz, rd, cl, me, u) w1 → gL g g1 → N h1) → M 0 h) :
    zX s0 m_X8_wrong (d + 77) [zr x0, zr x1] h (fun v h1 => ∃ r : Int32, v = .int r ∧ M r h1) E := by
  refine t_wrong (d := d) Z hm hx hj (fun hw => ⟨_, rfl, ?_⟩) (fun hw w1 g1 h1 Z1 W1 L1 => ⟨_, rfl, ?_⟩)
  · have hw : r_whole rd = true := hw
    rw [then_t hw] at K
    exact K0 hw K
  · have hw : r_whole rd = false := hw
    rw [then_f hw, tld_hard] at K
    have hy := tY_hard (code := 502) (c1 := cl) (m1 := me) Z.i hj
    have Z1 : tZ s0 F (b + 900 + tY s) (s_hard s (j / 4) 502 cl me) w1 g1 h1 := Z1
    exact hN h1 (K w1 g1 h1 (Z1.le (by omega)) W1.tom L1)
theorem whole_bad {r : sRd} (hw : r_whole r = true) : r.2.2 = false := by
  unfold r_whole at hw
  rw [Bool.and_eq_true] at hw
  cases h : r.2.2 with
  | false => rfl
  | true => rw [h] at hw; exact absurd hw.1 (by decide)
theorem bind_n {x : sRs} {ff : sSt → sRs} (hx : x.2 = none) : s_bind x ff = ff x.1 := by
  unfold s_bind
  rw [hx]
theorem bind_s {x : sRs} {ff : sSt → sRs} (hx : x.2 ≠ none) : s_bind x ff = x := by
  unfold s_bind
  cases h : x.2 with
  | none => exact absurd h hx
  | some y => rfl
theorem t_tableZ {N : Nat} {u : Int32 × Int32 × Int32 × List Nat × (Nat → Nat)} (Z : tZ s0 F N s (dr, sz, rd, u) g h) (hN : b + 12 * rRem rd + 200 ≤ N) (hm : g.kind x0 = (1, 0)) (hE : gB g (zst s0 "RelayHallModel" "EMPTY" "[B") [])
    (K : ∀ n g1 h1, tZ s0 F b s (dr, sz, (r_table rd).2, u) g1 h1 → gL g g1 → ((r_table rd).2.2.2 = false → gTab g1 n (r_table rd).1 ∧ sTabOk (r_table rd).1) → Q (zr n) h1) : zX s0 m_X8_table (d + 4) [zr x0] h Q E :=
  t_table (d := d) (b := b + tP s) (Z.r.less (by omega)) hm hE fun n g1 h1 R1 L1 B1 => K n g1 h1 (Z.cut (k := 0) (by omega) (R1.less (Nat.le_add_right _ _))) L1 B1
theorem s_madeE_eq : s_madeE s nm kd bits t = s_madeF s nm (s_kindOf kd) bits (s_alt t) := by
  have hh : ∀ (v : sEx), v.dur = s_bit bits 2 → s_addE (s_b32 s v) s.next = (if s_bit bits 2 = true then s_tell ((s_b32 s v).w_es (s.es ++ [s.next])) 0 s.next else (s_b32 s v).w_es (s.es ++ [s.next])) := fun v hv => by
    unfold s_addE
    rw [b32_at, b32_es, hv]
  unfold s_madeF
  rw [hh _ rfl]
  rfl
theorem s_declE_eq : s_declE s j rd = s_then (r_table (r_u8 (r_short (r_short rd).2).2).2).2 s (s_declEF s j (r_short rd).1 (r_short (r_short rd).2).1 (r_u8 (r_short (r_short rd).2).2).1 (r_table (r_u8 (r_short (r_short rd).2).2).2).1) := rfl
theorem exch_none (he : s_exch s nm = none) : ∀ x ∈ s.es, (s.ex x).name ≠ nm := fun x hx e => by
  have := List.find?_eq_none.mp he x hx
  exact this (beq_iff_eq.mpr e)
/-- an exchange is new among those that are there -/
theorem p_newE (I : sI s) (hl : s.es.length < 12) (he : s_exch s v.name = none) (ho : sExOk v) : sI (s_addE (s_b32 s v) s.next) ∧ tP (s_addE (s_b32 s v) s.next) = tP s + 4 ∧ sWt (s_addE (s_b32 s v) s.next) ≤ sWt s + 1 ∧ tY (s_addE (s_b32 s v) s.next) = tY s := by
  have hold : ∀ x ∈ s.es, x ≠ s.next := fun x hx => I.sc.old (I.sc.es x hx) (by decide)
  have I1 : sScope (s_b32 s v) := I.sc.born bn32 b32_next (by decide) (fun e => absurd e (by decide)) (fun e => absurd e (by decide)) (fun e => absurd e (by decide)) (fun e => absurd e (by decide)) (fun e => absurd e (by decide))
  have I2 : sI (s_b32 s v) := I.born bn32 I1 b32_messages b32_lastNum (fun _ => by rw [b32_at]; exact ho) (fun e => absurd e (by decide)) (fun e => absurd e (by decide)) (fun e => absurd e (by decide)) (fun e => absurd e (by decide))
  obtain ⟨a1, a2, a3⟩ := addE_w (s := s_b32 s v) (e := s.next)
  refine ⟨p_addE I2 bn32.kn (by rw [b32_es]; exact fun hh => hold _ hh rfl) (by rw [b32_es]; exact hl) (fun x hx => ?_), by rw [a1, tP_born I.sc bn32 b32_lastNum], by rw [← sWt_born (s := s) (bn32 (v := v))]; exact a2, by rw [a3, tY_born I.sc bn32 b32_lastNum]⟩
  rw [b32_es] at hx
  rw [b32_at, b32_ex, sUp_ne (hold x hx)]
  exact exch_none he x hx
theorem t_mkE_273 (R : tR s0 F (b + 3) s w g h) (I : sScope s) (hm : g.kind x0 = (1, 0)) (U : zUn s0 F g h n 36 [zr x3, .int v.kind, .int (sB v.dur), .int (sB v.auto), .int 0, .int 0, zr 0]) (hB : gB g x3 v.name) (hA : gBo g x7 v.alt) (ht : v.there = true) (hl : s.es.length < 12) (hf : s.facts.length < 980000)
    (K : ∀ g1 h1, tR s0 F b (s_addE (s_b32 s v) s.next) w g1 h1 → gL g g1 → Q (.int 1) h1) : zP s0 m_X8_makesExchange (d + 78) 273 [some (zr x0), none, none, none, none, none, none, some (zr x7), some (zr n)] [.int (sB v.int), zr n] h Q E := by
  have h0 : s.knd s.next = 0 := I.new _ (Nat.le_refl _)
  refine b_X8_makesExchange_273 ⟨sB_01, g_PF R U fun h1 R1 U1 _ => g_PF R1 U1 fun h2 R2 U2 _ => g_PF R2 U2 fun h3 R3 U3 _ => ?_⟩
  have U3 : zUn s0 F g h3 n 36 [zr x3, .int v.kind, .int (sB v.dur), .int (sB v.auto), .int (sB v.int), .int 1, zr x7] := U3
  have Ra := R3.rf (c := 32) (i := s.next) (by decide) h0 (fun k => if k = 0 then x3 else x7)
  have La : gL g (gRf g 32 s.next (fun k => if k = 0 then x3 else x7)) := gRf.l
  have Ua : zUn s0 F (gRf g 32 s.next (fun k => if k = 0 then x3 else x7)) h3 n 36 [zr x3, .int v.kind, .int (sB v.dur), .int (sB v.auto), .int (sB v.int), .int 1, zr x7] := U3
  have r0 : (gRf g 32 s.next (fun k => if k = 0 then x3 else x7)).rf 32 s.next 0 = x3 := gRf_at
  have r6 : (gRf g 32 s.next (fun k => if k = 0 then x3 else x7)).rf 32 s.next 6 = x7 := gRf_at
  have hB1 := La.B hB
  have hA1 := La.Bo hA
  revert Ra La Ua r0 r6 hB1 hA1
  generalize gRf g 32 s.next (fun k => if k = 0 then x3 else x7) = ga
  intro Ra La Ua r0 r6 hB1 hA1
  have Rb := Ra.born (s' := s_b32 s v) (c := 32) I Ua (by decide) bn32 (Or.inl (by decide)) (tMain_new (by decide) bn32 ⟨b32_messages, b32_lastNum, b32_gener, b32_clock, b32_deadOnes, b32_crashes⟩) (by
      show (36, tEx ((s_b32 s v).ex s.next) _ _) = _
      rw [b32_at]
      show (36, [zr (ga.rf 32 s.next 0), .int v.kind, vZ v.dur, vZ v.auto, vZ v.int, vZ v.there, zr (ga.rf 32 s.next 6)]) = _
      rw [r0, r6, ht]
      rfl) (fun _ => by
      rw [b32_at, r0, r6]
      exact ⟨hB1, hA1⟩) (fun e => absurd e (by decide)) (fun e => absurd e (by decide)) (fun e => absurd e (by decide)) (fun e => absurd e (by decide))
  have Lb : gL ga (gNw ga n 32 s.next []) := gNw.l Ua.1
  have hn1 : (gNw ga n 32 s.next []).kind n = (32, s.next) := gNw.at
  have Lb2 := La.trans Lb
  revert Rb hn1 Lb2
  clear Lb
  generalize gNw ga n 32 s.next [] = gb
  intro Rb hn1 Lb2
  have hS : s_addE (s_b32 s v) s.next = if v.dur = true then s_tell ((s_b32 s v).w_es ((s_b32 s v).es ++ [s.next])) 0 s.next else (s_b32 s v).w_es ((s_b32 s v).es ++ [s.next]) := by
    unfold s_addE
    rw [b32_at]
  rw [hS] at K
  clear hS
  refine g_App5 (x := s.next) Rb (Lb2.m hm) (Rb.1.a1 hn1 (by decide)) (Rb.1.at hn1 (by decide)).symm (by rw [b32_es]; exact hl) fun g5 h5 R5 L5 => ?_
  have hex : ((s_b32 s v).w_es ((s_b32 s v).es ++ [s.next])).ex s.next = v := by rw [wr_ex_es, b32_at]
  have hfa : ((s_b32 s v).w_es ((s_b32 s v).es ++ [s.next])).facts = s.facts := by rw [wr_facts_es, b32_facts]
  revert R5 K hex hfa
  generalize (s_b32 s v).w_es ((s_b32 s v).es ++ [s.next]) = s5
  intro K R5 hex hfa
  have hm5 := (Lb2.trans L5).m hm
  have hn5 : g5.kind n = (32, s.next) := L5.th (by decide) (by decide) hn1
  refine e_I (R5.1.cell hn5 (by decide)) fun (z : gI h5 n 2 = sB (s5.ex s.next).dur) => ?_
  rw [z, hex, sB_0]
  refine ⟨fun hd => ?_, fun hd => ⟨⟨_, R5.main hm5⟩, ?_⟩⟩
  · rw [if_neg (by rw [hd]; decide)] at K
    exact K g5 h5 (R5.less (by omega)) (Lb2.trans L5)
  · rw [Bool.not_eq_false] at hd
    rw [if_pos hd] at K
    exact t_tell (d := d + 75) (id := s.next) R5 hm5 (by rw [hfa]; omega) ⟨fun _ => (R5.1.at hn5 (by decide)).symm, fun e => absurd e (by decide), fun e => absurd e (by decide), fun e => absurd e (by decide), by decide, by decide⟩ fun g6 h6 R6 L6 => K g6 h6 R6 ((Lb2.trans L5).trans L6)
theorem t_mkE_24 (Z : tZ s0 F (b + 909 + tY s) s w g h) (hm : g.kind x0 = (1, 0)) (hx : g.kind x1 = (3, j)) (hj : isH j) (B : gB g x3 nm) (hl : nm.length ≤ 40) (hA : gBo g x7 alt) (ha : sOk40 alt) (hae : alt ≠ some []) (hk : ¬ k = -1 → 0 ≤ k ∧ k ≤ 3)
    (K0 : (s_madeF s nm k bits alt).2 = none → ∀ g1 h1, tZ s0 F (b + 900 + tY (s_madeF s nm k bits alt).1) (s_madeF s nm k bits alt).1 w g1 h1 → gL g g1 → Q (.int 1) h1)
    (K1 : (s_madeF s nm k bits alt).2 ≠ none → ∀ w1 g1 h1, tZ s0 F (b + tY (s_tld j w.cl w.me (s_madeF s nm k bits alt))) (s_tld j w.cl w.me (s_madeF s nm k bits alt)) w1 g1 h1 → tWm w w1 → gL g g1 → Q (.int 0) h1) :
    zP s0 m_X8_makesExchange (d + 78) 24 [some (zr x0), some (zr x1), some (zr (gO g 32 (s_exch s nm))), some (zr x3), some (.int k), some (.int bits), none, some (zr x7), none] [] h Q E := by
  have em := Z.r.main hm
  have eb := Z.r.fz B
  have Zh : tZ s0 F (b + 900 + tY s) s w g h := Z.le (by omega)
  have hes := Z.i.cp.2.2.2.1
  have hz := len_0 (l := nm) (by omega)
  refine b_X8_makesExchange_24 ⟨⟨_, eb⟩, ?_⟩
  rw [gA_of eb, vB_len, hz]
  refine ⟨fun hn => ⟨fun hk1 => ?_, fun hk1 => ?_⟩, fun hn => ?_⟩
  · cases he : s_exch s nm with
    | none =>
      refine ⟨fun _ => ?_, fun hh => absurd rfl hh⟩
      refine e_I em fun (z1 : gI h x0 5 = Int32.ofNat s.es.length) => ?_
      rw [z1, show (12 : Int32) = Int32.ofNat 12 from rfl, i_inj (by omega) (by decide)]
      refine ⟨fun h12 => ?_, fun h12 => ?_⟩
      · have hF : s_madeF s nm k bits alt = s_ok (s_addE (s_b32 s (nm, k, s_bit bits 2, s_bit bits 4, s_bit bits 8, true, alt)) s.next) := by
          unfold s_madeF
          rw [if_neg hn, if_neg hk1, he]
          exact if_neg h12
        rw [hF] at K0
        have K0 := K0 rfl
        have K0 : ∀ g1 h1, tZ s0 F (b + 900 + tY (s_addE (s_b32 s (nm, k, s_bit bits 2, s_bit bits 4, s_bit bits 8, true, alt)) s.next)) (s_addE (s_b32 s (nm, k, s_bit bits 2, s_bit bits 4, s_bit bits 8, true, alt)) s.next) w g1 h1 → gL g g1 → Q (.int 1) h1 := K0
        obtain ⟨p1, p2, p3, p4⟩ := p_newE (v := (nm, k, s_bit bits 2, s_bit bits 4, s_bit bits 8, true, alt)) Z.i (by omega) he ⟨hl, hn, ha, hae, hk hk1⟩
        have hc := Z.c
        have hf := Z.facts
        rw [p4] at K0
        refine g_N (u := 2) (b := b + 900 + tY s + (tP s + 4) + 3) (Z.r.less (by omega)) (by decide) (zle rfl) Z.r.big fun n1 h1 R1 U1 => ⟨⟨_, _, U1.2.2.1⟩, c_X39_init ⟨⟨_, _, U1.2.2.1⟩, g_PF R1 U1 fun h3 R3 U3 _ => g_PF R3 U3 fun h4 R4 U4 _ => ?_⟩⟩
        have h238 : ∀ t1, t1 = sB (s_bit bits 2) → zP s0 m_X8_makesExchange (d + 77 + 1) 238 [some (zr x0), none, none, none, none, some (.int bits), none, some (zr x7), some (zr n1)] [.int t1, zr n1] h4 Q E := fun t1 ht => by
          subst ht
          refine b_X8_makesExchange_238 ⟨sB_01, g_PF R4 U4 fun h5 R5 U5 _ => ?_⟩
          have h255 : ∀ t1, t1 = sB (s_bit bits 4) → zP s0 m_X8_makesExchange (d + 77 + 1) 255 [some (zr x0), none, none, none, none, some (.int bits), none, some (zr x7), some (zr n1)] [.int t1, zr n1] h5 Q E := fun t1 ht => by
            subst ht
            refine b_X8_makesExchange_255 ⟨sB_01, g_PF R5 U5 fun h6 R6 U6 _ => ?_⟩
            have h273 : ∀ t1, t1 = sB (s_bit bits 8) → zP s0 m_X8_makesExchange (d + 77 + 1) 273 [some (zr x0), none, none, none, none, none, none, some (zr x7), some (zr n1)] [.int t1, zr n1] h6 Q E := fun t1 ht => by
              subst ht
              exact t_mkE_273 (d := d) (v := (nm, k, s_bit bits 2, s_bit bits 4, s_bit bits 8, true, alt)) R6 Z.sc hm U6 B hA rfl (by omega) (by omega) fun g7 h7 R7 L7 => K0 g7 h7 ⟨by rw [p2]; exact R7, p1, by omega⟩ L7
            exact ⟨fun hb => h273 0 (bit_v0 hb), fun hb => h273 1 (bit_v1 hb)⟩
          exact ⟨fun hb => h255 0 (bit_v0 hb), fun hb => h255 1 (bit_v1 hb)⟩
        exact ⟨fun hb => h238 0 (bit_v0 hb), fun hb => h238 1 (bit_v1 hb)⟩
      · have hF : s_madeF s nm k bits alt = s_hardF s 506 := by
          unfold s_madeF
          rw [if_neg hn, if_neg hk1, he]
          exact if_pos h12
        rw [hF, tld_hard] at K1
        exact t_hardJ (d := d + 1) Zh hm hx hj (K1 (fun hh => nomatch hh))
    | some e =>
      have hem := exch_mem he
      have hke := Z.sc.es e hem
      have hek : g.kind (g.ref 32 e) = (32, e) := Z.r.al (by decide) (by decide) hke
      have ee := Z.r.1.cell hek (by decide)
      have hgo : gO g 32 (some e) = g.ref 32 e := rfl
      have hok := Z.i.tx.1 e hke
      rw [hgo]
      refine ⟨fun hh => absurd hh (Z.r.1.pos hek (by decide)), fun _ => ?_⟩
      have hF : s_madeF s nm k bits alt = if (s.ex e).kind == k && (s.ex e).dur == s_bit bits 2 && (s.ex e).auto == s_bit bits 4 && (s.ex e).int == s_bit bits 8 && (s.ex e).alt == alt then s_ok s else s_softF s 406 := by
        unfold s_madeF
        rw [if_neg hn, if_neg hk1, he]
      rw [hF] at K0 K1
      clear hF
      have h153 : ((s.ex e).kind == k && (s.ex e).dur == s_bit bits 2 && (s.ex e).auto == s_bit bits 4 && (s.ex e).int == s_bit bits 8 && (s.ex e).alt == alt) = false → zP s0 m_X8_makesExchange (d + 77 + 1) 153 [some (zr x0), some (zr x1), none, none, none, none, none, none, none] [] h Q E := fun hg => by
        rw [hg, if_neg (by decide), tld_soft] at K1
        exact b_X8_makesExchange_153 (b_X8_makesExchange_154 ⟨fun hh => absurd rfl hh, fun _ => ⟨⟨_, em⟩, t_softZ (d := d) Zh hm hx hj fun w4 g4 h4 Z4 W4 L4 => ⟨Or.inl rfl, K1 (fun hh => nomatch hh) w4 g4 h4 Z4 W4.tom L4⟩⟩⟩)
      refine e_I ee fun (z1 : gI h (g.ref 32 e) 1 = (s.ex e).kind) => ?_
      rw [z1]
      refine ⟨fun h1 => h153 (by rw [beq_false_of_ne h1]; rfl), fun h1 => e_I ee fun (z2 : gI h (g.ref 32 e) 2 = sB (s.ex e).dur) => ?_⟩
      rw [z2]
      have h95 : ∀ t1, t1 = sB (s_bit bits 2) → zP s0 m_X8_makesExchange (d + 77 + 1) 95 [some (zr x0), some (zr x1), some (zr (g.ref 32 e)), none, none, some (.int bits), none, some (zr x7), none] [.int t1, .int (sB (s.ex e).dur)] h Q E := fun t1 ht => by
        subst ht
        refine b_X8_makesExchange_95 ?_
        rw [sB_eq]
        refine ⟨fun h2 => h153 (by rw [beq_false_of_ne h2, Bool.and_false]; rfl), fun h2 => e_I ee fun (z3 : gI h (g.ref 32 e) 3 = sB (s.ex e).auto) => ?_⟩
        rw [z3]
        have h114 : ∀ t1, t1 = sB (s_bit bits 4) → zP s0 m_X8_makesExchange (d + 77 + 1) 114 [some (zr x0), some (zr x1), some (zr (g.ref 32 e)), none, none, some (.int bits), none, some (zr x7), none] [.int t1, .int (sB (s.ex e).auto)] h Q E := fun t1 ht => by
          subst ht
          refine b_X8_makesExchange_114 ?_
          rw [sB_eq]
          refine ⟨fun h3 => h153 (by rw [beq_false_of_ne h3, Bool.and_false]; rfl), fun h3 => e_I ee fun (z4 : gI h (g.ref 32 e) 4 = sB (s.ex e).int) => ?_⟩
          rw [z4]
          have h134 : ∀ t1, t1 = sB (s_bit bits 8) → zP s0 m_X8_makesExchange (d + 77 + 1) 134 [some (zr x0), some (zr x1), some (zr (g.ref 32 e)), none, none, none, none, some (zr x7), none] [.int t1, .int (sB (s.ex e).int)] h Q E := fun t1 ht => by
            subst ht
            refine b_X8_makesExchange_134 ?_
            rw [sB_eq]
            refine ⟨fun h4 => h153 (by rw [beq_false_of_ne h4, Bool.and_false]; rfl), fun h4 => e_R ee fun (z5 : gR h (g.ref 32 e) 6 = g.rf 32 e 6) => ?_⟩
            rw [z5]
            refine t_same (a := (s.ex e).alt) (c := alt) Z.r (Z.r.2.2.2.2.2.2.2.1 e hke).2 hA (fun y hy => by have := hok.2.2.1 y hy; omega) (fun y hy => by have := ha y hy; omega) ⟨_, rfl, ?_⟩
            rw [sB_0]
            refine ⟨fun h5 => h153 (by rw [h5, Bool.and_false]), fun h5 => b_X8_makesExchange_154 ⟨fun _ => ⟨Or.inr rfl, ?_⟩, fun hh => absurd hh (by decide)⟩⟩
            rw [Bool.not_eq_false] at h5
            rw [if_pos (by rw [beq_iff_eq.mpr h1, beq_iff_eq.mpr h2, beq_iff_eq.mpr h3, beq_iff_eq.mpr h4, h5]; rfl)] at K0
            exact K0 rfl g h Zh (gL.refl g)
          exact ⟨fun hb => h134 0 (bit_v0 hb), fun hb => h134 1 (bit_v1 hb)⟩
        exact ⟨fun hb => h114 0 (bit_v0 hb), fun hb => h114 1 (bit_v1 hb)⟩
      exact ⟨fun hb => h95 0 (bit_v0 hb), fun hb => h95 1 (bit_v1 hb)⟩
  · have hF : s_madeF s nm k bits alt = s_hardF s 503 := by
      unfold s_madeF
      rw [if_neg hn, if_pos hk1]
    rw [hF, tld_hard] at K1
    exact t_hardJ (d := d + 1) Zh hm hx hj (K1 (fun hh => nomatch hh))
  · have hF : s_madeF s nm k bits alt = s_softF s 403 := by
      unfold s_madeF
      rw [if_pos hn]
    rw [hF, tld_soft] at K1
    exact ⟨⟨_, em⟩, t_softZ (d := d) Zh hm hx hj fun w4 g4 h4 Z4 W4 L4 => K1 (fun hh => nomatch hh) w4 g4 h4 Z4 W4.tom L4⟩
theorem text_ok {x : String} (ok : sTabOk t) : sOk40 (s_text t x) := fun y hy => by
  unfold s_text at hy
  split at hy
  · cases hy
  · rename_i v hv
    split at hy
    · have hm := List.mem_of_find?_eq_some hv
      have := (ok.2.2 v (List.mem_reverse.mp hm)).2.1
      rw [← Option.some.inj hy]
      exact this
    · cases hy
theorem t_makesE (J : tJs s0 F) (Z : tZ s0 F (b + 909 + tY s) s w g h) (hm : g.kind x0 = (1, 0)) (hx : g.kind x1 = (3, j)) (hj : isH j) (B : gB g x3 nm) (hl : nm.length ≤ 40) (T : gTab g x6 t) (ok : sTabOk t) (hk : ¬ k = -1 → 0 ≤ k ∧ k ≤ 3)
    (K0 : (s_madeF s nm k bits (s_alt t)).2 = none → ∀ g1 h1, tZ s0 F (b + 900 + tY (s_madeF s nm k bits (s_alt t)).1) (s_madeF s nm k bits (s_alt t)).1 w g1 h1 → gL g g1 → Q (.int 1) h1)
    (K1 : (s_madeF s nm k bits (s_alt t)).2 ≠ none → ∀ w1 g1 h1, tZ s0 F (b + tY (s_tld j w.cl w.me (s_madeF s nm k bits (s_alt t)))) (s_tld j w.cl w.me (s_madeF s nm k bits (s_alt t))) w1 g1 h1 → tWm w w1 → gL g g1 → Q (.int 0) h1) :
    zX s0 m_X8_makesExchange (d + 78) [zr x0, zr x1, zr (gO g 32 (s_exch s nm)), zr x3, .int k, .int bits, zr x6] h Q E := by
  have ht := text_ok (x := "alt") ok
  refine c_X8_makesExchange (t_textOf (d := d + 65) (x := "alt") J Z.r T ok (by decide) fun n hn => ⟨n, rfl, ?_⟩)
  have h24 : ∀ (n7 : Nat), gBo g n7 (s_alt t) → zP s0 m_X8_makesExchange (d + 77 + 1) 24 [some (zr x0), some (zr x1), some (zr (gO g 32 (s_exch s nm))), some (zr x3), some (.int k), some (.int bits), none, some (zr n7), none] [] h Q E := fun n7 hA => by
    refine t_mkE_24 (d := d) Z hm hx hj B hl hA ?_ ?_ hk K0 K1
    · unfold s_alt
      split
      · exact fun y hy => nomatch hy
      · exact ht
    · unfold s_alt
      split
      · exact fun hh => nomatch hh
      · rename_i hh
        exact hh
  unfold s_alt at h24
  cases hs : s_text t "alt" with
  | none =>
    rw [hs] at h24 hn
    have hn : n = 0 := hn
    exact ⟨fun h0 => h24 n hn, fun hh => absurd hn hh⟩
  | some y =>
    rw [hs] at h24 hn
    have hn : gB g n y := hn
    have hy := ht y hs
    have eb := Z.r.fz hn
    refine ⟨fun hh => absurd hh (Z.r.1.pos hn.1 (by decide)), fun _ => ⟨⟨_, eb⟩, ?_⟩⟩
    rw [gA_of eb, vB_len, len_0 (by omega)]
    cases y with
    | nil => exact ⟨fun hh => absurd rfl hh, fun _ => h24 0 rfl⟩
    | cons a l => exact ⟨fun _ => h24 n hn, fun hh => nomatch hh⟩
theorem kind_of_ok : ¬ s_kindOf kd = -1 → 0 ≤ s_kindOf kd ∧ s_kindOf kd ≤ 3 := by
  unfold s_kindOf
  split
  · exact fun _ => by decide
  · split
    · exact fun _ => by decide
    · split
      · exact fun _ => by decide
      · split
        · exact fun _ => by decide
        · exact fun hh => absurd rfl hh
theorem t_declareExchange (J : tJs s0 F) (Z : tZ s0 F (b + 1200 + 12 * rRem rd + tY s) s (dr, sz, rd, cl, me, u) g h) (hm : g.kind x0 = (1, 0)) (hx : g.kind x1 = (3, j)) (hj : isH j) (hE : gB g (zst s0 "RelayHallModel" "EMPTY" "[B") [])
    (K : ∀ w1 g1 h1, tZ s0 F (b + tY (s_tld j cl me (s_declE s j rd))) (s_tld j cl me (s_declE s j rd)) w1 g1 h1 → tWm (dr, sz, rd, cl, me, u) w1 → gL g g1 → Q .null h1) : zX s0 m_X8_declareExchange (d + 79) [zr x0, zr x1] h Q E := by
  rw [s_declE_eq] at K
  refine c_X8_declareExchange ⟨⟨_, Z.r.main hm⟩, t_shortZ (d := d + 77) (b := b + 1164 + 12 * rRem rd + tY s) Z (by omega) hm hE fun n1 g1 h1 Z1 L1 B1 => ⟨_, rfl, ⟨_, Z1.r.main (L1.m hm)⟩, t_shortZ (d := d + 77) (b := b + 1128 + 12 * rRem rd + tY s) Z1 (by omega) (L1.m hm) (L1.B hE) fun n2 g2 h2 Z2 L2 B2 => ⟨_, rfl, ?_⟩⟩⟩
  have hl1 := r_short_len (rd := rd)
  have hl2 := r_short_len (rd := (r_short rd).2)
  have q1 := rRem_le (rd_short (r := rd)).1
  have q2 := rRem_le (rd_short (r := (r_short rd).2)).1
  revert K Z2 B1 B2 hl1 hl2 q1 q2
  generalize (r_short rd).1 = nm
  generalize (r_short rd).2 = rd1
  generalize (r_short rd1).1 = kd
  generalize (r_short rd1).2 = rd2
  intro K B1 Z2 B2 hl1 hl2 q1 q2
  have L12 := L1.trans L2
  have hm2 := L12.m hm
  have B1' := L2.B B1
  refine ⟨⟨_, Z2.r.main hm2⟩, t_u8 Z2.r hm2 fun h3 R3 => ⟨_, rfl, ?_⟩⟩
  have Z3 := Z2.re R3
  have q3 := rRem_le (rd_u8 (r := rd2)).1
  revert K Z3 q3
  generalize (r_u8 rd2).1 = bits
  generalize (r_u8 rd2).2 = rd3
  intro K Z3 q3
  refine ⟨⟨_, Z3.r.main hm2⟩, t_tableZ (d := d + 74) (b := b + 909 + tY s) Z3 (by omega) hm2 (L12.B hE) fun n3 g4 h4 Z4 L4 T4 => ⟨_, rfl, ?_⟩⟩
  revert K Z4 T4
  generalize (r_table rd3).1 = t
  generalize (r_table rd3).2 = rd4
  intro K Z4 T4
  have L14 := L12.trans L4
  have hm4 := L14.m hm
  have hx4 := L14.k hx gSt3
  have em := Z4.r.main hm4
  refine ⟨⟨_, em⟩, t_thenW (d := d + 1) (N := fun h => Q .null h) (f := s_declEF s j nm kd bits t) ?_ (Z4.le (by omega)) hm4 hx4 hj (fun w3 g3 h3 Z3 W3 L3 => K w3 g3 h3 Z3 ⟨W3.1, W3.2⟩ (L14.trans L3)) ?_⟩
  · exact fun h1 hq => ⟨fun hh => absurd hh (by decide), fun _ => hq⟩
  intro hw K
  obtain ⟨T5, ok⟩ := T4 (whole_bad hw)
  have B14 := L4.B B1'
  refine ⟨fun _ => ?_, fun hh => absurd rfl hh⟩
  have h84 : ∀ (s2 : sSt) (w2 : tW) (g2 : sG) (h2 : zH), tZ s0 F (b + tY s2) s2 w2 g2 h2 → tWm (dr, sz, rd4, cl, me, u) w2 → gL g4 g2 →
      (∀ w3 g3 h3, tZ s0 F (b + tY (if s_bit bits 16 = true then s2 else s_ans s2 j 40 11 [])) (if s_bit bits 16 = true then s2 else s_ans s2 j 40 11 []) w3 g3 h3 → tWm (dr, sz, rd4, cl, me, u) w3 → gL g4 g3 → Q .null h3) →
      zP s0 m_X8_declareExchange (d + 78 + 1) 84 [some (zr x0), some (zr x1), none, none, some (.int bits), none, none] [] h2 Q E := fun s2 w2 g2 h2 Z2 W2 L2 K => by
    refine b_X8_declareExchange_84 ⟨fun hb => ?_, fun hb => ?_⟩
    · rw [if_pos (bit_1 hb)] at K
      exact K w2 g2 h2 Z2 W2 L2
    · rw [if_neg (by rw [bit_0.mpr hb]; decide)] at K
      exact t_ansJ (d := d + 7) Z2 (L2.m hm4) (L2.k hx4 gSt3) hj fun w3 g3 h3 Z3 W3 L3 => K w3 g3 h3 Z3 (W2.trans W3) (L2.trans L3)
  refine ⟨⟨_, em⟩, t_exchange (d := d + 77) Z4.r Z4.sc hm4 B14 (by omega) (fun q hq => by have := (Z4.i.tx.1 q (Z4.sc.es q hq)).1; omega) ⟨_, rfl, ?_⟩⟩
  unfold s_declEF at K
  refine ⟨fun hb => ?_, fun hb => ?_⟩
  · rw [if_neg (by rw [bit_0.mpr hb]; decide), s_madeE_eq] at K
    refine t_kindOf (d := d + 67) J Z4.r (L4.B B2) (by omega) ⟨_, rfl, ⟨_, em⟩, t_makesE (d := d) (b := b) J Z4 hm4 hx4 hj B14 hl1 T5 ok kind_of_ok (fun hn g5 h5 Z5 L5 => ⟨1, rfl, fun _ => ?_, fun hh => absurd hh (by decide)⟩) (fun hn w5 g5 h5 Z5 W5 L5 => ⟨0, rfl, fun hh => absurd rfl hh, fun _ => ?_⟩)⟩
    · rw [bind_n hn, tld_ok] at K
      exact h84 _ _ g5 h5 (Z5.le (by omega)) tWm.refl L5 K
    · rw [bind_s hn] at K
      exact K w5 g5 h5 Z5 W5 L5
  · rw [if_pos (bit_1 hb)] at K
    have Z4' : tZ s0 F (b + 900 + tY s) s (dr, sz, rd4, cl, me, u) g4 h4 := Z4.le (by omega)
    cases he : s_exch s nm with
    | some e =>
      rw [he, if_neg (fun hh => nomatch hh.1)] at K
      have K : ∀ w3 g3 h3, tZ s0 F (b + tY (if s_bit bits 16 = true then s else s_ans s j 40 11 [])) (if s_bit bits 16 = true then s else s_ans s j 40 11 []) w3 g3 h3 → tWm (dr, sz, rd4, cl, me, u) w3 → gL g4 g3 → Q .null h3 := K
      have hek : g4.kind (g4.ref 32 e) = (32, e) := Z4.r.al (by decide) (by decide) (Z4.sc.es e (exch_mem he))
      exact ⟨fun _ => h84 s _ g4 h4 (Z4.le (by omega)) tWm.refl (gL.refl g4) K, fun hh => absurd hh (Z4.r.1.pos hek (by decide))⟩
    | none =>
      have eb := Z4.r.fz B14
      refine ⟨fun hh => absurd rfl hh, fun _ => ⟨⟨_, eb⟩, ?_⟩⟩
      rw [gA_of eb, vB_len, len_le0 (by omega)]
      refine ⟨fun hn => ?_, fun hn => ?_⟩
      · rw [if_neg (fun hh => hh.2 hn)] at K
        have K : ∀ w3 g3 h3, tZ s0 F (b + tY (if s_bit bits 16 = true then s else s_ans s j 40 11 [])) (if s_bit bits 16 = true then s else s_ans s j 40 11 []) w3 g3 h3 → tWm (dr, sz, rd4, cl, me, u) w3 → gL g4 g3 → Q .null h3 := K
        exact h84 s _ g4 h4 (Z4.le (by omega)) tWm.refl (gL.refl g4) K
      · rw [if_pos ⟨he, hn⟩] at K
        have K : ∀ w3 g3 h3, tZ s0 F (b + tY (s_soft s j 404 cl me)) (s_soft s j 404 cl me) w3 g3 h3 → tWm (dr, sz, rd4, cl, me, u) w3 → gL g4 g3 → Q .null h3 := K
        exact ⟨⟨_, em⟩, t_softZ (d := d + 1) Z4' hm4 hx4 hj fun w5 g5 h5 Z5 W5 L5 => K w5 g5 h5 Z5 W5.tom L5⟩
end ML
