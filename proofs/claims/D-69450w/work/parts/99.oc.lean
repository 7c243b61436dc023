/-! ===== the twin: exchanges and queues forgotten, records made good ===== -/
set_option maxRecDepth 100000
set_option maxHeartbeats 200000
section OC
variable {s0 : zE} {F : Nat → Option zC} {b : Nat} {s s' S : sSt} {w w' : tW} {g g' g0 : sG} {h h' : zH} {d x0 x1 x2 n m c i j q e k : Nat} {Q : Value → zH → Prop} {E : Nat → zH → Prop} {l : List Nat} {fa : sFa}
theorem tG.ses_pre {xs : List Nat} (G : tG s w g) (hx : xs.map (fun e => zr (g.ref 32 e)) <+: g.ar 11 0) : tG (s.w_ses xs) w g := by
  obtain ⟨b1, ⟨c1, c2, c3, c4, c5, c6, c7, c8, c9, c10, c11, c12, c13, c14⟩, b3⟩ := G
  exact ⟨b1, ⟨c1, c2, c3, c4, c5, ⟨c6.1, c6.2.1, hx⟩, c7, c8, c9, c10, c11, c12, c13, c14⟩, b3⟩
theorem tG.sqs_pre {xs : List Nat} (G : tG s w g) (hx : xs.map (fun q => zr (g.ref 33 q)) <+: g.ar 12 0) : tG (s.w_sqs xs) w g := by
  obtain ⟨b1, ⟨c1, c2, c3, c4, c5, c6, c7, c8, c9, c10, c11, c12, c13, c14⟩, b3⟩ := G
  exact ⟨b1, ⟨c1, c2, c3, c4, c5, c6, ⟨c7.1, c7.2.1, hx⟩, c8, c9, c10, c11, c12, c13, c14⟩, b3⟩
theorem len_ses (a : List Nat) : tMain (s.w_ses a) w g = (tMain s w g).set 22 (vI a.length) := rfl
theorem t_fx_4 (hm0 : g0.kind x0 = (1, 0)) (hx1 : g0.kind x1 = (32, e)) (hl : ∀ x ∈ l, s.knd x = 32) (h12 : l.length ≤ 12)
    (K : ∀ g1 h1, tR s0 F b (s.w_ses (l.filter (fun x => !(x == e)))) w g1 h1 → gL g0 g1 → fI h1 x0 [7] 24 ∧ zP s0 m_X8_forgetExchange (d + 1) 55 [some (zr x0), some (zr x1), none, some (.int (gI h1 x0 24 - 1))] [] h1 Q E) :
    ∀ (k i : Nat) (g : sG) (h : zH), l.length = i + k → tR s0 F b (s.w_ses (cmp (fun x => !(x == e)) l i)) w g h → gL g0 g → zP s0 m_X8_forgetExchange (d + 1) 4 [some (zr x0), some (zr x1), some (.int (Int32.ofNat ((l.take i).filter (fun x => !(x == e))).length)), some (.int (Int32.ofNat i))] [] h Q E
  | k, i, g, h, hi, R, L => by
    have hm := L.m hm0
    have em := R.main hm
    have hcl : (cmp (fun x => !(x == e)) l i).length = l.length := cmp_length (by omega)
    have hn := cmp_len (p := (fun x => !(x == e))) (l := l) (k := i)
    have A := R.2.ar11
    refine b_X8_forgetExchange_4 (e_I em fun (z1 : gI h x0 22 = Int32.ofNat (cmp (fun x => !(x == e)) l i).length) => ?_)
    rw [z1, hcl, i_le (by omega) (by omega)]
    refine ⟨fun hle => ?_, fun hle => e_R em fun z2 => ?_⟩
    · have ei : i = l.length := by omega
      subst ei
      rw [List.take_length]
      have hpre : (l.filter (fun x => !(x == e))).map (fun x => zr (g.ref 32 x)) <+: g.ar 11 0 := (List.IsPrefix.map _ cmp_pre).trans A.2.2
      refine g_PM R hm (s.w_ses (l.filter (fun x => !(x == e)))) w ?_ (R.2.ses_pre hpre) ⟨rfl, rfl, rfl, rfl, rfl, rfl, rfl, rfl, rfl⟩ fun h1 R1 _ => K g h1 R1 L
      rw [len_ses, len_ses, List.set_set]
      rfl
    obtain ⟨k', rfl⟩ : ∃ k', k = k' + 1 := ⟨k - 1, by omega⟩
    obtain ⟨x, hx⟩ : ∃ x, l[i]? = some x := ⟨_, List.getElem?_eq_getElem (by omega)⟩
    have hkx := hl x (List.mem_of_getElem? hx)
    have hax : gA1 g 32 x := R.al (c := 32) (by decide) (by decide) hkx
    have hg := cmp_get (p := (fun x => !(x == e))) hx
    rw [z2]
    refine g_El R A rfl (by decide) hg (by omega) fun z3 => ?_
    rw [z3, R.inj hax (L.th (by decide) (by decide) hx1) (by decide), i_succ]
    refine ⟨fun he => ?_, fun hne => e_R em fun _ => e_R em fun _ => ?_⟩
    · have hp : (fun x => !(x == e)) x = false := by show (!(x == e)) = false; rw [beq_iff_eq.mpr he]; rfl
      rw [← cmp_n_skip hx hp]
      rw [← cmp_skip hx hp] at R
      exact t_fx_4 hm0 hx1 hl h12 K k' (i + 1) g h (by omega) R L
    · have hp : (fun x => !(x == e)) x = true := by show (!(x == e)) = true; rw [beq_false_of_ne hne]; rfl
      rw [z2]
      obtain ⟨eA, hA⟩ := R.arr (t := 12) A rfl (by decide) (by decide)
      refine g_El R A rfl (by decide) hg (by omega) fun z5 => ?_
      rw [z5]
      refine g_S (t := 12) eA hA (zin_of (by rw [A.2.1]; omega) (by omega)) ⟨Or.inr (zAsg_own (R.1.cell hax (by decide)) zcl_36 rfl), ?_⟩
      intro h2 e2
      rw [i_nat (by omega)] at e2
      rw [i_succ, ← cmp_n_put hx hp]
      have hne0 : x0 ≠ g.ref 11 0 := kne hm A.1 fun e => absurd (congrArg Prod.fst e) (by show ¬ (1 : Nat) = 11; decide)
      have hpre : (cmp (fun x => !(x == e)) l (i + 1)).map (fun x => zr (g.ref 32 x)) <+: (g.ar 11 0).set ((l.take i).filter (fun x => !(x == e))).length (zr (g.ref 32 x)) := by
        rw [cmp_put hx hp, List.map_set]
        exact pre_set A.2.2 (by rw [List.length_map, hcl]; omega)
      have G := R.2.set11 (xs := cmp (fun x => !(x == e)) l (i + 1)) (by rw [List.length_set]; exact A.2.1) hpre
      have hcl2 : (cmp (fun x => !(x == e)) l (i + 1)).length = l.length := cmp_length (by omega)
      have R2 := R.arM (t := 12) (s' := s.w_ses (cmp (fun x => !(x == e)) l (i + 1))) (w' := w) (h' := h2) hm A.1 (by decide) rfl (by
        show (1000 + tarT 11, (gSet g 11 0 _).ar 11 0) = _
        rw [gSet_self]
        rfl) (by rw [e2]; rfl) (fun r r0 r1 => by rw [e2, zput_ne r1]) (by
        rw [e2, zput_ne hne0, em, len_ses, len_ses, hcl, hcl2]) (by rw [e2]; exact zput_self eA) ⟨rfl, rfl, rfl, rfl, rfl, rfl, rfl, rfl, rfl⟩ G
      exact t_fx_4 hm0 hx1 hl h12 K k' (i + 1) _ h2 (by omega) R2 (L.trans gL.set)
theorem len_sqs (a : List Nat) : tMain (s.w_sqs a) w g = (tMain s w g).set 23 (vI a.length) := rfl
theorem t_fq_4 (hm0 : g0.kind x0 = (1, 0)) (hx1 : g0.kind x1 = (33, e)) (hl : ∀ x ∈ l, s.knd x = 33) (h12 : l.length ≤ 12)
    (K : ∀ g1 h1, tR s0 F b (s.w_sqs (l.filter (fun x => !(x == e)))) w g1 h1 → gL g0 g1 → fI h1 x0 [7] 24 ∧ zP s0 m_X8_forgetQueue (d + 1) 55 [some (zr x0), some (zr x1), none, some (.int (gI h1 x0 24 - 1))] [] h1 Q E) :
    ∀ (k i : Nat) (g : sG) (h : zH), l.length = i + k → tR s0 F b (s.w_sqs (cmp (fun x => !(x == e)) l i)) w g h → gL g0 g → zP s0 m_X8_forgetQueue (d + 1) 4 [some (zr x0), some (zr x1), some (.int (Int32.ofNat ((l.take i).filter (fun x => !(x == e))).length)), some (.int (Int32.ofNat i))] [] h Q E
  | k, i, g, h, hi, R, L => by
    have hm := L.m hm0
    have em := R.main hm
    have hcl : (cmp (fun x => !(x == e)) l i).length = l.length := cmp_length (by omega)
    have hn := cmp_len (p := (fun x => !(x == e))) (l := l) (k := i)
    have A := R.2.ar12
    refine b_X8_forgetQueue_4 (e_I em fun (z1 : gI h x0 23 = Int32.ofNat (cmp (fun x => !(x == e)) l i).length) => ?_)
    rw [z1, hcl, i_le (by omega) (by omega)]
    refine ⟨fun hle => ?_, fun hle => e_R em fun z2 => ?_⟩
    · have ei : i = l.length := by omega
      subst ei
      rw [List.take_length]
      have hpre : (l.filter (fun x => !(x == e))).map (fun x => zr (g.ref 33 x)) <+: g.ar 12 0 := (List.IsPrefix.map _ cmp_pre).trans A.2.2
      refine g_PM R hm (s.w_sqs (l.filter (fun x => !(x == e)))) w ?_ (R.2.sqs_pre hpre) ⟨rfl, rfl, rfl, rfl, rfl, rfl, rfl, rfl, rfl⟩ fun h1 R1 _ => K g h1 R1 L
      rw [len_sqs, len_sqs, List.set_set]
      rfl
    obtain ⟨k', rfl⟩ : ∃ k', k = k' + 1 := ⟨k - 1, by omega⟩
    obtain ⟨x, hx⟩ : ∃ x, l[i]? = some x := ⟨_, List.getElem?_eq_getElem (by omega)⟩
    have hkx := hl x (List.mem_of_getElem? hx)
    have hax : gA1 g 33 x := R.al (c := 33) (by decide) (by decide) hkx
    have hg := cmp_get (p := (fun x => !(x == e))) hx
    rw [z2]
    refine g_El R A rfl (by decide) hg (by omega) fun z3 => ?_
    rw [z3, R.inj hax (L.th (by decide) (by decide) hx1) (by decide), i_succ]
    refine ⟨fun he => ?_, fun hne => e_R em fun _ => e_R em fun _ => ?_⟩
    · have hp : (fun x => !(x == e)) x = false := by show (!(x == e)) = false; rw [beq_iff_eq.mpr he]; rfl
      rw [← cmp_n_skip hx hp]
      rw [← cmp_skip hx hp] at R
      exact t_fq_4 hm0 hx1 hl h12 K k' (i + 1) g h (by omega) R L
    · have hp : (fun x => !(x == e)) x = true := by show (!(x == e)) = true; rw [beq_false_of_ne hne]; rfl
      rw [z2]
      obtain ⟨eA, hA⟩ := R.arr (t := 13) A rfl (by decide) (by decide)
      refine g_El R A rfl (by decide) hg (by omega) fun z5 => ?_
      rw [z5]
      refine g_S (t := 13) eA hA (zin_of (by rw [A.2.1]; omega) (by omega)) ⟨Or.inr (zAsg_own (R.1.cell hax (by decide)) zcl_37 rfl), ?_⟩
      intro h2 e2
      rw [i_nat (by omega)] at e2
      rw [i_succ, ← cmp_n_put hx hp]
      have hne0 : x0 ≠ g.ref 12 0 := kne hm A.1 fun e => absurd (congrArg Prod.fst e) (by show ¬ (1 : Nat) = 12; decide)
      have hpre : (cmp (fun x => !(x == e)) l (i + 1)).map (fun x => zr (g.ref 33 x)) <+: (g.ar 12 0).set ((l.take i).filter (fun x => !(x == e))).length (zr (g.ref 33 x)) := by
        rw [cmp_put hx hp, List.map_set]
        exact pre_set A.2.2 (by rw [List.length_map, hcl]; omega)
      have G := R.2.set12 (xs := cmp (fun x => !(x == e)) l (i + 1)) (by rw [List.length_set]; exact A.2.1) hpre
      have hcl2 : (cmp (fun x => !(x == e)) l (i + 1)).length = l.length := cmp_length (by omega)
      have R2 := R.arM (t := 13) (s' := s.w_sqs (cmp (fun x => !(x == e)) l (i + 1))) (w' := w) (h' := h2) hm A.1 (by decide) rfl (by
        show (1000 + tarT 12, (gSet g 12 0 _).ar 12 0) = _
        rw [gSet_self]
        rfl) (by rw [e2]; rfl) (fun r r0 r1 => by rw [e2, zput_ne r1]) (by
        rw [e2, zput_ne hne0, em, len_sqs, len_sqs, hcl, hcl2]) (by rw [e2]; exact zput_self eA) ⟨rfl, rfl, rfl, rfl, rfl, rfl, rfl, rfl, rfl⟩ G
      exact t_fq_4 hm0 hx1 hl h12 K k' (i + 1) _ h2 (by omega) R2 (L.trans gL.set)
theorem kind_7 {x : Int32} (h0 : 0 ≤ x) (h7 : x ≤ 7) (n0 : ¬ x = 0) (n1 : ¬ x = 1) (n2 : ¬ x = 2) (n3 : ¬ x = 3) (n4 : ¬ x = 4) (n5 : ¬ x = 5) (n6 : ¬ x = 6) : x = 7 := by
  have e := i_of h0
  have hk := i_clamp (k := 7) (by decide) h7
  generalize x.toNatClampNeg = k at e hk
  subst e
  have hc : k = 0 ∨ k = 1 ∨ k = 2 ∨ k = 3 ∨ k = 4 ∨ k = 5 ∨ k = 6 ∨ k = 7 := by omega
  rcases hc with e | e | e | e | e | e | e | e <;> subst e
  · exact absurd rfl n0
  · exact absurd rfl n1
  · exact absurd rfl n2
  · exact absurd rfl n3
  · exact absurd rfl n4
  · exact absurd rfl n5
  · exact absurd rfl n6
  · rfl
theorem i_dec1 {k : Nat} : Int32.ofNat k - 1 = i_dec k := by
  cases k with
  | zero => decide
  | succ k => exact i_sub1
/-- what is asked of the safe lists -/
def sSL (s : sSt) : Prop := s.ses.length ≤ 12 ∧ s.sqs.length ≤ 12 ∧ s.sbs.length ≤ 40 ∧ s.sen.length ≤ 300 ∧ (∀ x ∈ s.ses, s.knd x = 32) ∧ (∀ x ∈ s.sqs, s.knd x = 33) ∧ (∀ x ∈ s.sbs, s.knd x = 34 ∧ s.knd (s.bi x).exch = 32 ∧ s.knd (s.bi x).queue = 33) ∧ (∀ x ∈ s.sen, s.knd x = 36 ∧ s.knd (s.en x).queue = 33)
theorem t_forgetExchange (R : tR s0 F b s w g h) (hm : g.kind x0 = (1, 0)) (hx : g.kind x1 = (32, e)) (H : sSL s)
    (K : ∀ g1 h1, tR s0 F b ((s.w_ses (s.ses.filter (fun x => !(x == e)))).w_sbs (s.sbs.filter (fun x => !((s.bi x).exch == e)))) w g1 h1 → gL g g1 → Q .null h1) : zX s0 m_X8_forgetExchange (d + 1) [zr x0, zr x1] h Q E := by
  obtain ⟨a1, a2, a3, a4, a5, a6, a7, a8⟩ := H
  refine c_X8_forgetExchange (t_fx_4 (l := s.ses) (s := s) (e := e) hm hx a5 a1 (fun g1 h1 R1 L1 => e_I (R1.main (L1.m hm)) fun (z1 : gI h1 x0 24 = Int32.ofNat s.sbs.length) => ?_) s.ses.length 0 g h (by omega) ?_ (gL.refl g))
  · rw [z1, i_dec1]
    refine t_fx_55 (s := s.w_ses (s.ses.filter (fun x => !(x == e)))) (l := s.sbs) (e := e) (g0 := g1) (L1.th (by decide) (by decide) hx) (fun x hx => (a7 x hx).2.1) (fun x hx => (a7 x hx).1) (by omega) (L1.m hm) (fun g2 h2 R2 L2 => K g2 h2 R2 (L1.trans L2)) s.sbs.length g1 h1 (Nat.le_refl _) ?_ (gL.refl g1)
    rw [flt_all]
    exact R1
  · rw [cmp_0]
    exact R
theorem t_forgetQueue (R : tR s0 F b s w g h) (hm : g.kind x0 = (1, 0)) (hx : g.kind x1 = (33, q)) (H : sSL s)
    (K : ∀ g1 h1, tR s0 F b (((s.w_sqs (s.sqs.filter (fun x => !(x == q)))).w_sbs (s.sbs.filter (fun x => !((s.bi x).queue == q)))).w_sen (s.sen.filter (fun x => !((s.en x).queue == q)))) w g1 h1 → gL g g1 → Q .null h1) : zX s0 m_X8_forgetQueue (d + 1) [zr x0, zr x1] h Q E := by
  obtain ⟨a1, a2, a3, a4, a5, a6, a7, a8⟩ := H
  refine c_X8_forgetQueue (t_fq_4 (l := s.sqs) (s := s) (e := q) hm hx a6 a2 (fun g1 h1 R1 L1 => e_I (R1.main (L1.m hm)) fun (z1 : gI h1 x0 24 = Int32.ofNat s.sbs.length) => ?_) s.sqs.length 0 g h (by omega) ?_ (gL.refl g))
  · rw [z1, i_dec1]
    refine t_fq_55 (s := s.w_sqs (s.sqs.filter (fun x => !(x == q)))) (l := s.sbs) (q := q) (g0 := g1) (L1.th (by decide) (by decide) hx) (fun x hx => (a7 x hx).2.2) (fun x hx => (a7 x hx).1) (by omega) (L1.m hm) (fun g2 h2 R2 L2 => e_I (R2.main ((L1.trans L2).m hm)) fun (z2 : gI h2 x0 25 = Int32.ofNat s.sen.length) => ?_) s.sbs.length g1 h1 (Nat.le_refl _) ?_ (gL.refl g1)
    · rw [z2, i_dec1]
      refine t_fq_90 (s := (s.w_sqs (s.sqs.filter (fun x => !(x == q)))).w_sbs (s.sbs.filter (fun x => !((s.bi x).queue == q)))) (l := s.sen) (q := q) (g0 := g2) ((L1.trans L2).th (by decide) (by decide) hx) (fun x hx => (a8 x hx).2) (fun x hx => (a8 x hx).1) (by omega) ((L1.trans L2).m hm) (fun g3 h3 R3 L3 => K g3 h3 R3 ((L1.trans L2).trans L3)) s.sen.length g2 h2 (Nat.le_refl _) ?_ (gL.refl g2)
      rw [flt_all]
      exact R2
    · rw [flt_all]
      exact R1
  · rw [cmp_0]
    exact R
/-- one record is made good -/
theorem t_make (R : tR s0 F b s w g h) (hm : g.kind x0 = (1, 0)) (hf : gFa g x1 fa) (hk : s.knd fa.id = (if fa.kind = 0 ∨ fa.kind = 1 then 32 else if fa.kind = 2 ∨ fa.kind = 3 then 33 else if fa.kind = 4 ∨ fa.kind = 5 then 34 else 36)) (H : sSL s)
    (h0 : fa.kind = 0 → s.ses.length < 12) (h2 : fa.kind = 2 → s.sqs.length < 12) (h4 : fa.kind = 4 → s.sbs.length < 40) (h6 : fa.kind = 6 → s.sen.length < 301)
    (K : ∀ g1 h1, tR s0 F b (s_make s fa) w g1 h1 → gL g g1 → Q .null h1) : zX s0 m_X8_make (d + 2) [zr x0, zr x1] h Q E := by
  obtain ⟨re, rq, rb, rm, hfz, f1, f2, f3, f4, f5, f6⟩ := hf
  have ef := R.fz hfz
  have em := R.main hm
  unfold s_make at K
  refine c_X8_make (e_I ef fun (z1 : gI h x1 0 = fa.kind) => ?_)
  rw [z1]
  refine ⟨fun e0 => ?_, fun n0 => ⟨fun e1 => ?_, fun n1 => ⟨fun e2 => ?_, fun n2 => ⟨fun e3 => ?_, fun n3 => ⟨fun e4 => ?_, fun n4 => ⟨fun e5 => ?_, fun n5 => ⟨fun e6 => ?_, fun n6 => ?_⟩⟩⟩⟩⟩⟩⟩
  · rw [if_pos e0] at K
    try dsimp only at K
    rw [if_pos (Or.inl e0)] at hk
    have ha := R.al (c := 32) (by decide) (by decide) hk
    have z2 : gR h x1 1 = re := gR_of ef rfl
    obtain ⟨p1, p2, p3⟩ := g_App11 (n1 := gR h x1 1) (P := fun h2 => Q .null h2) R hm ha (by rw [z2]; exact f1 (Or.inl e0)) (h0 e0) K
    exact ⟨p1, p2, fR_of ef m1 rfl, p3⟩
  · rw [if_neg n0, if_pos e1] at K
    try dsimp only at K
    rw [if_pos (Or.inr e1)] at hk
    refine e_R ef fun (z2 : gR h x1 1 = re) => ⟨⟨_, em⟩, ?_⟩
    rw [z2, f1 (Or.inr e1)]
    exact t_forgetExchange (d := d) R hm (R.al (c := 32) (by decide) (by decide) hk) H K
  · rw [if_neg n0, if_neg n1, if_pos e2] at K
    try dsimp only at K
    rw [if_neg (fun hh => hh.elim n0 n1), if_pos (Or.inl e2)] at hk
    have ha := R.al (c := 33) (by decide) (by decide) hk
    have z2 : gR h x1 2 = rq := gR_of ef rfl
    obtain ⟨p1, p2, p3⟩ := g_App12 (n1 := gR h x1 2) (P := fun h2 => Q .null h2) R hm ha (by rw [z2]; exact f2 (Or.inl e2)) (h2 e2) K
    exact ⟨p1, p2, fR_of ef m1 rfl, p3⟩
  · rw [if_neg n0, if_neg n1, if_neg n2, if_pos e3] at K
    try dsimp only at K
    rw [if_neg (fun hh => hh.elim n0 n1), if_pos (Or.inr e3)] at hk
    refine e_R ef fun (z2 : gR h x1 2 = rq) => ⟨⟨_, em⟩, ?_⟩
    rw [z2, f2 (Or.inr e3)]
    exact t_forgetQueue (d := d) R hm (R.al (c := 33) (by decide) (by decide) hk) H K
  · rw [if_neg n0, if_neg n1, if_neg n2, if_neg n3, if_pos e4] at K
    try dsimp only at K
    rw [if_neg (fun hh => hh.elim n0 n1), if_neg (fun hh => hh.elim n2 n3), if_pos (Or.inl e4)] at hk
    have ha := R.al (c := 34) (by decide) (by decide) hk
    have z2 : gR h x1 3 = rb := gR_of ef rfl
    obtain ⟨p1, p2, p3⟩ := g_App13 (n1 := gR h x1 3) (P := fun h2 => Q .null h2) R hm ha (by rw [z2]; exact f3 (Or.inl e4)) (h4 e4) K
    exact ⟨p1, p2, fR_of ef m1 rfl, p3⟩
  · rw [if_neg n0, if_neg n1, if_neg n2, if_neg n3, if_neg n4, if_pos e5] at K
    try dsimp only at K
    rw [if_neg (fun hh => hh.elim n0 n1), if_neg (fun hh => hh.elim n2 n3), if_pos (Or.inr e5)] at hk
    refine e_I em fun (z2 : gI h x0 24 = Int32.ofNat s.sbs.length) => ?_
    rw [z2, i_dec1]
    have hb : g.kind rb = (34, fa.id) := by rw [f3 (Or.inr e5)]; exact R.al (c := 34) (by decide) (by decide) hk
    refine t_mk_155 (s := s) (l := s.sbs) (id := fa.id) (g0 := g) hfz hb (fun x hx => (H.2.2.2.2.2.2.1 x hx).1) (by have := H.2.2.1; omega) hm K s.sbs.length g h (Nat.le_refl _) ?_ (gL.refl g)
    rw [flt_all]
    exact R
  · rw [if_neg n0, if_neg n1, if_neg n2, if_neg n3, if_neg n4, if_neg n5, if_pos e6] at K
    try dsimp only at K
    rw [if_neg (fun hh => hh.elim n0 n1), if_neg (fun hh => hh.elim n2 n3), if_neg (fun hh => hh.elim n4 n5)] at hk
    have ha := R.al (c := 36) (by decide) (by decide) hk
    have z2 : gR h x1 4 = rm := gR_of ef rfl
    obtain ⟨p1, p2, p3⟩ := g_App14 (n1 := gR h x1 4) (P := fun h2 => Q .null h2) R hm ha (by rw [z2]; exact f4 (Or.inl e6)) (h6 e6) K
    exact ⟨p1, p2, fR_of ef m1 rfl, p3⟩
  · rw [if_neg n0, if_neg n1, if_neg n2, if_neg n3, if_neg n4, if_neg n5, if_neg n6] at K
    try dsimp only at K
    rw [if_neg (fun hh => hh.elim n0 n1), if_neg (fun hh => hh.elim n2 n3), if_neg (fun hh => hh.elim n4 n5)] at hk
    have e7 : fa.kind = 7 := kind_7 f5 f6 n0 n1 n2 n3 n4 n5 n6
    refine e_I em fun (z2 : gI h x0 25 = Int32.ofNat s.sen.length) => ?_
    rw [z2, i_dec1]
    have hb : g.kind rm = (36, fa.id) := by rw [f4 (Or.inr e7)]; exact R.al (c := 36) (by decide) (by decide) hk
    refine t_mk_219 (s := s) (l := s.sen) (id := fa.id) (g0 := g) hfz hb (fun x hx => (H.2.2.2.2.2.2.2 x hx).1) (by have := H.2.2.2.1; omega) hm K s.sen.length g h (Nat.le_refl _) ?_ (gL.refl g)
    rw [flt_all]
    exact R
end OC
