/-! ===== the twin: contents are drafted ===== -/
set_option maxRecDepth 100000
section PC
variable {s0 : zE} {F : Nat → Option zC} {b : Nat} {s s' : sSt} {w w' : tW} {g g' : sG} {h h' : zH} {d x0 x1 x2 n D c i j q m : Nat} {Q : Value → zH → Prop} {E : Nat → zH → Prop}
variable {ch sz : Int32} {rd : sRd} {u : Int32 × Int32 × Int32 × List Nat × (Nat → Nat)} {p B : sBy} {ct : sCont} {xp : Int64}
theorem lg_0 {x : Int64} : lg_cmp x 0 < 0 ↔ ¬ (0 ≤ x) := by
  unfold lg_cmp
  by_cases h1 : 0 < x
  · rw [if_pos h1]
    have h2 := Int64.le_of_lt h1
    exact ⟨fun h => absurd h (by decide), fun h => absurd h2 h⟩
  · rw [if_neg h1]
    by_cases h2 : x = 0
    · subst h2
      decide
    · rw [if_neg h2]
      exact ⟨fun _ h3 => h1 (Int64.lt_of_le_of_ne h3 (fun e => h2 e.symm)), fun _ => by decide⟩
theorem t_pc_145 (R : tR s0 F b s (p ++ (w_head 2 ch ++ B), Int32.ofNat (p.length + 3), rd, u) g h) (hm : g.kind x0 = (1, 0)) (hc : gCont g x2 ct) (hl : p.length + B.length + 220 ≤ 1200) (hb : ct.body.length ≤ 200)
    (K : ∀ sz1 g1 h1, tR s0 F b s (p ++ (w_frame 2 ch B ++ (if ct.body = [] then [] else w_frame 3 ch ct.body)), sz1, rd, u) g1 h1 → gL g g1 → Q .null h1) : zP s0 m_X8_putContent (d + 4) 145 [some (zr x0), some (.int ch), some (zr x2), none, none] [] h Q E := by
  refine b_X8_putContent_145 ⟨⟨_, R.main hm⟩, t_endFrame R hm rfl rfl (by simp [w_head, w_8, w_16]; omega) fun g1 h1 R1 L1 => ?_⟩
  have hc1 := L1.Cont hc
  obtain ⟨e1, k1, hd1, bd1, got1, ec, f1, f2, f3, f4⟩ := hc1.cell R1
  have eb := R1.fz f4
  refine e_R ec fun (z1 : gR h1 x2 7 = bd1) => ?_
  rw [z1, gA_of eb, vB_len]
  refine ⟨⟨_, eb⟩, fun hne => ?_, fun h0 => ?_⟩
  · rw [show (0 : Int32) = Int32.ofNat 0 from rfl, i_inj (by omega) (by decide)] at hne
    have hbn : ct.body ≠ [] := fun e => hne (by rw [e]; rfl)
    rw [if_neg hbn] at K
    have hm1 := L1.m hm
    have hfl : (p ++ w_frame 2 ch B).length = p.length + B.length + 8 := by simp [w_frame, w_8, w_16, w_32]; omega
    refine ⟨⟨_, R1.main hm1⟩, t_beginFrame R1 hm1 (by omega) fun g2 h2 R2 L2 => ?_⟩
    have hc2 := L2.Cont hc1
    obtain ⟨e2, k2, hd2, bd2, got2, ec2, f5, f6, f7, f8⟩ := hc2.cell R2
    have hm2 := L2.m hm1
    refine e_R ec2 fun (z2 : gR h2 x2 7 = bd2) => ?_
    rw [z2]
    refine ⟨⟨_, R2.main hm2⟩, t_putBytes R2 hm2 f8 (by rw [List.length_append, hfl]; simp [w_head, w_8, w_16]; omega) fun g3 h3 R3 L3 => ?_⟩
    rw [List.append_assoc] at R3
    have hm3 := L3.m hm2
    refine ⟨⟨_, R3.main hm3⟩, t_endFrame R3 hm3 rfl rfl (by rw [List.length_append, hfl]; simp [w_head, w_8, w_16]; omega) fun g4 h4 R4 L4 => ?_⟩
    rw [List.append_assoc] at R4
    exact K _ g4 h4 R4 (((L1.trans L2).trans L3).trans L4)
  · rw [show (0 : Int32) = Int32.ofNat 0 from rfl, i_inj (by omega) (by decide)] at h0
    rw [if_pos (List.eq_nil_of_length_eq_zero h0), List.append_nil] at K
    exact K _ g1 h1 R1 L1
theorem t_pc_115 (R : tR s0 F b s (p ++ (w_head 2 ch ++ B), Int32.ofNat (p.length + 3), rd, u) g h) (hm : g.kind x0 = (1, 0)) (hc : gCont g x2 ct) (hl : p.length + B.length + 390 ≤ 1200) (hb : ct.body.length ≤ 200) (hh : ∀ t, ct.heads = some t → t.raw.length ≤ 160)
    (K : ∀ sz1 g1 h1, tR s0 F b s (p ++ (w_frame 2 ch (B ++ (match ct.heads with | none => [] | some t => w_32 (Int32.ofNat t.raw.length) ++ t.raw)) ++ (if ct.body = [] then [] else w_frame 3 ch ct.body)), sz1, rd, u) g1 h1 → gL g g1 → Q .null h1) : zP s0 m_X8_putContent (d + 4) 115 [some (zr x0), some (.int ch), some (zr x2), none, none] [] h Q E := by
  obtain ⟨e1, k1, hd1, bd1, got1, ec, f1, f2, f3, f4⟩ := hc.cell R
  refine b_X8_putContent_115 (e_R ec fun (z1 : gR h x2 6 = hd1) => ?_)
  rw [z1]
  cases hht : ct.heads with
  | none =>
    rw [hht] at f3 K
    simp only [List.append_nil] at K
    exact ⟨fun _ => t_pc_145 R hm hc (by omega) hb K, fun hn => absurd f3 hn⟩
  | some t =>
    rw [hht] at f3
    simp only [hht] at K
    have htl := hh t hht
    obtain ⟨a1, a2, a3, a4, r, l1, l2, l3, l4, q1, q2, q3, q4, q5, q6, -⟩ := f3
    have et := R.fz q1
    have er := R.fz q6
    refine ⟨fun h0 => absurd h0 (R.1.pos q1.1 (by decide)), fun _ => e_R ec fun _ => ?_⟩
    refine e_R et fun (z2 : gR h hd1 5 = r) => ?_
    rw [z2, gA_of er, vB_len]
    refine ⟨⟨_, er⟩, ⟨_, R.main hm⟩, t_put32 R hm (by simp [w_head, w_8, w_16]; omega) fun g1 h1 R1 L1 => ?_⟩
    have hc1 := L1.Cont hc
    obtain ⟨e2, k2, hd2, bd2, got2, ec2, f5, f6, f7, f8⟩ := hc1.cell R1
    rw [hht] at f7
    obtain ⟨a1', a2', a3', a4', r', l1', l2', l3', l4', q1', q2', q3', q4', q5', q6', -⟩ := f7
    have et1 := R1.fz q1'
    refine e_R ec2 fun (z3 : gR h1 x2 6 = hd2) => ?_
    rw [z3]
    refine e_R et1 fun (z4 : gR h1 hd2 5 = r') => ?_
    rw [z4]
    have hm1 := L1.m hm
    refine ⟨⟨_, R1.main hm1⟩, t_putBytes R1 hm1 q6' (by simp [w_head, w_8, w_16, w_32]; omega) fun g2 h2 R2 L2 => ?_⟩
    have R2 : tR s0 F b s (p ++ (w_head 2 ch ++ (B ++ (w_32 (Int32.ofNat t.raw.length) ++ t.raw))), Int32.ofNat (p.length + 3), rd, u) g2 h2 := by
      rw [List.append_assoc, List.append_assoc, List.append_assoc] at R2
      exact R2
    exact t_pc_145 R2 (L2.m hm1) (L2.Cont hc1) (by simp [w_32, w_16]; omega) hb fun sz1 g3 h3 R3 L3 => K sz1 g3 h3 R3 ((L1.trans L2).trans L3)
/-- what is behind the flags -/
def w_rest (c : sCont) (xp : Int64) (B : sBy) : sBy :=
  B ++ (if c.prio = 0 then [] else w_8 c.prio) ++ (if c.pers then w_8 1 else []) ++ (if 0 ≤ xp then w_32 xp.toInt32 else []) ++ (match c.heads with
      | none => []
      | some t => w_32 (Int32.ofNat t.raw.length) ++ t.raw)
theorem t_pc_103 (R : tR s0 F b s (p ++ (w_head 2 ch ++ B), Int32.ofNat (p.length + 3), rd, u) g h) (hm : g.kind x0 = (1, 0)) (hc : gCont g x2 ct) (hl : p.length + B.length + 394 ≤ 1200) (hb : ct.body.length ≤ 200) (hh : ∀ t, ct.heads = some t → t.raw.length ≤ 160)
    (K : ∀ sz1 g1 h1, tR s0 F b s (p ++ (w_frame 2 ch (B ++ (if 0 ≤ xp then w_32 xp.toInt32 else []) ++ (match ct.heads with | none => [] | some t => w_32 (Int32.ofNat t.raw.length) ++ t.raw)) ++ (if ct.body = [] then [] else w_frame 3 ch ct.body)), sz1, rd, u) g1 h1 → gL g g1 → Q .null h1) : zP s0 m_X8_putContent (d + 4) 103 [some (zr x0), some (.int ch), some (zr x2), some (.long xp), none] [] h Q E := by
  refine b_X8_putContent_103 ⟨fun h0 => ?_, fun h0 => ?_⟩
  · rw [lg_0] at h0
    rw [if_neg h0, List.append_nil] at K
    exact t_pc_115 R hm hc (by omega) hb hh K
  · rw [lg_0, Classical.not_not] at h0
    rw [if_pos h0] at K
    refine ⟨⟨_, R.main hm⟩, t_put32 R hm (by simp [w_head, w_8, w_16]; omega) fun g1 h1 R1 L1 => ?_⟩
    rw [List.append_assoc, List.append_assoc] at R1
    exact t_pc_115 R1 (L1.m hm) (L1.Cont hc) (by simp [w_32, w_16]; omega) hb hh fun sz1 g2 h2 R2 L2 => K sz1 g2 h2 R2 (L1.trans L2)
theorem t_pc_91 (R : tR s0 F b s (p ++ (w_head 2 ch ++ B), Int32.ofNat (p.length + 3), rd, u) g h) (hm : g.kind x0 = (1, 0)) (hc : gCont g x2 ct) (hl : p.length + B.length + 395 ≤ 1200) (hb : ct.body.length ≤ 200) (hh : ∀ t, ct.heads = some t → t.raw.length ≤ 160)
    (K : ∀ sz1 g1 h1, tR s0 F b s (p ++ (w_frame 2 ch (B ++ (if ct.pers then w_8 1 else []) ++ (if 0 ≤ xp then w_32 xp.toInt32 else []) ++ (match ct.heads with | none => [] | some t => w_32 (Int32.ofNat t.raw.length) ++ t.raw)) ++ (if ct.body = [] then [] else w_frame 3 ch ct.body)), sz1, rd, u) g1 h1 → gL g g1 → Q .null h1) : zP s0 m_X8_putContent (d + 4) 91 [some (zr x0), some (.int ch), some (zr x2), some (.long xp), none] [] h Q E := by
  obtain ⟨e1, k1, hd1, bd1, got1, ec, f1, f2, f3, f4⟩ := hc.cell R
  refine b_X8_putContent_91 (e_I ec fun (z1 : gI h x2 3 = sB ct.pers) => ?_)
  rw [z1, sB_0]
  refine ⟨fun h0 => ?_, fun h0 => ?_⟩
  · simp only [h0, Bool.false_eq_true, if_false, List.append_nil] at K
    exact t_pc_103 R hm hc (by omega) hb hh K
  · rw [Bool.not_eq_false] at h0
    simp only [h0, if_true] at K
    refine ⟨⟨_, R.main hm⟩, t_put R hm (by simp [w_head, w_8, w_16]; omega) fun g1 h1 R1 L1 => ?_⟩
    rw [List.append_assoc, List.append_assoc] at R1
    exact t_pc_103 (B := B ++ [lo8 1]) R1 (L1.m hm) (L1.Cont hc) (by simp; omega) hb hh fun sz1 g2 h2 R2 L2 => K sz1 g2 h2 R2 (L1.trans L2)
theorem t_pc_72 {fl1 fl2 : Int32} (R : tR s0 F b s (p ++ (w_head 2 ch ++ B), Int32.ofNat (p.length + 3), rd, u) g h) (hm : g.kind x0 = (1, 0)) (hc : gCont g x2 ct) (hl : p.length + B.length + 398 ≤ 1200) (hb : ct.body.length ≤ 200) (hh : ∀ t, ct.heads = some t → t.raw.length ≤ 160)
    (K : ∀ sz1 g1 h1, tR s0 F b s (p ++ (w_frame 2 ch (w_rest ct xp (B ++ w_16 (fl1 + fl2))) ++ (if ct.body = [] then [] else w_frame 3 ch ct.body)), sz1, rd, u) g1 h1 → gL g g1 → Q .null h1) : zP s0 m_X8_putContent (d + 4) 72 [some (zr x0), some (.int ch), some (zr x2), some (.long xp), none] [.int fl2, .int fl1, zr x0] h Q E := by
  unfold w_rest at K
  refine b_X8_putContent_72 ⟨⟨_, R.main hm⟩, t_put16 R hm (by simp [w_head, w_8, w_16]; omega) fun g1 h1 R1 L1 => ?_⟩
  rw [List.append_assoc, List.append_assoc] at R1
  have hm1 := L1.m hm
  have hc1 := L1.Cont hc
  obtain ⟨e1, k1, hd1, bd1, got1, ec, f1, f2, f3, f4⟩ := hc1.cell R1
  refine e_I ec fun (z1 : gI h1 x2 4 = ct.prio) => ?_
  rw [z1]
  refine ⟨fun h0 => ?_, fun h0 => e_I ec fun _ => ?_⟩
  · rw [if_pos h0, List.append_nil] at K
    exact t_pc_91 R1 hm1 hc1 (by simp [w_16]; omega) hb hh fun sz1 g2 h2 R2 L2 => K sz1 g2 h2 R2 (L1.trans L2)
  · rw [if_neg h0] at K
    refine ⟨⟨_, R1.main hm1⟩, t_put R1 hm1 (by simp [w_head, w_8, w_16]; omega) fun g2 h2 R2 L2 => ?_⟩
    rw [List.append_assoc, List.append_assoc] at R2
    exact t_pc_91 (B := B ++ w_16 (fl1 + fl2) ++ [lo8 ct.prio]) R2 (L2.m hm1) (L2.Cont hc1) (by simp [w_16]; omega) hb hh fun sz1 g3 h3 R3 L3 => K sz1 g3 h3 R3 ((L1.trans L2).trans L3)
theorem t_putContent (R : tR s0 F b s (p, sz, rd, u) g h) (hm : g.kind x0 = (1, 0)) (hc : gCont g x2 ct) (hl : p.length + 420 ≤ 1200) (hb : ct.body.length ≤ 200) (hh : ∀ t, ct.heads = some t → t.raw.length ≤ 160)
    (K : ∀ sz1 g1 h1, tR s0 F b s (p ++ w_content ch ct xp, sz1, rd, u) g1 h1 → gL g g1 → Q .null h1) : zX s0 m_X8_putContent (d + 4) [zr x0, .int ch, zr x2, .long xp] h Q E := by
  refine c_X8_putContent ⟨⟨_, R.main hm⟩, t_beginFrame R hm (by omega) fun g1 h1 R1 L1 => ⟨⟨_, R1.main (L1.m hm)⟩, t_put16 R1 (L1.m hm) (by simp [w_head, w_8, w_16]; omega) fun g2 h2 R2 L2 => ?_⟩⟩
  have hm2 := L2.m (L1.m hm)
  have hc2 := L2.Cont (L1.Cont hc)
  obtain ⟨e1, k1, hd1, bd1, got1, ec, f1, f2, f3, f4⟩ := hc2.cell R2
  have eb := R2.fz f4
  refine e_R ec fun (z1 : gR h2 x2 7 = bd1) => ?_
  rw [z1, gA_of eb, vB_len]
  refine ⟨⟨_, eb⟩, ⟨_, R2.main hm2⟩, t_put32 R2 hm2 (by simp [w_head, w_8, w_16]; omega) fun g3 h3 R3 L3 => ?_⟩
  have R3 : tR s0 F b s (p ++ (w_head 2 ch ++ (w_16 60 ++ w_32 (Int32.ofNat ct.body.length))), Int32.ofNat (p.length + 3), rd, u) g3 h3 := by
    rw [List.append_assoc, List.append_assoc] at R3
    exact R3
  have L123 := (L1.trans L2).trans L3
  have hm3 := L123.m hm
  have hc3 := L123.Cont hc
  obtain ⟨e1', k1', hd1', bd1', got1', ec3, f1', f2', f3', f4'⟩ := hc3.cell R3
  have hfin : ∀ f1 f2 f3 f4 : Int32, f1 = sB (ct.prio != 0) → f2 = (if ct.pers then 2 else 0) → f3 = (if 0 ≤ xp then 4 else 0) → f4 = (if ct.heads.isSome then 8 else 0) → zP s0 m_X8_putContent (d + 4) 72 [some (zr x0), some (.int ch), some (zr x2), some (.long xp), none] [.int f4, .int (f1 + f2 + f3), zr x0] h3 Q E := fun f1 f2 f3 f4 h1 h2 h3' h4 => by
    refine t_pc_72 R3 hm3 hc3 (by simp [w_16, w_32]; omega) hb hh fun sz1 g4 h4' R4 L4 => K sz1 g4 h4' ?_ (L123.trans L4)
    rw [h1, h2, h3', h4] at R4
    unfold w_content
    unfold w_rest at R4
    exact R4
  have h58 : ∀ f1 f2 f3 : Int32, f1 = sB (ct.prio != 0) → f2 = (if ct.pers then 2 else 0) → f3 = (if 0 ≤ xp then 4 else 0) → zP s0 m_X8_putContent (d + 4) 58 [some (zr x0), some (.int ch), some (zr x2), some (.long xp), none] [.int f3, .int (f1 + f2), zr x0] h3 Q E := fun f1 f2 f3 h1 h2 h3' => by
    refine b_X8_putContent_58 (e_R ec3 fun (z : gR h3 x2 6 = hd1') => ?_)
    rw [z]
    revert f3'
    cases hht : ct.heads with
    | none => exact fun f3' => ⟨fun _ => hfin _ _ _ _ h1 h2 h3' (by rw [hht]; rfl), fun hn => absurd f3' hn⟩
    | some t => exact fun f3' => ⟨fun h0 => absurd h0 (R3.1.pos f3'.choose_spec.choose_spec.choose_spec.choose_spec.choose_spec.choose_spec.choose_spec.choose_spec.choose_spec.1.1 (by decide)), fun _ => hfin _ _ _ _ h1 h2 h3' (by rw [hht]; rfl)⟩
  have h46 : ∀ f1 f2 : Int32, f1 = sB (ct.prio != 0) → f2 = (if ct.pers then 2 else 0) → zP s0 m_X8_putContent (d + 4) 46 [some (zr x0), some (.int ch), some (zr x2), some (.long xp), none] [.int f2, .int f1, zr x0] h3 Q E := fun f1 f2 h1 h2 => by
    refine b_X8_putContent_46 ⟨fun h0 => ?_, fun h0 => ?_⟩
    · rw [lg_0] at h0
      exact h58 _ _ _ h1 h2 (by rw [if_neg h0])
    · rw [lg_0, Classical.not_not] at h0
      exact h58 _ _ _ h1 h2 (by rw [if_pos h0])
  have h34 : ∀ f1 : Int32, f1 = sB (ct.prio != 0) → zP s0 m_X8_putContent (d + 4) 34 [some (zr x0), some (.int ch), some (zr x2), some (.long xp), none] [.int f1, zr x0] h3 Q E := fun f1 h1 => by
    refine b_X8_putContent_34 (e_I ec3 fun (z : gI h3 x2 3 = sB ct.pers) => ?_)
    rw [z, sB_0]
    refine ⟨fun h0 => h46 _ _ h1 (by rw [h0]; rfl), fun h0 => ?_⟩
    rw [Bool.not_eq_false] at h0
    exact h46 _ _ h1 (by rw [h0]; rfl)
  refine e_I ec3 fun (z : gI h3 x2 4 = ct.prio) => ?_
  rw [z]
  refine ⟨fun h0 => h34 _ (by rw [h0]; rfl), fun h0 => h34 _ ?_⟩
  rw [show (ct.prio != 0) = true from bne_iff_ne.mpr h0]
  rfl
end PC
