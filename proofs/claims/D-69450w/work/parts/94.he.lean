/-! ===== the twin: heads; bindings match ===== -/
set_option maxRecDepth 100000
section HE
variable {s0 : zE} {F : Nat → Option zC} {b : Nat} {s s' : sSt} {w w' : tW} {g g' : sG} {h h' : zH} {d x0 x1 x2 x3 i q m c n : Nat} {Q : Value → zH → Prop} {E : Nat → zH → Prop} {t : sTab} {name : sBy} {ot : Option sTab}
theorem t_named_7 (J : tJs s0 F) (R : tR s0 F b s w g h) (T : gTab g x0 t) (hn : h.1 x1 = some (2048, vB name)) (hl : name.length < 2147483648) (hr : ∀ w ∈ t.rows, w.1.length < 2147483648) :
    ∀ (k : Nat), k ≤ t.rows.length → Q (.int (i_fi (s_fi t.rows name k))) h → zP s0 m_X8_named (d + 11) 7 [some (zr x0), some (zr x1), some (.int (Int32.ofNat k - 1))] [] h Q E
  | k, hk, K => by
    have T' := T
    obtain ⟨a1, a2, a3, a4, r, l1, l2, l3, l4, q1, q2, q3, q4, q5, q6, h1, h2, h3, h4, h54, T2⟩ := T
    cases k with
    | zero => exact b_X8_named_7 ⟨fun _ => K, fun hh => absurd (by decide) hh⟩
    | succ k =>
      have hx : t.rows[k]? = some t.rows[k] := List.getElem?_eq_getElem (by omega)
      obtain ⟨n1, n4, e1, e2, e3, e4, e5, e6⟩ := T2 k _ hx
      have e0 : Int32.ofNat (k + 1) - 1 = Int32.ofNat k := by rw [i_pred (by omega), Nat.add_sub_cancel]
      rw [e0]
      have et := R.fz q1
      have el := R.fz q2
      refine b_X8_named_7 ⟨fun hh => absurd hh (i_nn (by omega)), fun _ => e_R et fun (z1 : gR h x0 1 = a1) => ?_⟩
      rw [z1]
      refine g_ER (t := 22) el (zin_of (by omega) (by omega)) (by rw [i_nat (by omega)]; exact e1) fun z2 => ?_
      rw [z2]
      refine t_isText J R e2 hn (hr _ (List.mem_of_getElem? hx)) hl ⟨_, rfl, ?_⟩
      rw [sB_0]
      rw [s_fi, hx] at K
      refine ⟨fun hb => ?_, fun hb => ?_⟩
      · have hne : ¬ (some t.rows[k]).map (fun w => w.1) = some name := fun e => by
          have e : some t.rows[k].1 = some name := e
          rw [Option.some.inj e, beq_self_eq_true] at hb
          cases hb
        rw [if_neg hne] at K
        have e9 : Int32.ofNat k + -1 = Int32.ofNat k - 1 := by rw [Int32.sub_eq_add_neg]
        rw [e9]
        exact t_named_7 J R T' hn hl hr k (by omega) K
      · rw [Bool.not_eq_false] at hb
        rw [if_pos (show (some t.rows[k]).map (fun w => w.1) = some name from by rw [← eq_of_beq hb]; rfl)] at K
        exact K
theorem t_named (J : tJs s0 F) (R : tR s0 F b s w g h) (T : gTab g x0 t) (hn : h.1 x1 = some (2048, vB name)) (hl : name.length < 2147483648) (hr : ∀ w ∈ t.rows, w.1.length < 2147483648) (K : Q (.int (i_fi (s_fi t.rows name t.rows.length))) h) : zX s0 m_X8_named (d + 11) [zr x0, zr x1] h Q E := by
  have T' := T
  obtain ⟨a1, a2, a3, a4, r, l1, l2, l3, l4, q1, -⟩ := T
  refine c_X8_named (e_I (R.fz q1) fun (z1 : gI h x0 0 = Int32.ofNat t.rows.length) => ?_)
  rw [z1]
  exact t_named_7 J R T' hn hl hr _ (Nat.le_refl _) K
theorem t_kindOf {a : sBy} (J : tJs s0 F) (R : tR s0 F b s w g h) (hB : gB g x0 a) (hl : a.length < 2147483648) (K : Q (.int (s_kindOf a)) h) : zX s0 m_X8_kindOf (d + 11) [zr x0] h Q E := by
  unfold s_kindOf at K
  have hst : ∀ (k : Nat) (x : String) (Q : Value → zH → Prop), (k, x) ∈ [(587, "match"), (593, "any"), (726, "direct"), (728, "fanout"), (730, "topic"), (731, "headers"), (746, "alt"), (757, "max"), (762, "ttl"), (763, "pri"), (764, "dlx"), (765, "dlk"), (785, "gen-"), (823, "ctag-")] → (s_txt x).length < 2147483648 →
      (a ≠ s_txt x → Q (.int 0) h) → (a = s_txt x → Q (.int 1) h) → zX s0 m_X8_isText (d + 10) [zr x0, zr (zls s0 "RelayHallModel" k)] h Q E := fun k x Q hk hx h0 h1 => by
    refine t_isText J R hB (R.lit J hk) hl hx ?_
    by_cases e : a = s_txt x
    · rw [beq_iff_eq.mpr e]
      exact h1 e
    · rw [beq_false_of_ne e]
      exact h0 e
  refine c_X8_kindOf (hst 726 "direct" _ (by decide) (by decide) (fun n1 => ⟨_, rfl, fun _ => ?_, fun hh => absurd rfl hh⟩) (fun e1 => ⟨_, rfl, fun hh => absurd hh (by decide), fun _ => by rw [if_pos e1] at K; exact K⟩))
  rw [if_neg n1] at K
  refine hst 728 "fanout" _ (by decide) (by decide) (fun n2 => ⟨_, rfl, fun _ => ?_, fun hh => absurd rfl hh⟩) (fun e1 => ⟨_, rfl, fun hh => absurd hh (by decide), fun _ => by rw [if_pos e1] at K; exact K⟩)
  rw [if_neg n2] at K
  refine hst 730 "topic" _ (by decide) (by decide) (fun n3 => ⟨_, rfl, fun _ => ?_, fun hh => absurd rfl hh⟩) (fun e1 => ⟨_, rfl, fun hh => absurd hh (by decide), fun _ => by rw [if_pos e1] at K; exact K⟩)
  rw [if_neg n3] at K
  refine hst 731 "headers" _ (by decide) (by decide) (fun n4 => ⟨_, rfl, fun _ => ?_, fun hh => absurd rfl hh⟩) (fun e1 => ⟨_, rfl, fun hh => absurd hh (by decide), fun _ => by rw [if_pos e1] at K; exact K⟩)
  rw [if_neg n4] at K
  exact K
/-- the heads that are asked for -/
def s_heL (t : sTab) : List sRow := (s_live t).filter (fun w => !(w.1 == s_txt "match"))
theorem heL_mem {row : sRow} : row ∈ s_heL t ↔ ∃ j, t.rows[j]? = some row ∧ s_fi t.rows row.1 t.rows.length = some j ∧ row.1 ≠ s_txt "match" := by
  unfold s_heL
  rw [List.mem_filter, live_mem]
  constructor
  · rintro ⟨⟨j, h1, h2⟩, h3⟩
    refine ⟨j, h1, h2, fun e => ?_⟩
    rw [e, beq_self_eq_true] at h3
    cases h3
  · rintro ⟨j, h1, h2, h3⟩
    refine ⟨⟨j, h1, h2⟩, ?_⟩
    rw [beq_false_of_ne h3]
    rfl
theorem s_heads_eq : s_heads t ot = if s_text t "match" == some (s_txt "any") then (s_heL t).any (fun w => s_has w ot) else (s_heL t).all (fun w => s_has w ot) := rfl
theorem t_heads_54 {any : Bool} (J : tJs s0 F) (R : tR s0 F b s w g h) (T : gTab g x0 t) (hT : gTo g x1 ot) (h1 : sTabOk t) (h2 : ∀ t, ot = some t → sTabOk t) (K : Q (.int (sB (if any then (s_heL t).any (fun w => s_has w ot) else (s_heL t).all (fun w => s_has w ot)))) h) :
    ∀ (k j : Nat) (al an : Bool), t.rows.length = j + k → (al = true ↔ ∀ i row, i < j → t.rows[i]? = some row → s_fi t.rows row.1 t.rows.length = some i → row.1 ≠ s_txt "match" → s_has row ot = true) →
      (an = true ↔ ∃ i row, i < j ∧ t.rows[i]? = some row ∧ s_fi t.rows row.1 t.rows.length = some i ∧ row.1 ≠ s_txt "match" ∧ s_has row ot = true) →
      zP s0 m_X8_heads (d + 11) 54 [some (zr x0), some (zr x1), none, some (.int (sB any)), some (.int (sB al)), some (.int (sB an)), some (.int (Int32.ofNat j))] [] h Q E
  | k, j, al, an, hj, hal, han => by
    have T' := T
    obtain ⟨a1, a2, a3, a4, r, l1, l2, l3, l4, q1, q2, q3, q4, q5, q6, p1, p2, p3, p4, h54, T2⟩ := T
    have et := R.fz q1
    refine b_X8_heads_54 (e_I et fun (z1 : gI h x0 0 = Int32.ofNat t.rows.length) => ?_)
    rw [z1, i_le (by omega) (by omega), sB_0]
    refine ⟨fun hle => ?_, fun hle => e_R et fun (z2 : gR h x0 1 = a1) => ?_⟩
    · have ej : j = t.rows.length := by omega
      have hall : (s_heL t).all (fun w => s_has w ot) = al := by
        rw [Bool.eq_iff_iff, hal, List.all_eq_true]
        constructor
        · intro hh i row hi hr hf hm
          exact hh row (heL_mem.mpr ⟨i, hr, hf, hm⟩)
        · intro hh row hr
          obtain ⟨i, hr, hf, hm⟩ := heL_mem.mp hr
          exact hh i row (by rw [ej]; exact (fi_some hf).1) hr hf hm
      have hany : (s_heL t).any (fun w => s_has w ot) = an := by
        rw [Bool.eq_iff_iff, han, List.any_eq_true]
        constructor
        · rintro ⟨row, hr, hh⟩
          obtain ⟨i, hr, hf, hm⟩ := heL_mem.mp hr
          exact ⟨i, row, by rw [ej]; exact (fi_some hf).1, hr, hf, hm, hh⟩
        · rintro ⟨i, row, -, hr, hf, hm, hh⟩
          exact ⟨row, heL_mem.mpr ⟨i, hr, hf, hm⟩, hh⟩
      rw [hall, hany] at K
      refine ⟨fun ha => ⟨?_, ?_⟩, fun ha => ⟨?_, ?_⟩⟩
      · cases al
        · exact Or.inl rfl
        · exact Or.inr rfl
      · rw [ha] at K
        exact K
      · cases an
        · exact Or.inl rfl
        · exact Or.inr rfl
      · rw [Bool.not_eq_false] at ha
        rw [ha] at K
        exact K
    · obtain ⟨k', rfl⟩ : ∃ k', k = k' + 1 := ⟨k - 1, by omega⟩
      have hx : t.rows[j]? = some t.rows[j] := List.getElem?_eq_getElem (by omega)
      obtain ⟨n1, n4, e1, e2, -⟩ := T2 j _ hx
      rw [z2]
      have hlen : ∀ w ∈ t.rows, w.1.length < 2147483648 := fun w hw => by
        have := (h1.2.2 w hw).1
        omega
      refine g_ER (t := 22) (R.fz q2) (zin_of (by omega) (by omega)) (by rw [i_nat (by omega)]; exact e1) fun z3 => ?_
      rw [z3]
      refine t_find (d := d + 9) R T' e2 (hlen _ (List.mem_of_getElem? hx)) hlen ⟨_, rfl, ?_⟩
      have hiff := fi_iff (k := j) (j := j) (o := s_fi t.rows t.rows[j].1 t.rows.length) (by omega) (fun i hi => by have := (fi_some hi).1; omega) rfl
      rw [hiff, i_succ]
      -- a row that does not count
      have hskip : (s_fi t.rows t.rows[j].1 t.rows.length = some j → t.rows[j].1 ≠ s_txt "match" → False) → zP s0 m_X8_heads (d + 11) 54 [some (zr x0), some (zr x1), none, some (.int (sB any)), some (.int (sB al)), some (.int (sB an)), some (.int (Int32.ofNat (j + 1)))] [] h Q E := fun hno => by
        refine t_heads_54 J R T' hT h1 h2 K k' (j + 1) al an (by omega) ?_ ?_
        · rw [hal]
          constructor
          · intro hh i row hi hr hf hm
            by_cases e : i = j
            · subst e
              rw [hx] at hr
              obtain rfl := Option.some.inj hr
              exact (hno hf hm).elim
            · exact hh i row (by omega) hr hf hm
          · exact fun hh i row hi hr hf hm => hh i row (by omega) hr hf hm
        · rw [han]
          constructor
          · rintro ⟨i, row, hi, hh⟩
            exact ⟨i, row, by omega, hh⟩
          · rintro ⟨i, row, hi, hr, hf, hm, hh⟩
            by_cases e : i = j
            · subst e
              rw [hx] at hr
              obtain rfl := Option.some.inj hr
              exact (hno hf hm).elim
            · exact ⟨i, row, by omega, hr, hf, hm, hh⟩
      refine ⟨fun hne => hskip fun hf => absurd hf hne, fun hf => e_R et fun (z5 : gR h x0 1 = a1) => ?_⟩
      rw [z5]
      refine g_ER (t := 22) (R.fz q2) (zin_of (by omega) (by omega)) (by rw [i_nat (by omega)]; exact e1) fun z6 => ?_
      rw [z6]
      refine t_isText J R e2 (R.lit J (k := 587) (x := "match") (by decide)) (hlen _ (List.mem_of_getElem? hx)) (by decide) ⟨_, rfl, ?_⟩
      rw [sB_0]
      refine ⟨fun hb => hskip fun _ hm => ?_, fun hb => ?_⟩
      · rw [Bool.not_eq_false] at hb
        exact hm (eq_of_beq hb)
      have hm : t.rows[j].1 ≠ s_txt "match" := fun e => by
        rw [e, beq_self_eq_true] at hb
        cases hb
      refine t_has (d := d + 8) R T' hx hT h1 h2 ⟨_, rfl, ?_⟩
      rw [sB_0]
      refine ⟨fun hh => ?_, fun hh => ?_⟩
      · refine t_heads_54 (any := any) J R T' hT h1 h2 K k' (j + 1) false an (by omega) ⟨fun e => (nomatch e), fun hA => ?_⟩ ?_
        · have := hA j _ (Nat.lt_succ_self _) hx hf hm
          rw [hh] at this
          cases this
        · rw [han]
          constructor
          · rintro ⟨i, row, hi, hh⟩
            exact ⟨i, row, by omega, hh⟩
          · rintro ⟨i, row, hi, hr, hf', hm', hh'⟩
            by_cases e : i = j
            · subst e
              rw [hx] at hr
              obtain rfl := Option.some.inj hr
              rw [hh] at hh'
              cases hh'
            · exact ⟨i, row, by omega, hr, hf', hm', hh'⟩
      · rw [Bool.not_eq_false] at hh
        refine t_heads_54 (any := any) J R T' hT h1 h2 K k' (j + 1) al true (by omega) ?_ ⟨fun _ => ⟨j, _, Nat.lt_succ_self _, hx, hf, hm, hh⟩, fun _ => rfl⟩
        rw [hal]
        constructor
        · intro hA i row hi hr hf' hm'
          by_cases e : i = j
          · subst e
            rw [hx] at hr
            obtain rfl := Option.some.inj hr
            exact hh
          · exact hA i row (by omega) hr hf' hm'
        · exact fun hA i row hi hr hf' hm' => hA i row (by omega) hr hf' hm'
theorem t_heads (J : tJs s0 F) (R : tR s0 F b s w g h) (T : gTab g x0 t) (hT : gTo g x1 ot) (h1 : sTabOk t) (h2 : ∀ t, ot = some t → sTabOk t) (K : Q (.int (sB (s_heads t ot))) h) : zX s0 m_X8_heads (d + 12) [zr x0, zr x1] h Q E := by
  have T' := T
  obtain ⟨a1, a2, a3, a4, r, l1, l2, l3, l4, q1, q2, q3, q4, q5, q6, p1, p2, p3, p4, h54, T2⟩ := T
  have et := R.fz q1
  have hlen : ∀ w ∈ t.rows, w.1.length < 2147483648 := fun w hw => by
    have := (h1.2.2 w hw).1
    omega
  have hgo : ∀ any : Bool, any = (s_text t "match" == some (s_txt "any")) → zP s0 m_X8_heads (d + 12) 54 [some (zr x0), some (zr x1), none, some (.int (sB any)), some (.int 1), some (.int 0), some (.int 0)] [] h Q E := fun any ha => by
    rw [s_heads_eq, ← ha] at K
    exact t_heads_54 (d := d + 1) J R T' hT h1 h2 K t.rows.length 0 true false (Nat.zero_add _).symm ⟨fun _ i row hi => absurd hi (Nat.not_lt_zero _), fun _ => rfl⟩ ⟨fun e => (nomatch e), fun ⟨i, row, hi, _⟩ => absurd hi (Nat.not_lt_zero _)⟩
  have h43 : (s_text t "match" == some (s_txt "any")) = false → zP s0 m_X8_heads (d + 12) 43 [some (zr x0), some (zr x1), none, none, none, none, none] [] h Q E := fun e => b_X8_heads_43 (b_X8_heads_44 (hgo false e.symm))
  refine c_X8_heads (t_named J R T' (R.lit J (k := 587) (x := "match") (by decide)) (by decide) hlen ⟨_, rfl, ?_⟩)
  cases hf : s_fi t.rows (s_txt "match") t.rows.length with
  | none =>
    refine ⟨fun _ => h43 ?_, fun hh => absurd rfl hh⟩
    unfold s_text
    rw [find_none hf]
    rfl
  | some k =>
    obtain ⟨hk, v, hv, hvn⟩ := fi_some hf
    have hfr := find_row hf
    rw [hv] at hfr
    obtain ⟨n1, n4, e1, e2, e3, e4, e5, e6⟩ := T2 k _ hv
    refine ⟨fun hh => absurd hh (by rw [i_fi_neg (by omega)]; exact id), fun _ => e_R et fun (z1 : gR h x0 2 = a2) => ?_⟩
    have ei : i_fi (some k) = Int32.ofNat k := rfl
    rw [z1, ei]
    refine g_EI (t := 1) (R.fz q3) (zin_of (by omega) (by omega)) (by rw [i_nat (by omega)]; exact e3) fun z2 => ?_
    rw [z2]
    refine ⟨fun hne => h43 ?_, fun h83 => e_R et fun (z3 : gR h x0 4 = a4) => ?_⟩
    · unfold s_text
      rw [hfr]
      simp only [if_neg hne]
      rfl
    · rw [z3]
      refine g_ER (t := 22) (R.fz q5) (zin_of (by omega) (by omega)) (by rw [i_nat (by omega)]; exact e5) fun z4 => ?_
      rw [z4]
      have hst : s_text t "match" = some v.2.2.2 := by
        unfold s_text
        rw [hfr]
        simp only [if_pos h83]
      have hvl := (h1.2.2 v (List.mem_of_getElem? hv)).2.1
      refine t_isText (d := d + 1) J R (e6 h83) (R.lit J (k := 593) (x := "any") (by decide)) (by omega) (by decide) ⟨_, rfl, ?_⟩
      rw [sB_0]
      have hbe : (some v.2.2.2 == some (s_txt "any")) = (v.2.2.2 == s_txt "any") := rfl
      refine ⟨fun hb => h43 (by rw [hst, hbe]; exact hb), fun hb => ?_⟩
      rw [Bool.not_eq_false] at hb
      exact b_X8_heads_44 (hgo true (by rw [hst, hbe]; exact hb.symm))
/-- whether a binding matches -/
theorem t_matches {key : sBy} (J : tJs s0 F) (R : tR s0 F b s w g h) (I : sScope s) (X : sTx s) (hm : g.kind x0 = (1, 0)) (hx : g.kind x1 = (34, i)) (hk : gB g x2 key) (hl : key.length ≤ 40) (hT : gTo g x3 ot) (h2 : ∀ t, ot = some t → sTabOk t)
    (K : ∀ g1 h1, tR s0 F b s w g1 h1 → gL g g1 → Q (.int (sB (s_matches s i key ot))) h1) : zX s0 m_X8_matches (d + 13) [zr x0, zr x1, zr x2, zr x3] h Q E := by
  have hki := R.ak (by decide) (by decide) hx
  have eb := R.1.cell hx (by decide)
  obtain ⟨hk1, hk2⟩ := I.bi i hki
  obtain ⟨b1, b2⟩ := R.2.2.2.2.2.2.2.2.2.1 i hki
  obtain ⟨o1, o2⟩ := X.2.2.1 i hki
  have ee := R.1.cell (R.al (by decide) (by decide) hk2) (by decide)
  refine c_X8_matches (e_R eb fun (z1 : gR h x1 1 = g.ref 32 (s.bi i).exch) => ?_)
  rw [z1]
  refine e_I ee fun (z2 : gI h (g.ref 32 (s.bi i).exch) 1 = (s.ex (s.bi i).exch).kind) => ?_
  rw [z2]
  unfold s_matches at K
  dsimp only at K
  refine ⟨fun h0 => e_R eb fun (z3 : gR h x1 2 = g.rf 34 i 2) => ?_, fun h0 => ?_⟩
  · rw [if_pos h0] at K
    rw [z3]
    refine t_same (a := some (s.bi i).key) (c := some key) R b1 hk (fun y hy => by rw [← Option.some.inj hy]; omega) (fun y hy => by rw [← Option.some.inj hy]; omega) ⟨_, rfl, ?_, K g h R (gL.refl g)⟩
    cases (some (s.bi i).key == some key)
    · exact Or.inl rfl
    · exact Or.inr rfl
  rw [if_neg h0] at K
  refine ⟨fun h1 => ?_, fun h1 => ?_⟩
  · rw [if_pos h1] at K
    exact K g h R (gL.refl g)
  rw [if_neg h1] at K
  refine ⟨fun h3 => e_R eb fun (z3 : gR h x1 2 = g.rf 34 i 2) => ?_, fun h3 => e_R eb fun (z3 : gR h x1 3 = g.rf 34 i 3) => ?_⟩
  · rw [if_pos h3] at K
    rw [z3]
    refine ⟨⟨_, R.main hm⟩, t_topic (d := d + 11) R hm b1 hk o1 hl words_len fun g1 h1 R1 L1 => ⟨_, rfl, ?_, K g1 h1 R1 L1⟩⟩
    cases s_topicW (s_words (s.bi i).key) (s_words key)
    · exact Or.inl rfl
    · exact Or.inr rfl
  · rw [if_neg h3] at K
    rw [z3]
    refine t_heads J R b2 hT o2 h2 ⟨_, rfl, ?_, K g h R (gL.refl g)⟩
    cases s_heads (s.bi i).tab ot
    · exact Or.inl rfl
    · exact Or.inr rfl
end HE
