/-! ===== the twin: tables are read ===== -/
set_option maxRecDepth 100000
/-- what strings tell, and where the twin's own are -/
def tJs (s0 : zE) (F : Nat → Option zC) : Prop :=
  (∀ (x : Nat) (cs : List Value) (d : Nat) (h : zH) (Q : Value → zH → Prop) (E : Nat → zH → Prop), h.1 x = some (2048, cs) → Q (.int (Int32.ofNat cs.length)) h → zX s0 m_J12_length (d + 9) [zr x] h Q E) ∧
  (∀ (x : Nat) (cs : List Value) (i : Nat) (v : Int32) (d : Nat) (h : zH) (Q : Value → zH → Prop) (E : Nat → zH → Prop), h.1 x = some (2048, cs) → i < 2147483648 → cs[i]? = some (.int v) → Q (.int v) h → zX s0 m_J12_charAt (d + 9) [zr x, .int (Int32.ofNat i)] h Q E) ∧
  (∀ c ∈ [(587, "match"), (593, "any"), (726, "direct"), (728, "fanout"), (730, "topic"), (731, "headers"), (746, "alt"), (757, "max"), (762, "ttl"), (763, "pri"), (764, "dlx"), (765, "dlk"), (785, "gen-"), (823, "ctag-")],
    F (zls s0 "RelayHallModel" c.1) = some (2048, vB (s_txt c.2)))
abbrev sRow : Type := sBy × Int32 × Int32 × sBy
/-- the last place below k of a name -/
def s_fi (rows : List sRow) (name : sBy) : Nat → Option Nat
  | 0 => none
  | k + 1 => if rows[k]?.map (fun w => w.1) = some name then some k else s_fi rows name k
def i_fi (o : Option Nat) : Int32 := match o with
  | none => -1
  | some j => Int32.ofNat j
section TA
variable {s0 : zE} {F : Nat → Option zC} {b : Nat} {s s' : sSt} {w w' : tW} {g g' : sG} {h h' : zH} {d x0 x1 x2 i q m : Nat} {Q : Value → zH → Prop} {E : Nat → zH → Prop} {t o : sTab} {name : sBy}
theorem fi_eq {rows : List sRow} : ∀ (k : Nat), k ≤ rows.length → (rows.take k).reverse.find? (fun w => w.1 == name) = (s_fi rows name k).bind (fun j => rows[j]?)
  | 0, _ => rfl
  | k + 1, hk => by
    have hx : rows[k]? = some rows[k] := List.getElem?_eq_getElem (by omega)
    rw [List.take_add_one, hx, Option.toList_some, List.reverse_append, List.reverse_singleton, List.singleton_append, List.find?_cons, s_fi, hx]
    by_cases e : rows[k].1 = name
    · rw [beq_iff_eq.mpr e, if_pos (by rw [← e]; rfl)]
      exact hx.symm
    · rw [beq_false_of_ne e, if_neg (show ¬ (some rows[k]).map (fun w => w.1) = some name from fun e2 => e (Option.some.inj e2))]
      exact fi_eq k (by omega)
theorem fi_find : s_find t name = (s_fi t.rows name t.rows.length).bind (fun j => t.rows[j]?) := by
  have := fi_eq (name := name) (rows := t.rows) t.rows.length (Nat.le_refl _)
  rw [List.take_length] at this
  exact this
theorem fi_some {rows : List sRow} : ∀ {k j : Nat}, s_fi rows name k = some j → j < k ∧ ∃ w, rows[j]? = some w ∧ w.1 = name
  | k + 1, j, hj => by
    rw [s_fi] at hj
    split at hj
    · rename_i e
      obtain rfl : k = j := Option.some.inj hj
      cases hx : rows[k]? with
      | none =>
        rw [hx] at e
        cases e
      | some w =>
        rw [hx] at e
        exact ⟨Nat.lt_succ_self _, w, rfl, Option.some.inj e⟩
    · obtain ⟨h1, h2⟩ := fi_some hj
      exact ⟨by omega, h2⟩
theorem find_row {j : Nat} (hj : s_fi t.rows name t.rows.length = some j) : s_find t name = t.rows[j]? := by
  rw [fi_find, hj]
  rfl
theorem find_none (hj : s_fi t.rows name t.rows.length = none) : s_find t name = none := by
  rw [fi_find, hj]
  rfl
theorem i_fi_neg {k : Nat} (hk : k < 2147483648) : (i_fi (some k) = -1) ↔ False := by
  constructor
  · intro e
    have h1 := i_nn' hk
    have h2 : Int32.ofNat k = -1 := e
    rw [h2] at h1
    exact absurd h1 (by decide)
  · exact False.elim
theorem t_isText_13 {a c : sBy} (J : tJs s0 F) (R : tR s0 F b s w g h) (ha : gB g x0 a) (hc : h.1 x1 = some (2048, vB c)) (hl : a.length = c.length) (hs : a.length < 2147483648) (K : Q (.int (sB (a == c))) h) :
    ∀ (k j : Nat), a.length = j + k → (∀ n, n < j → a[n]? = c[n]?) → zP s0 m_X8_isText (d + 10) 13 [some (zr x0), some (zr x1), some (.int (Int32.ofNat j))] [] h Q E
  | k, j, hj, he => by
    have ea := R.fz ha
    refine b_X8_isText_13 ⟨⟨_, ea⟩, ?_⟩
    rw [gA_of ea, vB_len, i_le (by omega) (by omega)]
    refine ⟨fun hle => ?_, fun hle => ?_⟩
    · have : a = c := List.ext_getElem? fun n => by
        by_cases hn : n < j
        · exact he n hn
        · rw [List.getElem?_eq_none (by omega), List.getElem?_eq_none (by omega)]
      rw [beq_iff_eq.mpr this] at K
      exact K
    · obtain ⟨k', rfl⟩ : ∃ k', k = k' + 1 := ⟨k - 1, by omega⟩
      obtain ⟨x, hx⟩ : ∃ x, a[j]? = some x := ⟨_, List.getElem?_eq_getElem (by omega)⟩
      obtain ⟨y, hy⟩ : ∃ y, c[j]? = some y := ⟨_, List.getElem?_eq_getElem (by omega)⟩
      refine g_EI (t := 0) ea (zin_of (by rw [vB_len]; omega) (by omega)) (by rw [i_nat (by omega)]; exact vB_get hx) fun z1 => ?_
      rw [z1]
      refine ⟨⟨_, hc⟩, J.2.1 x1 (vB c) j (sx y) d h _ E hc (by omega) (vB_get hy) ⟨_, rfl, ?_⟩⟩
      rw [sx_inj, i_succ]
      constructor
      · intro e
        refine t_isText_13 J R ha hc hl hs K k' (j + 1) (by omega) fun n hn => ?_
        by_cases hn2 : n < j
        · exact he n hn2
        · have en : n = j := by omega
          rw [en, hx, hy, e]
      · intro e
        have : a ≠ c := fun e2 => e (by
          rw [e2, hy] at hx
          cases hx
          rfl)
        rw [beq_false_of_ne this] at K
        exact K
theorem t_isText {a c : sBy} (J : tJs s0 F) (R : tR s0 F b s w g h) (ha : gB g x0 a) (hc : h.1 x1 = some (2048, vB c)) (hs : a.length < 2147483648) (hs2 : c.length < 2147483648) (K : Q (.int (sB (a == c))) h) : zX s0 m_X8_isText (d + 10) [zr x0, zr x1] h Q E := by
  have ea := R.fz ha
  refine c_X8_isText ⟨⟨_, ea⟩, ⟨_, hc⟩, J.1 x1 (vB c) d h _ E hc ⟨_, rfl, ?_⟩⟩
  rw [gA_of ea, vB_len, vB_len, i_inj (by omega) (by omega)]
  refine ⟨fun hl => t_isText_13 J R ha hc hl hs K a.length 0 (by omega) fun n hn => absurd hn (Nat.not_lt_zero _), fun hl => ?_⟩
  have : a ≠ c := fun e => hl (by rw [e])
  rw [beq_false_of_ne this] at K
  exact K
/-- a string of the twin's own -/
theorem tR.lit (R : tR s0 F b s w g h) (J : tJs s0 F) {k : Nat} {x : String} (hk : (k, x) ∈ [(587, "match"), (593, "any"), (726, "direct"), (728, "fanout"), (730, "topic"), (731, "headers"), (746, "alt"), (757, "max"), (762, "ttl"), (763, "pri"), (764, "dlx"), (765, "dlk"), (785, "gen-"), (823, "ctag-")]) :
    h.1 (zls s0 "RelayHallModel" k) = some (2048, vB (s_txt x)) := (R.1.2.1 _ _ (J.2.2 _ hk)).1
theorem t_find_7 (R : tR s0 F b s w g h) (T : gTab g x0 t) (hn : gB g x1 name) (hl : name.length < 2147483648) (hr : ∀ w ∈ t.rows, w.1.length < 2147483648) :
    ∀ (k : Nat), k ≤ t.rows.length → Q (.int (i_fi (s_fi t.rows name k))) h → zP s0 m_X8_find (d + 1) 7 [some (zr x0), some (zr x1), some (.int (Int32.ofNat k - 1))] [] h Q E
  | k, hk, K => by
    obtain ⟨a1, a2, a3, a4, r, l1, l2, l3, l4, q1, q2, q3, q4, q5, q6, h1, h2, h3, h4, h54, T2⟩ := T
    cases k with
    | zero => exact b_X8_find_7 ⟨fun _ => K, fun hh => absurd (by decide) hh⟩
    | succ k =>
      have hx : t.rows[k]? = some t.rows[k] := List.getElem?_eq_getElem (by omega)
      obtain ⟨n1, n4, e1, e2, e3, e4, e5, e6⟩ := T2 k _ hx
      have e0 : Int32.ofNat (k + 1) - 1 = Int32.ofNat k := by rw [i_pred (by omega), Nat.add_sub_cancel]
      rw [e0]
      have et := R.fz q1
      have el := R.fz q2
      refine b_X8_find_7 ⟨fun hh => absurd hh (i_nn (by omega)), fun _ => e_R et fun (z1 : gR h x0 1 = a1) => ?_⟩
      rw [z1]
      refine g_ER (t := 22) el (zin_of (by omega) (by omega)) (by rw [i_nat (by omega)]; exact e1) fun z2 => ?_
      rw [z2]
      refine t_same (a := some t.rows[k].1) (c := some name) R e2 hn (fun y hy => by rw [← Option.some.inj hy]; exact hr _ (List.mem_of_getElem? hx)) (fun y hy => by rw [← Option.some.inj hy]; exact hl) ⟨_, rfl, ?_⟩
      rw [sB_0]
      rw [s_fi, hx] at K
      refine ⟨fun hb => ?_, fun hb => ?_⟩
      · have hne : ¬ (some t.rows[k]).map (fun w => w.1) = some name := fun e => by
          have e : some t.rows[k].1 = some name := e
          rw [e, beq_self_eq_true] at hb
          cases hb
        rw [if_neg hne] at K
        have e9 : Int32.ofNat k + -1 = Int32.ofNat k - 1 := by rw [Int32.sub_eq_add_neg]
        rw [e9]
        exact t_find_7 R ⟨a1, a2, a3, a4, r, l1, l2, l3, l4, q1, q2, q3, q4, q5, q6, h1, h2, h3, h4, h54, T2⟩ hn hl hr k (by omega) K
      · rw [Bool.not_eq_false] at hb
        rw [if_pos (show (some t.rows[k]).map (fun w => w.1) = some name from eq_of_beq hb)] at K
        exact K
theorem t_find (R : tR s0 F b s w g h) (T : gTab g x0 t) (hn : gB g x1 name) (hl : name.length < 2147483648) (hr : ∀ w ∈ t.rows, w.1.length < 2147483648) (K : Q (.int (i_fi (s_fi t.rows name t.rows.length))) h) : zX s0 m_X8_find (d + 1) [zr x0, zr x1] h Q E := by
  have T' := T
  obtain ⟨a1, a2, a3, a4, r, l1, l2, l3, l4, q1, -⟩ := T
  refine c_X8_find (e_I (R.fz q1) fun (z1 : gI h x0 0 = Int32.ofNat t.rows.length) => ?_)
  rw [z1]
  exact t_find_7 R T' hn hl hr _ (Nat.le_refl _) K
theorem t_has {row : sRow} {j : Nat} {ot : Option sTab} (R : tR s0 F b s w g h) (T : gTab g x0 t) (hj : t.rows[j]? = some row) (hT : gTo g x2 ot) (h1 : sTabOk t) (h2 : ∀ t, ot = some t → sTabOk t) (K : Q (.int (sB (s_has row ot))) h) : zX s0 m_X8_has (d + 2) [zr x0, .int (Int32.ofNat j), zr x2] h Q E := by
  have hjl : j < t.rows.length := (List.getElem?_eq_some_iff.mp hj).1
  obtain ⟨a1, a2, a3, a4, r, l1, l2, l3, l4, q1, q2, q3, q4, q5, q6, p1, p2, p3, p4, h54, T2⟩ := T
  obtain ⟨n1, n4, e1, e2, e3, e4, e5, e6⟩ := T2 j _ hj
  obtain ⟨o1, o2, o3⟩ := h1.2.2 row (List.mem_of_getElem? hj)
  have et := R.fz q1
  cases ot with
  | none =>
    have hT : x2 = 0 := hT
    refine c_X8_has ⟨fun hh => absurd hT hh, fun _ => b_X8_has_18 ⟨fun _ => K, fun hh => absurd rfl hh⟩⟩
  | some ot =>
    have h2 := h2 ot rfl
    have hT2 : gTab g x2 ot := hT
    obtain ⟨b1, b2, b3, b4, br, k1, k2, k3, k4, r1, r2, r3, r4, r5, r6, u1, u2, u3, u4, h54', U2⟩ := hT2
    have eo := R.fz r1
    refine c_X8_has ⟨fun _ => e_R et fun (z1 : gR h x0 1 = a1) => ?_, fun hh => absurd hh (R.1.pos r1.1 (by decide))⟩
    rw [z1]
    refine g_ER (t := 22) (R.fz q2) (zin_of (by omega) (by omega)) (by rw [i_nat (by omega)]; exact e1) fun z2 => ?_
    rw [z2]
    refine t_find R hT e2 (by omega) (fun w hw => by have := (h2.2.2 w hw).1; omega) ⟨_, rfl, ?_⟩
    cases hf : s_fi ot.rows row.1 ot.rows.length with
    | none =>
      have hn := find_none hf
      unfold s_has at K
      simp only [hn] at K
      exact b_X8_has_18 ⟨fun _ => K, fun hh => absurd rfl hh⟩
    | some k =>
      obtain ⟨hk, v, hv, hvn⟩ := fi_some hf
      have hfr := find_row hf
      rw [hv] at hfr
      unfold s_has at K
      simp only [hfr] at K
      obtain ⟨y1, y4, v1, v2, v3, v4, v5, v6⟩ := U2 k _ hv
      refine b_X8_has_18 ⟨fun hh => absurd hh (by rw [i_fi_neg (by omega)]; exact id), fun _ => e_R eo fun (z3 : gR h x2 2 = b2) => ?_⟩
      have ei : i_fi (some k) = Int32.ofNat k := rfl
      rw [z3, ei]
      refine g_EI (t := 1) (R.fz r3) (zin_of (by omega) (by omega)) (by rw [i_nat (by omega)]; exact v3) fun z4 => e_R et fun (z5 : gR h x0 2 = a2) => ?_
      rw [z5]
      refine g_EI (t := 1) (R.fz q3) (zin_of (by omega) (by omega)) (by rw [i_nat (by omega)]; exact e3) fun z6 => ?_
      rw [z4, z6]
      unfold s_same at K
      refine ⟨fun hkk => e_R et fun _ => ⟨fE_of (t := 1) (R.fz q3) (zin_of (by omega) (by omega)) (by rw [i_nat (by omega)]; exact e3), ⟨fun h83 => ?_, fun h83 => ?_⟩⟩, fun hkk => ?_⟩
      · rw [if_neg h83, beq_iff_eq.mpr hkk.symm, Bool.true_and] at K
        refine e_R et fun (z7 : gR h x0 3 = a3) => ?_
        rw [z7]
        refine g_EI (t := 1) (R.fz q4) (zin_of (by omega) (by omega)) (by rw [i_nat (by omega)]; exact e4) fun z8 => e_R eo fun (z9 : gR h x2 3 = b3) => ?_
        rw [z9]
        refine g_EI (t := 1) (R.fz r4) (zin_of (by omega) (by omega)) (by rw [i_nat (by omega)]; exact v4) fun z10 => ?_
        rw [z8, z10]
        refine ⟨fun hne => ?_, fun heq => ?_⟩
        · rw [beq_false_of_ne hne] at K
          exact K
        · rw [beq_iff_eq.mpr heq] at K
          exact K
      · rw [if_pos h83, beq_iff_eq.mpr hkk.symm, Bool.true_and] at K
        have hl1 := o2
        have hl2 := (h2.2.2 v (List.mem_of_getElem? hv)).2.1
        refine e_R et fun (z7 : gR h x0 4 = a4) => ?_
        rw [z7]
        refine g_ER (t := 22) (R.fz q5) (zin_of (by omega) (by omega)) (by rw [i_nat (by omega)]; exact e5) fun z8 => e_R eo fun (z9 : gR h x2 4 = b4) => ?_
        rw [z9]
        refine g_ER (t := 22) (R.fz r5) (zin_of (by omega) (by omega)) (by rw [i_nat (by omega)]; exact v5) fun z10 => ?_
        rw [z8, z10]
        refine t_same (a := some row.2.2.2) (c := some v.2.2.2) R (e6 h83) (v6 (hkk.trans h83)) (fun y hy => by rw [← Option.some.inj hy]; omega) (fun y hy => by rw [← Option.some.inj hy]; omega) ⟨_, rfl, ?_, ?_⟩
        · cases (some row.2.2.2 == some v.2.2.2)
          · exact Or.inl rfl
          · exact Or.inr rfl
        · have e9 : (some row.2.2.2 == some v.2.2.2) = (row.2.2.2 == v.2.2.2) := rfl
          rw [e9]
          exact K
      · rw [beq_false_of_ne (fun e => hkk e.symm), Bool.false_and] at K
        exact K
/-- the rows that count -/
theorem live_mem {row : sRow} : row ∈ s_live t ↔ ∃ j, t.rows[j]? = some row ∧ s_fi t.rows row.1 t.rows.length = some j := by
  unfold s_live
  rw [List.mem_filter]
  constructor
  · rintro ⟨h1, h2⟩
    have h2 := eq_of_beq h2
    cases hf : s_fi t.rows row.1 t.rows.length with
    | none =>
      rw [find_none hf] at h2
      cases h2
    | some j =>
      rw [find_row hf] at h2
      exact ⟨j, h2, rfl⟩
  · rintro ⟨j, h1, h2⟩
    refine ⟨List.mem_of_getElem? h1, ?_⟩
    rw [find_row h2, h1]
    exact beq_self_eq_true _
theorem fi_iff {k j : Nat} (hk : k < 2147483648) {o : Option Nat} (ho : ∀ i, o = some i → i < 2147483648) (hj : j = k) : i_fi o = Int32.ofNat j ↔ o = some k := by
  subst hj
  cases o with
  | none =>
    refine ⟨fun e => ?_, fun e => nomatch e⟩
    have h1 := i_nn' hk
    have e : (-1 : Int32) = Int32.ofNat j := e
    rw [← e] at h1
    exact absurd h1 (by decide)
  | some i =>
    have hi := ho i rfl
    have e1 : i_fi (some i) = Int32.ofNat i := rfl
    rw [e1, i_inj hi hk]
    exact ⟨fun e => by rw [e], fun e => Option.some.inj e⟩
theorem t_within_2 (R : tR s0 F b s w g h) (T : gTab g x0 t) (hT : gTab g x1 o) (h1 : sTabOk t) (h2 : sTabOk o) (K : Q (.int (sB (s_within t o))) h) :
    ∀ (k j : Nat), t.rows.length = j + k → (∀ i row, i < j → t.rows[i]? = some row → s_fi t.rows row.1 t.rows.length = some i → s_has row (some o) = true) → zP s0 m_X8_within (d + 3) 2 [some (zr x0), some (zr x1), some (.int (Int32.ofNat j))] [] h Q E
  | k, j, hj, he => by
    have T' := T
    obtain ⟨a1, a2, a3, a4, r, l1, l2, l3, l4, q1, q2, q3, q4, q5, q6, p1, p2, p3, p4, h54, T2⟩ := T
    have et := R.fz q1
    refine b_X8_within_2 (e_I et fun (z1 : gI h x0 0 = Int32.ofNat t.rows.length) => ?_)
    rw [z1, i_le (by omega) (by omega)]
    refine ⟨fun hle => ?_, fun hle => e_R et fun (z2 : gR h x0 1 = a1) => ?_⟩
    · have : s_within t o = true := by
        unfold s_within
        rw [List.all_eq_true]
        intro row hr
        obtain ⟨i, hi, hf⟩ := live_mem.mp hr
        have hil := (fi_some hf).1
        exact he i row (by omega) hi hf
      rw [this] at K
      exact K
    · obtain ⟨k', rfl⟩ : ∃ k', k = k' + 1 := ⟨k - 1, by omega⟩
      have hx : t.rows[j]? = some t.rows[j] := List.getElem?_eq_getElem (by omega)
      obtain ⟨n1, n4, e1, e2, -⟩ := T2 j _ hx
      rw [z2]
      refine g_ER (t := 22) (R.fz q2) (zin_of (by omega) (by omega)) (by rw [i_nat (by omega)]; exact e1) fun z3 => ?_
      rw [z3]
      have hlen : ∀ w ∈ t.rows, w.1.length < 2147483648 := fun w hw => by
        have := (h1.2.2 w hw).1
        omega
      refine t_find (d := d + 1) R T' e2 (hlen _ (List.mem_of_getElem? hx)) hlen ⟨_, rfl, ?_⟩
      have hiff := fi_iff (k := j) (j := j) (o := s_fi t.rows t.rows[j].1 t.rows.length) (by omega) (fun i hi => by have := (fi_some hi).1; omega) rfl
      rw [hiff, i_succ]
      have hstep : (s_fi t.rows t.rows[j].1 t.rows.length = some j → s_has t.rows[j] (some o) = true) → zP s0 m_X8_within (d + 3) 2 [some (zr x0), some (zr x1), some (.int (Int32.ofNat (j + 1)))] [] h Q E := fun hh => t_within_2 R T' hT h1 h2 K k' (j + 1) (by omega) fun i row hi hr hf => by
        by_cases e : i = j
        · subst e
          rw [hx] at hr
          obtain rfl := Option.some.inj hr
          exact hh hf
        · exact he i row (by omega) hr hf
      refine ⟨fun hne => hstep fun hf => absurd hf hne, fun hf => ?_⟩
      refine t_has (ot := some o) R T' hx hT h1 (fun t ht => by rw [← Option.some.inj ht]; exact h2) ⟨_, rfl, ?_⟩
      rw [sB_0]
      refine ⟨fun hb => hstep fun _ => (by rw [Bool.not_eq_false] at hb; exact hb), fun hb => ?_⟩
      have : s_within t o = false := by
        unfold s_within
        rw [Bool.eq_false_iff]
        intro ha
        rw [List.all_eq_true] at ha
        have := ha _ (live_mem.mpr ⟨j, hx, hf⟩)
        rw [hb] at this
        cases this
      rw [this] at K
      exact K
theorem t_within (R : tR s0 F b s w g h) (T : gTab g x0 t) (hT : gTab g x1 o) (h1 : sTabOk t) (h2 : sTabOk o) (K : Q (.int (sB (s_within t o))) h) : zX s0 m_X8_within (d + 3) [zr x0, zr x1] h Q E :=
  c_X8_within (t_within_2 R T hT h1 h2 K _ 0 (Nat.zero_add _).symm fun i row hi => absurd hi (Nat.not_lt_zero _))
theorem t_alike (R : tR s0 F b s w g h) (T : gTab g x0 t) (hT : gTab g x1 o) (h1 : sTabOk t) (h2 : sTabOk o) (K : Q (.int (sB (s_alike t o))) h) : zX s0 m_X8_alike (d + 4) [zr x0, zr x1] h Q E := by
  unfold s_alike at K
  refine c_X8_alike (t_within R T hT h1 h2 ⟨_, rfl, ?_⟩)
  rw [sB_0]
  refine ⟨fun hb => ?_, fun hb => t_within R hT T h2 h1 ⟨_, rfl, ?_⟩⟩
  · rw [hb] at K
    exact K
  · rw [Bool.not_eq_false] at hb
    rw [hb, Bool.true_and] at K
    rw [sB_0]
    refine ⟨fun hb2 => ?_, fun hb2 => ?_⟩
    · rw [hb2] at K
      exact K
    · rw [Bool.not_eq_false] at hb2
      rw [hb2] at K
      exact K
end TA
