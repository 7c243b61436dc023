/-! ===== the twin: what methods ask ===== -/
set_option maxRecDepth 100000
section MB
variable {s0 : zE} {F : Nat → Option zC} {b : Nat} {s s' s1 : sSt} {w w' w1 w2 : tW} {g g' g0 : sG} {h h' : zH} {d x0 x1 x2 x3 x4 i j q m n e k : Nat} {Q : Value → zH → Prop} {E : Nat → zH → Prop} {t : sTab} {x : String} {key nm : sBy}
/-- the twin's own words -/
def tLits : List (Nat × String) := [(587, "match"), (593, "any"), (726, "direct"), (728, "fanout"), (730, "topic"), (731, "headers"), (746, "alt"), (757, "max"), (762, "ttl"), (763, "pri"), (764, "dlx"), (765, "dlk"), (785, "gen-"), (823, "ctag-")]
theorem lit_len {k : Nat} {x : String} (hk : (k, x) ∈ tLits) : (s_txt x).length < 2147483648 := by
  have : ∀ p ∈ tLits, (s_txt p.2).length < 2147483648 := by decide
  exact this _ hk
theorem t_namedC (J : tJs s0 F) (R : tR s0 F b s w g h) (T : gTab g x0 t) (ok : sTabOk t) (hk : (k, x) ∈ tLits) (K0 : s_find t (s_txt x) = none → Q (.int (-1)) h)
    (K1 : ∀ j v, t.rows[j]? = some v → s_find t (s_txt x) = some v → j < 54 → Q (.int (Int32.ofNat j)) h) : zX s0 m_X8_named (d + 11) [zr x0, zr (zls s0 "RelayHallModel" k)] h Q E := by
  refine t_named J R T (R.lit J hk) (lit_len hk) (fun w hw => by have := (ok.2.2 w hw).1; omega) ?_
  cases hf : s_fi t.rows (s_txt x) t.rows.length with
  | none => exact K0 (find_none hf)
  | some j =>
    obtain ⟨hj, v, hv, -⟩ := fi_some hf
    have := ok.2.1
    exact K1 j v hv (by rw [find_row hf, hv]) (by omega)
theorem i_neg1 {j : Nat} (hj : j < 2147483648) : (Int32.ofNat j = -1) ↔ False := i_fi_neg (k := j) hj
theorem t_textOf (J : tJs s0 F) (R : tR s0 F b s w g h) (T : gTab g x0 t) (ok : sTabOk t) (hk : (k, x) ∈ tLits) (K : ∀ n, gBo g n (s_text t x) → Q (zr n) h) : zX s0 m_X8_textOf (d + 12) [zr x0, zr (zls s0 "RelayHallModel" k)] h Q E := by
  have T' := T
  obtain ⟨a1, a2, a3, a4, r, l1, l2, l3, l4, q1, q2, q3, q4, q5, q6, p1, p2, p3, p4, h54, T2⟩ := T
  have et := R.fz q1
  refine c_X8_textOf (t_namedC J R T' ok hk (fun hn => ⟨_, rfl, fun _ => K 0 ?_, fun hh => absurd rfl hh⟩) fun j v hv hf hj => ⟨_, rfl, fun hh => ?_, fun _ => e_R et fun (z1 : gR h x0 2 = a2) => ?_⟩)
  · unfold s_text
    rw [hn]
    exact rfl
  · exact ((i_neg1 (by omega)).mp hh).elim
  · obtain ⟨n1, n4, e1, e2, e3, e4, e5, e6⟩ := T2 j v hv
    rw [z1]
    refine g_EI (t := 1) (R.fz q3) (zin_of (by omega) (by omega)) (by rw [i_nat (by omega)]; exact e3) fun z2 => ?_
    rw [z2]
    refine ⟨fun h83 => e_R et fun (z3 : gR h x0 4 = a4) => ?_, fun hne => K 0 ?_⟩
    · rw [z3]
      refine g_ER (t := 22) (R.fz q5) (zin_of (by omega) (by omega)) (by rw [i_nat (by omega)]; exact e5) fun z4 => ?_
      rw [z4]
      refine K n4 ?_
      unfold s_text
      rw [hf]
      simp only [if_pos h83]
      exact e6 h83
    · unfold s_text
      rw [hf]
      simp only [if_neg hne]
      exact rfl
theorem t_wrongText (J : tJs s0 F) (R : tR s0 F b s w g h) (T : gTab g x0 t) (ok : sTabOk t) (hk : (k, x) ∈ tLits) (K : Q (.int (sB (s_wrongText t x))) h) : zX s0 m_X8_wrongText (d + 12) [zr x0, zr (zls s0 "RelayHallModel" k)] h Q E := by
  have T' := T
  obtain ⟨a1, a2, a3, a4, r, l1, l2, l3, l4, q1, q2, q3, q4, q5, q6, p1, p2, p3, p4, h54, T2⟩ := T
  have et := R.fz q1
  unfold s_wrongText at K
  refine c_X8_wrongText (t_namedC J R T' ok hk (fun hn => ⟨_, rfl, fun _ => ?_, fun hh => absurd rfl hh⟩) fun j v hv hf hj => ⟨_, rfl, fun hh => ?_, fun _ => e_R et fun (z1 : gR h x0 2 = a2) => ?_⟩)
  · rw [hn] at K
    exact K
  · exact ((i_neg1 (by omega)).mp hh).elim
  · obtain ⟨n1, n4, e1, e2, e3, e4, e5, e6⟩ := T2 j v hv
    rw [hf] at K
    rw [z1]
    refine g_EI (t := 1) (R.fz q3) (zin_of (by omega) (by omega)) (by rw [i_nat (by omega)]; exact e3) fun z2 => ?_
    rw [z2]
    refine ⟨fun h83 => ?_, fun hne => ?_⟩
    · simp only [beq_iff_eq.mpr h83] at K
      exact K
    · simp only [beq_false_of_ne hne] at K
      exact K
theorem t_argument {least most : Int32} (J : tJs s0 F) (R : tR s0 F b s w g h) (T : gTab g x0 t) (ok : sTabOk t) (hk : (k, x) ∈ tLits) (K : Q (.int (s_arg t x least most)) h) : zX s0 m_X8_argument (d + 12) [zr x0, zr (zls s0 "RelayHallModel" k), .int least, .int most] h Q E := by
  have T' := T
  obtain ⟨a1, a2, a3, a4, r, l1, l2, l3, l4, q1, q2, q3, q4, q5, q6, p1, p2, p3, p4, h54, T2⟩ := T
  have et := R.fz q1
  unfold s_arg at K
  refine c_X8_argument (t_namedC J R T' ok hk (fun hn => ⟨_, rfl, fun hh => absurd rfl hh, fun _ => ?_⟩) fun j v hv hf hj => ⟨_, rfl, fun _ => e_R et fun (z1 : gR h x0 2 = a2) => ?_, fun hh => ?_⟩)
  · rw [hn] at K
    exact K
  · obtain ⟨n1, n4, e1, e2, e3, e4, e5, e6⟩ := T2 j v hv
    rw [hf] at K
    simp only at K
    have el := R.fz q4
    have hz : zin (Int32.ofNat j) l3.length := zin_of (by omega) (by omega)
    have he : l3[(Int32.ofNat j).toNatClampNeg]? = some (.int v.2.2.1) := by rw [i_nat (by omega)]; exact e4
    rw [z1]
    refine g_EI (t := 1) (R.fz q3) (zin_of (by omega) (by omega)) (by rw [i_nat (by omega)]; exact e3) fun z2 => ?_
    rw [z2]
    refine ⟨fun hne => ?_, fun h73 => e_R et fun (z3 : gR h x0 3 = a3) => ?_⟩
    · rw [if_neg (fun hh => hne hh.1)] at K
      exact K
    · rw [z3]
      refine g_EI (t := 1) el hz he fun z4 => ?_
      rw [z4]
      refine ⟨fun hl => ?_, fun hl => e_R et fun _ => ⟨fE_of (t := 1) el hz he, ⟨fun hg => ?_, fun hg => e_R et fun _ => ⟨fE_of (t := 1) el hz he, ?_⟩⟩⟩⟩
      · rw [if_neg (fun hh => absurd hh.2.1 (Int32.not_le.mpr hl))] at K
        exact K
      · rw [if_neg (fun hh => absurd hh.2.2 (Int32.not_le.mpr hg))] at K
        exact K
      · rw [if_pos ⟨h73, Int32.not_lt.mp hl, Int32.not_lt.mp hg⟩] at K
        exact K
  · exact ((i_neg1 (by omega)).mp hh).elim
theorem t_isTold {cl ms : Int32} (K : Q (.int (sB (s_isTold cl ms))) h) : zX s0 m_X8_isTold d [zr x0, .int cl, .int ms] h Q E := by
  have kk : ∀ x : Bool, s_isTold cl ms = x → Q (.int (sB x)) h := fun x e => by rw [← e]; exact K
  refine c_X8_isTold ?_
  repeat' (first | apply And.intro | intro _)
  all_goals first
    | exact kk true (by simp [s_isTold, *])
    | exact kk false (by simp [s_isTold, *])
/-- a queue's owner is the connection of a channel -/
theorem own_iff (R : tR s0 F b s w g h) (I : sScope s) (hk : s.knd q = 33) (hj : isH j) : gO g 2 (s.qu q).owner = g.ref 2 (j / 4) ↔ (s.qu q).owner = some (j / 4) := by
  have hc : g.kind (g.ref 2 (j / 4)) = (2, j / 4) := R.cn hj.div
  cases ho : (s.qu q).owner with
  | none =>
    refine ⟨fun e => ?_, fun e => nomatch e⟩
    have e : (0 : Nat) = g.ref 2 (j / 4) := e
    exact absurd e.symm (R.1.pos hc (by decide))
  | some c =>
    have h4 := (I.qu q hk).2.2 c ho
    have : g.ref 2 c = g.ref 2 (j / 4) ↔ c = j / 4 := R.inj (R.cn h4) hc (by decide)
    exact ⟨fun e => by rw [this.mp e], fun e => this.mpr (Option.some.inj e)⟩
theorem t_passive {o : Option Nat} (Z : tZ s0 F (b + 900 + tY s) s w g h) (hm : g.kind x0 = (1, 0)) (hx : g.kind x1 = (3, j)) (hj : isH j) (ho : ∀ q, o = some q → q ∈ s.qs)
    (K0 : ∀ q, o = some q → ¬ ((s.qu q).exc = true ∧ (s.qu q).owner ≠ some (j / 4)) → Q (zr (g.ref 33 q)) h)
    (K1 : ∀ code, (match o with | none => some 404 | some q => if (s.qu q).exc = true ∧ (s.qu q).owner ≠ some (j / 4) then some (405 : Int32) else none) = some code → ∀ w1 g1 h1, tZ s0 F (b + tY (s_soft s j code w.cl w.me)) (s_soft s j code w.cl w.me) w1 g1 h1 → tWk (s_soft s j code w.cl w.me) w w1 → gL g g1 → Q (zr 0) h1) :
    zX s0 m_X8_passive (d + 78) [zr x0, zr x1, zr (gO g 33 o)] h Q E := by
  have em := Z.r.main hm
  have hsoft : ∀ code, (match o with | none => some 404 | some q => if (s.qu q).exc = true ∧ (s.qu q).owner ≠ some (j / 4) then some (405 : Int32) else none) = some code → zX s0 m_X8_soft (d + 77) [zr x0, zr x1, .int code] h (fun _ h1 => Q (zr 0) h1) E := fun code hc => by
    have hy := tY_soft (code := code) (c1 := w.cl) (m1 := w.me) Z.i hj
    exact t_soft (d := d) Z hm hx hj fun w1 g1 h1 Z1 W1 L1 => K1 code hc w1 g1 h1 (Z1.le (by omega)) W1 L1
  cases o with
  | none => exact c_X8_passive ⟨fun hh => absurd rfl hh, fun _ => ⟨⟨_, em⟩, hsoft 404 rfl⟩⟩
  | some q =>
    have hq := ho q rfl
    have hkq := Z.sc.qs q hq
    have hqk : g.kind (g.ref 33 q) = (33, q) := Z.r.al (by decide) (by decide) hkq
    have eq := Z.r.1.cell hqk (by decide)
    refine c_X8_passive ⟨fun _ => e_I eq fun (z1 : gI h (g.ref 33 q) 2 = sB (s.qu q).exc) => ?_, fun hh => absurd hh (Z.r.1.pos hqk (by decide))⟩
    have hgo : gO g 33 (some q) = g.ref 33 q := rfl
    rw [hgo, z1, sB_0]
    refine ⟨fun he => K0 q rfl (fun hh => by rw [he] at hh; exact absurd hh.1 (by decide)), fun he => e_R eq fun (z2 : gR h (g.ref 33 q) 5 = gO g 2 (s.qu q).owner) => e_R (Z.r.1.cell hx (by decide)) fun (z3 : gR h x1 0 = g.ref 2 (j / 4)) => ?_⟩
    rw [Bool.not_eq_false] at he
    rw [z2, z3, own_iff Z.r Z.sc hkq hj]
    refine ⟨fun ho => K0 q rfl (fun hh => hh.2 ho), fun ho => ⟨⟨_, em⟩, hsoft 405 ?_⟩⟩
    show (if _ then _ else _) = _
    rw [if_pos ⟨he, ho⟩]
theorem t_asked (Z : tZ s0 F (b + 900 + tY s) s w g h) (hm : g.kind x0 = (1, 0)) (hx : g.kind x1 = (3, j)) (hj : isH j) (hB : gB g x2 nm) (hl : nm.length ≤ 40) (K0 : ∀ q, q ∈ s.qs → s_asked s j nm = .inl q → Q (zr (g.ref 33 q)) h)
    (K1 : ∀ code, s_asked s j nm = .inr code → ∀ w1 g1 h1, tZ s0 F (b + tY (s_soft s j code w.cl w.me)) (s_soft s j code w.cl w.me) w1 g1 h1 → tWk (s_soft s j code w.cl w.me) w w1 → gL g g1 → Q (zr 0) h1) : zX s0 m_X8_asked (d + 78) [zr x0, zr x1, zr x2] h Q E := by
  have em := Z.r.main hm
  have eb := Z.r.fz hB
  have ex := Z.r.1.cell hx (by decide)
  have hlq : ∀ q ∈ s.qs, (s.qu q).name.length < 2147483648 := fun q hq => by
    have := (Z.i.tx.2.1 q (Z.sc.qs q hq)).1
    omega
  have hsoft : ∀ code, s_asked s j nm = .inr code → zX s0 m_X8_soft (d + 77) [zr x0, zr x1, .int code] h (fun _ h1 => Q (zr 0) h1) E := fun code hc => by
    have hy := tY_soft (code := code) (c1 := w.cl) (m1 := w.me) Z.i hj
    exact t_soft (d := d) Z hm hx hj fun w1 g1 h1 Z1 W1 L1 => K1 code hc w1 g1 h1 (Z1.le (by omega)) W1 L1
  unfold s_asked at K0 hsoft
  generalize ho : (if nm ≠ [] then s_queue s nm else match (s.ch j).lastq with
    | none => none
    | some n => s_queue s n) = o at K0 hsoft
  have hmem : ∀ q, o = some q → q ∈ s.qs := fun q hq => by
    rw [hq] at ho
    split at ho
    · exact List.mem_of_find?_eq_some ho
    · split at ho
      · cases ho
      · exact List.mem_of_find?_eq_some ho
  have h32 : zP s0 m_X8_asked (d + 77 + 1) 32 [some (zr x0), some (zr x1), none, none] [zr (gO g 33 o)] h Q E := by
    cases o with
    | none => exact b_X8_asked_32 ⟨fun hh => absurd rfl hh, fun _ => ⟨⟨_, em⟩, hsoft 404 rfl⟩⟩
    | some q =>
      have hq := hmem q rfl
      have hkq := Z.sc.qs q hq
      have hqk : g.kind (g.ref 33 q) = (33, q) := Z.r.al (by decide) (by decide) hkq
      have eq := Z.r.1.cell hqk (by decide)
      simp only at K0 hsoft
      refine b_X8_asked_32 ⟨fun _ => e_I eq fun (z1 : gI h (g.ref 33 q) 2 = sB (s.qu q).exc) => ?_, fun hh => absurd hh (Z.r.1.pos hqk (by decide))⟩
      have hgo : gO g 33 (some q) = g.ref 33 q := rfl
      rw [hgo, z1, sB_0]
      refine ⟨fun he => K0 q hq (if_neg (fun hh => by rw [he] at hh; exact absurd hh.1 (by decide))), fun he => e_R eq fun (z2 : gR h (g.ref 33 q) 5 = gO g 2 (s.qu q).owner) => e_R ex fun (z3 : gR h x1 0 = g.ref 2 (j / 4)) => ?_⟩
      rw [Bool.not_eq_false] at he
      rw [z2, z3, own_iff Z.r Z.sc hkq hj]
      exact ⟨fun ho => K0 q hq (if_neg (fun hh => hh.2 ho)), fun ho => ⟨⟨_, em⟩, hsoft 405 (if_pos ⟨he, ho⟩)⟩⟩
  have hle : (Int32.ofNat nm.length ≤ 0) ↔ nm = [] := by
    rw [show (0 : Int32) = Int32.ofNat 0 from rfl, i_le (by omega) (by decide), Nat.le_zero]
    exact List.length_eq_zero_iff
  refine c_X8_asked ⟨⟨_, eb⟩, ?_⟩
  rw [gA_of eb, vB_len, hle]
  refine ⟨fun hn => e_R ex fun (z1 : gR h x1 14 = g.rf 3 j 14) => ?_, fun hn => ⟨⟨_, em⟩, t_queue (d := d + 76) Z.r Z.sc hm hB (by omega) hlq ⟨_, rfl, ?_⟩⟩⟩
  · rw [z1]
    rw [if_neg (fun hh => hh hn)] at ho
    have hbo := (Z.r.2.chok hj).1
    cases hlast : (s.ch j).lastq with
    | none =>
      rw [hlast] at ho hbo
      have hbo : g.rf 3 j 14 = 0 := hbo
      subst ho
      exact ⟨fun hh => absurd hbo hh, fun _ => h32⟩
    | some n =>
      rw [hlast] at ho hbo
      have hbo : gB g (g.rf 3 j 14) n := hbo
      have hnl := (Z.i.tx.ch j hj).1 n hlast
      have ho : s_queue s n = o := ho
      refine ⟨fun _ => e_R ex fun _ => ⟨⟨_, em⟩, t_queue (d := d + 76) Z.r Z.sc hm hbo (by omega) hlq ⟨_, rfl, ?_⟩⟩, fun hh => absurd hh (Z.r.1.pos hbo.1 (by decide))⟩
      rw [ho]
      exact h32
  · rw [if_pos hn] at ho
    rw [ho]
    exact h32
theorem t_boundTo (Z : tZ s0 F (b + 900 + tY s) s w g h) (hm : g.kind x0 = (1, 0)) (hx : g.kind x1 = (3, j)) (hj : isH j) (hB : gB g x2 nm) (hl : nm.length ≤ 40) (K0 : ∀ e, s_exch s nm = some e → Q (zr (g.ref 32 e)) h)
    (K1 : s_exch s nm = none → ∀ w1 g1 h1, tZ s0 F (b + tY (s_soft s j (if nm = [] then 403 else 404) w.cl w.me)) (s_soft s j (if nm = [] then 403 else 404) w.cl w.me) w1 g1 h1 → tWk (s_soft s j (if nm = [] then 403 else 404) w.cl w.me) w w1 → gL g g1 → Q (zr 0) h1) : zX s0 m_X8_boundTo (d + 78) [zr x0, zr x1, zr x2] h Q E := by
  have em := Z.r.main hm
  have eb := Z.r.fz hB
  have hsoft : ∀ code, s_exch s nm = none → code = (if nm = [] then 403 else 404) → zX s0 m_X8_soft (d + 77) [zr x0, zr x1, .int code] h (fun _ h1 => Q (zr 0) h1) E := fun code hn hc => by
    subst hc
    have hy := tY_soft (code := if nm = [] then 403 else 404) (c1 := w.cl) (m1 := w.me) Z.i hj
    exact t_soft (d := d) Z hm hx hj fun w1 g1 h1 Z1 W1 L1 => K1 hn w1 g1 h1 (Z1.le (by omega)) W1 L1
  refine c_X8_boundTo ⟨⟨_, em⟩, t_exchange (d := d + 76) Z.r Z.sc hm hB (by omega) (fun q hq => by have := (Z.i.tx.1 q (Z.sc.es q hq)).1; omega) ⟨_, rfl, ?_⟩⟩
  have hz : (Int32.ofNat nm.length = 0) ↔ nm = [] := by
    rw [show (0 : Int32) = Int32.ofNat 0 from rfl, i_inj (by omega) (by decide)]
    exact List.length_eq_zero_iff
  cases he : s_exch s nm with
  | none =>
    refine ⟨fun hh => absurd rfl hh, fun _ => ⟨⟨_, eb⟩, ?_⟩⟩
    rw [gA_of eb, vB_len, hz]
    exact ⟨fun hn => ⟨⟨_, em⟩, hsoft 404 he (by rw [if_neg hn])⟩, fun hn => ⟨⟨_, em⟩, hsoft 403 he (by rw [if_pos hn])⟩⟩
  | some e =>
    have hk : g.kind (g.ref 32 e) = (32, e) := Z.r.al (by decide) (by decide) (Z.sc.es e (exch_mem he))
    exact ⟨fun _ => K0 e he, fun hh => absurd hh (Z.r.1.pos hk (by decide))⟩
theorem t_findBinding_3 (R : tR s0 F b s w g h) (I : sScope s) (X : sTx s) (hm : g.kind x0 = (1, 0)) (hq : g.kind x1 = (33, q)) (he : g.kind x2 = (32, e)) (hB : gB g x3 key) (hl : key.length ≤ 40) (T : gTab g x4 t) (ok : sTabOk t) (hbl : s.bs.length ≤ 40)
    (K0 : s_findB s q e key t = none → Q (.int (-1)) h) (K1 : ∀ j x, s.bs[j]? = some x → s_findB s q e key t = some x → Q (.int (Int32.ofNat j)) h) :
    ∀ (rest pre : List Nat), s.bs = pre ++ rest → s_findB s q e key t = rest.find? (fun b => (s.bi b).queue == q && (s.bi b).exch == e && (s.bi b).key == key && s_alike (s.bi b).tab t) → zP s0 m_X8_findBinding (d + 5) 3 [some (zr x0), some (zr x1), some (zr x2), some (zr x3), some (zr x4), some (.int (Int32.ofNat pre.length))] [] h Q E
  | [], pre, hp, hf => by
    have em := R.main hm
    have hlen : s.bs.length = pre.length := by rw [hp, List.append_nil]
    refine b_X8_findBinding_3 (e_I em fun (z1 : gI h x0 7 = Int32.ofNat s.bs.length) => ?_)
    rw [z1, i_le (by omega) (by omega)]
    exact ⟨fun _ => K0 hf, fun hh => absurd (by omega) hh⟩
  | y :: rest, pre, hp, hf => by
    have em := R.main hm
    have hlen : s.bs.length = pre.length + (rest.length + 1) := by rw [hp, List.length_append, List.length_cons]
    have hx : s.bs[pre.length]? = some y := by rw [hp, List.getElem?_append_right (Nat.le_refl _), Nat.sub_self]; rfl
    have hky := I.bs y (List.mem_of_getElem? hx)
    have hyk : g.kind (g.ref 34 y) = (34, y) := R.al (by decide) (by decide) hky
    have ey := R.1.cell hyk (by decide)
    obtain ⟨ky1, ky2⟩ := I.bi y hky
    obtain ⟨b1, b2⟩ := R.2.2.2.2.2.2.2.2.2.1 y hky
    obtain ⟨o1, o2⟩ := X.2.2.1 y hky
    have A7 := R.2.ar7
    have hsucc : Int32.ofNat pre.length + 1 = Int32.ofNat (pre ++ [y]).length := by rw [i_succ, List.length_append, List.length_singleton]
    have hgo : ((s.bi y).queue == q && (s.bi y).exch == e && (s.bi y).key == key && s_alike (s.bi y).tab t) = false → zP s0 m_X8_findBinding (d + 5) 3 [some (zr x0), some (zr x1), some (zr x2), some (zr x3), some (zr x4), some (.int (Int32.ofNat (pre ++ [y]).length))] [] h Q E := fun hn =>
      t_findBinding_3 R I X hm hq he hB hl T ok hbl K0 K1 rest (pre ++ [y]) (by rw [hp, List.append_assoc]; rfl) (by rw [hf, List.find?_cons, hn])
    refine b_X8_findBinding_3 (e_I em fun (z1 : gI h x0 7 = Int32.ofNat s.bs.length) => ?_)
    rw [z1, i_le (by omega) (by omega), hsucc]
    refine ⟨fun hh => absurd hh (by omega), fun _ => e_R em fun (z2 : gR h x0 3 = g.ref 7 0) => ?_⟩
    rw [z2]
    refine g_El R A7 rfl (by decide) hx (by decide) fun z3 => ?_
    rw [z3]
    refine e_R ey fun (z4 : gR h (g.ref 34 y) 0 = g.ref 33 (s.bi y).queue) => ?_
    rw [z4, R.inj (R.al (by decide) (by decide) ky1) hq (by decide)]
    refine ⟨fun hne => hgo (by rw [beq_false_of_ne hne]; rfl), fun h1 => e_R em fun _ => ?_⟩
    refine ⟨f_El R A7 rfl (by decide) hx (by decide), e_R ey fun (z5 : gR h (g.ref 34 y) 1 = g.ref 32 (s.bi y).exch) => ?_⟩
    rw [z5, R.inj (R.al (by decide) (by decide) ky2) he (by decide)]
    refine ⟨fun hne => hgo (by rw [beq_false_of_ne hne, Bool.and_false]; rfl), fun h2 => e_R em fun _ => ?_⟩
    refine ⟨f_El R A7 rfl (by decide) hx (by decide), e_R ey fun (z6 : gR h (g.ref 34 y) 2 = g.rf 34 y 2) => ?_⟩
    rw [z6]
    refine t_same (a := some (s.bi y).key) (c := some key) R b1 hB (fun z hz => by rw [← Option.some.inj hz]; omega) (fun z hz => by rw [← Option.some.inj hz]; omega) ⟨_, rfl, ?_⟩
    have hbe : (some (s.bi y).key == some key) = ((s.bi y).key == key) := rfl
    rw [hbe, sB_0]
    refine ⟨fun hb => hgo (by rw [hb, Bool.and_false]; rfl), fun h3 => e_R em fun (z8 : gR h x0 3 = g.ref 7 0) => ?_⟩
    rw [Bool.not_eq_false] at h3
    rw [z8]
    refine g_El R A7 rfl (by decide) hx (by decide) fun z9 => ?_
    rw [z9]
    refine e_R ey fun (z7 : gR h (g.ref 34 y) 3 = g.rf 34 y 3) => ?_
    rw [z7]
    refine t_alike (d := d) R b2 T o2 ok ⟨_, rfl, ?_⟩
    rw [sB_0]
    refine ⟨fun hb => hgo (by rw [hb, Bool.and_false]), fun h4 => ?_⟩
    rw [Bool.not_eq_false] at h4
    exact K1 pre.length y hx (by rw [hf, List.find?_cons, beq_iff_eq.mpr h1, beq_iff_eq.mpr h2, h3, h4]; rfl)
theorem t_findBinding (R : tR s0 F b s w g h) (I : sScope s) (X : sTx s) (C : sCp s) (hm : g.kind x0 = (1, 0)) (hq : g.kind x1 = (33, q)) (he : g.kind x2 = (32, e)) (hB : gB g x3 key) (hl : key.length ≤ 40) (T : gTab g x4 t) (ok : sTabOk t)
    (K0 : s_findB s q e key t = none → Q (.int (-1)) h) (K1 : ∀ j x, s.bs[j]? = some x → s_findB s q e key t = some x → Q (.int (Int32.ofNat j)) h) : zX s0 m_X8_findBinding (d + 5) [zr x0, zr x1, zr x2, zr x3, zr x4] h Q E :=
  c_X8_findBinding (t_findBinding_3 R I X hm hq he hB hl T ok C.2.2.2.2.2.1 K0 K1 s.bs [] rfl rfl)
end MB
