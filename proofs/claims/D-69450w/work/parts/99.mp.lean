/-! ===== the twin: queues declared ===== -/
set_option maxRecDepth 100000
/-- a queue's cell before it is one -/
def tDraft (mx tt pr : Int32) (n2 n3 a : Nat) : List Value := [zr 0, .int 0, .int 0, .int 0, .int 0, zr 0, .int mx, .int tt, .int pr, zr n2, zr n3, zr a, .int 0, zr 0]
def s_newQ (h : Nat) (nm : sBy) (bits : Int32) (z : Int32 × Int32 × Int32 × Option sBy × Option sBy) : sQu := (nm, s_bit bits 2, s_bit bits 4, s_bit bits 8, true, (if s_bit bits 4 then some (h / 4) else none), z.1, z.2.1, z.2.2.1, z.2.2.2.1, z.2.2.2.2, [], none)
/-- .. behind the choice of the name -/
def s_declF (s : sSt) (h : Nat) (nm : sBy) (number bits : Int32) (z : Int32 × Int32 × Int32 × Option sBy × Option sBy) : sSt × (Nat ⊕ (Bool × Int32)) := match s_queue s nm with
  | some q => if (s.qu q).exc ∧ (s.qu q).owner ≠ some (h / 4) then (s, .inr (false, 405)) else
    if (s.qu q).dur == s_bit bits 2 && (s.qu q).exc == s_bit bits 4 && (s.qu q).auto == s_bit bits 8 && (s.qu q).max == z.1 && (s.qu q).ttl == z.2.1 && (s.qu q).pri == z.2.2.1 && (s.qu q).dlx == z.2.2.2.1 && (s.qu q).dlk == z.2.2.2.2 then (s, .inl q) else (s, .inr (false, 406))
  | none => if s.qs.length = 12 then (s, .inr (true, 506)) else (s_addQ (s_b33 s (s_newQ h nm bits z)) s.next number, .inl s.next)
/-- what follows a queue's declaration -/
def s_declQA (s : sSt) (j q : Nat) (bits : Int32) : sSt :=
  let s2 := s_ch s j (fun k => k.w_lastq (some (s.qu q).name))
  if s_bit bits 16 then s2 else s_ans s2 j 50 11 (w_short (s2.qu q).name ++ w_32 (Int32.ofNat (s_ready s2 q).length) ++ w_32 (Int32.ofNat (s_consQ s2 q).length))
def s_declQF (s : sSt) (h : Nat) (name : sBy) (bits : Int32) (t : sTab) : sRs :=
  let fin := fun (s1 : sSt) (q : Nat) =>
    let s2 := s_ch s1 h (fun k => k.w_lastq (some (s1.qu q).name))
    s_ok (if s_bit bits 16 then s2 else s_ans s2 h 50 11 (w_short (s2.qu q).name ++ w_32 (Int32.ofNat (s_ready s2 q).length) ++ w_32 (Int32.ofNat (s_consQ s2 q).length)))
  if s_bit bits 1 then (match s_queue s name with
    | none => s_softF s 404
    | some q => if (s.qu q).exc ∧ (s.qu q).owner ≠ some (h / 4) then s_softF s 405 else fin s q) else
    match s_drafted t with
    | none => s_softF s 406
    | some a => match s_declared s h name bits a with
      | (s1, .inl q) => fin s1 q
      | (s1, .inr f) => (s1, some f)
section MP
variable {s0 : zE} {F F2 : Nat → Option zC} {b : Nat} {s s' s1 : sSt} {w w' w1 w2 : tW} {g g' g0 : sG} {h h' : zH} {d x0 x1 x2 x3 x5 x6 x7 i j q m n n2 n3 a e : Nat} {Q : Value → zH → Prop} {E : Nat → zH → Prop} {dr nm : sBy} {sz cl me code k bits mx tt pr number : Int32} {rd : sRd} {u : Int32 × List Nat × (Nat → Nat)} {f : sRs} {t : sTab} {dlx dlk : Option sBy} {z : Int32 × Int32 × Int32 × Option sBy × Option sBy} {v : sQu}
theorem s_declared_eq : s_declared s j nm bits z = s_declF s j (if nm = [] then s_numbered "gen-" (if nm = [] then s_gen s 13 (s.gener + 1) else s.gener) else nm) (if nm = [] then s_gen s 13 (s.gener + 1) else s.gener) bits z := by
  have hh : ∀ (x : sQu) (c : Int32), s_addQ (s_b33 s x) s.next c = (if s_kept x = true then s_tell (((s_new (s.w_qu (sUp s.qu s.next x)) 33).w_qs (s.qs ++ [s.next])).w_gener c) 2 s.next else ((s_new (s.w_qu (sUp s.qu s.next x)) 33).w_qs (s.qs ++ [s.next])).w_gener c) := fun x c => by
    unfold s_addQ
    rw [b33_at, b33_qs]
    rfl
  unfold s_declF
  rw [hh]
  rfl
theorem s_declQ_eq : s_declQ s j rd = s_then (r_table (r_u8 (r_short rd).2).2).2 s (s_declQF s j (r_short rd).1 (r_u8 (r_short rd).2).1 (r_table (r_u8 (r_short rd).2).2).1) := by
  conv =>
    lhs
    unfold s_declQ
    zeta
  generalize (r_short rd).1 = nm
  generalize (r_short rd).2 = r1
  generalize (r_u8 r1).1 = bits
  generalize (r_u8 r1).2 = r2
  generalize (r_table r2).1 = t
  generalize (r_table r2).2 = r3
  conv =>
    rhs
    unfold s_declQF
    zeta
  by_cases hb : s_bit bits 1 = true
  · rw [if_pos hb, if_pos hb]
    cases s_queue s nm with
    | none => rfl
    | some q => rfl
  · rw [if_neg hb, if_neg hb]
    cases s_drafted t with
    | none => rfl
    | some a =>
      show s_then r3 s (match s_declared s j nm bits a with
        | (s1, .inl q) => _
        | (s1, .inr f) => _) = s_then r3 s (match s_declared s j nm bits a with
        | (s1, .inl q) => _
        | (s1, .inr f) => _)
      generalize s_declared s j nm bits a = z
      obtain ⟨s1, q | f⟩ := z
      · rfl
      · rfl
/-- what a drafted queue asks is within bounds -/
theorem draft_ok (ok : sTabOk t) (hz : s_drafted t = some z) : (z.1 = -1 ∨ (1 ≤ z.1 ∧ z.1 ≤ 50)) ∧ (z.2.1 = -1 ∨ (1 ≤ z.2.1 ∧ z.2.1 ≤ 1000)) ∧ 0 ≤ z.2.2.1 ∧ z.2.2.1 ≤ 9 ∧ sOk40 z.2.2.2.1 ∧ sOk40 z.2.2.2.2 := by
  have ha : ∀ x (l m : Int32), s_arg t x l m = -1 ∨ s_arg t x l m = -2 ∨ (l ≤ s_arg t x l m ∧ s_arg t x l m ≤ m) := fun x l m => by
    unfold s_arg
    split
    · exact Or.inl rfl
    · split
      · rename_i h
        exact Or.inr (Or.inr h.2)
      · exact Or.inr (Or.inl rfl)
  have h1 := ha "max" 1 50
  have h2 := ha "ttl" 1 1000
  have h3 := ha "pri" 0 9
  unfold s_drafted at hz
  dsimp only at hz
  split at hz
  · cases hz
  · rename_i hn
    have hz := Option.some.inj hz
    subst hz
    have n1 : ¬ s_arg t "max" 1 50 = -2 := fun e => hn (Or.inl e)
    have n2 : ¬ s_arg t "ttl" 1 1000 = -2 := fun e => hn (Or.inr (Or.inl e))
    have n3 : ¬ s_arg t "pri" 0 9 = -2 := fun e => hn (Or.inr (Or.inr (Or.inl e)))
    refine ⟨h1.imp id fun h => h.resolve_left n1, h2.imp id fun h => h.resolve_left n2, ?_, ?_, text_ok ok, text_ok ok⟩
    · show 0 ≤ (if s_arg t "pri" 0 9 = -1 then (0 : Int32) else s_arg t "pri" 0 9)
      split
      · decide
      · rename_i hp
        exact ((h3.resolve_left hp).resolve_left n3).1
    · show (if s_arg t "pri" 0 9 = -1 then (0 : Int32) else s_arg t "pri" 0 9) ≤ 9
      split
      · decide
      · rename_i hp
        exact ((h3.resolve_left hp).resolve_left n3).2
theorem t_drafted (J : tJs s0 F) (R : tR s0 F (b + 54) s w g h) (T : gTab g x1 t) (ok : sTabOk t)
    (K0 : s_drafted t = none → ∀ h1, tR s0 F b s w g h1 → Q (zr 0) h1)
    (K1 : ∀ z n a n2 n3 h1, s_drafted t = some z → tR s0 F b s w g h1 → zUn s0 F g h1 n 37 (tDraft z.1 z.2.1 z.2.2.1 n2 n3 a) → zUn s0 F g h1 a 1018 (List.replicate 301 (zr 0)) → n ≠ a → gBo g n2 z.2.2.2.1 → gBo g n3 z.2.2.2.2 → Q (zr n) h1) : zX s0 m_X8_drafted (d + 13) [zr x0, zr x1] h Q E := by
  refine c_X8_drafted (g_N (u := 3) (b := b + 51) (R.less (by omega)) (by decide) (zle rfl) R.big fun n1 h1 R1 U1 => ⟨⟨_, _, U1.2.2.1⟩, c_X40_init ⟨⟨_, _, U1.2.2.1⟩, g_PF R1 U1 fun h2 R2 U2 _ => g_PF R2 U2 fun h3 R3 U3 _ => ⟨by decide, ?_⟩⟩⟩)
  have hb : s0.1.heap.size < h3.2.1 := R3.big
  have H3 := R3.1
  have hne : n1 ≠ h3.2.1 := by
    have := U3.2.2.2.2.1
    omega
  have e301 : ((301 : Int32)).toNatClampNeg = 301 := by decide
  rw [e301]
  have H3' := R3.1
  rw [show b + 51 + g.cr = b + g.cr + 51 by omega] at H3'
  obtain ⟨a1, a2, a3, a4, -⟩ := H3'.znew (c := 1018) (fs := List.replicate 301 (zr 0)) (w := 301) (by decide) (by decide)
  refine ⟨a2, fun n4 e4 h4 e5 => ?_⟩
  subst e4 e5
  have R4 : tR s0 F b s w g (znew h3 1018 (List.replicate 301 (zr 0)) 301) := ⟨a1, R3.2⟩
  have U4 : zUn s0 F g (znew h3 1018 (List.replicate 301 (zr 0)) 301) n1 37 [zr 0, .int 0, .int 0, .int 0, .int 0, zr 0, .int (-1), .int (-1), .int 0, zr 0, zr 0, zr 0, .int 0, zr 0] :=
    ⟨U3.1, U3.2.1, by rw [znew_ne hne]; exact U3.2.2.1, U3.2.2.2.1, Nat.lt_succ_of_lt U3.2.2.2.2.1, U3.2.2.2.2.2⟩
  have A4 : zUn s0 F g (znew h3 1018 (List.replicate 301 (zr 0)) 301) h3.2.1 1018 (List.replicate 301 (zr 0)) := ⟨a3, a4, znew_self, by omega, Nat.lt_succ_self _, hb⟩
  generalize h3.2.1 = a at *
  generalize znew h3 1018 (List.replicate 301 (zr 0)) 301 = h4 at *
  refine g_PF R4 U4 fun h5 R5 U5 O5 => ?_
  have A5 := A4.oth O5 hne.symm
  refine t_argument (d := d) (x := "max") J R5 T ok (by decide) ⟨_, rfl, g_PF R5 U5 fun h6 R6 U6 O6 => ?_⟩
  have A6 := A5.oth O6 hne.symm
  refine t_argument (d := d) (x := "ttl") J R6 T ok (by decide) ⟨_, rfl, g_PF R6 U6 fun h7 R7 U7 O7 => ?_⟩
  have A7 := A6.oth O7 hne.symm
  refine t_argument (d := d) (x := "pri") J R7 T ok (by decide) ⟨_, rfl, g_PF R7 U7 fun h8 R8 U8 O8 => ?_⟩
  have A8 := A7.oth O8 hne.symm
  refine t_textOf (d := d) (x := "dlx") J R8 T ok (by decide) fun n2 B2 => ⟨_, rfl, g_PF R8 U8 fun h9 R9 U9 O9 => ?_⟩
  have A9 := A8.oth O9 hne.symm
  refine t_textOf (d := d) (x := "dlk") J R9 T ok (by decide) fun n3 B3 => ⟨_, rfl, g_PF R9 U9 fun h10 R10 U10 O10 => ?_⟩
  have A10 := A9.oth O10 hne.symm
  have U10 : zUn s0 F g h10 n1 37 (tDraft (s_arg t "max" 1 50) (s_arg t "ttl" 1 1000) (s_arg t "pri" 0 9) n2 n3 a) := U10
  unfold s_drafted at K0 K1
  dsimp only at K0 K1
  generalize s_arg t "max" 1 50 = mx at *
  generalize s_arg t "ttl" 1 1000 = tt at *
  generalize s_arg t "pri" 0 9 = pr at *
  have en := U10.2.2.1
  refine e_I en fun (z1 : gI h10 n1 6 = mx) => ?_
  rw [z1]
  refine ⟨fun hh => K0 (if_pos (Or.inl hh)) h10 R10, fun hm => e_I en fun (z2 : gI h10 n1 7 = tt) => ?_⟩
  rw [z2]
  refine ⟨fun hh => K0 (if_pos (Or.inr (Or.inl hh))) h10 R10, fun ht => e_I en fun (z3 : gI h10 n1 8 = pr) => ?_⟩
  rw [z3]
  refine ⟨fun hh => K0 (if_pos (Or.inr (Or.inr (Or.inl hh)))) h10 R10, fun hp => ?_⟩
  refine t_wrongText (d := d) (x := "dlx") J R10 T ok (by decide) ⟨_, rfl, ?_⟩
  rw [sB_0]
  refine ⟨fun hh => K0 (if_pos (Or.inr (Or.inr (Or.inr (Or.inl (by rw [Bool.not_eq_false] at hh; exact hh)))))) h10 R10, fun hx => ?_⟩
  refine t_wrongText (d := d) (x := "dlk") J R10 T ok (by decide) ⟨_, rfl, ?_⟩
  rw [sB_0]
  refine ⟨fun hk => ?_, fun hh => K0 (if_pos (Or.inr (Or.inr (Or.inr (Or.inr (by rw [Bool.not_eq_false] at hh; exact hh)))))) h10 R10⟩
  have hno : ¬ (mx = -2 ∨ tt = -2 ∨ pr = -2 ∨ s_wrongText t "dlx" = true ∨ s_wrongText t "dlk" = true) := by
    rintro (e | e | e | e | e)
    · exact hm e
    · exact ht e
    · exact hp e
    · rw [hx] at e; cases e
    · rw [hk] at e; cases e
  rw [if_neg hno] at K1
  refine e_I en fun _ => ?_
  rw [z3]
  refine ⟨fun hp1 => ?_, fun hp1 => g_PF R10 U10 fun h11 R11 U11 O11 => ?_⟩
  · rw [if_neg hp1] at K1
    exact K1 _ n1 a n2 n3 h10 rfl R10 U10 A10 hne B2 B3
  · rw [if_pos hp1] at K1
    exact K1 _ n1 a n2 n3 h11 rfl R11 U11 (A10.oth O11 hne.symm) hne B2 B3
/-- a queue is new among those that are there -/
theorem p_newQ (I : sI s) (hl : s.qs.length < 12) (he : s_queue s v.name = none) (ho : sQuOk v) (h1 : v.ents = []) (h2 : v.last = none) (h3 : ∀ k, v.owner = some k → k < 4) :
    sI (s_addQ (s_b33 s v) s.next number) ∧ tP (s_addQ (s_b33 s v) s.next number) = tP s + 4 ∧ sWt (s_addQ (s_b33 s v) s.next number) ≤ sWt s + 1 ∧ tY (s_addQ (s_b33 s v) s.next number) = tY s := by
  have hold : ∀ x ∈ s.qs, x ≠ s.next := fun x hx => I.sc.old (I.sc.qs x hx) (by decide)
  have I1 : sScope (s_b33 s v) := I.sc.born bn33 b33_next (by decide) (fun _ => by rw [b33_at]; exact ⟨h1, h2, h3⟩) (fun e => absurd e (by decide)) (fun e => absurd e (by decide)) (fun e => absurd e (by decide)) (fun e => absurd e (by decide))
  have I2 : sI (s_b33 s v) := I.born bn33 I1 b33_messages b33_lastNum (fun e => absurd e (by decide)) (fun _ => by rw [b33_at]; exact ⟨ho, h1, h2⟩) (fun e => absurd e (by decide)) (fun e => absurd e (by decide)) (fun e => absurd e (by decide))
  have he0 : ((s_b33 s v).qu s.next).ents = [] := by rw [b33_at]; exact h1
  obtain ⟨a1, a2, a3⟩ := addQ_w (s := s_b33 s v) (q := s.next) (v := number) he0
  refine ⟨p_addQ I2 bn33.kn (by rw [b33_qs]; exact fun hh => hold _ hh rfl) (by rw [b33_qs]; exact hl) (fun x hx => ?_) (fun i hi => ?_) he0, by rw [a1, tP_born I.sc bn33 b33_lastNum], by rw [← sWt_born (s := s) (bn33 (v := v))]; exact a2, by rw [a3, tY_born I.sc bn33 b33_lastNum]⟩
  · rw [b33_qs] at hx
    rw [b33_at, b33_qu, sUp_ne (hold x hx)]
    intro e
    have := List.find?_eq_none.mp he x hx
    exact this (beq_iff_eq.mpr e)
  · rw [b33_cs] at hi
    rw [b33_co]
    exact I.sc.old (I.sc.co i (I.sc.cs i hi)).1 (by decide)
theorem sSt_ext {s s' : sSt} (h0 : s.qu = s'.qu) (h1 : s.ex = s'.ex) (h2 : s.bi = s'.bi) (h3 : s.co = s'.co) (h4 : s.en = s'.en) (h5 : s.se = s'.se) (h6 : s.cn = s'.cn) (h7 : s.ch = s'.ch) (h8 : s.qs = s'.qs) (h9 : s.es = s'.es) (h10 : s.bs = s'.bs) (h11 : s.cs = s'.cs) (h12 : s.dead = s'.dead) (h13 : s.facts = s'.facts) (h14 : s.sqs = s'.sqs) (h15 : s.ses = s'.ses) (h16 : s.sbs = s'.sbs) (h17 : s.sen = s'.sen) (h18 : s.messages = s'.messages) (h19 : s.lastNum = s'.lastNum) (h20 : s.gener = s'.gener) (h21 : s.clock = s'.clock) (h22 : s.deadOnes = s'.deadOnes) (h23 : s.crashes = s'.crashes) (h24 : s.tape = s'.tape) (h25 : s.next = s'.next) (h26 : s.knd = s'.knd) : s = s' := by
  show ((s.qu, s.ex, s.bi, s.co, s.en, s.se, s.cn, s.ch, s.qs, s.es, s.bs, s.cs, s.dead, s.facts, s.sqs, s.ses, s.sbs, s.sen, s.messages, s.lastNum, s.gener, s.clock, s.deadOnes, s.crashes, s.tape, s.next, s.knd) : sSt) = (s'.qu, s'.ex, s'.bi, s'.co, s'.en, s'.se, s'.cn, s'.ch, s'.qs, s'.es, s'.bs, s'.cs, s'.dead, s'.facts, s'.sqs, s'.ses, s'.sbs, s'.sen, s'.messages, s'.lastNum, s'.gener, s'.clock, s'.deadOnes, s'.crashes, s'.tape, s'.next, s'.knd)
  rw [h0, h1, h2, h3, h4, h5, h6, h7, h8, h9, h10, h11, h12, h13, h14, h15, h16, h17, h18, h19, h20, h21, h22, h23, h24, h25, h26]
theorem sw_gener {l : List Nat} : ((s_b33 (s.w_gener number) v).w_qs l) = ((s_b33 s v).w_qs l).w_gener number := sSt_ext (by rw [wr_qu_qs, b33_qu, wr_qu_gener, wr_next_gener, wr_qu_gener, wr_qu_qs, b33_qu]) (by rw [wr_ex_qs, b33_ex, wr_ex_gener, wr_ex_gener, wr_ex_qs, b33_ex]) (by rw [wr_bi_qs, b33_bi, wr_bi_gener, wr_bi_gener, wr_bi_qs, b33_bi]) (by rw [wr_co_qs, b33_co, wr_co_gener, wr_co_gener, wr_co_qs, b33_co]) (by rw [wr_en_qs, b33_en, wr_en_gener, wr_en_gener, wr_en_qs, b33_en]) (by rw [wr_se_qs, b33_se, wr_se_gener, wr_se_gener, wr_se_qs, b33_se]) (by rw [wr_cn_qs, b33_cn, wr_cn_gener, wr_cn_gener, wr_cn_qs, b33_cn]) (by rw [wr_ch_qs, b33_ch, wr_ch_gener, wr_ch_gener, wr_ch_qs, b33_ch]) (by rw [wr_qs, wr_qs_gener, wr_qs]) (by rw [wr_es_qs, b33_es, wr_es_gener, wr_es_gener, wr_es_qs, b33_es]) (by rw [wr_bs_qs, b33_bs, wr_bs_gener, wr_bs_gener, wr_bs_qs, b33_bs]) (by rw [wr_cs_qs, b33_cs, wr_cs_gener, wr_cs_gener, wr_cs_qs, b33_cs]) (by rw [wr_dead_qs, b33_dead, wr_dead_gener, wr_dead_gener, wr_dead_qs, b33_dead]) (by rw [wr_facts_qs, b33_facts, wr_facts_gener, wr_facts_gener, wr_facts_qs, b33_facts]) (by rw [wr_sqs_qs, b33_sqs, wr_sqs_gener, wr_sqs_gener, wr_sqs_qs, b33_sqs]) (by rw [wr_ses_qs, b33_ses, wr_ses_gener, wr_ses_gener, wr_ses_qs, b33_ses]) (by rw [wr_sbs_qs, b33_sbs, wr_sbs_gener, wr_sbs_gener, wr_sbs_qs, b33_sbs]) (by rw [wr_sen_qs, b33_sen, wr_sen_gener, wr_sen_gener, wr_sen_qs, b33_sen]) (by rw [wr_messages_qs, b33_messages, wr_messages_gener, wr_messages_gener, wr_messages_qs, b33_messages]) (by rw [wr_lastNum_qs, b33_lastNum, wr_lastNum_gener, wr_lastNum_gener, wr_lastNum_qs, b33_lastNum]) (by rw [wr_gener_qs, b33_gener, wr_gener, wr_gener]) (by rw [wr_clock_qs, b33_clock, wr_clock_gener, wr_clock_gener, wr_clock_qs, b33_clock]) (by rw [wr_deadOnes_qs, b33_deadOnes, wr_deadOnes_gener, wr_deadOnes_gener, wr_deadOnes_qs, b33_deadOnes]) (by rw [wr_crashes_qs, b33_crashes, wr_crashes_gener, wr_crashes_gener, wr_crashes_qs, b33_crashes]) (by rw [wr_tape_qs, b33_tape, wr_tape_gener, wr_tape_gener, wr_tape_qs, b33_tape]) (by rw [wr_next_qs, b33_next, wr_next_gener, wr_next_gener, wr_next_qs, b33_next]) (by rw [wr_knd_qs, b33_knd, wr_knd_gener, wr_next_gener, wr_knd_gener, wr_knd_qs, b33_knd])
theorem sScope.gener (I : sScope s) : sScope (s.w_gener number) := I
/-- the queue stands, and joins those that are there -/
theorem t_decl_337 (R : tR s0 F (b + 3) (s.w_gener number) w g h) (I : sScope s) (hm : g.kind x0 = (1, 0)) (hrt : w.rt = []) (hn2 : gBo g n2 v.dlx) (hn3 : gBo g n3 v.dlk) (hB : gB g x5 v.name)
    (U : zUn s0 F g h n 37 [zr x5, .int (sB v.dur), .int (sB v.exc), .int (sB v.auto), .int 0, zr 0, .int v.max, .int v.ttl, .int v.pri, zr n2, zr n3, zr a, .int 0, zr 0]) (A : zUn s0 F g h a 1018 (List.replicate 301 (zr 0))) (hna : n ≠ a)
    (h1 : v.ents = []) (h2 : v.last = none) (ht : v.there = true) (hl : s.qs.length < 12) (hf : s.facts.length < 980000) (hx : gO g 2 v.owner = x7) (ho : ∀ k, v.owner = some k → k < 4)
    (K : ∀ g1 h1, tR s0 F b (s_addQ (s_b33 s v) s.next number) w g1 h1 → gL g g1 → g1.ref 33 s.next = n → Q (zr n) h1) : zP s0 m_X8_declared (d + 80) 337 [some (zr x0), none, none, none, some (zr n), none, none, none, none, none, none, none] [zr x7, zr n] h Q E := by
  have h0 : (s.w_gener number).knd s.next = 0 := I.new _ (Nat.le_refl _)
  have hnx : (s.w_gener number).next = s.next := wr_next_gener
  refine b_X8_declared_337 (g_PF R U fun h3 R3 U3 O3 => g_PF R3 U3 fun h4 R4 U4 O4 => ?_)
  have A4 := (A.oth O3 hna.symm).oth O4 hna.symm
  have U4 : zUn s0 F g h4 n 37 [zr x5, .int (sB v.dur), .int (sB v.exc), .int (sB v.auto), .int 1, zr x7, .int v.max, .int v.ttl, .int v.pri, zr n2, zr n3, zr a, .int 0, zr 0] := U4
  have S1 : sScope (s.w_gener number) := I.gener
  have K : ∀ g1 h1, tR s0 F b (if s_kept v = true then s_tell ((s_b33 (s.w_gener number) v).w_qs (s.qs ++ [s.next])) 2 s.next else ((s_b33 (s.w_gener number) v).w_qs (s.qs ++ [s.next]))) w g1 h1 → gL g g1 → g1.ref 33 s.next = n → Q (zr n) h1 := fun g1 h1 R1 L1 e1 => by
    refine K g1 h1 ?_ L1 e1
    unfold s_addQ
    rw [b33_at, b33_qs]
    rw [sw_gener] at R1
    exact R1
  have hqs : (s.w_gener number).qs = s.qs := wr_qs_gener
  have hfa : (s.w_gener number).facts = s.facts := wr_facts_gener
  revert R4 S1 K h0 hnx hqs hfa
  clear R R3
  generalize s.w_gener number = s1
  intro h0 hnx R4 S1 K hqs hfa
  rw [← hnx] at h0 K
  rw [← hqs] at K
  obtain ⟨ga, Ra, La, ka, ra, aa, fa, za, oa⟩ := R4.n31 h0 A4
  have hUa : zUn s0 F ga h4 n 37 [zr x5, .int (sB v.dur), .int (sB v.exc), .int (sB v.auto), .int 1, zr x7, .int v.max, .int v.ttl, .int v.pri, zr n2, zr n3, zr a, .int 0, zr 0] := ⟨za n U4.1 hna, U4.2⟩
  have Rb := Ra.rf (c := 33) (i := s1.next) (by decide) h0 (fun k => if k = 0 then x5 else if k = 9 then n2 else n3)
  have Lb : gL ga (gRf ga 33 s1.next (fun k => if k = 0 then x5 else if k = 9 then n2 else n3)) := gRf.l
  have Ub : zUn s0 F (gRf ga 33 s1.next (fun k => if k = 0 then x5 else if k = 9 then n2 else n3)) h4 n 37 [zr x5, .int (sB v.dur), .int (sB v.exc), .int (sB v.auto), .int 1, zr x7, .int v.max, .int v.ttl, .int v.pri, zr n2, zr n3, zr a, .int 0, zr 0] := hUa
  have r0 : (gRf ga 33 s1.next (fun k => if k = 0 then x5 else if k = 9 then n2 else n3)).rf 33 s1.next 0 = x5 := gRf_at
  have r9 : (gRf ga 33 s1.next (fun k => if k = 0 then x5 else if k = 9 then n2 else n3)).rf 33 s1.next 9 = n2 := gRf_at
  have r10 : (gRf ga 33 s1.next (fun k => if k = 0 then x5 else if k = 9 then n2 else n3)).rf 33 s1.next 10 = n3 := gRf_at
  have r31 : (gRf ga 33 s1.next (fun k => if k = 0 then x5 else if k = 9 then n2 else n3)).ref 31 s1.next = a := ra
  have k31 : (gRf ga 33 s1.next (fun k => if k = 0 then x5 else if k = 9 then n2 else n3)).kind a = (31, s1.next) := ka
  have a31 : (gRf ga 33 s1.next (fun k => if k = 0 then x5 else if k = 9 then n2 else n3)).ar 31 s1.next = List.replicate 301 (zr 0) := aa
  have rO : gO (gRf ga 33 s1.next (fun k => if k = 0 then x5 else if k = 9 then n2 else n3)) 2 v.owner = x7 := by
    rw [← hx]
    cases v.owner with
    | none => rfl
    | some y => exact oa 2 y (by decide)
  have L2 := La.trans Lb
  have hB1 := L2.B hB
  have hA2 := L2.Bo hn2
  have hA3 := L2.Bo hn3
  clear La Lb Ra ra ka aa fa za oa hUa
  revert Rb Ub r0 r9 r10 r31 k31 a31 rO L2 hB1 hA2 hA3
  generalize gRf ga 33 s1.next (fun k => if k = 0 then x5 else if k = 9 then n2 else n3) = gb
  intro Rb Ub r0 r9 r10 r31 k31 a31 rO L2 hB1 hA2 hA3
  have Rc := Rb.born (s' := s_b33 s1 v) (c := 33) S1 Ub (by decide) bn33 (Or.inr hrt) (tMain_new (by decide) bn33 ⟨b33_messages, b33_lastNum, b33_gener, b33_clock, b33_deadOnes, b33_crashes⟩) (by
      show (37, tQu ((s_b33 s1 v).qu s1.next) _ _) = _
      rw [b33_at]
      have hgo : gO (gNw gb n 33 s1.next []) 2 v.owner = gO gb 2 v.owner := by
        cases v.owner with
        | none => rfl
        | some y => rfl
      show (37, [zr (gb.rf 33 s1.next 0), vZ v.dur, vZ v.exc, vZ v.auto, vZ v.there, zr (gO (gNw gb n 33 s1.next []) 2 v.owner), .int v.max, .int v.ttl, .int v.pri, zr (gb.rf 33 s1.next 9), zr (gb.rf 33 s1.next 10), zr (gb.ref 31 s1.next), vI v.ents.length, zr (gO (gNw gb n 33 s1.next []) 35 v.last)]) = _
      rw [hgo, r0, r9, r10, r31, rO, ht, h1, h2]
      rfl) (fun e => absurd e (by decide)) (fun _ => by
      rw [b33_at, r0, r9, r10]
      refine ⟨hB1, hA2, hA3, h1, ?_⟩
      refine ⟨?_, ?_, ?_⟩
      · unfold gA1
        rw [r31]
        exact k31
      · rw [a31, List.length_replicate]
      · exact List.nil_prefix) (fun e => absurd e (by decide)) (fun e => absurd e (by decide)) (fun e => absurd e (by decide))
  have Lc : gL gb (gNw gb n 33 s1.next []) := gNw.l Ub.1
  have hn1 : (gNw gb n 33 s1.next []).kind n = (33, s1.next) := gNw.at
  have L3 := L2.trans Lc
  revert Rc hn1 L3
  clear Lc
  generalize gNw gb n 33 s1.next [] = gc
  intro Rc hn1 L3
  refine g_App6 (x := s1.next) Rc (L3.m hm) (Rc.1.a1 hn1 (by decide)) (Rc.1.at hn1 (by decide)).symm (by rw [b33_qs, hqs]; exact hl) fun g5 h5 R5 L5 => ?_
  have L6 := L3.trans L5
  have hn5 : g5.kind n = (33, s1.next) := L5.th (by decide) (by decide) hn1
  have hqu : ((s_b33 s1 v).w_qs ((s_b33 s1 v).qs ++ [s1.next])).qu s1.next = v := by rw [wr_qu_qs, b33_at]
  have hfa5 : ((s_b33 s1 v).w_qs ((s_b33 s1 v).qs ++ [s1.next])).facts = s.facts := by rw [wr_facts_qs, b33_facts, hfa]
  rw [b33_qs] at R5 hqu hfa5
  revert R5 K hqu hfa5
  generalize (s_b33 s1 v).w_qs (s1.qs ++ [s1.next]) = s5
  intro K R5 hqu hfa5
  refine ⟨⟨_, R5.1.cell hn5 (by decide)⟩, t_kept (d := d + 79) R5 hn5 ⟨_, rfl, ?_⟩⟩
  rw [hqu, sB_0]
  refine ⟨fun hk => ?_, fun hk => ⟨⟨_, R5.main (L6.m hm)⟩, ?_⟩⟩
  · rw [if_neg (by rw [hk]; decide)] at K
    exact K g5 h5 (R5.less (by omega)) L6 (R5.1.at hn5 (by decide))
  · rw [Bool.not_eq_false] at hk
    rw [if_pos hk] at K
    exact t_tell (d := d + 77) (id := s1.next) R5 (L6.m hm) (by rw [hfa5]; omega) ⟨fun e => absurd e (by decide), fun _ => (R5.1.at hn5 (by decide)).symm, fun e => absurd e (by decide), fun e => absurd e (by decide), by decide, by decide⟩ fun g6 h6 R6 L7 => K g6 h6 R6 (L6.trans L7) (R6.1.at (L7.th (by decide) (by decide) hn5) (by decide))
end MP
