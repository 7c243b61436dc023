/-! ===== the twin: queues declared, the choice of the name ===== -/
set_option maxRecDepth 100000
section MQ
variable {s0 : zE} {F F2 : Nat → Option zC} {b : Nat} {s s' s1 : sSt} {w w' w1 w2 : tW} {g g' g0 : sG} {h h' : zH} {d x0 x1 x2 x3 x5 x6 x7 i j q m n n2 n3 a e : Nat} {Q : Value → zH → Prop} {E : Nat → zH → Prop} {dr nm : sBy} {sz cl me code k bits mx tt pr number : Int32} {rd : sRd} {u : Int32 × List Nat × (Nat → Nat)} {f : sRs} {t : sTab} {dlx dlk : Option sBy} {z : Int32 × Int32 × Int32 × Option sBy × Option sBy} {v : sQu}
theorem tZ.sub {F0 : Nat → Option zC} (Z : tZ s0 F b s w g h) (hs : ∀ m q, F0 m = some q → F m = some q) : tZ s0 F0 b s w g h := ⟨Z.1.sub hs, Z.2⟩
/-- the draft's cells are lent -/
def zF2 (F : Nat → Option zC) (n a : Nat) (mx tt pr : Int32) (n2 n3 : Nat) : Nat → Option zC := zF1 (zF1 F a (1018, List.replicate 301 (zr 0))) n (37, tDraft mx tt pr n2 n3 a)
theorem zF2_sub (hn : F n = none) (ha : F a = none) {m : Nat} {q : zC} (h : F m = some q) : zF2 F n a mx tt pr n2 n3 m = some q := by
  unfold zF2
  rw [zF1_ne (fun e => by rw [e, hn] at h; cases h), zF1_ne (fun e => by rw [e, ha] at h; cases h)]
  exact h
theorem zF2_n : zF2 F n a mx tt pr n2 n3 n = some (37, tDraft mx tt pr n2 n3 a) := zF1_at
theorem tR.back2 (R : tR s0 (zF2 F n a mx tt pr n2 n3) b s w g h) (hFn : F n = none) (hFa : F a = none) (hna : n ≠ a) (hn0 : 0 < n) (ha0 : 0 < a) (hns : s0.1.heap.size < n) (has : s0.1.heap.size < a) :
    tR s0 F b s w g h ∧ zUn s0 F g h n 37 (tDraft mx tt pr n2 n3 a) ∧ zUn s0 F g h a 1018 (List.replicate 301 (zr 0)) := by
  unfold zF2 at R
  obtain ⟨R1, U1⟩ := R.back (by rw [zF1_ne hna]; exact hFn) hn0 hns
  obtain ⟨R2, U2⟩ := R1.back hFa ha0 has
  exact ⟨R2, ⟨U1.1, hFn, U1.2.2⟩, U2⟩
/-- what a draft asks is within bounds -/
def dOk (z : Int32 × Int32 × Int32 × Option sBy × Option sBy) : Prop := (z.1 = -1 ∨ (1 ≤ z.1 ∧ z.1 ≤ 50)) ∧ (z.2.1 = -1 ∨ (1 ≤ z.2.1 ∧ z.2.1 ≤ 1000)) ∧ 0 ≤ z.2.2.1 ∧ z.2.2.1 ≤ 9 ∧ sOk40 z.2.2.2.1 ∧ sOk40 z.2.2.2.2
theorem t_decl_95 (hFn : F n = none) (hFa : F a = none) (hna : n ≠ a) (hn0 : 0 < n) (ha0 : 0 < a) (hns : s0.1.heap.size < n) (has : s0.1.heap.size < a)
    (Z : tZ s0 (zF2 F n a z.1 z.2.1 z.2.2.1 n2 n3) (b + 907 + tY s) s w g h) (hrt : w.rt = []) (hm : g.kind x0 = (1, 0)) (hx : g.kind x1 = (3, j)) (hj : isH j) (B : gB g x5 nm) (hl : nm.length ≤ 40) (hne : nm ≠ []) (D2 : gBo g n2 z.2.2.2.1) (D3 : gBo g n3 z.2.2.2.2) (zok : dOk z)
    (K0 : ∀ s1 q, s_declF s j nm number bits z = (s1, .inl q) → ∀ g1 h1, tZ s0 F (b + 900 + tY s1) s1 w g1 h1 → gL g g1 → q ∈ s1.qs → Q (zr (g1.ref 33 q)) h1)
    (K1 : ∀ f, s_declF s j nm number bits z = (s, .inr f) → ∀ w1 g1 h1, tZ s0 F (b + tY (s_tld j w.cl w.me (s, some f))) (s_tld j w.cl w.me (s, some f)) w1 g1 h1 → tWm w w1 → gL g g1 → Q (zr 0) h1) :
    zP s0 m_X8_declared (d + 80) 95 [some (zr x0), some (zr x1), none, none, some (zr n), some (zr x5), some (.int number), some (zr (gO g 33 (s_queue s nm))), some (.int (sB (s_bit bits 2))), some (.int (sB (s_bit bits 4))), none, none] [.int (sB (s_bit bits 8))] h Q E := by
  have hsub : ∀ m q, F m = some q → zF2 F n a z.1 z.2.1 z.2.2.1 n2 n3 m = some q := fun m q hm => zF2_sub hFn hFa hm
  have em := Z.r.main hm
  have ex := Z.r.1.cell hx (by decide)
  have en : h.1 n = some (37, tDraft z.1 z.2.1 z.2.2.1 n2 n3 a) := Z.r.fc zF2_n
  have hql := Z.i.cp.2.2.2.2.1
  have Zh : tZ s0 (zF2 F n a z.1 z.2.1 z.2.2.1 n2 n3) (b + 900 + tY s) s w g h := Z.le (by omega)
  cases hq : s_queue s nm with
  | none =>
    refine b_X8_declared_95 ⟨fun _ => e_I em fun (z1 : gI h x0 6 = Int32.ofNat s.qs.length) => ?_, fun hh => absurd rfl hh⟩
    rw [z1, show (12 : Int32) = Int32.ofNat 12 from rfl, i_inj (by omega) (by decide)]
    refine ⟨fun h12 => ?_, fun h12 => ?_⟩
    · have hF : s_declF s j nm number bits z = (s_addQ (s_b33 s (s_newQ j nm bits z)) s.next number, .inl s.next) := by
        unfold s_declF
        rw [hq]
        exact if_neg h12
      have K0 := K0 _ _ hF
      have how : ∀ k, (s_newQ j nm bits z).owner = some k → k < 4 := fun k hk => by
        have hk : (if s_bit bits 4 = true then some (j / 4) else none) = some k := hk
        split at hk
        · rw [← Option.some.inj hk]
          exact hj.div
        · cases hk
      have hexo : (s_newQ j nm bits z).exc = true ↔ (s_newQ j nm bits z).owner ≠ none := by
        show s_bit bits 4 = true ↔ (if s_bit bits 4 = true then some (j / 4) else none) ≠ none
        split
        · rename_i hb
          exact ⟨fun _ hh => (nomatch hh), fun _ => hb⟩
        · rename_i hb
          exact ⟨fun h => absurd h hb, fun h => absurd rfl h⟩
      obtain ⟨p1, p2, p3, p4⟩ := p_newQ (number := number) (v := s_newQ j nm bits z) Z.i (by omega) hq ⟨hl, hne, zok.2.2.2.2.1, zok.2.2.2.2.2, zok.1, zok.2.1, zok.2.2.1, zok.2.2.2.1, hexo⟩ rfl rfl how
      have hc := Z.c
      have hf := Z.facts
      rw [p4] at K0
      have hmem : s.next ∈ (s_addQ (s_b33 s (s_newQ j nm bits z)) s.next number).qs := by
        have : s.next ∈ (((s_b33 s (s_newQ j nm bits z)).w_qs ((s_b33 s (s_newQ j nm bits z)).qs ++ [s.next])).w_gener number).qs := by
          rw [wr_qs_gener, wr_qs]
          exact List.mem_append.mpr (Or.inr (List.mem_singleton.mpr rfl))
        unfold s_addQ
        split
        · rw [wt_qs]
          exact this
        · exact this
      obtain ⟨R0, U0, A0⟩ := Z.r.back2 hFn hFa hna hn0 ha0 hns has
      have hnx : n ≠ x0 := U0.ne (by rw [hm]; decide)
      have hax : a ≠ x0 := A0.ne (by rw [hm]; decide)
      refine g_Mgener (R0.less (b' := b + 900 + tY s + (tP s + 4) + 3) (by omega)) hm number fun h1 R1 O1 => g_PF R1 (U0.oth O1 hnx) fun h2 R2 U2 O2 => ⟨sB_01, g_PF R2 U2 fun h3 R3 U3 O3 => ⟨sB_01, g_PF R3 U3 fun h4 R4 U4 O4 => ⟨sB_01, g_PF R4 U4 fun h5 R5 U5 O5 => ?_⟩⟩⟩
      have A5 := ((((A0.oth O1 hax).oth O2 hna.symm).oth O3 hna.symm).oth O4 hna.symm).oth O5 hna.symm
      have h337 : ∀ t1 : Nat, gO g 2 (s_newQ j nm bits z).owner = t1 → zP s0 m_X8_declared (d + 79 + 1) 337 [some (zr x0), none, none, none, some (zr n), none, none, none, none, none, none, none] [zr t1, zr n] h5 Q E := fun t1 ht =>
        t_decl_337 (d := d) (v := s_newQ j nm bits z) R5 Z.sc hm hrt D2 D3 B U5 A5 hna rfl rfl rfl (by omega) (by omega) ht how fun g7 h7 R7 L7 e7 => by
          have := K0 g7 h7 ⟨by rw [p2]; exact R7, p1, by omega⟩ L7 hmem
          rw [e7] at this
          exact this
      rw [sB_0]
      refine ⟨fun hb => h337 0 ?_, fun hb => e_R (R5.1.cell hx (by decide)) fun (z2 : gR h5 x1 0 = g.ref 2 (j / 4)) => ?_⟩
      · show gO g 2 (if s_bit bits 4 = true then some (j / 4) else none) = 0
        rw [hb]
        rfl
      · rw [z2]
        refine h337 _ ?_
        show gO g 2 (if s_bit bits 4 = true then some (j / 4) else none) = _
        rw [Bool.not_eq_false] at hb
        rw [hb]
        rfl
    · have hF : s_declF s j nm number bits z = (s, .inr (true, 506)) := by
        unfold s_declF
        rw [hq]
        exact if_pos h12
      have K1 := K1 _ hF
      exact t_hardJ (d := d + 3) Zh hm hx hj fun w1 g1 h1 Z1 W1 L1 => K1 w1 g1 h1 (Z1.sub hsub) W1 L1
  | some q =>
    have hqm : q ∈ s.qs := List.mem_of_find?_eq_some hq
    have hkq := Z.sc.qs q hqm
    have hqk : g.kind (g.ref 33 q) = (33, q) := Z.r.al (by decide) (by decide) hkq
    have eq := Z.r.1.cell hqk (by decide)
    have hgo : gO g 33 (some q) = g.ref 33 q := rfl
    have qok := Z.i.tx.2.1 q hkq
    obtain ⟨-, gb9, gb10, -⟩ := Z.r.2.2.2.2.2.2.2.2.1 q hkq
    rw [hgo]
    have hsoft : ∀ code, s_declF s j nm number bits z = (s, .inr (false, code)) → zX s0 m_X8_soft (d + 79) [zr x0, zr x1, .int code] h (fun _ h1 => Q (zr 0) h1) E := fun code hF => by
      have K1 := K1 _ hF
      exact t_softZ (d := d + 2) Zh hm hx hj fun w1 g1 h1 Z1 W1 L1 => K1 w1 g1 h1 (Z1.sub hsub) W1.tom L1
    have hF0 : s_declF s j nm number bits z = if (s.qu q).exc = true ∧ (s.qu q).owner ≠ some (j / 4) then (s, .inr (false, 405)) else
      if (s.qu q).dur == s_bit bits 2 && (s.qu q).exc == s_bit bits 4 && (s.qu q).auto == s_bit bits 8 && (s.qu q).max == z.1 && (s.qu q).ttl == z.2.1 && (s.qu q).pri == z.2.2.1 && (s.qu q).dlx == z.2.2.2.1 && (s.qu q).dlk == z.2.2.2.2 then (s, .inl q) else (s, .inr (false, 406)) := by
      unfold s_declF
      rw [hq]
    have h132 : ¬ ((s.qu q).exc = true ∧ (s.qu q).owner ≠ some (j / 4)) → zP s0 m_X8_declared (d + 79 + 1) 132 [some (zr x0), some (zr x1), none, none, some (zr n), none, none, some (zr (g.ref 33 q)), some (.int (sB (s_bit bits 2))), some (.int (sB (s_bit bits 4))), some (.int (sB (s_bit bits 8))), none] [] h Q E := fun hno => by
      rw [if_neg hno] at hF0
      have h406 : ((s.qu q).dur == s_bit bits 2 && (s.qu q).exc == s_bit bits 4 && (s.qu q).auto == s_bit bits 8 && (s.qu q).max == z.1 && (s.qu q).ttl == z.2.1 && (s.qu q).pri == z.2.2.1 && (s.qu q).dlx == z.2.2.2.1 && (s.qu q).dlk == z.2.2.2.2) = false → zX s0 m_X8_soft (d + 79) [zr x0, zr x1, .int 406] h (fun _ h1 => Q (zr 0) h1) E := fun hg => hsoft 406 (by rw [hF0, hg]; rfl)
      have h205 : ((s.qu q).dur == s_bit bits 2 && (s.qu q).exc == s_bit bits 4 && (s.qu q).auto == s_bit bits 8 && (s.qu q).max == z.1 && (s.qu q).ttl == z.2.1 && (s.qu q).pri == z.2.2.1 && (s.qu q).dlx == z.2.2.2.1 && (s.qu q).dlk == z.2.2.2.2) = false → zP s0 m_X8_declared (d + 79 + 1) 205 [some (zr x0), some (zr x1), none, none, some (zr n), none, none, some (zr (g.ref 33 q)), none, none, none, none] [] h Q E := fun hg =>
        b_X8_declared_205 (b_X8_declared_206 ⟨fun _ => ⟨⟨_, em⟩, h406 hg⟩, fun hh => absurd rfl hh⟩)
      refine b_X8_declared_132 (e_I eq fun (z1 : gI h (g.ref 33 q) 1 = sB (s.qu q).dur) => ?_)
      rw [z1, sB_eq]
      refine ⟨fun h1 => h205 (by rw [beq_false_of_ne h1]; rfl), fun h1 => e_I eq fun (z2 : gI h (g.ref 33 q) 2 = sB (s.qu q).exc) => ?_⟩
      rw [z2, sB_eq]
      refine ⟨fun h2 => h205 (by rw [beq_false_of_ne h2, Bool.and_false]; rfl), fun h2 => e_I eq fun (z3 : gI h (g.ref 33 q) 3 = sB (s.qu q).auto) => ?_⟩
      rw [z3, sB_eq]
      refine ⟨fun h3 => h205 (by rw [beq_false_of_ne h3, Bool.and_false]; rfl), fun h3 => e_I eq fun (z4 : gI h (g.ref 33 q) 6 = (s.qu q).max) => e_I en fun (z5 : gI h n 6 = z.1) => ?_⟩
      rw [z4, z5]
      refine ⟨fun h4 => h205 (by rw [beq_false_of_ne h4, Bool.and_false]; rfl), fun h4 => e_I eq fun (z6 : gI h (g.ref 33 q) 7 = (s.qu q).ttl) => e_I en fun (z7 : gI h n 7 = z.2.1) => ?_⟩
      rw [z6, z7]
      refine ⟨fun h5 => h205 (by rw [beq_false_of_ne h5, Bool.and_false]; rfl), fun h5 => e_I eq fun (z8 : gI h (g.ref 33 q) 8 = (s.qu q).pri) => e_I en fun (z9 : gI h n 8 = z.2.2.1) => ?_⟩
      rw [z8, z9]
      refine ⟨fun h6 => h205 (by rw [beq_false_of_ne h6, Bool.and_false]; rfl), fun h6 => b_X8_declared_206 ⟨fun hh => absurd hh (by decide), fun _ => e_R eq fun (z10 : gR h (g.ref 33 q) 9 = g.rf 33 q 9) => e_R en fun (z11 : gR h n 9 = n2) => ?_⟩⟩
      rw [z10, z11]
      refine t_same (a := (s.qu q).dlx) (c := z.2.2.2.1) Z.r gb9 D2 (fun y hy => by have := qok.2.2.1 y hy; omega) (fun y hy => by have := zok.2.2.2.2.1 y hy; omega) ⟨_, rfl, ?_⟩
      rw [sB_0]
      refine ⟨fun h7 => ⟨⟨_, em⟩, h406 (by rw [h7, Bool.and_false]; rfl)⟩, fun h7 => e_R eq fun (z12 : gR h (g.ref 33 q) 10 = g.rf 33 q 10) => e_R en fun (z13 : gR h n 10 = n3) => ?_⟩
      rw [z12, z13]
      refine t_same (a := (s.qu q).dlk) (c := z.2.2.2.2) Z.r gb10 D3 (fun y hy => by have := qok.2.2.2.1 y hy; omega) (fun y hy => by have := zok.2.2.2.2.2 y hy; omega) ⟨_, rfl, ?_⟩
      rw [sB_0]
      refine ⟨fun h8 => ⟨⟨_, em⟩, h406 (by rw [h8, Bool.and_false])⟩, fun h8 => ?_⟩
      rw [Bool.not_eq_false] at h7 h8
      rw [if_pos (by rw [beq_iff_eq.mpr h1, beq_iff_eq.mpr h2, beq_iff_eq.mpr h3, beq_iff_eq.mpr h4, beq_iff_eq.mpr h5, beq_iff_eq.mpr h6, h7, h8]; rfl)] at hF0
      exact K0 s q hF0 g h (Zh.sub hsub) (gL.refl g) hqm
    refine b_X8_declared_95 ⟨fun hh => absurd hh (Z.r.1.pos hqk (by decide)), fun _ => e_I eq fun (z1 : gI h (g.ref 33 q) 2 = sB (s.qu q).exc) => ?_⟩
    rw [z1, sB_0]
    refine ⟨fun he => h132 (fun hh => by rw [he] at hh; exact absurd hh.1 (by decide)), fun he => e_R eq fun (z2 : gR h (g.ref 33 q) 5 = gO g 2 (s.qu q).owner) => e_R ex fun (z3 : gR h x1 0 = g.ref 2 (j / 4)) => ?_⟩
    rw [Bool.not_eq_false] at he
    rw [z2, z3, own_iff Z.r Z.sc hkq hj]
    exact ⟨fun ho => h132 (fun hh => hh.2 ho), fun ho => ⟨⟨_, em⟩, hsoft 405 (by rw [hF0, if_pos ⟨he, ho⟩])⟩⟩
theorem t_decl_49 (hFn : F n = none) (hFa : F a = none) (hna : n ≠ a) (hn0 : 0 < n) (ha0 : 0 < a) (hns : s0.1.heap.size < n) (has : s0.1.heap.size < a)
    (Z : tZ s0 (zF2 F n a z.1 z.2.1 z.2.2.1 n2 n3) (b + 907 + tY s) s w g h) (hrt : w.rt = []) (hm : g.kind x0 = (1, 0)) (hx : g.kind x1 = (3, j)) (hj : isH j) (B : gB g x5 nm) (hl : nm.length ≤ 40) (hne : nm ≠ []) (D2 : gBo g n2 z.2.2.2.1) (D3 : gBo g n3 z.2.2.2.2) (zok : dOk z)
    (K0 : ∀ s1 q, s_declF s j nm number bits z = (s1, .inl q) → ∀ g1 h1, tZ s0 F (b + 900 + tY s1) s1 w g1 h1 → gL g g1 → q ∈ s1.qs → Q (zr (g1.ref 33 q)) h1)
    (K1 : ∀ f, s_declF s j nm number bits z = (s, .inr f) → ∀ w1 g1 h1, tZ s0 F (b + tY (s_tld j w.cl w.me (s, some f))) (s_tld j w.cl w.me (s, some f)) w1 g1 h1 → tWm w w1 → gL g g1 → Q (zr 0) h1) :
    zP s0 m_X8_declared (d + 80) 49 [some (zr x0), some (zr x1), none, some (.int bits), some (zr n), some (zr x5), some (.int number), none, none, none, none, none] [] h Q E := by
  have em := Z.r.main hm
  have hlq : ∀ q ∈ s.qs, (s.qu q).name.length < 2147483648 := fun q hq => by
    have := (Z.i.tx.2.1 q (Z.sc.qs q hq)).1
    omega
  refine b_X8_declared_49 ⟨⟨_, em⟩, t_queue (d := d + 78) Z.r Z.sc hm B (by omega) hlq ⟨_, rfl, ?_⟩⟩
  have h68 : ∀ t0, t0 = sB (s_bit bits 2) → zP s0 m_X8_declared (d + 79 + 1) 68 [some (zr x0), some (zr x1), none, some (.int bits), some (zr n), some (zr x5), some (.int number), some (zr (gO g 33 (s_queue s nm))), none, none, none, none] [.int t0] h Q E := fun t0 ht => by
    subst ht
    have h81 : ∀ t0, t0 = sB (s_bit bits 4) → zP s0 m_X8_declared (d + 79 + 1) 81 [some (zr x0), some (zr x1), none, some (.int bits), some (zr n), some (zr x5), some (.int number), some (zr (gO g 33 (s_queue s nm))), some (.int (sB (s_bit bits 2))), none, none, none] [.int t0] h Q E := fun t0 ht => by
      subst ht
      have h95 : ∀ t0, t0 = sB (s_bit bits 8) → zP s0 m_X8_declared (d + 79 + 1) 95 [some (zr x0), some (zr x1), none, none, some (zr n), some (zr x5), some (.int number), some (zr (gO g 33 (s_queue s nm))), some (.int (sB (s_bit bits 2))), some (.int (sB (s_bit bits 4))), none, none] [.int t0] h Q E := fun t0 ht => by
        subst ht
        exact t_decl_95 (d := d) hFn hFa hna hn0 ha0 hns has Z hrt hm hx hj B hl hne D2 D3 zok K0 K1
      exact b_X8_declared_81 ⟨fun hb => h95 0 (bit_v0 hb), fun hb => h95 1 (bit_v1 hb)⟩
    exact b_X8_declared_68 ⟨fun hb => h81 0 (bit_v0 hb), fun hb => h81 1 (bit_v1 hb)⟩
  exact ⟨fun hb => h68 0 (bit_v0 hb), fun hb => h68 1 (bit_v1 hb)⟩
theorem gen_step {f c : Nat} (hn : s_queue s (s_numbered "gen-" (Int32.ofNat c)) ≠ none) : s_gen s (f + 1) (Int32.ofNat c) = s_gen s f (Int32.ofNat (c + 1)) := by
  rw [s_gen, if_neg hn, i_succ]
theorem gen_stop {f c : Nat} (hn : s_queue s (s_numbered "gen-" (Int32.ofNat c)) = none) : s_gen s (f + 1) (Int32.ofNat c) = Int32.ofNat c := by
  rw [s_gen, if_pos hn]
/-- among thirteen numbers one is free -/
theorem gen_free (hl : s.qs.length ≤ 12) {c : Nat} (hc : c < 2000000) (hh : ∀ i, i < 13 → s_queue s (s_numbered "gen-" (Int32.ofNat (c + i))) ≠ none) : False := by
  have := pigeon (nm := fun i => s_numbered "gen-" (Int32.ofNat (c + i))) (f := fun q => (s.qu q).name) 13 s.qs (fun i j h1 h2 e => by have := numbered_inj (by omega) (by omega) e; omega) (fun i hi => by
    cases hq : s_queue s (s_numbered "gen-" (Int32.ofNat (c + i))) with
    | none => exact absurd hq (hh i hi)
    | some q => exact ⟨q, List.mem_of_find?_eq_some hq, eq_of_beq (List.find?_some (p := fun q => (s.qu q).name == s_numbered "gen-" (Int32.ofNat (c + i))) hq)⟩)
  omega
theorem t_decl_18 (J : tJs s0 F) (hFn : F n = none) (hFa : F a = none) (hna : n ≠ a) (hn0 : 0 < n) (ha0 : 0 < a) (hns : s0.1.heap.size < n) (has : s0.1.heap.size < a) (hrt : w.rt = []) (hj : isH j) (zok : dOk z) {c0 : Nat} (hc0 : c0 < 2000000)
    (hm : g0.kind x0 = (1, 0)) (hx : g0.kind x1 = (3, j)) (D2 : gBo g0 n2 z.2.2.2.1) (D3 : gBo g0 n3 z.2.2.2.2)
    (K0 : ∀ s1 q, s_declF s j (s_numbered "gen-" (s_gen s 13 (Int32.ofNat c0))) (s_gen s 13 (Int32.ofNat c0)) bits z = (s1, .inl q) → ∀ g1 h1, tZ s0 F (b + 900 + tY s1) s1 w g1 h1 → gL g0 g1 → q ∈ s1.qs → Q (zr (g1.ref 33 q)) h1)
    (K1 : ∀ f, s_declF s j (s_numbered "gen-" (s_gen s 13 (Int32.ofNat c0))) (s_gen s 13 (Int32.ofNat c0)) bits z = (s, .inr f) → ∀ w1 g1 h1, tZ s0 F (b + tY (s_tld j w.cl w.me (s, some f))) (s_tld j w.cl w.me (s, some f)) w1 g1 h1 → tWm w w1 → gL g0 g1 → Q (zr 0) h1) :
    ∀ (f i : Nat) (g : sG) (h : zH), f + i = 13 → (∀ k, k < i → s_queue s (s_numbered "gen-" (Int32.ofNat (c0 + k))) ≠ none) → s_gen s 13 (Int32.ofNat c0) = s_gen s f (Int32.ofNat (c0 + i)) → tZ s0 (zF2 F n a z.1 z.2.1 z.2.2.1 n2 n3) (b + 925 + 18 * f + tY s) s w g h → gL g0 g →
      zP s0 m_X8_declared (d + 80) 18 [some (zr x0), some (zr x1), none, some (.int bits), some (zr n), none, some (.int (Int32.ofNat (c0 + i))), none, none, none, none, none] [] h Q E
  | 0, i, g, h, hfi, hb, he, Z, L => (gen_free Z.i.cp.2.2.2.2.1 hc0 (fun k hk => hb k (by omega))).elim
  | f + 1, i, g, h, hfi, hb, he, Z, L => by
    have hJ : tJs s0 (zF2 F n a z.1 z.2.1 z.2.2.1 n2 n3) := (J.lend hFa).lend (by rw [zF1_ne hna]; exact hFn)
    have hlq : ∀ q ∈ s.qs, (s.qu q).name.length < 2147483648 := fun q hq => by
      have := (Z.i.tx.2.1 q (Z.sc.qs q hq)).1
      omega
    have hln := numbered_len (x := "gen-") (n := c0 + i) (by omega)
    have h4 : (s_txt "gen-").length = 4 := by decide
    refine b_X8_declared_18 (t_numbered (d := d + 69) (x := "gen-") hJ (by decide) (by decide) (by omega) (b := b + 907 + 18 * f + 18 + tY s + tP s) (Z.r.less (by omega)) fun n1 g1 h1 R1 L1 B1 => ⟨_, rfl, ?_⟩)
    have Z1 : tZ s0 (zF2 F n a z.1 z.2.1 z.2.2.1 n2 n3) (b + 907 + 18 * f + 18 + tY s) s w g1 h1 := Z.cut (k := 0) (by omega) R1
    have L01 := L.trans L1
    refine ⟨⟨_, R1.main (L01.m hm)⟩, t_queue (d := d + 78) R1 Z.sc (L01.m hm) B1 (by omega) hlq ⟨_, rfl, ?_⟩⟩
    cases hq : s_queue s (s_numbered "gen-" (Int32.ofNat (c0 + i))) with
    | none =>
      refine ⟨fun _ => t_numbered (d := d + 69) (x := "gen-") hJ (by decide) (by decide) (by omega) (b := b + 907 + tY s + tP s) (Z1.r.less (by omega)) fun n3' g2 h2 R2 L2 B2 => ⟨_, rfl, ?_⟩, fun hh => absurd rfl hh⟩
      have L02 := L01.trans L2
      rw [he, gen_stop hq] at K0 K1
      exact t_decl_49 (d := d) (b := b) (g := g2) hFn hFa hna hn0 ha0 hns has (Z1.cut (k := 0) (by omega) R2) hrt (L02.m hm) (L02.k hx gSt3) hj B2 (by omega) numbered_ne (L02.Bo D2) (L02.Bo D3) zok (fun s1 q hd g3 h3 Z3 L3 hq3 => K0 s1 q hd g3 h3 Z3 (L02.trans L3) hq3) (fun f hd w3 g3 h3 Z3 W3 L3 => K1 f hd w3 g3 h3 Z3 W3 (L02.trans L3))
    | some q =>
      have hqk : g1.kind (g1.ref 33 q) = (33, q) := R1.al (by decide) (by decide) (Z.sc.qs q (List.mem_of_find?_eq_some hq))
      have hne : s_queue s (s_numbered "gen-" (Int32.ofNat (c0 + i))) ≠ none := by rw [hq]; exact fun hh => nomatch hh
      refine ⟨fun hh => absurd hh (R1.1.pos hqk (by decide)), fun _ => ?_⟩
      rw [i_succ]
      refine t_decl_18 J hFn hFa hna hn0 ha0 hns has hrt hj zok hc0 hm hx D2 D3 K0 K1 f (i + 1) g1 h1 (by omega) (fun k hk => ?_) (by rw [he, gen_step hne]; rfl) (Z1.le (by omega)) L01
      by_cases e : k = i
      · rw [e]; exact hne
      · exact hb k (by omega)
theorem t_declared (J : tJs s0 F) (hFn : F n = none) (hFa : F a = none) (hna : n ≠ a) (hn0 : 0 < n) (ha0 : 0 < a) (hns : s0.1.heap.size < n) (has : s0.1.heap.size < a)
    (Z : tZ s0 (zF2 F n a z.1 z.2.1 z.2.2.1 n2 n3) (b + 1200 + tY s) s w g h) (hrt : w.rt = []) (hm : g.kind x0 = (1, 0)) (hx : g.kind x1 = (3, j)) (hj : isH j) (B : gB g x2 nm) (hl : nm.length ≤ 40) (D2 : gBo g n2 z.2.2.2.1) (D3 : gBo g n3 z.2.2.2.2) (zok : dOk z) (hg0 : 0 ≤ s.gener) (hg1 : s.gener ≤ 1000000)
    (K0 : ∀ s1 q, s_declared s j nm bits z = (s1, .inl q) → ∀ g1 h1, tZ s0 F (b + 900 + tY s1) s1 w g1 h1 → gL g g1 → q ∈ s1.qs → Q (zr (g1.ref 33 q)) h1)
    (K1 : ∀ f, s_declared s j nm bits z = (s, .inr f) → ∀ w1 g1 h1, tZ s0 F (b + tY (s_tld j w.cl w.me (s, some f))) (s_tld j w.cl w.me (s, some f)) w1 g1 h1 → tWm w w1 → gL g g1 → Q (zr 0) h1) :
    zX s0 m_X8_declared (d + 80) [zr x0, zr x1, zr x2, .int bits, zr n] h Q E := by
  have em := Z.r.main hm
  have eb := Z.r.fz B
  rw [s_declared_eq] at K0 K1
  refine c_X8_declared (e_I em fun (z1 : gI h x0 11 = s.gener) => ⟨⟨_, eb⟩, ?_⟩)
  rw [gA_of eb, vB_len, len_0 (by omega), z1]
  refine ⟨fun hne => ?_, fun he => ?_⟩
  · simp only [if_neg hne] at K0 K1
    exact t_decl_49 (d := d) hFn hFa hna hn0 ha0 hns has (Z.le (by omega)) hrt hm hx hj B hl hne D2 D3 zok K0 K1
  · simp only [if_pos he] at K0 K1
    have hc : s.gener + 1 = Int32.ofNat (s.gener.toNatClampNeg + 1) := by rw [← i_succ, i_of hg0]
    have hc0 : s.gener.toNatClampNeg + 1 < 2000000 := by
      have : s.gener ≤ Int32.ofNat 1000000 := hg1
      have := i_clamp (by decide) this
      omega
    rw [hc] at K0 K1 ⊢
    exact t_decl_18 (d := d) J hFn hFa hna hn0 ha0 hns has hrt hj zok hc0 hm hx D2 D3 K0 K1 13 0 g h rfl (fun k hk => absurd hk (Nat.not_lt_zero _)) rfl (Z.le (by omega)) (gL.refl g)
end MQ
