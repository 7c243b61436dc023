/-! ===== the twin: commits ===== -/
set_option maxRecDepth 100000
section NA
variable {s0 : zE} {F : Nat → Option zC} {b : Nat} {s s' s1 s2 sS : sSt} {w w' w1 w2 : tW} {g g' g0 : sG} {h h' : zH} {d x0 x1 x2 x3 x5 x7 i j q m p n a e x y c ra t : Nat} {Q : Value → zH → Prop} {E : Nat → zH → Prop} {dr nm key frm bb : sBy} {sz cl me code k bits tag what N : Int32} {rd : sRd} {u : Int32 × List Nat × (Nat → Nat)} {all v : Bool} {l rs : List Nat} {ct : sCont} {kk : sKe} {L0 : List sKe}
theorem fz_el2 (R : tR s0 F b s w g h) (hF : gF g n (1021, rs.map zr)) {P : Prop} (hi : rs[i]? = some ra) (hl : rs.length < 2147483648) (K : eR h n (Int32.ofNat i) = ra → P) : fE h n 21 (Int32.ofNat i) (zr (eR h n (Int32.ofNat i))) ∧ P := by
  have hlt := (List.getElem?_eq_some_iff.mp hi).1
  exact g_ER (t := 21) (R.fz hF) (zin_of (by rw [List.length_map]; exact hlt) (by omega)) (by rw [i_nat (by omega), List.getElem?_map, hi]; rfl) K
theorem t_com_124 (hl : l.length ≤ 980000) (hA : gF g0 n (1021, rs.map zr)) (hr : rs.length ≤ 980000) (hi : rs[i]? = some ra) (hK : gF g0 ra (41, [zr 0, .int what, zr t])) (hF : gF g0 t (1020, l.map (fun x => zr (g0.ref 37 x)))) (hm : g0.kind x0 = (1, 0)) (hg : ∀ x ∈ l, g0.kind (g0.ref 37 x) = (37, x)) :
    ∀ (r pre : List Nat) (s : sSt) (g : sG) (h : zH), l = pre ++ r → tZ s0 F b s w g h → (∀ x ∈ r, s.knd x = 37 ∧ sFree s (s.se x).entry) → gL g0 g →
      (∀ g1 h1, tZ s0 F b (s_setl what r s) w g1 h1 → gL g0 g1 → zP s0 m_X8_commits (d + 81) 44 [some (zr x0), some (zr x1), some (.int N), some (zr n), some (.int (Int32.ofNat i + 1)), none] [] h1 Q E) →
      zP s0 m_X8_commits (d + 81) 124 [some (zr x0), some (zr x1), some (.int N), some (zr n), some (.int (Int32.ofNat i)), some (.int (Int32.ofNat pre.length))] [] h Q E
  | [], pre, s, g, h, hp, Z, hf, L, K => by
    have hp : l = pre := by rw [hp, List.append_nil]
    subst hp
    have eF := Z.r.fz (L.fz hF)
    refine b_X8_commits_124 (fz_el2 Z.r (L.fz hA) hi (by omega) fun z1 => ?_)
    rw [z1]
    refine e_R (Z.r.fz (L.fz hK)) fun (z2 : gR h ra 2 = t) => ?_
    rw [z2]
    refine ⟨⟨_, eF⟩, ?_⟩
    rw [gA_of eF, List.length_map, i_le (by omega) (by omega)]
    exact ⟨fun _ => K g h Z L, fun hh => absurd (Nat.le_refl _) hh⟩
  | y :: r, pre, s, g, h, hp, Z, hf, L, K => by
    have eF := Z.r.fz (L.fz hF)
    have eK := Z.r.fz (L.fz hK)
    have hpl : l.length = pre.length + (r.length + 1) := by rw [hp, List.length_append]; rfl
    have hy : l[pre.length]? = some y := by rw [hp, List.getElem?_append_right (Nat.le_refl _), Nat.sub_self]; rfl
    have hyk : g.kind (g0.ref 37 y) = (37, y) := L.th (by decide) (by decide) (hg y (List.mem_of_getElem? hy))
    obtain ⟨ky, fy⟩ := hf y List.mem_cons_self
    have hse := settle1_se (what := what) Z.i (Z.sc.se y ky).1 fy
    have hkn := (d_settle1 (what := what) Z.i (Z.sc.se y ky).1 fy).2.2.2.2.2.2.2.2.2.2.1
    refine b_X8_commits_124 (fz_el2 Z.r (L.fz hA) hi (by omega) fun z1 => ?_)
    rw [z1]
    refine e_R eK fun (z2 : gR h ra 2 = t) => ?_
    rw [z2]
    refine ⟨⟨_, eF⟩, ?_⟩
    rw [gA_of eF, List.length_map, i_le (by omega) (by omega)]
    refine ⟨fun hh => absurd hh (by omega), fun _ => ?_⟩
    rw [← z1]
    refine fz_el2 Z.r (L.fz hA) hi (by omega) fun _ => ?_
    rw [z1]
    refine e_R eK fun _ => ?_
    refine fz_el Z.r (L.fz hF) hy (by omega) fun z3 => ?_
    rw [z3, ← z1]
    refine fz_el2 Z.r (L.fz hA) hi (by omega) fun _ => ?_
    rw [z1]
    refine e_I eK fun (z4 : gI h ra 1 = what) => ?_
    rw [z4, i_succ]
    have e1 : pre.length + 1 = (pre ++ [y]).length := by rw [List.length_append]; rfl
    rw [e1]
    refine ⟨⟨_, Z.r.main (L.m hm)⟩, t_settle (d := d + 73) Z (L.m hm) hyk fy fun g1 h1 Z1 L1 => ?_⟩
    rw [setl_cons] at K
    exact t_com_124 hl hA hr hi hK hF hm hg r (pre ++ [y]) _ g1 h1 (by rw [hp, List.append_assoc]; rfl) Z1 (fun x hx => by
      rw [hse, hkn]
      exact ⟨(hf x (List.mem_cons_of_mem _ hx)).1, free_settle1 (hf x (List.mem_cons_of_mem _ hx)).2⟩) (L.trans L1) K
theorem t_com_87 (hj : isH j) (hl : l.length ≤ 980000) (hA : gF g0 n (1021, rs.map zr)) (hr : rs.length ≤ 980000) (hi : rs[i]? = some ra) (hK : gF g0 ra (41, [zr 0, .int what, zr t])) (hF : gF g0 t (1020, l.map (fun x => zr (g0.ref 37 x)))) (hm : g0.kind x0 = (1, 0)) (hx : g0.kind x1 = (3, j)) (hg : ∀ x ∈ l, g0.kind (g0.ref 37 x) = (37, x)) :
    ∀ (r pre : List Nat) (s : sSt) (g : sG) (h : zH), l = pre ++ r → tZ s0 F b s w g h → ((s.ch j).state = 1 → ∀ x ∈ r, ∀ y ∈ (s.ch j).kept, x ∉ y.those) → gL g0 g →
      (∀ g1 h1, tZ s0 F b (s_rms j r s) w g1 h1 → gL g0 g1 → zP s0 m_X8_commits (d + 81) 124 [some (zr x0), some (zr x1), some (.int N), some (zr n), some (.int (Int32.ofNat i)), some (.int 0)] [] h1 Q E) →
      zP s0 m_X8_commits (d + 81) 87 [some (zr x0), some (zr x1), some (.int N), some (zr n), some (.int (Int32.ofNat i)), some (.int (Int32.ofNat pre.length))] [] h Q E
  | [], pre, s, g, h, hp, Z, hf, L, K => by
    have hp : l = pre := by rw [hp, List.append_nil]
    subst hp
    have eF := Z.r.fz (L.fz hF)
    refine b_X8_commits_87 (fz_el2 Z.r (L.fz hA) hi (by omega) fun z1 => ?_)
    rw [z1]
    refine e_R (Z.r.fz (L.fz hK)) fun (z2 : gR h ra 2 = t) => ?_
    rw [z2]
    refine ⟨⟨_, eF⟩, ?_⟩
    rw [gA_of eF, List.length_map, i_le (by omega) (by omega)]
    exact ⟨fun _ => K g h Z L, fun hh => absurd (Nat.le_refl _) hh⟩
  | y :: r, pre, s, g, h, hp, Z, hf, L, K => by
    have eF := Z.r.fz (L.fz hF)
    have eK := Z.r.fz (L.fz hK)
    have hpl : l.length = pre.length + (r.length + 1) := by rw [hp, List.length_append]; rfl
    have hy : l[pre.length]? = some y := by rw [hp, List.getElem?_append_right (Nat.le_refl _), Nat.sub_self]; rfl
    have hyk : g.kind (g0.ref 37 y) = (37, y) := L.th (by decide) (by decide) (hg y (List.mem_of_getElem? hy))
    obtain ⟨-, e2, e3, -⟩ := rm_rd (s := s) (j := j) (x := y)
    refine b_X8_commits_87 (fz_el2 Z.r (L.fz hA) hi (by omega) fun z1 => ?_)
    rw [z1]
    refine e_R eK fun (z2 : gR h ra 2 = t) => ?_
    rw [z2]
    refine ⟨⟨_, eF⟩, ?_⟩
    rw [gA_of eF, List.length_map, i_le (by omega) (by omega)]
    refine ⟨fun hh => absurd hh (by omega), fun _ => ?_⟩
    rw [← z1]
    refine fz_el2 Z.r (L.fz hA) hi (by omega) fun _ => ?_
    rw [z1]
    refine e_R eK fun _ => ?_
    refine fz_el Z.r (L.fz hF) hy (by omega) fun z3 => ?_
    rw [z3, i_succ]
    have e1 : pre.length + 1 = (pre ++ [y]).length := by rw [List.length_append]; rfl
    rw [e1]
    refine ⟨⟨_, Z.r.main (L.m hm)⟩, t_removeZ (d := d + 79) Z (L.m hm) hj (L.k hx gSt3) hyk (fun h1 => hf h1 y List.mem_cons_self) fun g1 h1 Z1 L1 => ?_⟩
    rw [rms_cons] at K
    exact t_com_87 hj hl hA hr hi hK hF hm hx hg r (pre ++ [y]) _ g1 h1 (by rw [hp, List.append_assoc]; rfl) Z1 (fun h1 z hz => by
      rw [e2]
      rw [e3] at h1
      exact hf h1 z (List.mem_cons_of_mem _ hz)) (L.trans L1) K
theorem settleAll_ch : ((s_settleAll s j l what).ch j).sent = (s.ch j).sent.filter (fun x => !(l.contains x)) ∧ ((s_settleAll s j l what).ch j).kept = (s.ch j).kept ∧ ((s_settleAll s j l what).ch j).state = (s.ch j).state := by
  have hf : ∀ (r : List Nat) (t : sSt) (f : Nat → Nat), (r.foldl (fun t x => s_settle1 what t (f x)) t).ch = t.ch := fun r => by
    induction r with
    | nil => exact fun t f => rfl
    | cons x r ih =>
      intro t f
      rw [List.foldl_cons, ih, settle1_ch]
  have e : (s_settleAll s j l what).ch = (s_ch s j (fun k => k.w_sent (k.sent.filter (fun x => !(l.contains x))))).ch := hf l _ (fun x => ((s_ch s j (fun k => k.w_sent (k.sent.filter (fun x => !(l.contains x))))).se x).entry)
  rw [e, s_ch_ch]
  exact ⟨rfl, rfl, rfl⟩
theorem t_com_44 (J : tJs s0 F) (hj : isH j) (hA : gF g0 n (1021, rs.map zr)) (hr : rs.length = L0.length) (h32 : L0.length ≤ 32) (hrs : ∀ (i : Nat) k, L0[i]? = some k → ∃ r, rs[i]? = some r ∧ gKe g0 r k) (hok : ∀ k ∈ L0, ∀ c, k.cont = some c → sContOk c) (hm : g0.kind x0 = (1, 0)) (hx : g0.kind x1 = (3, j)) (hg : ∀ k ∈ L0, k.cont = none → ∀ x ∈ k.those, g0.kind (g0.ref 37 x) = (37, x)) (hll : ∀ k ∈ L0, k.those.length ≤ 960000) :
    ∀ (r pre : List sKe) (s : sSt) (w : tW) (g : sG) (h : zH), L0 = pre ++ r → tZ s0 F (b + 900 + 950 * r.length + tY s) s w g h → gL g0 g → (∀ h, w.cd h = 0) → w.cl = cl → w.me = me →
      ((s.ch j).state = 1 → (s.ch j).kept = [] ∧ ∀ k ∈ r, ∀ x ∈ k.those, x ∈ (s.ch j).sent) → r.Pairwise (fun k1 k2 => ∀ x ∈ k2.those, x ∉ k1.those) →
      (∀ w1 g1 h1, tZ s0 F (b + tY (s_comS j cl me r s)) (s_comS j cl me r s) w1 g1 h1 → tWm w w1 → gL g0 g1 → Q .null h1) →
      zP s0 m_X8_commits (d + 81) 44 [some (zr x0), some (zr x1), some (.int (Int32.ofNat L0.length)), some (zr n), some (.int (Int32.ofNat pre.length)), none] [] h Q E
  | [], pre, s, w, g, h, hp, Z, L, hcd, hcl, hme, hin, hpw, K => by
    have hp : L0 = pre := by rw [hp, List.append_nil]
    subst hp
    have hx1 := L.k hx gSt3
    have hm1 := L.m hm
    have Z0 : tZ s0 F (b + tY s) s w g h := Z.le (by omega)
    rw [comS_nil] at K
    refine b_X8_commits_44 ⟨fun _ => t_speaks (d := d + 80) Z.r hx1 hj ⟨_, rfl, ?_⟩, fun hh => absurd (Int32.le_refl _) hh⟩
    rw [sB_0]
    refine ⟨fun hs => ?_, fun hs => ?_⟩
    · rw [if_neg (by rw [hs]; decide)] at K
      exact K w g h Z0 tWm.refl L
    · rw [Bool.not_eq_false] at hs
      rw [if_pos hs] at K
      exact t_ansJ (d := d + 9) Z0 hm1 hx1 hj fun w4 g4 h4 Z4 W4 L4 => K w4 g4 h4 Z4 W4 (L.trans L4)
  | kk :: r, pre, s, w, g, h, hp, Z, L, hcd, hcl, hme, hin, hpw, K => by
    have hx1 := L.k hx gSt3
    have hm1 := L.m hm
    have em := Z.r.main hm1
    have hpl : L0.length = pre.length + (r.length + 1) := by rw [hp, List.length_append]; rfl
    have hki : L0[pre.length]? = some kk := by rw [hp, List.getElem?_append_right (Nat.le_refl _), Nat.sub_self]; rfl
    have hkm := List.mem_of_getElem? hki
    obtain ⟨ra, hra, hKe⟩ := hrs pre.length kk hki
    obtain ⟨c, t, hK, hKb⟩ := hKe
    have eK := Z.r.fz (L.fz hK)
    have e1 : pre.length + 1 = (pre ++ [kk]).length := by rw [List.length_append]; rfl
    have hp2 : L0 = (pre ++ [kk]) ++ r := by rw [hp, List.append_assoc]; rfl
    have hpw2 := (List.pairwise_cons.mp hpw)
    rw [List.length_cons] at Z
    refine b_X8_commits_44 ?_
    rw [i_le (by omega) (by omega)]
    refine ⟨fun hh => absurd hh (by omega), fun _ => t_speaks (d := d + 80) Z.r hx1 hj ⟨_, rfl, ?_⟩⟩
    rw [sB_0]
    refine ⟨fun hs => ?_, fun hs => ?_⟩
    · rw [Bool.not_eq_false] at hs
      have hst : (s.ch j).state = 1 := by
        unfold s_speaks at hs
        rw [Bool.and_eq_true] at hs
        exact eq_of_beq hs.2
      obtain ⟨hk0, hsub⟩ := hin hst
      refine fz_el2 Z.r (L.fz hA) hra (by omega) fun z1 => ?_
      rw [z1]
      refine e_R eK fun (z2 : gR h ra 0 = c) => ?_
      rw [z2]
      cases hc : kk.cont with
      | none =>
        rw [hc] at hKb
        obtain ⟨hc0, hF⟩ := hKb
        subst hc0
        rw [comS_set hs hc] at K
        refine ⟨fun _ => ?_, fun hh => absurd rfl hh⟩
        have hl : ∀ x ∈ kk.those, x ∈ (s.ch j).sent := hsub kk List.mem_cons_self
        have hkp : (s.ch j).state = 1 → ∀ x ∈ kk.those, ∀ y ∈ (s.ch j).kept, x ∉ y.those := fun _ x hx y hy => by rw [hk0] at hy; cases hy
        have D := d_settleAll (what := kk.what) Z.i hj hl hkp
        have hy := tY_any D Z.i
        obtain ⟨q1, q2, q3⟩ := settleAll_ch (s := s) (j := j) (l := kk.those) (what := kk.what)
        have hin2 : ((s_settleAll s j kk.those kk.what).ch j).state = 1 → ((s_settleAll s j kk.those kk.what).ch j).kept = [] ∧ ∀ k ∈ r, ∀ x ∈ k.those, x ∈ ((s_settleAll s j kk.those kk.what).ch j).sent := fun _ => by
          rw [q1, q2]
          refine ⟨hk0, fun k hk x hx => List.mem_filter.mpr ⟨hsub k (List.mem_cons_of_mem _ hk) x hx, ?_⟩⟩
          have := hpw2.1 k hk x hx
          rw [Bool.not_eq_true', ← Bool.not_eq_true, List.contains_iff_mem]
          exact this
        rw [settleAll_eq Z.i hj hl hkp] at K hy D hin2
        have Zb : tZ s0 F (b + 900 + 950 * r.length + (tY s + 900)) s w g h := Z.le (by omega)
        refine t_com_87 (d := d) (g0 := g0) hj (by have := hll kk hkm; omega) hA (by omega) hra hK hF hm hx (hg kk hkm hc) kk.those [] s g h rfl Zb hkp L fun g2 h2 Z2 L2 => ?_
        refine t_com_124 (d := d) (g0 := g0) (by have := hll kk hkm; omega) hA (by omega) hra hK hF hm (hg kk hkm hc) kk.those [] _ g2 h2 rfl Z2 (rms_free Z.i hj hl) L2 fun g3 h3 Z3 L3 => ?_
        rw [i_succ, e1]
        exact t_com_44 J hj hA hr h32 hrs hok hm hx hg hll r (pre ++ [kk]) _ w g3 h3 hp2 (Z3.le (by omega)) L3 hcd hcl hme hin2 hpw2.2 K
      | some ct =>
        rw [hc] at hKb
        have hC : gCont g c ct := L.Cont hKb
        have hcne : c ≠ 0 := by
          obtain ⟨e, k, hd, bd, got, f1, -⟩ := hC
          exact Z.r.1.pos f1.1 (by decide)
        have ok := hok kk hkm ct hc
        refine ⟨fun hh => absurd hh hcne, fun _ => ?_⟩
        rw [← z1]
        refine fz_el2 Z.r (L.fz hA) hra (by omega) fun _ => ?_
        rw [z1]
        refine e_R eK fun _ => ?_
        refine ⟨⟨_, em⟩, t_publish (d := d) (b := b + 950 * r.length) J (Z.le (by omega)) hm1 hx1 hj hC ok hcd (fun hf w2 g2 h2 Z2 W2 L2 => ⟨_, rfl, ?_⟩) (fun hf w2 g2 h2 Z2 W2 L2 => ⟨_, rfl, ?_⟩)⟩
        · rw [comS_full hs hc hf] at K
          rw [i_succ, e1]
          have hq := hard_quiet (code := 506) (c1 := w.cl) (m1 := w.me) Z.i hj
          rw [← hcl, ← hme] at K
          have hx2 := L2.k hx1 gSt3
          generalize s_hard s (j / 4) 506 w.cl w.me = s9 at K hq Z2
          have K9 := K w2 g2 h2 (Z2.le (by omega)) W2.tom (L.trans L2)
          refine b_X8_commits_44 ⟨fun _ => t_speaks (d := d + 80) Z2.r hx2 hj ⟨_, rfl, ?_⟩, fun _ => t_speaks (d := d + 80) Z2.r hx2 hj ⟨_, rfl, ?_⟩⟩
          · rw [sB_0]
            exact ⟨fun _ => K9, fun hh => absurd hq hh⟩
          · rw [sB_0]
            exact ⟨fun hh => absurd hq hh, fun _ => K9⟩
        · rw [comS_pub hs hc hf] at K
          have hstay := pub_stay Z.i hj ok hf
          have hin2 : ((s_publish s j ct).1.ch j).state = 1 → ((s_publish s j ct).1.ch j).kept = [] ∧ ∀ k ∈ r, ∀ x ∈ k.those, x ∈ ((s_publish s j ct).1.ch j).sent := fun h1 => by
            obtain ⟨-, p2, p3⟩ := hstay h1
            rw [p2, p3]
            exact ⟨hk0, fun k hk => hsub k (List.mem_cons_of_mem _ hk)⟩
          rw [i_succ, e1]
          exact t_com_44 J hj hA hr h32 hrs hok hm hx hg hll r (pre ++ [kk]) _ w2 g2 h2 hp2 (Z2.le (by omega)) (L.trans L2) (W2.2.2.2.2 hcd) (W2.2.1.trans hcl) (W2.2.2.1.trans hme) hin2 hpw2.2 fun w3 g3 h3 Z3 W3 L3 => K w3 g3 h3 Z3 (W2.tom.trans W3) L3
    · rw [comS_stop hs] at K
      exact K w g h (Z.le (by omega)) tWm.refl L
end NA
