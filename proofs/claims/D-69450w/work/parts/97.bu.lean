/-! ===== the twin: a dead message is buried ===== -/
set_option maxRecDepth 100000
section BU
variable {s0 : zE} {F : Nat → Option zC} {b : Nat} {s s' s1 : sSt} {w w' w1 w2 : tW} {g g' g0 : sG} {h h' : zH} {d x0 x1 x2 x3 x5 i j q m n e : Nat} {Q : Value → zH → Prop} {E : Nat → zH → Prop} {c : sCont} {ex ky : sBy} {xp : Int64} {dt : Int32}
theorem gArF.refs {α : Type} {P : sG → Nat → α → Prop} {c i n : Nat} {xs : List α} (A : gArF g c i n P xs) : ∃ rs : List Nat, rs.length = xs.length ∧ rs.map zr <+: g.ar c i ∧ ∀ (j : Nat) x, xs[j]? = some x → ∃ r, rs[j]? = some r ∧ P g r x := by
  obtain ⟨a1, a2, a3, a4⟩ := A
  refine ⟨((g.ar c i).take xs.length).map zN, by rw [List.length_map, List.length_take]; omega, ?_, fun j x hj => ?_⟩
  · have : (((g.ar c i).take xs.length).map zN).map zr = (g.ar c i).take xs.length := by
      rw [List.map_map]
      refine (List.map_congr_left fun v hv => ?_).trans (List.map_id _)
      obtain ⟨j, hj⟩ := List.getElem?_of_mem hv
      have hlt := (List.getElem?_eq_some_iff.mp hj).1
      rw [List.length_take] at hlt
      rw [List.getElem?_take_of_lt (by omega)] at hj
      obtain ⟨r, h1, -⟩ := a4 j xs[j] (List.getElem?_eq_getElem (by omega))
      rw [h1] at hj
      rw [← Option.some.inj hj]
      show zr (zN (zr r)) = zr r
      rw [zN_zr]
    rw [this]
    exact List.take_prefix _ _
  · obtain ⟨r, h1, h2⟩ := a4 j x hj
    have hlt := (List.getElem?_eq_some_iff.mp hj).1
    refine ⟨r, ?_, h2⟩
    rw [List.getElem?_map, List.getElem?_take_of_lt hlt, h1]
    show some (zN (zr r)) = some r
    rw [zN_zr]
theorem sI.w_dead (I : sI s) {v : List sDe} (hv : ∀ x ∈ v, x ∈ s.dead) (hl : v.length ≤ 300) : sI (s.w_dead v) := by
  refine ⟨?_, ?_, I.ms, I.sn, ?_, I.hi⟩
  · obtain ⟨a1, a2, a3, a4, a5, a6, a7, a8, a9, a10⟩ := I.sc
    exact ⟨a1, a2, a3, a4, a5, a6, a7, a8, fun x hx => a9 x (hv x hx), a10⟩
  · obtain ⟨a1, a2, a3, a4, a5, a6, a7⟩ := I.tx
    exact ⟨a1, a2, a3, a4, a5, fun x hx => a6 x (hv x hx), a7⟩
  · obtain ⟨a1, a2, a3, a4, a5, a6, a7, a8, a9⟩ := I.cp
    exact ⟨a1, a2, a3, a4, a5, a6, a7, hl, a9⟩
theorem comes_st {x : Nat} (I : sScope s) (hq : s.knd q = 33) (hx : s.knd x = 36) : (s_comes s q c ex ky xp dt).knd x = 36 ∧ ((s_comes s q c ex ky xp dt).en x).cont = (s.en x).cont ∧ ((s_comes s q c ex ky xp dt).en x).deaths = (s.en x).deaths ∧ ((s_comes s q c ex ky xp dt).en x).key = (s.en x).key := by
  have hne := I.old hx (by decide)
  have h3 : (s_come3 s q c ex ky xp dt).knd = sUp s.knd s.next 36 ∧ (s_come3 s q c ex ky xp dt).en x = s.en x := by
    unfold s_come3
    rw [in_knd, in_en, b36_knd, b36_en, wr_knd_lastNum, wr_en_lastNum, wr_next_lastNum]
    exact ⟨rfl, sUp_ne hne⟩
  have h4 : (s_come4 s q c ex ky xp dt).knd = sUp s.knd s.next 36 ∧ (s_come4 s q c ex ky xp dt).en x = s.en x := by
    unfold s_come4
    split
    · rw [wt_knd, wt_en]
      exact h3
    · exact h3
  have D : sDi (s_come4 s q c ex ky xp dt) (s_trim (s_come4 s q c ex ky xp dt) q) := s_shorten_di _ _
  rw [s_comes_eq, D.1, D.2.2.2.2.2.2.2.2.2.2.2.2 x, h4.1, h4.2]
  exact ⟨(sUp_ne hne).trans hx, rfl, rfl, rfl⟩
theorem t_bur_148 {l : List Nat} {x1 : Nat} (hl : w.rt = l) (hl12 : l.length ≤ 12) (hk : ∀ q ∈ l, s.knd q = 33) (hm : g.kind x0 = (1, 0))
    (K : ∀ h1, tR s0 F b s w g h1 → zUn s0 F g h1 n 1013 (cpy (g.ar 24 0) (List.replicate l.length (zr 0)) l.length) → zP s0 m_X8_bury (d + 1) 176 [some (zr x0), some (zr x1), none, some (zr x3), some (.int (Int32.ofNat l.length)), some (zr n), some (.int 0)] [] h1 Q E) :
    ∀ (k i : Nat) (h : zH), i + k = l.length → tR s0 F b s w g h → zUn s0 F g h n 1013 (cpy (g.ar 24 0) (List.replicate l.length (zr 0)) i) → zP s0 m_X8_bury (d + 1) 148 [some (zr x0), some (zr x1), none, some (zr x3), some (.int (Int32.ofNat l.length)), some (zr n), some (.int (Int32.ofNat i))] [] h Q E
  | k, i, h, hik, R, U => by
    have em := R.main hm
    have A : gAr g 24 0 12 (l.map (fun q => zr (g.ref 33 q))) := by
      rw [← hl]
      exact R.2.ar24
    refine b_X8_bury_148 ?_
    rw [i_le (by omega) (by omega)]
    refine ⟨fun hle => ?_, fun hle => e_R em fun (z1 : gR h x0 44 = g.ref 24 0) => ?_⟩
    · have ei : i = l.length := by omega
      subst ei
      exact K h R U
    · obtain ⟨k', rfl⟩ : ∃ k', k = k' + 1 := ⟨k - 1, by omega⟩
      have hx : l[i]? = some l[i] := List.getElem?_eq_getElem (by omega)
      rw [z1]
      refine g_El R A rfl (by decide) hx (by decide) fun z2 => ?_
      rw [z2]
      refine g_S (t := 13) U.2.2.1 U.2.2.2.2.2 (zin_of (by rw [cpy_len, List.length_replicate]; omega) (by omega)) ⟨Or.inr (zAsg_own (R.1.cell (R.al (by decide) (by decide) (hk _ (List.mem_of_getElem? hx))) (by decide)) zcl_37 rfl), ?_⟩
      rintro h1 rfl
      rw [i_nat (by omega), i_succ]
      refine t_bur_148 hl hl12 hk hm K k' (i + 1) _ (by omega) (R.putF U.1 U.2.1) ⟨U.1, U.2.1, ?_, U.2.2.2⟩
      rw [zput_self U.2.2.1, cpy, List.getD_eq_getElem?_getD, el_get A.2.2 hx]
      rfl
/-- all queues of a list are gone to -/
theorem t_bur_176 {to : List Nat} {S : sSt} {x1 en e1 k1 : Nat} (hto : to.length ≤ 12) (hm : g0.kind x0 = (1, 0)) (hf1 : gF g0 x1 (32, [zr en, zr e1, zr k1])) (hen : g0.kind en = (36, m)) (he : gB g0 e1 ex) (hky : gB g0 x3 ky) (ok : sContOk c) (oe : ex.length ≤ 40) (oky : ky.length ≤ 40) (hQ : gQs g0 n to)
    (K : ∀ g1 h1, tZ s0 F (b + tY S) S w g1 h1 → gL g0 g1 → Q .null h1) :
    ∀ (r pre : List Nat) (s : sSt) (g : sG) (h : zH), to = pre ++ r → (∀ q ∈ r, q ∈ s.qs) → tZ s0 F (b + tY s) s w g h → gL g0 g → (s.en m).cont = c → (s.en m).deaths + 1 = dt → s_comesAll c ex ky (-1) dt r s = S →
      zP s0 m_X8_bury (d + 20) 176 [some (zr x0), some (zr x1), none, some (zr x3), some (.int (Int32.ofNat to.length)), some (zr n), some (.int (Int32.ofNat pre.length))] [] h Q E
  | [], pre, s, g, h, hp, hq, Z, L, hc, hdt, hS => by
    have hlen : to.length = pre.length := by rw [hp, List.append_nil]
    have hS : s = S := hS
    subst hS
    refine b_X8_bury_176 ⟨fun _ => K g h Z L, fun hh => absurd ?_ hh⟩
    rw [hlen]
    exact Int32.le_refl _
  | q :: r, pre, s, g, h, hp, hq, Z, L, hc, hdt, hS => by
    have hlen : to.length = pre.length + (r.length + 1) := by rw [hp, List.length_append, List.length_cons]
    have hm1 := L.m hm
    have hqs := hq q List.mem_cons_self
    have hkq := Z.sc.qs q hqs
    obtain ⟨rs, f1, f2, f3⟩ := hQ.l L
    have hx : to[pre.length]? = some q := by rw [hp, List.getElem?_append_right (Nat.le_refl _), Nat.sub_self]; rfl
    obtain ⟨rf, p1, p2⟩ := f3 _ q hx
    have hsucc : Int32.ofNat pre.length + 1 = Int32.ofNat (pre ++ [q]).length := by rw [i_succ, List.length_append, List.length_singleton]
    have ef := Z.r.fz f1
    have hg : (rs.map zr)[pre.length]? = some (zr rf) := by rw [List.getElem?_map, p1]; rfl
    have hgl : (rs.map zr).length = to.length := by rw [List.length_map]; exact f2
    refine b_X8_bury_176 ⟨fun hh => ?_, fun _ => ⟨⟨_, Z.r.main hm1⟩, t_full Z.r hm1 ⟨_, rfl, ?_⟩⟩⟩
    · rw [i_le (by omega) (by omega)] at hh
      omega
    rw [sB_0, hsucc]
    rw [s_comesAll] at hS
    refine ⟨fun hf => ?_, fun hf => ?_⟩
    · rw [Bool.not_eq_false] at hf
      rw [if_pos hf] at hS
      exact t_bur_176 hto hm hf1 hen he hky ok oe oky hQ K r (pre ++ [q]) s g h (by rw [hp, List.append_assoc]; rfl) (fun x hx => hq x (List.mem_cons_of_mem _ hx)) Z L hc hdt hS
    · rw [if_neg (by rw [hf]; decide)] at hS
      have ed := Z.r.fz (L.fz hf1)
      have hen1 := L.th (by decide) (by decide) hen
      have hkm := Z.r.ak (by decide) (by decide) hen1
      have ee := Z.r.1.cell hen1 (by decide)
      have hct := (Z.r.ent hkm).1
      rw [hc] at hct
      refine g_ER (t := 13) ef (zin_of (by rw [hgl]; omega) (by omega)) (by rw [i_nat (by omega)]; exact hg) fun z1 => e_R ed fun (z2 : gR h x1 0 = en) => ?_
      rw [z1, z2]
      refine e_R ee fun (z3 : gR h en 0 = g.rf 36 m 0) => e_R ed fun (z4 : gR h x1 1 = e1) => e_R ed fun _ => e_I ee fun (z5 : gI h en 7 = (s.en m).deaths) => ?_
      rw [z3, z4, z5, hdt]
      refine ⟨⟨_, Z.r.main hm1⟩, t_comesZ (d := d + 13) Z hm1 p2 hqs hct (L.B he) (L.B hky) ok oe oky (Or.inl rfl) hf fun g2 h2' Z2 L2 => ?_⟩
      obtain ⟨-, c2, c3, -⟩ := comes_st (c := c) (ex := ex) (ky := ky) (xp := -1) (dt := dt) Z.sc hkq hkm
      refine t_bur_176 hto hm hf1 hen he hky ok oe oky hQ K r (pre ++ [q]) _ g2 h2' (by rw [hp, List.append_assoc]; rfl) (fun x hx => ?_) Z2 (L.trans L2) (c2.trans hc) (by rw [c3]; exact hdt) hS
      rw [comes_qs]
      exact hq x (List.mem_cons_of_mem _ hx)
theorem sBury_eq {d0 : sDe} {r : List sDe} : s_bury s d0 r = (let s1 := s.w_dead r
  let key := match d0.key with
    | none => (s.en d0.entry).key
    | some k => k
  if (d0.exch ≠ [] ∧ s_exch s d0.exch = none) ∨ s_full s1 then s1 else
  s_comesAll (s.en d0.entry).cont d0.exch key (-1) ((s.en d0.entry).deaths + 1) (s_route s1 d0.exch key (s.en d0.entry).cont.heads) s1) := rfl
/-- from where the key is known -/
theorem t_bur_119 {eo : Option Nat} {x1 en e1 k1 t0 : Nat} {S : sSt} (J : tJs s0 F) (Z : tZ s0 F (b + 4 + tY s) s w g h) (hm : g.kind x0 = (1, 0)) (hf1 : gF g x1 (32, [zr en, zr e1, zr k1])) (hen : g.kind en = (36, m)) (he : gB g e1 ex) (hky : gB g t0 ky) (oe : ex.length ≤ 40) (oky : ky.length ≤ 40)
    (heo : ∀ e, eo = some e → e ∈ s.es) (hr : s_route s ex ky (s.en m).cont.heads = (s_rtO s ky (s.en m).cont.heads eo))
    (hS : s_comesAll (s.en m).cont ex ky (-1) ((s.en m).deaths + 1) (s_route s ex ky (s.en m).cont.heads) s = S)
    (K : ∀ w1 g1 h1, tZ s0 F (b + tY S) S w1 g1 h1 → tWq w w1 → gL g g1 → Q .null h1) :
    zP s0 m_X8_bury (d + 20) 119 [some (zr x0), some (zr x1), some (zr (gO g 32 eo)), none, none, none, none] [zr t0] h Q E := by
  have em := Z.r.main hm
  have ed := Z.r.fz hf1
  have hkm := Z.r.ak (by decide) (by decide) hen
  have ee := Z.r.1.cell hen (by decide)
  obtain ⟨hct, -, -⟩ := Z.r.ent hkm
  obtain ⟨c1, k2, hd2, bd2, got2, ec, f1, f2, f3, f4⟩ := hct.cell Z.r
  obtain ⟨ok, -, -, -⟩ := Z.i.tx.2.2.2.2.1 m hkm
  refine b_X8_bury_119 (e_R ed fun (z1 : gR h x1 0 = en) => ?_)
  rw [z1]
  refine e_R ee fun (z2 : gR h en 0 = g.rf 36 m 0) => ?_
  rw [z2]
  refine e_R ec fun (z3 : gR h (g.rf 36 m 0) 6 = hd2) => ?_
  rw [z3]
  refine ⟨⟨_, em⟩, t_route (b := b + 2 + tY s + tP s) (d := d + 5) (eo := eo) J (Z.r.less (by omega)) Z.sc Z.i.tx Z.i.cp hm hky f3 oky ok.1.2.2.1 heo fun g6 h6 R6 L6 => ⟨_, rfl, ?_⟩⟩
  rw [← hr] at R6 ⊢
  have hqs : (∀ q ∈ s_route s ex ky (s.en m).cont.heads, q ∈ s.qs) ∧ (s_route s ex ky (s.en m).cont.heads).length ≤ 12 := by
    rw [hr]
    unfold s_rtO
    cases eo with
    | none => exact queue_qs
    | some e => exact ⟨(route_qs (e := none) (seen := []) 13 [] (some e)).1, Nat.le_trans (route_qs (e := none) (seen := []) 13 [] (some e)).2 Z.i.cp.2.2.2.2.1⟩
  have hzc := Z.c
  have hZi := Z.i
  have hzs := Z.sc
  revert R6 hqs
  generalize s_route s ex ky (s.en m).cont.heads = to at hS ⊢
  intro R6 hqs
  refine ⟨i_nn (by omega), ?_⟩
  rw [i_nat (by omega)]
  have R7 : tR s0 F (b + tY s + tP s + 2) s (w.w_rt to) g6 h6 := R6.less (by omega)
  refine g_N (u := 2) R7 (by decide) (by omega) R7.big fun n1 h8 R8 U8 => ?_
  have hk : ∀ q ∈ to, s.knd q = 33 := fun q hq => hzs.qs q (hqs.1 q hq)
  refine t_bur_148 (d := d + 19) (w := w.w_rt to) rfl hqs.2 hk (L6.m hm) (fun h9 R9 U9 => ?_) to.length 0 h8 (Nat.zero_add _) R8 U8
  obtain ⟨g10, R10, L10, Q10⟩ := R9.qsf R9.2.ar24 hk U9
  have L := L6.trans L10
  have Z10 : tZ s0 F (b + tY s) s (w.w_rt to) g10 h9 := ⟨R10, hZi, by omega⟩
  exact t_bur_176 (c := (s.en m).cont) hqs.2 (L.m hm) (L.fz hf1) (L.th (by decide) (by decide) hen) (L.B he) (L.B hky) ok oe oky Q10 (fun g11 h11 Z11 L11 => K _ g11 h11 Z11 tWq.rt (L.trans L11)) to [] s g10 h9 rfl hqs.1 Z10 (gL.refl _) rfl rfl hS
/-- once the dead one is taken out of the array -/
theorem t_bur_77 {d0 : sDe} {eo : Option Nat} {x1 en e1 k1 : Nat} {S : sSt} (J : tJs s0 F) (Z : tZ s0 F (b + 4 + tY s) s w g h) (hm : g.kind x0 = (1, 0)) (hf1 : gF g x1 (32, [zr en, zr e1, zr k1])) (hen : g.kind en = (36, d0.entry)) (he : gB g e1 d0.exch) (hky : gBo g k1 d0.key) (oe : d0.exch.length ≤ 40) (oky : sOk40 d0.key)
    (h1 : d0.exch ≠ [] → eo = s_exch s d0.exch) (h2 : d0.exch = [] → eo = none)
    (hS : (let key := match d0.key with
    | none => (s.en d0.entry).key
    | some k => k
  if (d0.exch ≠ [] ∧ s_exch s d0.exch = none) ∨ s_full s then s else
  s_comesAll (s.en d0.entry).cont d0.exch key (-1) ((s.en d0.entry).deaths + 1) (s_route s d0.exch key (s.en d0.entry).cont.heads) s) = S)
    (K : ∀ w1 g1 h1, tZ s0 F (b + tY S) S w1 g1 h1 → tWq w w1 → gL g g1 → Q .null h1) :
    zP s0 m_X8_bury (d + 20) 77 [some (zr x0), some (zr x1), none, none, none, none, none] [zr (gO g 32 eo)] h Q E := by
  have em := Z.r.main hm
  have ed := Z.r.fz hf1
  have eb := Z.r.fz he
  have hle : (Int32.ofNat d0.exch.length ≤ 0) ↔ d0.exch = [] := by
    rw [show (0 : Int32) = Int32.ofNat 0 from rfl, i_le (by omega) (by decide), Nat.le_zero]
    exact List.length_eq_zero_iff
  have heo : ∀ e, eo = some e → e ∈ s.es := fun e hee => by
    by_cases hx : d0.exch = []
    · rw [h2 hx] at hee
      cases hee
    · rw [h1 hx] at hee
      exact exch_mem hee
  have hkm := Z.r.ak (by decide) (by decide) hen
  have ee := Z.r.1.cell hen (by decide)
  obtain ⟨-, -, ok3, -⟩ := Z.i.tx.2.2.2.2.1 d0.entry hkm
  have h90 : ¬ (d0.exch ≠ [] ∧ s_exch s d0.exch = none) → zP s0 m_X8_bury (d + 20) 90 [some (zr x0), some (zr x1), some (zr (gO g 32 eo)), none, none, none, none] [] h Q E := fun hno => by
    have hrt : ∀ ky, s_route s d0.exch ky (s.en d0.entry).cont.heads = (s_rtO s ky (s.en d0.entry).cont.heads eo) := fun ky => by
      unfold s_route s_rtO
      by_cases hx : d0.exch = []
      · rw [if_pos hx, h2 hx]
      · rw [if_neg hx]
        have hs := h1 hx
        cases eo with
        | none => exact absurd ⟨hx, hs.symm⟩ hno
        | some e => rw [← hs]
    refine b_X8_bury_90 ⟨⟨_, em⟩, t_full (d := d + 19) Z.r hm ⟨_, rfl, ?_⟩⟩
    rw [sB_0]
    refine ⟨fun hf => e_R ed fun (z1 : gR h x1 2 = k1) => ?_, fun hf => ?_⟩
    · rw [z1]
      dsimp only at hS
      rw [if_neg (fun hh => hh.elim hno fun h => by rw [hf] at h; cases h)] at hS
      cases hk : d0.key with
      | none =>
        rw [hk] at hky hS
        have hky : k1 = 0 := hky
        refine ⟨fun hh => absurd hky hh, fun _ => e_R ed fun (z2 : gR h x1 0 = en) => ?_⟩
        rw [z2]
        refine e_R ee fun (z3 : gR h en 2 = g.rf 36 d0.entry 2) => ?_
        rw [z3]
        exact t_bur_119 (k1 := k1) J Z hm hf1 hen he (Z.r.ent hkm).2.2 oe ok3 heo (hrt _) hS K
      | some k =>
        rw [hk] at hky hS
        have hky : gB g k1 k := hky
        refine ⟨fun _ => e_R ed fun _ => ?_, fun hh => absurd hh (Z.r.1.pos hky.1 (by decide))⟩
        exact t_bur_119 (k1 := k1) J Z hm hf1 hen he hky oe (oky k hk) heo (hrt _) hS K
    · rw [Bool.not_eq_false] at hf
      dsimp only at hS
      rw [if_pos (Or.inr hf)] at hS
      subst hS
      exact K w g h (Z.le (by omega)) tWq.refl (gL.refl g)
  refine b_X8_bury_77 (e_R ed fun (z1 : gR h x1 1 = e1) => ?_)
  rw [z1, gA_of eb, vB_len, hle]
  refine ⟨⟨_, eb⟩, fun hx => h90 fun hh => hh.1 hx, fun hx => ⟨fun h0 => ?_, fun h0 => h90 fun hh => ?_⟩⟩
  · have hs := h1 hx
    cases eo with
    | none =>
      dsimp only at hS
      rw [if_pos (Or.inl ⟨hx, hs.symm⟩)] at hS
      subst hS
      exact K w g h (Z.le (by omega)) tWq.refl (gL.refl g)
    | some e => exact absurd h0 (Z.r.1.pos (Z.r.al (by decide) (by decide) (Z.sc.es e (heo e rfl))) (by decide))
  · have hs := h1 hx
    rw [hh.2] at hs
    rw [hs] at h0
    exact h0 rfl
theorem t_bury {d0 : sDe} {r : List sDe} (J : tJs s0 F) (Z : tZ s0 F (b + tY s) s w g h) (hm : g.kind x0 = (1, 0)) (hd : s.dead = d0 :: r)
    (K : ∀ w1 g1 h1, tZ s0 F (b + tY (s_bury s d0 r)) (s_bury s d0 r) w1 g1 h1 → tWq w w1 → gL g g1 → Q .null h1) : zX s0 m_X8_bury (d + 20) [zr x0] h Q E := by
  have em := Z.r.main hm
  have A := Z.r.2.2.2.2.1.1
  obtain ⟨rs, l1, l2, l3⟩ := A.refs
  have hlen : s.dead.length = r.length + 1 := by rw [hd, List.length_cons]
  have hle3 : s.dead.length ≤ 300 := A.2.2.1
  have eA : (h.1 (g.ref 9 0)) = some (1000 + 16, g.ar 9 0) := Z.r.1.cell A.1 (by decide)
  have hA : s0.1.heap.size < g.ref 9 0 := Z.r.1.new A.1 (by decide) (by decide)
  have hne : x0 ≠ g.ref 9 0 := kne hm A.1 (by decide)
  obtain ⟨r0, hr0, e1, k1, hf1, he1, hk1⟩ := l3 0 d0 (by rw [hd]; rfl)
  have hkm : s.knd d0.entry = 36 := Z.sc.2.2.2.2.2.2.2.2.1 d0 (by rw [hd]; exact List.mem_cons_self)
  obtain ⟨od1, od2⟩ := Z.i.tx.2.2.2.2.2.1 d0 (by rw [hd]; exact List.mem_cons_self)
  have h00 : (g.ar 9 0)[0]? = some (zr r0) := pre_get l2 (by rw [List.getElem?_map, hr0]; rfl)
  have G : zGd h "RelayHallModel$Dead" (g.ar 9 0) s.dead.length := fun j hj => by
    obtain ⟨rj, h1, e2, k2, hf2, -⟩ := l3 j s.dead[j] (List.getElem?_eq_getElem hj)
    exact ⟨rj, pre_get l2 (by rw [List.getElem?_map, h1]; rfl), Or.inr (zAsg_own (Z.r.fz hf2) zcl_32 rfl)⟩
  refine c_X8_bury (e_R em fun (z1 : gR h x0 14 = g.ref 9 0) => ?_)
  rw [z1]
  refine g_ER (t := 16) (j := 0) eA (by rw [show (0 : Int32) = Int32.ofNat 0 from rfl]; exact zin_of (by rw [A.2.1]; decide) (by decide)) h00 fun z2 => e_I em fun (z3 : gI h x0 15 = Int32.ofNat s.dead.length) => ?_
  rw [z2, z3, i_pred (by omega)]
  refine g_C em ?_
  rintro h1 e1'
  have ex0 : h1.1 x0 = some (7, (tMain s w g).set 15 (.int (Int32.ofNat (s.dead.length - 1)))) := by rw [e1']; exact zput_self em
  have eA1 : h1.1 (g.ref 9 0) = some (1000 + 16, g.ar 9 0) := by rw [e1', zput_ne hne.symm]; exact eA
  refine sh_loop (Z := fun i hk => zP s0 m_X8_bury (d + 20) 19 [some (zr x0), some (zr r0), some (.int (Int32.ofNat i)), none, none, none, none] [] hk Q E) (own := x0) (oc := 7) (kc := 15) (ka := 14) (n := s.dead.length) (C := "RelayHallModel$Dead") (t := 16) (arr := g.ref 9 0) hne rfl rfl hA
    (fun i hk H => b_X8_bury_19 (by rw [i_succ] at H ⊢; exact H)) r.length 0 h1 (g.ar 9 0) (by omega) ex0 eA1 (by rw [A.2.1]; exact hle3) (by rw [A.2.1]; decide)
    (G.mono (Nat.le_refl _) fun r hr => hr.imp id fun x => x.keep fun c fs' hc => by
      by_cases er : r = x0
      · subst er
        rw [em] at hc
        cases hc
        exact ⟨_, ex0⟩
      · exact ⟨fs', by rw [e1', zput_ne er]; exact hc⟩) (fun h2 o1 o2 o3 => ?_)
  refine sh_fin (oc := 7) (own := x0) (ka := 14) (kc := 15) (by rw [o2 _ hne]; exact ex0) rfl rfl o3 hA (by rw [shf_len, A.2.1]; omega) (by rw [shf_len, A.2.1]; decide) fun h3 p1 p2 p3 => ?_
  have hx1 := shf_erase r.length (g.ar 9 0) _ 0 l2 (by rw [List.length_map]; omega)
  have hx2 : (rs.map zr).eraseIdx 0 <+: (shf r.length (g.ar 9 0) 0).set (s.dead.length - 1) .null := pre_set_out hx1 (by rw [List.length_eraseIdx_of_lt (by rw [List.length_map]; omega), List.length_map]; omega)
  have R3 : tR s0 F (b + tY s + tP s) (s.w_dead r) w (gSet g 9 0 ((shf r.length (g.ar 9 0) 0).set (s.dead.length - 1) .null)) h3 := by
    refine Z.r.arM hm A.1 (by decide) (t := 16) rfl ?_ ?_ (fun m m1 m2 => ?_) ?_ p3 ⟨rfl, rfl, rfl, rfl, rfl, rfl, rfl, rfl, rfl⟩ ?_
    · show (1000 + tarT 9, (gSet _ 9 0 _).ar 9 0) = _
      rw [gSet_self]
      rfl
    · rw [p1, o1, e1']
      rfl
    · rw [p2 _ m2, o2 _ m2, e1', zput_ne m1]
    · rw [p2 _ hne, o2 _ hne, ex0]
      show _ = some (7, tMain (s.w_dead r) w g)
      rw [show s.dead.length - 1 = r.length by omega]
      rfl
    · obtain ⟨b1, b2, b3, ⟨b4, n4, c4, d4, e4⟩, b5, b6, b7, b8, b9, b10, b11, b12⟩ := Z.r.2
      refine ⟨b1, ?_, b3.ne (by decide), ⟨⟨b4.1, ?_, ?_, fun j x hj => ?_⟩, n4, c4, d4, e4.ne1 (fun r x hx => hx) (by decide)⟩, b5.ne (by decide), b6.ne (by decide), b7, b8.ne (by decide), b9, b10, b11, b12⟩
      · obtain ⟨c1, c2, c3, c4, c5, c6, c7, c8, c9, c10, c11, c12, c13, c14⟩ := b2
        exact ⟨c1.ne1 (by decide), c2.ne1 (by decide), c3.ne1 (by decide), c4.ne1 (by decide), c5.ne1 (by decide), c6.ne1 (by decide), c7.ne1 (by decide), c8.ne1 (by decide), c9.ne1 (by decide), c10.ne1 (by decide), c11.ne1 (by decide), c12.ne1 (by decide), c13.ne1 (by decide), c14⟩
      · rw [gSet_self, List.length_set, shf_len]
        exact A.2.1
      · show r.length ≤ 300
        omega
      · have hj : r[j]? = some x := hj
        obtain ⟨rj, h4, h5⟩ := l3 (j + 1) x (by rw [hd]; exact hj)
        refine ⟨rj, ?_, h5⟩
        rw [gSet_self]
        refine pre_get hx2 ?_
        rw [List.getElem?_eraseIdx_of_ge (Nat.zero_le _), List.getElem?_map, h4]
        rfl
  have L3 : gL g (gSet g 9 0 ((shf r.length (g.ar 9 0) 0).set (s.dead.length - 1) .null)) := gL.set
  have I3 : sI (s.w_dead r) := Z.i.w_dead (fun x hx => by rw [hd]; exact List.mem_cons_of_mem _ hx) (by omega)
  have P3 : tP (s.w_dead r) + 6 = tP s := by
    unfold tP
    rw [wr_dead, wr_lastNum_dead, wr_es_dead, wr_qs_dead, hlen]
    have : sEnts (s.w_dead r) = sEnts s := rfl
    rw [this]
    omega
  have W3 : sWt (s.w_dead r) = sWt s := rfl
  have Y3 : tY (s.w_dead r) = tY s := rfl
  have n3 : (s.w_dead r).en = s.en := wr_en_dead
  have x3 : ∀ nm, s_exch (s.w_dead r) nm = s_exch s nm := fun nm => rfl
  rw [sBury_eq] at K
  dsimp only at K
  rw [← n3, ← x3] at K
  have hzc := Z.c
  revert R3 L3 I3 P3 W3 Y3 n3 K
  generalize gSet g 9 0 ((shf r.length (g.ar 9 0) 0).set (s.dead.length - 1) .null) = g3
  generalize s.w_dead r = s3
  intro K R3 L3 I3 P3 W3 Y3 n3
  have Z3 : tZ s0 F (b + 4 + tY s3) s3 w g3 h3 := ⟨R3.less (by omega), I3, by omega⟩
  have hf3 := L3.fz hf1
  have he3 := L3.B he1
  have ed := R3.fz hf3
  have eb := R3.fz he3
  have hm3 := L3.m hm
  have hen3 : g3.kind (g.ref 36 d0.entry) = (36, d0.entry) := L3.th (by decide) (by decide) (Z.r.al (by decide) (by decide) hkm)
  have h77 : ∀ eo : Option Nat, (d0.exch ≠ [] → eo = s_exch s3 d0.exch) → (d0.exch = [] → eo = none) → zP s0 m_X8_bury (d + 20) 77 [some (zr x0), some (zr r0), none, none, none, none, none] [zr (gO g3 32 eo)] h3 Q E := fun eo q1 q2 =>
    t_bur_77 (d0 := d0) (eo := eo) (k1 := k1) J Z3 hm3 hf3 hen3 he3 (L3.Bo hk1) od1 od2 q1 q2 rfl fun w4 g4 h4 Z4 W4 L4 => K w4 g4 h4 Z4 W4 (L3.trans L4)
  have hz : (Int32.ofNat d0.exch.length = 0) ↔ d0.exch = [] := by
    rw [show (0 : Int32) = Int32.ofNat 0 from rfl, i_inj (by omega) (by decide)]
    exact List.length_eq_zero_iff
  refine e_R ed fun (z4 : gR h3 r0 1 = e1) => ?_
  rw [z4, gA_of eb, vB_len, hz]
  refine ⟨⟨_, eb⟩, fun hx => e_R ed fun _ => ⟨⟨_, R3.main hm3⟩, t_exchange (d := d + 18) R3 I3.sc hm3 he3 (by omega) (fun q hq => by have := (I3.tx.1 q (I3.sc.es q hq)).1; omega) ⟨_, rfl, h77 (s_exch s3 d0.exch) (fun _ => rfl) fun hh => absurd hh hx⟩⟩, fun hx => h77 none (fun hh => absurd hx hh) fun _ => rfl⟩
end BU
