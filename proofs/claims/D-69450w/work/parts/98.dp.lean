/-! ===== the twin: all is done that there is to do ===== -/
set_option maxRecDepth 100000
section DP
variable {s0 : zE} {F : Nat → Option zC} {b : Nat} {s s' s1 : sSt} {w w' w1 w2 : tW} {g g' g0 : sG} {h h' : zH} {d x0 x1 x2 x3 x5 i j q m n e : Nat} {Q : Value → zH → Prop} {E : Nat → zH → Prop} {c : sCont} {ex ky : sBy} {xp : Int64} {dt : Int32}
theorem round_sub {l : List Nat} {o : Option Nat} (h : i ∈ s_round l o) : i ∈ l := by
  unfold s_round at h
  split at h
  · exact h
  · rename_i x
    split at h
    · rename_i hx
      rcases List.mem_append.mp h with h | h
      · rcases List.mem_append.mp h with h | h
        · exact (List.dropWhile_sublist _).subset (List.mem_of_mem_drop h)
        · exact (List.takeWhile_sublist _).subset h
      · rw [List.mem_singleton.mp h]
        exact hx
    · exact h
theorem nextOf_some (h : s_nextOf s q = some i) : i ∈ s.cs ∧ (s.co i).queue = q := by
  unfold s_nextOf at h
  have := List.mem_filter.mp (round_sub (List.mem_of_find?_eq_some h))
  exact ⟨this.1, eq_of_beq this.2⟩
theorem p_comesAll (oc : sContOk c) (oe : ex.length ≤ 40) (ok : ky.length ≤ 40) (ox : xp = -1 ∨ (0 ≤ xp ∧ xp ≤ 4294967295)) : ∀ (r : List Nat) (s : sSt), sI s → (∀ q ∈ r, q ∈ s.qs) → sI (s_comesAll c ex ky xp dt r s) ∧ tP (s_comesAll c ex ky xp dt r s) ≤ tP s ∧ tY (s_comesAll c ex ky xp dt r s) ≤ tY s
  | [], s, I, _ => ⟨I, Nat.le_refl _, Nat.le_refl _⟩
  | q :: r, s, I, hq => by
    rw [s_comesAll]
    by_cases hf : s_full s = true
    · rw [if_pos hf]
      exact p_comesAll oc oe ok ox r s I fun x hx => hq x (List.mem_cons_of_mem _ hx)
    · rw [if_neg hf]
      obtain ⟨a1, a2, -, a4⟩ := p_comes (dt := dt) I (hq q List.mem_cons_self) oc oe ok ox (Bool.not_eq_true _ ▸ hf)
      obtain ⟨b1, b2, b3⟩ := p_comesAll oc oe ok ox r (s_comes s q c ex ky xp dt) a1 fun x hx => by
        rw [comes_qs]
        exact hq x (List.mem_cons_of_mem _ hx)
      exact ⟨b1, by omega, by omega⟩
theorem route_in {key : sBy} {heads : Option sTab} : ∀ q ∈ s_route s ex key heads, q ∈ s.qs := fun q hq => by
  unfold s_route at hq
  split at hq
  · exact queue_qs.1 q hq
  · exact (route_qs (e := none) (seen := []) 13 [] _).1 q hq
theorem p_bury {d0 : sDe} {r : List sDe} (I : sI s) (hd : s.dead = d0 :: r) : tP (s_bury s d0 r) + tY (s_bury s d0 r) + 6 ≤ tP s + tY s := by
  have hlen : s.dead.length = r.length + 1 := by rw [hd, List.length_cons]
  have hle3 : s.dead.length ≤ 300 := I.cp.2.2.2.2.2.2.2.1
  have I3 : sI (s.w_dead r) := I.w_dead (fun x hx => by rw [hd]; exact List.mem_cons_of_mem _ hx) (by omega)
  have P3 : tP (s.w_dead r) + 6 = tP s := by
    unfold tP
    rw [wr_dead, wr_lastNum_dead, wr_es_dead, wr_qs_dead, hlen]
    have : sEnts (s.w_dead r) = sEnts s := rfl
    rw [this]
    omega
  have Y3 : tY (s.w_dead r) = tY s := rfl
  have hkm : s.knd d0.entry = 36 := I.sc.2.2.2.2.2.2.2.2.1 d0 (by rw [hd]; exact List.mem_cons_self)
  obtain ⟨od1, od2⟩ := I.tx.2.2.2.2.2.1 d0 (by rw [hd]; exact List.mem_cons_self)
  obtain ⟨ok1, ok2, ok3, -⟩ := I.tx.2.2.2.2.1 d0.entry hkm
  rw [sBury_eq]
  dsimp only
  revert I3 P3 Y3
  generalize s.w_dead r = s3
  intro I3 P3 Y3
  have key : ∀ ky : sBy, ky.length ≤ 40 → tP (s_comesAll (s.en d0.entry).cont d0.exch ky (-1) ((s.en d0.entry).deaths + 1) (s_route s3 d0.exch ky (s.en d0.entry).cont.heads) s3) ≤ tP s3 ∧ tY (s_comesAll (s.en d0.entry).cont d0.exch ky (-1) ((s.en d0.entry).deaths + 1) (s_route s3 d0.exch ky (s.en d0.entry).cont.heads) s3) ≤ tY s3 := fun ky hk =>
    (p_comesAll (dt := (s.en d0.entry).deaths + 1) ok1 od1 hk (Or.inl rfl) (xp := -1) (s_route s3 d0.exch ky (s.en d0.entry).cont.heads) s3 I3 route_in).2
  cases hk : d0.key with
  | none =>
    simp only
    split
    · omega
    · have := key _ ok3
      omega
  | some k =>
    simp only
    split
    · omega
    · have := key k (od2 k hk)
      omega
theorem p_deliver (I : sI s) (hkq : s.knd q = 33) (hki : s.knd i = 35) (hiq : (s.co i).queue = q) (hf : s_first s q = some m) : tP (s_deliver s q i m) + tY (s_deliver s q i m) + 3 ≤ tP s + tY s := by
  obtain ⟨hmem, hst⟩ := s_best_mem (f := fun m => (s.en m).state == 0) hf
  have h0 : (s.en m).state = 0 := eq_of_beq hst
  obtain ⟨hkm, hmq⟩ := (I.sc.qu q hkq).1 m hmem
  obtain ⟨-, hj⟩ := I.sc.co i hki
  have D1 := d_last (s := s) hki hiq
  have Y1 : tY (s_qu s q (fun x => x.w_last (some i))) = tY s := tY_last
  have P1 := D1.2.1 I
  have I1 := D1.1 I
  have hS : s_deliver s q i m = s_send (s_hand (s_qu s q (fun x => x.w_last (some i))) (s.co i).chan m (some i) (s.co i).free) ((s.co i).chan / 4) (w_method (Int32.ofNat ((s.co i).chan % 4)) 60 60 (w_short (s.co i).tag ++ w_32 ((s.ch (s.co i).chan).tag + 1) ++ w_8 (sB (s.en m).redel) ++ w_short (s.en m).exch ++ w_short (s.en m).key) ++ w_content (Int32.ofNat ((s.co i).chan % 4)) (s.en m).cont (s.en m).expi) := rfl
  have en2 : (s_qu s q (fun x => x.w_last (some i))).en = s.en := wr_en_qu
  have kn2 : (s_qu s q (fun x => x.w_last (some i))).knd = s.knd := wr_knd_qu
  have mem2 : m ∈ ((s_qu s q (fun x => x.w_last (some i))).qu ((s_qu s q (fun x => x.w_last (some i))).en m).queue).ents := by
    rw [en2, hmq]
    unfold s_qu
    rw [wr_qu, sUp_self]
    exact hmem
  rw [hS]
  clear hS D1
  generalize s_qu s q (fun x => x.w_last (some i)) = s2 at *
  obtain ⟨p1, p2, -, p4⟩ := p_hand (fr := (s.co i).free) (o := some i) I1 hj (by rw [kn2]; exact hkm) mem2 (by rw [en2]; exact h0) (fun y hy => by rw [← Option.some.inj hy, kn2]; exact hki)
  have hsd := fun bb => (d_send (b := bb) p1 hj.div).2.1 p1
  have hsy := fun bb => tY_send (b := bb) p1 hj.div
  have h1 := hsd (w_method (Int32.ofNat ((s.co i).chan % 4)) 60 60 (w_short (s.co i).tag ++ w_32 ((s.ch (s.co i).chan).tag + 1) ++ w_8 (sB (s.en m).redel) ++ w_short (s.en m).exch ++ w_short (s.en m).key) ++ w_content (Int32.ofNat ((s.co i).chan % 4)) (s.en m).cont (s.en m).expi)
  have h2 := hsy (w_method (Int32.ofNat ((s.co i).chan % 4)) 60 60 (w_short (s.co i).tag ++ w_32 ((s.ch (s.co i).chan).tag + 1) ++ w_8 (sB (s.en m).redel) ++ w_short (s.en m).exch ++ w_short (s.en m).key) ++ w_content (Int32.ofNat ((s.co i).chan % 4)) (s.en m).cont (s.en m).expi)
  omega
theorem pick_some : ∀ {l : List Nat}, s_pick s l = some (q, i, m) → q ∈ l ∧ s_first s q = some m ∧ s_nextOf s q = some i
  | p :: l, hp => by
    rw [s_pick] at hp
    split at hp
    · rename_i m' i' h1 h2
      obtain ⟨rfl, h3⟩ := Prod.mk.inj (Option.some.inj hp)
      obtain ⟨rfl, rfl⟩ := Prod.mk.inj h3
      exact ⟨List.mem_cons_self, h1, h2⟩
    · obtain ⟨h1, h2, h3⟩ := pick_some hp
      exact ⟨List.mem_cons_of_mem _ h1, h2, h3⟩
theorem one_less (I : sI s) (h : s_one s = some s') : tP s' + tY s' < tP s + tY s := by
  unfold s_one at h
  split at h
  · rename_i d0 r hd
    obtain rfl := Option.some.inj h
    have := p_bury I hd
    omega
  · split at h
    · rename_i q i m hp
      obtain rfl := Option.some.inj h
      obtain ⟨h1, h2, h3⟩ := pick_some hp
      obtain ⟨h4, h5⟩ := nextOf_some h3
      have := p_deliver I (I.sc.qs q h1) (I.sc.cs i h4) h5 h2
      omega
    · cases h
/-- the queues are gone over for one that may be handed on -/
theorem t_one_15 (Z : tZ s0 F (b + tY s) s w g h) (hm : g.kind x0 = (1, 0)) (K0 : s_pick s s.qs = none → Q (.int 0) h)
    (K1 : ∀ q i m, s_pick s s.qs = some (q, i, m) → ∀ w1 g1 h1, tZ s0 F (b + tY (s_deliver s q i m)) (s_deliver s q i m) w1 g1 h1 → tWk (s_deliver s q i m) w w1 → gL g g1 → Q (.int 1) h1) :
    ∀ (rest pre : List Nat), s.qs = pre ++ rest → s_pick s s.qs = s_pick s rest → zP s0 m_X8_dispatchOne (d + 71) 15 [some (zr x0), some (.int (Int32.ofNat pre.length)), none] [] h Q E
  | [], pre, hp, hk => by
    have em := Z.r.main hm
    have hql := Z.i.cp.2.2.2.2.1
    have hlen : s.qs.length = pre.length := by rw [hp, List.append_nil]
    refine b_X8_dispatchOne_15 (e_I em fun (z1 : gI h x0 6 = Int32.ofNat s.qs.length) => ?_)
    rw [z1, i_le (by omega) (by omega)]
    exact ⟨fun _ => K0 hk, fun hh => absurd (by omega) hh⟩
  | q :: rest, pre, hp, hk => by
    have em := Z.r.main hm
    have hql := Z.i.cp.2.2.2.2.1
    have hlen : s.qs.length = pre.length + (rest.length + 1) := by rw [hp, List.length_append, List.length_cons]
    have hx : s.qs[pre.length]? = some q := by rw [hp, List.getElem?_append_right (Nat.le_refl _), Nat.sub_self]; rfl
    have hkq := Z.sc.qs q (List.mem_of_getElem? hx)
    have hq : g.kind (g.ref 33 q) = (33, q) := Z.r.al (by decide) (by decide) hkq
    have hsucc : Int32.ofNat pre.length + 1 = Int32.ofNat (pre ++ [q]).length := by rw [i_succ, List.length_append, List.length_singleton]
    have A6 := Z.r.2.ar6
    have hgo : (s_first s q = none ∨ s_nextOf s q = none) → zP s0 m_X8_dispatchOne (d + 71) 50 [some (zr x0), some (.int (Int32.ofNat pre.length)), none] [zr 0] h Q E := fun hno => by
      refine b_X8_dispatchOne_50 ⟨fun _ => ?_, fun hh => absurd rfl hh⟩
      rw [hsucc]
      refine t_one_15 Z hm K0 K1 rest (pre ++ [q]) (by rw [hp, List.append_assoc]; rfl) (hk.trans ?_)
      rw [s_pick]
      split
      · rename_i h1 h2
        rcases hno with h | h
        · rw [h] at h1; cases h1
        · rw [h] at h2; cases h2
      · rfl
    refine b_X8_dispatchOne_15 (e_I em fun (z1 : gI h x0 6 = Int32.ofNat s.qs.length) => ?_)
    rw [z1, i_le (by omega) (by omega)]
    refine ⟨fun hh => absurd hh (by omega), fun _ => e_R em fun (z2 : gR h x0 2 = g.ref 6 0) => ?_⟩
    rw [z2]
    refine g_El Z.r A6 rfl (by decide) hx (by decide) fun z3 => ?_
    rw [z3]
    refine ⟨⟨_, em⟩, t_first (d := d + 68) Z.r Z.sc hq ?_⟩
    cases hf : s_first s q with
    | none => exact ⟨0, rfl, fun hh => absurd rfl hh, fun _ => hgo (Or.inl hf)⟩
    | some m =>
      have hmem := (s_best_mem (f := fun m => (s.en m).state == 0) hf).1
      have hkm := ((Z.sc.qu q hkq).1 m hmem).1
      have hmk : g.kind (g.ref 36 m) = (36, m) := Z.r.al (by decide) (by decide) hkm
      refine ⟨g.ref 36 m, rfl, fun _ => e_R em fun (z4 : gR h x0 2 = g.ref 6 0) => ?_, fun hh => absurd hh (Z.r.1.pos hmk (by decide))⟩
      rw [z4]
      refine g_El Z.r A6 rfl (by decide) hx (by decide) fun z6 => ?_
      rw [z6]
      refine ⟨⟨_, em⟩, t_nextOf (d := d + 68) Z.r Z.sc hm hq Z.i.cp.2.2.1 (Z.i.cp.2.2.2.2.2.2.2.2.2.1 q hkq) ?_⟩
      cases hn : s_nextOf s q with
      | none => exact ⟨0, rfl, hgo (Or.inr hn)⟩
      | some i =>
        obtain ⟨hics, hiq⟩ := nextOf_some hn
        have hik : g.kind (g.ref 35 i) = (35, i) := Z.r.al (by decide) (by decide) (Z.sc.cs i hics)
        have hpk : s_pick s s.qs = some (q, i, m) := by
          rw [hk, s_pick, hf, hn]
        refine ⟨g.ref 35 i, rfl, b_X8_dispatchOne_50 ⟨fun hh => absurd hh (Z.r.1.pos hik (by decide)), fun _ => e_R em fun _ => ?_⟩⟩
        rw [z2]
        refine g_El Z.r A6 rfl (by decide) hx (by decide) fun z5 => ?_
        rw [z5]
        exact ⟨⟨_, em⟩, t_deliver (d := d) Z hm hq hik hiq hf (K1 q i m hpk)⟩
theorem t_dispatchOne (J : tJs s0 F) (Z : tZ s0 F (b + tY s) s w g h) (hm : g.kind x0 = (1, 0)) (K0 : s_one s = none → Q (.int 0) h)
    (K1 : ∀ s', s_one s = some s' → ∀ w1 g1 h1, tZ s0 F (b + tY s') s' w1 g1 h1 → tWq w w1 → gL g g1 → Q (.int 1) h1) : zX s0 m_X8_dispatchOne (d + 71) [zr x0] h Q E := by
  have em := Z.r.main hm
  have hdl := Z.i.cp.2.2.2.2.2.2.2.1
  unfold s_one at K0 K1
  refine c_X8_dispatchOne (e_I em fun (z1 : gI h x0 15 = Int32.ofNat s.dead.length) => ?_)
  rw [z1, show (0 : Int32) = Int32.ofNat 0 from rfl, i_le (by omega) (by decide)]
  cases hd : s.dead with
  | nil =>
    rw [hd] at K0 K1
    refine ⟨fun _ => t_one_15 Z hm (fun hp => K0 (by simp only [hp])) (fun q i m hp w1 g1 h1 Z1 W1 L1 => K1 _ (by simp only [hp]) w1 g1 h1 Z1 W1.toq L1) s.qs [] rfl rfl, fun hh => absurd (Nat.le_refl _) hh⟩
  | cons d0 r =>
    rw [hd] at K0 K1
    refine ⟨fun hh => absurd hh (by rw [List.length_cons]; omega), fun _ => ⟨⟨_, em⟩, t_bury (d := d + 50) J Z hm hd fun w1 g1 h1 Z1 W1 L1 => K1 _ rfl w1 g1 h1 Z1 W1 L1⟩⟩
theorem t_dispatch_2 (J : tJs s0 F) {S : sSt} {w0 : tW} (hm : g0.kind x0 = (1, 0)) (K : ∀ w1 g1 h1, tZ s0 F (b + tY S) S w1 g1 h1 → tWq w0 w1 → gL g0 g1 → Q .null h1) :
    ∀ (n : Nat) (s : sSt) (w : tW) (g : sG) (h : zH), tP s + tY s < n → s_dispF n s = S → tZ s0 F (b + tY s) s w g h → tWq w0 w → gL g0 g → zP s0 m_X8_dispatch (d + 72) 2 [some (zr x0), some (.int 1)] [] h Q E
  | n + 1, s, w, g, h, hn, hS, Z, W, L => by
    rw [s_dispF] at hS
    refine b_X8_dispatch_2 ⟨fun hh => absurd hh (by decide), fun _ => ⟨⟨_, Z.r.main (L.m hm)⟩, t_dispatchOne (d := d) J Z (L.m hm) (fun h0 => ⟨_, rfl, ?_⟩) fun s' h1 w1 g1 h1' Z1 W1 L1 => ⟨_, rfl, ?_⟩⟩⟩
    · rw [h0] at hS
      have hS : s = S := hS
      subst hS
      exact b_X8_dispatch_2 ⟨fun _ => K w g h Z W L, fun hh => absurd rfl hh⟩
    · rw [h1] at hS
      have := one_less Z.i h1
      exact t_dispatch_2 J hm K n s' w1 g1 h1' (by omega) hS Z1 (W.trans W1) (L.trans L1)
theorem t_dispatch (J : tJs s0 F) (Z : tZ s0 F (b + tY s) s w g h) (hm : g.kind x0 = (1, 0)) (K : ∀ w1 g1 h1, tZ s0 F (b + tY (s_disp s)) (s_disp s) w1 g1 h1 → tWq w w1 → gL g g1 → Q .null h1) : zX s0 m_X8_dispatch (d + 72) [zr x0] h Q E :=
  c_X8_dispatch (t_dispatch_2 J hm K s_many s w g h (by have := Z.c; unfold s_many; omega) rfl Z tWq.refl (gL.refl g))
end DP
