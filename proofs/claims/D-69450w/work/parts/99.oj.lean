/-! ===== the twin: a crash, the whole ===== -/
set_option maxRecDepth 100000
set_option maxHeartbeats 200000
section OJ
variable {s0 : zE} {F : Nat → Option zC} {b : Nat} {s s' S T : sSt} {w w' : tW} {g g' g0 : sG} {h h' : zH} {d x0 x1 x2 x3 x4 n m c i j q e k a : Nat} {Q : Value → zH → Prop} {E : Nat → zH → Prop} {x : Int32} {l xs : List Nat} {fs : List Value} {u v : Value}
theorem zput_zput : zput (zput h n k u) n k v = zput h n k v := by
  refine Prod.ext (funext fun r => ?_) rfl
  by_cases er : r = n
  · subst er
    show (if r = r then ((zput h r k u).1 r).map _ else _) = (if r = r then (h.1 r).map _ else _)
    rw [if_pos rfl, if_pos rfl]
    show ((if r = r then (h.1 r).map _ else _)).map _ = _
    rw [if_pos rfl, Option.map_map]
    congr 1
    exact funext fun q => Prod.ext rfl (by show (q.2.set k u).set k v = q.2.set k v; rw [List.set_set])
  · rw [zput_ne er, zput_ne er, zput_ne er]
theorem tG.es_pre (G : tG s w g) (hx : xs.map (fun e => zr (g.ref 32 e)) <+: g.ar 5 0) : tG (s.w_es xs) w g := by
  obtain ⟨b1, ⟨c1, c2, c3, c4, c5, c6, c7, c8, c9, c10, c11, c12, c13, c14⟩, b3⟩ := G
  exact ⟨b1, ⟨c1, ⟨c2.1, c2.2.1, hx⟩, c3, c4, c5, c6, c7, c8, c9, c10, c11, c12, c13, c14⟩, b3⟩
theorem tG.qs_pre (G : tG s w g) (hx : xs.map (fun e => zr (g.ref 33 e)) <+: g.ar 6 0) : tG (s.w_qs xs) w g := by
  obtain ⟨b1, ⟨c1, c2, c3, c4, c5, c6, c7, c8, c9, c10, c11, c12, c13, c14⟩, b3⟩ := G
  exact ⟨b1, ⟨c1, c2, ⟨c3.1, c3.2.1, hx⟩, c4, c5, c6, c7, c8, c9, c10, c11, c12, c13, c14⟩, b3⟩
theorem tG.bs_pre (G : tG s w g) (hx : xs.map (fun e => zr (g.ref 34 e)) <+: g.ar 7 0) : tG (s.w_bs xs) w g := by
  obtain ⟨b1, ⟨c1, c2, c3, c4, c5, c6, c7, c8, c9, c10, c11, c12, c13, c14⟩, b3⟩ := G
  exact ⟨b1, ⟨c1, c2, c3, ⟨c4.1, c4.2.1, hx⟩, c5, c6, c7, c8, c9, c10, c11, c12, c13, c14⟩, b3⟩
theorem tG.cs_pre (G : tG s w g) (hx : xs.map (fun e => zr (g.ref 35 e)) <+: g.ar 8 0) : tG (s.w_cs xs) w g := by
  obtain ⟨b1, ⟨c1, c2, c3, c4, c5, c6, c7, c8, c9, c10, c11, c12, c13, c14⟩, b3⟩ := G
  exact ⟨b1, ⟨c1, c2, c3, c4, ⟨c5.1, c5.2.1, hx⟩, c6, c7, c8, c9, c10, c11, c12, c13, c14⟩, b3⟩
theorem tG.sen_pre (G : tG s w g) (hx : xs.map (fun m => zr (g.ref 36 m)) <+: g.ar 14 0) : tG (s.w_sen xs) w g := by
  obtain ⟨b1, ⟨c1, c2, c3, c4, c5, c6, c7, c8, c9, c10, c11, c12, c13, c14⟩, b3⟩ := G
  exact ⟨b1, ⟨c1, c2, c3, c4, c5, c6, c7, c8, ⟨c9.1, c9.2.1, hx⟩, c10, c11, c12, c13, c14⟩, b3⟩
theorem tG.facts0 (G : tG s w g) : tG (s.w_facts []) w g := by
  obtain ⟨b1, b2, b3, ⟨b4, n4, c4, d4, e4⟩, b5⟩ := G
  exact ⟨b1, b2, b3, ⟨b4, n4, c4, Nat.zero_le _, e4.1, e4.2.1, Nat.zero_le _, fun j x hj => nomatch hj⟩, b5⟩
theorem tG.dead0 (G : tG s w g) : tG (s.w_dead []) w g := by
  obtain ⟨b1, b2, b3, ⟨b4, b4'⟩, b5⟩ := G
  exact ⟨b1, b2, b3, ⟨⟨b4.1, b4.2.1, Nat.zero_le _, fun j x hj => nomatch hj⟩, b4'⟩, b5⟩
theorem exT_nil : s_exT s [] = s := by
  unfold s_exT
  rw [show (fun e => if e ∈ ([] : List Nat) then (s.ex e).w_there true else s.ex e) = s.ex from funext fun e => if_neg List.not_mem_nil]
  rfl
theorem quT_nil : s_quT s [] = s := by
  unfold s_quT
  rw [show (fun q => if q ∈ ([] : List Nat) then (((s.qu q).w_there true).w_ents []).w_last none else s.qu q) = s.qu from funext fun e => if_neg List.not_mem_nil]
  rfl
theorem crE_nil : s_crE s [] = s.w_es [] := by
  unfold s_crE
  rw [exT_nil]
theorem crQ_nil : s_crQ s [] = s.w_qs [] := by
  unfold s_crQ
  rw [quT_nil]
/-- what was safe is copied -/
theorem t_cr_266 (hsen : s.sen = l) (hl : l.length ≤ 300) (hk : ∀ m ∈ l, s.knd m = 36) (hm : g.kind x0 = (1, 0)) (hne : x0 ≠ x3)
    (K : ∀ h1, tR s0 F b s w g h1 → zUn s0 F g h1 x3 1018 (l.map (fun m => zr (g.ref 36 m))) → (fC h1 x0 7) ∧ (∀ h2, h2 = zput h1 x0 25 (.int (0)) → (zP s0 m_X8_crash (d + 1) 297 [some (zr x0), none, some (.int (Int32.ofNat l.length)), some (zr x3), some (.int (0))] [] h2 Q E))) :
    ∀ (k i : Nat) (h : zH) (M : List Value), l.length = i + k → tR s0 F b s w g h → zUn s0 F g h x3 1018 M → M.length = l.length → (∀ j, j < i → M[j]? = (l.map (fun m => zr (g.ref 36 m)))[j]?) →
      zP s0 m_X8_crash (d + 1) 266 [some (zr x0), none, some (.int (Int32.ofNat l.length)), some (zr x3), some (.int (Int32.ofNat i))] [] h Q E
  | k, i, h, M, hi, R, U, hM, hd => by
    refine b_X8_crash_266 ⟨fun hle => ?_, fun hle => ?_⟩
    · rw [i_le (by omega) (by omega)] at hle
      have e : M = l.map (fun m => zr (g.ref 36 m)) := List.ext_getElem? fun j => by
        by_cases hj : j < i
        · exact hd j hj
        · rw [List.getElem?_eq_none (by omega), List.getElem?_eq_none (by rw [List.length_map]; omega)]
      rw [e] at U
      exact K h R U
    rw [i_le (by omega) (by omega)] at hle
    obtain ⟨k', rfl⟩ : ∃ k', k = k' + 1 := ⟨k - 1, by omega⟩
    obtain ⟨m, hx⟩ : ∃ m, l[i]? = some m := ⟨_, List.getElem?_eq_getElem (by omega)⟩
    have A := R.2.ar14
    have hce : gA1 g 36 m := R.al (c := 36) (by decide) (by decide) (hk m (List.mem_of_getElem? hx))
    refine e_R (R.main hm) fun (z1 : gR h x0 21 = g.ref 14 0) => ?_
    rw [z1]
    refine g_El R A rfl (by decide) (by rw [hsen]; exact hx) (by omega) fun z2 => ?_
    rw [z2]
    refine g_S (t := 18) U.2.2.1 U.2.2.2.2.2 (zin_of (by omega) (by omega)) ⟨Or.inr (zAsg_own (R.1.cell hce (by decide)) zcl_33 rfl), ?_⟩
    rintro h2 rfl
    rw [i_nat (by omega), i_succ]
    refine t_cr_266 hsen hl hk hm hne K k' (i + 1) _ (M.set i (zr (g.ref 36 m))) (by omega) (R.putF U.1 U.2.1) ⟨U.1, U.2.1, zput_self U.2.2.1, U.2.2.2⟩ (by rw [List.length_set]; exact hM) fun j hj => ?_
    by_cases e : j = i
    · subst e
      rw [List.getElem?_set_self (by omega), List.getElem?_map, hx]
      rfl
    · rw [List.getElem?_set_ne (fun q => e q.symm)]
      exact hd j (by omega)
/-! messages put back, purely -/
theorem back0_next : (s_back0 s m).next = s.next + 1 := by
  unfold s_back0
  rw [in_next, b36_next]
theorem back0_sen : (s_back0 s m).sen = s.sen := rfl
theorem back0_knd : (s_back0 s m).knd = sUp s.knd s.next 36 := by
  unfold s_back0
  rw [in_knd, b36_knd]
theorem back0_en : (s_back0 s m).en = sUp s.en s.next ((s.en m).cont, (s.en m).exch, (s.en m).key, (s.en m).expi, (s.en m).queue, (s.en m).number, s.clock, (s.en m).deaths, 0, true) := by
  unfold s_back0
  rw [in_en, b36_en]
theorem back0_qu : (s_back0 s m).qu = sUp s.qu (s.en m).queue ((s.qu (s.en m).queue).w_ents ((s.qu (s.en m).queue).ents ++ [s.next])) := by
  unfold s_back0
  rw [in_qu, b36_qu]
theorem sScope.back0 (I : sScope s) (hk : s.knd m = 36) : sScope (s_back0 s m) := by
  unfold s_back0
  have I2 := I.born (bn36 (v := ((s.en m).cont, (s.en m).exch, (s.en m).key, (s.en m).expi, (s.en m).queue, (s.en m).number, s.clock, (s.en m).deaths, 0, true))) b36_next (by decide) (fun e => absurd e (by decide)) (fun e => absurd e (by decide)) (fun e => absurd e (by decide)) (fun _ => by rw [b36_at]; exact I.en m hk) (fun e => absurd e (by decide))
  refine I2.in_ ?_ ?_
  · rw [b36_knd]
    exact sUp_self
  · rw [b36_en, sUp_self]
    rfl
/-- so many are back -/
def s_backs (s : sSt) (l : List Nat) : sSt := l.foldl s_back0 s
theorem backs_snoc : s_backs s (l ++ [m]) = s_back0 (s_backs s l) m := by
  unfold s_backs
  rw [List.foldl_append]
  rfl
theorem back0_w_sen : s_back0 (s.w_sen xs) m = (s_back0 s m).w_sen xs := rfl
theorem backs_eq : ∀ (l : List Nat) (s : sSt), l.foldl s_back s = (s_backs s l).w_sen (s.sen ++ List.range' s.next l.length)
  | [], s => by
    show s = s.w_sen (s.sen ++ [])
    rw [List.append_nil]
    rfl
  | m :: l, s => by
    have h1 : ∀ (l : List Nat) (s : sSt) (xs : List Nat), s_backs (s.w_sen xs) l = (s_backs s l).w_sen xs := fun l => by
      induction l with
      | nil => intro s xs; rfl
      | cons m l ih => intro s xs; exact ih (s_back0 s m) xs
    rw [List.foldl_cons, backs_eq l (s_back s m), back_eq, h1]
    show ((s_backs (s_back0 s m) l).w_sen (s.sen ++ [s.next])).w_sen ((s.sen ++ [s.next]) ++ List.range' (s_back0 s m).next l.length) = (s_backs (s_back0 s m) l).w_sen (s.sen ++ List.range' s.next (l.length + 1))
    rw [back0_next, List.append_assoc, List.range'_succ]
    rfl
/-- what is known of those that are back -/
def sBk (s : sSt) (l : List Nat) (s' : sSt) : Prop := sScope s' ∧ s'.next = s.next + l.length ∧ s'.sen = s.sen ∧ (∀ m, m < s.next → s'.en m = s.en m ∧ s'.knd m = s.knd m) ∧ (∀ m, s.next ≤ m → m < s.next + l.length → s'.knd m = 36) ∧ ∀ q, (s'.qu q).ents.length ≤ (s.qu q).ents.length + l.length
theorem bk_nil (I : sScope s) : sBk s [] (s_backs s []) := ⟨I, rfl, rfl, fun _ _ => ⟨rfl, rfl⟩, fun m h1 h2 => absurd h2 (by rw [List.length_nil]; omega), fun _ => Nat.le_refl _⟩
theorem bk_snoc (B : sBk s l s') (hm : m < s.next) (hk : s.knd m = 36) : sBk s (l ++ [m]) (s_back0 s' m) := by
  obtain ⟨b1, b2, b3, b4, b5, b6⟩ := B
  have hlen : (l ++ [m]).length = l.length + 1 := by rw [List.length_append]; rfl
  refine ⟨b1.back0 (by rw [(b4 m hm).2]; exact hk), by rw [back0_next, b2, hlen]; rfl, b3, fun j hj => ?_, fun j h1 h2 => ?_, fun q => ?_⟩
  · rw [back0_en, back0_knd, sUp_ne (by omega), sUp_ne (by omega)]
    exact b4 j hj
  · rw [back0_knd]
    by_cases e : j = s'.next
    · subst e; exact sUp_self
    · rw [sUp_ne e]
      exact b5 j h1 (by omega)
  · rw [back0_qu]
    by_cases e : q = (s'.en m).queue
    · subst e
      rw [sUp_self]
      show ((s'.qu (s'.en m).queue).ents ++ [s'.next]).length ≤ _
      have := b6 (s'.en m).queue
      rw [List.length_append, List.length_singleton, hlen]
      omega
    · rw [sUp_ne e, hlen]
      have := b6 q
      omega
theorem tG.put14 (G : tG s w g) {L : List Value} (hL : L.length = 301) (hx : s.sen.map (fun m => zr (g.ref 36 m)) <+: L) : tG s w (gSet g 14 0 L) := G.set14 (xs := s.sen) hL hx
theorem sen_main (l' : List Nat) : tMain (s.w_sen l') w g = (tMain s w g).set 25 (vI l'.length) := rfl
theorem t_cr_297 (I0 : sScope s) (hs0 : s.sen = []) (hl : l.length ≤ 300) (hk : ∀ m ∈ l, s.knd m = 36 ∧ m < s.next ∧ (s.qu (s.en m).queue).ents = []) (hm0 : g0.kind x0 = (1, 0)) (hA0 : ∀ m ∈ l, g0.kind (g0.ref 36 m) = (36, m)) (hF : F x3 = none) (h30 : 0 < x3) (h3s : s0.1.heap.size < x3)
    (K : ∀ g1 h1, tR s0 F b ((s_backs s l).w_sen (List.range' s.next l.length)) w g1 h1 → gL g0 g1 → Q (.int (s_backs s l).messages) h1) :
    ∀ (k i : Nat) (g : sG) (h : zH), l.length = i + k → tR s0 (zF1 F x3 (1018, l.map (fun m => zr (g0.ref 36 m)))) (b + 2 * k) (s_backs s (l.take i)) w g h → sBk s (l.take i) (s_backs s (l.take i)) → (List.range' s.next i).map (fun m => zr (g.ref 36 m)) <+: g.ar 14 0 → gL g0 g →
      zP s0 m_X8_crash (d + 2) 297 [some (zr x0), none, some (.int (Int32.ofNat l.length)), some (zr x3), some (.int (Int32.ofNat i))] [] h Q E
  | k, i, g, h, hi, R, B, hpr, L => by
    have hm := L.m hm0
    refine b_X8_crash_297 ⟨fun hle => ?_, fun hle => ?_⟩
    · rw [i_le (by omega) (by omega)] at hle
      obtain rfl : k = 0 := by omega
      have ei : i = l.length := by omega
      rw [ei, List.take_length] at R
      rw [ei] at hpr
      have Rb := (R.back hF h30 h3s).1
      refine g_PM Rb hm ((s_backs s l).w_sen (List.range' s.next l.length)) w (by rw [sen_main, List.length_range']; rfl) (Rb.2.sen_pre hpr) ⟨rfl, rfl, rfl, rfl, rfl, rfl, rfl, rfl, rfl⟩ fun h1 R1 _ => e_I (R1.main hm) fun (z1 : gI h1 x0 9 = (s_backs s l).messages) => ?_
      rw [z1]
      exact K g h1 R1 L
    rw [i_le (by omega) (by omega)] at hle
    obtain ⟨k', rfl⟩ : ∃ k', k = k' + 1 := ⟨k - 1, by omega⟩
    obtain ⟨m, hx⟩ : ∃ m, l[i]? = some m := ⟨_, List.getElem?_eq_getElem (by omega)⟩
    have hml := List.mem_of_getElem? hx
    obtain ⟨hkm, hlt, hent⟩ := hk m hml
    have ht := take_succ' hx
    have B2 := bk_snoc B hlt hkm
    obtain ⟨b1, b2, b3, b4, b5, b6⟩ := B
    have hti : (l.take i).length = i := by rw [List.length_take]; omega
    rw [hti] at b2 b5 b6
    have hcell : ∀ {h2 : zH} {g2 : sG} {S2 : sSt} {b2 : Nat}, tR s0 (zF1 F x3 (1018, l.map (fun m => zr (g0.ref 36 m)))) b2 S2 w g2 h2 → h2.1 x3 = some (1018, l.map (fun m => zr (g0.ref 36 m))) := fun R2 => (R2.1.2.1 x3 _ (if_pos rfl)).1
    have hgetl : (l.map (fun m => zr (g0.ref 36 m)))[(Int32.ofNat i).toNatClampNeg]? = some (zr (g0.ref 36 m)) := by
      rw [i_nat (by omega), List.getElem?_map, hx]
      rfl
    have hzl : zin (Int32.ofNat i) (l.map (fun m => zr (g0.ref 36 m))).length := zin_of (by rw [List.length_map]; omega) (by omega)
    have hkg : g.kind (g0.ref 36 m) = (36, m) := L.th (by decide) (by decide) (hA0 m hml)
    refine g_ER (t := 18) (hcell R) hzl hgetl fun z1 => ?_
    rw [z1]
    rw [show b + 2 * (k' + 1) = b + 2 * k' + 2 by omega] at R
    have hkm' : (s_backs s (l.take i)).knd m = 36 := by rw [(b4 m hlt).2]; exact hkm
    have hkq := b1.en m hkm'
    have hem : ((s_backs s (l.take i)).en m).queue = (s.en m).queue := by rw [(b4 m hlt).1]
    have hle6 := b6 (s.en m).queue
    rw [hent, List.length_nil] at hle6
    refine ⟨⟨_, R.main hm⟩, t_restore (d := d) R b1 hm hkg (by rw [hem]; omega) fun g1 h1 R1 L1 a1 => ?_⟩
    have hm1 := L1.m hm
    have L01 := L.trans L1
    have hkg1 : g1.kind (g0.ref 36 m) = (36, m) := L1.th (by decide) (by decide) hkg
    have ecM := R1.1.cell hkg1 (by decide)
    have hqe : (s_back0 (s_backs s (l.take i)) m).qu = _ := back0_qu
    have hne0 : (s_back0 (s_backs s (l.take i)) m).en = _ := back0_en
    have hkn : (s_back0 (s_backs s (l.take i)) m).knd = _ := back0_knd
    have hnx : m ≠ (s_backs s (l.take i)).next := by omega
    have hq1 : (((s_back0 (s_backs s (l.take i)) m).en m).queue) = ((s_backs s (l.take i)).en m).queue := by rw [hne0, sUp_ne hnx]
    have hkq1 : (s_back0 (s_backs s (l.take i)) m).knd ((s_backs s (l.take i)).en m).queue = 33 := by
      rw [hkn, sUp_ne (b1.old hkq (by decide))]
      exact hkq
    have hents : ((s_back0 (s_backs s (l.take i)) m).qu ((s_backs s (l.take i)).en m).queue).ents = ((s_backs s (l.take i)).qu ((s_backs s (l.take i)).en m).queue).ents ++ [(s_backs s (l.take i)).next] := by
      rw [hqe, sUp_self]
      rfl
    have hkN : (s_back0 (s_backs s (l.take i)) m).knd (s_backs s (l.take i)).next = 36 := by rw [hkn]; exact sUp_self
    have hold : ∀ j, s.next ≤ j → j < s.next + i → (s_backs s (l.take i)).knd j = 36 := b5
    have hSs : (s_back0 (s_backs s (l.take i)) m).sen = [] := by rw [back0_sen, b3, hs0]
    rw [← backs_snoc, ← ht] at R1 hq1 hkq1 hents hkN hSs B2
    have hq0 := hq1
    generalize hqv : ((s_backs s (l.take i)).en m).queue = qv at *
    have aq := R1.al (c := 33) (by decide) (by decide) hkq1
    have A31 := R1.ents hkq1
    have A14 := R1.2.ar14
    refine e_R (R1.main hm1) fun (z2 : gR h1 x0 21 = g1.ref 14 0) => ?_
    rw [z2]
    refine g_ER (t := 18) (hcell R1) hzl hgetl fun z3 => ?_
    rw [z3]
    refine e_R ecM fun (z4 : gR h1 (g0.ref 36 m) 4 = g1.ref 33 ((s_backs s (l.take (i + 1))).en m).queue) => ?_
    rw [z4, hq1]
    refine e_R (R1.1.cell aq (by decide)) fun (z5 : gR h1 (g1.ref 33 qv) 11 = g1.ref 31 qv) => ?_
    rw [z5]
    refine ⟨fE_of (hcell R1) hzl hgetl, fR_of ecM m1 rfl, ?_⟩
    refine e_I (R1.1.cell aq (by decide)) fun (z6 : gI h1 (g1.ref 33 qv) 12 = Int32.ofNat ((s_backs s (l.take (i + 1))).qu qv).ents.length) => ?_
    have hqlen : ((s_backs s (l.take i)).qu qv).ents.length ≤ i := by
      have := b6 qv
      rw [show qv = (s.en m).queue from hem, hent, List.length_nil] at this
      rw [show qv = (s.en m).queue from hem]
      omega
    rw [z6, hents, List.length_append, List.length_singleton, i_pred (by omega), Nat.add_sub_cancel]
    have hgl : ((s_backs s (l.take (i + 1))).qu qv).ents[((s_backs s (l.take i)).qu qv).ents.length]? = some (s_backs s (l.take i)).next := by
      rw [hents, List.getElem?_append_right (Nat.le_refl _), Nat.sub_self]
      rfl
    refine g_El R1 A31 rfl (by decide) hgl (by omega) fun z7 => ?_
    rw [z7]
    obtain ⟨eA14, hA14⟩ := R1.arr (t := 18) A14 rfl (by decide) (by decide)
    have hkNg : gA1 g1 36 (s_backs s (l.take i)).next := R1.al (c := 36) (by decide) (by decide) hkN
    refine g_S (t := 18) eA14 hA14 (zin_of (by rw [A14.2.1]; omega) (by omega)) ⟨Or.inr (zAsg_own (R1.1.cell hkNg (by decide)) zcl_33 rfl), ?_⟩
    rintro h3 e3
    rw [i_nat (by omega)] at e3
    have ne14 : x0 ≠ g1.ref 14 0 := kne hm1 A14.1 fun e => absurd (congrArg Prod.fst e) (by show ¬ (1 : Nat) = 14; decide)
    have hmapg : (List.range' s.next i).map (fun m => zr (g.ref 36 m)) = (List.range' s.next i).map (fun m => zr (g1.ref 36 m)) := List.map_congr_left fun j hj => by
      obtain ⟨h1j, h2j⟩ := List.mem_range'_1.mp hj
      have ha : gA1 g 36 j := R.al (c := 36) (by decide) (by decide) (hold j h1j h2j)
      rw [R1.1.at (L1.th (by decide) (by decide) ha) (by decide)]
    rw [hmapg, ← a1] at hpr
    have hpr2 : (List.range' s.next (i + 1)).map (fun m => zr (g1.ref 36 m)) <+: (g1.ar 14 0).set i (zr (g1.ref 36 (s_backs s (l.take i)).next)) := by
      have := pre_snoc hpr (v := zr (g1.ref 36 (s_backs s (l.take i)).next)) (by rw [List.length_map, List.length_range', A14.2.1]; omega)
      rw [List.length_map, List.length_range'] at this
      rw [List.range'_1_concat, List.map_append, ← b2]
      exact this
    have G := R1.2.put14 (L := (g1.ar 14 0).set i (zr (g1.ref 36 (s_backs s (l.take i)).next))) (by rw [List.length_set]; exact A14.2.1) (by rw [hSs]; exact List.nil_prefix)
    have R2 := R1.arM (t := 18) (s' := s_backs s (l.take (i + 1))) (w' := w) (h' := h3) hm1 A14.1 (by decide) rfl (by
      show (1000 + tarT 14, (gSet g1 14 0 _).ar 14 0) = _
      rw [gSet_self]
      rfl) (by rw [e3]; rfl) (fun r r0 r1 => by rw [e3, zput_ne r1]) (by rw [e3, zput_ne ne14]; exact R1.main hm1) (by rw [e3]; exact zput_self eA14) ⟨rfl, rfl, rfl, rfl, rfl, rfl, rfl, rfl, rfl⟩ G
    rw [i_succ]
    refine t_cr_297 I0 hs0 hl hk hm0 hA0 hF h30 h3s K k' (i + 1) _ h3 (by omega) R2 B2 ?_ (L01.trans gL.set)
    rw [gSet_self]
    exact hpr2
end OJ
