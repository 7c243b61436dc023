/-! ===== the twin: what was sent is settled ===== -/
set_option maxRecDepth 100000
/-- one is no more among what a channel was sent -/
def s_rm (s : sSt) (j x : Nat) : sSt := s_ch s j (fun k => k.w_sent (k.sent.erase x))
section MV
variable {s0 : zE} {F : Nat → Option zC} {b : Nat} {s s' s1 : sSt} {w w' w1 w2 : tW} {g g' g0 : sG} {h h' : zH} {d x0 x1 x2 x3 x5 x7 i j q m n a e x y : Nat} {Q : Value → zH → Prop} {E : Nat → zH → Prop} {dr nm key frm : sBy} {sz cl me code k bits tag what c4 c5 c6 : Int32} {rd : sRd} {u : Int32 × List Nat × (Nat → Nat)} {all : Bool}
theorem d_settle1 (I : sI s) (hk : s.knd m = 36) (hf : sFree s m) : sDn s (s_settle1 what s m) := by
  unfold s_settle1
  split
  · exact sDn.refl _
  · rename_i hs
    have hs : (s.en m).state = 1 := Decidable.not_not.mp hs
    split
    · exact d_leaves I hk (hf hs).1
    · split
      · exact (d_requeue I hk hf).1
      · exact (d_dies I hk (hf hs).1).1
theorem t_settle (Z : tZ s0 F b s w g h) (hm : g.kind x0 = (1, 0)) (hx : g.kind x1 = (37, x)) (hf : sFree s (s.se x).entry) (K : ∀ g1 h1, tZ s0 F b (s_settle1 what s (s.se x).entry) w g1 h1 → gL g g1 → Q .null h1) : zX s0 m_X8_settle (d + 7) [zr x0, zr x1, .int what] h Q E := by
  have hkx := Z.r.ak (by decide) (by decide) hx
  have hkm := (Z.sc.se x hkx).1
  have ex := Z.r.1.cell hx (by decide)
  have em := Z.r.main hm
  have hmk : g.kind (g.ref 36 (s.se x).entry) = (36, (s.se x).entry) := Z.r.al (by decide) (by decide) hkm
  have hff := Z.facts
  have hdd := Z.i.cp.2.2.2.2.2.2.2.1
  unfold s_settle1 at K
  refine c_X8_settle (e_R ex fun (z1 : gR h x1 1 = g.ref 36 (s.se x).entry) => ?_)
  rw [z1]
  refine e_I (Z.r.1.cell hmk (by decide)) fun (z2 : gI h (g.ref 36 (s.se x).entry) 8 = (s.en (s.se x).entry).state) => ?_
  rw [z2]
  refine ⟨fun h1 => ?_, fun h1 => ?_⟩
  · rw [if_neg (fun hh => hh h1)] at K
    refine ⟨fun h0 => ⟨fun h2 => e_R ex fun _ => ⟨⟨_, em⟩, ?_⟩, fun h2 => e_R ex fun _ => ⟨⟨_, em⟩, ?_⟩⟩, fun h0 => e_R ex fun _ => ⟨⟨_, em⟩, ?_⟩⟩
    · rw [if_neg h0, if_neg h2] at K
      obtain ⟨D, hp⟩ := d_dies Z.i hkm (hf h1).1
      exact t_dies (d := d + 2) (b := b + tP (s_dies s (s.se x).entry)) (Z.r.less (by omega)) Z.sc hm hmk (hf h1).1 (by omega) hdd fun g1 h1 R1 L1 => K g1 h1 (Z.dn D R1) L1
    · rw [if_neg h0, if_pos h2] at K
      obtain ⟨D, hp⟩ := d_requeue Z.i hkm hf
      exact t_requeue (d := d) (b := b + tP (s_requeue s (s.se x).entry)) (Z.r.less (by omega)) Z.sc hm hmk (by omega) hdd fun g1 h1 R1 L1 => K g1 h1 (Z.dn D R1) L1
    · rw [if_pos h0] at K
      obtain ⟨D, hp⟩ := d_lf Z.i (Z.sc.lv hkm) hkm (hf h1).1 lf_leaves
      exact t_leaves (d := d + 3) (b := b + tP (s_leaves s (s.se x).entry)) (Z.r.less (by omega)) Z.sc hm hmk (hf h1).1 (by omega) fun g1 h1 R1 L1 => K g1 h1 (Z.dn D R1) L1
  · rw [if_pos h1] at K
    exact K g h Z (gL.refl g)
theorem w_ch_id : s.w_ch s.ch = s := rfl
theorem sUp_id {f : Nat → sCh} : sUp f j (f j) = f := by
  funext i
  by_cases e : i = j
  · rw [e, sUp_self]
  · exact sUp_ne e
theorem s_ch_id {f : sCh → sCh} (hf : f (s.ch j) = s.ch j) : s_ch s j f = s := by
  show s.w_ch (sUp s.ch j (f (s.ch j))) = s
  rw [hf, sUp_id, w_ch_id]
theorem w_sent_id {k : sCh} : k.w_sent k.sent = k := rfl
theorem rm_id (hx : x ∉ (s.ch j).sent) : s_rm s j x = s := by
  unfold s_rm
  refine s_ch_id ?_
  rw [List.erase_of_not_mem hx]
  exact w_sent_id
theorem d_rm (I : sI s) (hj : isH j) (hkp : (s.ch j).state = 1 → ∀ y ∈ (s.ch j).kept, x ∉ y.those) : sDn s (s_rm s j x) := by
  have hnd := (I.sn.1 j hj).1
  have hsub : ((s.ch j).sent.erase x).length ≤ (s.ch j).sent.length := List.erase_sublist.length_le
  refine sDn.chUp (fun I => I.chUp ⟨hnd.erase x, fun y hy => List.mem_of_mem_erase hy⟩ (fun _ hx => hx) (fun hx => hx) (Nat.le_refl _) fun h1 y hy z hz => ?_) ?_ (fun e => e) (fun e => e) rfl
  · obtain ⟨p1, p2⟩ := I.sn.2.2 j hj h1 y hy z hz
    exact ⟨(List.mem_erase_of_ne (fun e => hkp h1 y hy (by rw [← e]; exact hz))).mpr p1, p2⟩
  · show ((s.ch j).sent.erase x).length + (s.ch j).confs.length ≤ _
    omega
theorem t_remove_a (R : tR s0 F b s w g h) (I : sScope s) (hj : isH j) (hx : g.kind x1 = (3, j)) (hy : g.kind x2 = (37, x)) (hl : (s.ch j).sent.length < 980000) (K : Q .null h) :
    ∀ k, k ≤ (s.ch j).sent.length → (∀ i, i < k → (s.ch j).sent[i]? ≠ some x) → zP s0 m_X8_remove (d + 1) 7 [some (zr x0), some (zr x1), some (zr x2), some (.int (Int32.ofNat k - 1))] [] h Q E
  | 0, _, _ => b_X8_remove_7 ⟨fun _ => K, fun hh => absurd (by decide) hh⟩
  | k + 1, hk, hne => by
    have ex := R.1.cell hx (by decide)
    obtain ⟨n5, f3, f4, f5⟩ := (R.2.chok hj).2.2.1
    have hy2 : (s.ch j).sent[k]? = some (s.ch j).sent[k] := List.getElem?_eq_getElem (by omega)
    have hk37 := (I.ch j hj).1 _ (List.mem_of_getElem? hy2)
    refine b_X8_remove_7 ?_
    rw [i_pred (by omega), Nat.add_sub_cancel]
    refine ⟨fun hh => absurd hh (i_nn (by omega)), fun _ => e_R ex fun (z1 : gR h x1 16 = g.ref 28 j) => ?_⟩
    rw [z1]
    refine g_El R f5 rfl (by decide) hy2 (by omega) fun z2 => ?_
    rw [z2, i_m1, R.inj (R.al (by decide) (by decide) hk37) hy (by decide)]
    exact ⟨fun _ => t_remove_a R I hj hx hy hl K k (by omega) (fun i hi => hne i (by omega)), fun he => absurd (by rw [hy2, he]) (hne k (by omega))⟩
theorem t_remove_b (Z : tZ s0 F b s w g h) (hm : g.kind x0 = (1, 0)) (hj : isH j) (hx : g.kind x1 = (3, j)) (hy : g.kind x2 = (37, x)) (hkp : (s.ch j).state = 1 → ∀ y ∈ (s.ch j).kept, x ∉ y.those) (K : ∀ g1 h1, tZ s0 F b (s_rm s j x) w g1 h1 → gL g g1 → Q .null h1) :
    ∀ k, k ≤ (s.ch j).sent.length → (∀ i, k ≤ i → (s.ch j).sent[i]? ≠ some x) → zP s0 m_X8_remove (d + 1) 7 [some (zr x0), some (zr x1), some (zr x2), some (.int (Int32.ofNat k - 1))] [] h Q E
  | 0, _, hne => by
    refine b_X8_remove_7 ⟨fun _ => K g h ?_ (gL.refl g), fun hh => absurd (by decide) hh⟩
    rw [rm_id (fun hm => by
      obtain ⟨i, hi⟩ := List.getElem?_of_mem hm
      exact hne i (Nat.zero_le _) hi)]
    exact Z
  | k + 1, hk, hne => by
    have hsl := Z.sent hj
    have ex := Z.r.1.cell hx (by decide)
    obtain ⟨n5, f3, f4, f5⟩ := (Z.r.2.chok hj).2.2.1
    have hy2 : (s.ch j).sent[k]? = some (s.ch j).sent[k] := List.getElem?_eq_getElem (by omega)
    have hk37 := (Z.sc.ch j hj).1 _ (List.mem_of_getElem? hy2)
    have hnd := (Z.i.sn.1 j hj).1
    refine b_X8_remove_7 ?_
    rw [i_pred (by omega), Nat.add_sub_cancel]
    refine ⟨fun hh => absurd hh (i_nn (by omega)), fun _ => e_R ex fun (z1 : gR h x1 16 = g.ref 28 j) => ?_⟩
    rw [z1]
    refine g_El Z.r f5 rfl (by decide) hy2 (by omega) fun z2 => ?_
    rw [z2, i_m1, Z.r.inj (Z.r.al (by decide) (by decide) hk37) hy (by decide)]
    refine ⟨fun he => t_remove_b Z hm hj hx hy hkp K k (by omega) (fun i hi => ?_), fun he => ⟨⟨_, Z.r.main hm⟩, t_take Z.r Z.sc hj hx hy2 (by omega) fun g1 h1 R1 L1 => ⟨_, rfl, ?_⟩⟩⟩
    · by_cases e : i = k
      · subst e
        rw [hy2]
        exact fun hh => he (Option.some.inj hh)
      · exact hne i (by omega)
    · have hyx : (s.ch j).sent[k]? = some x := by rw [hy2, he]
      have hS : s_ch s j (fun y => y.w_sent (y.sent.eraseIdx k)) = s_rm s j x := by
        unfold s_rm
        show s.w_ch (sUp s.ch j ((s.ch j).w_sent ((s.ch j).sent.eraseIdx k))) = s.w_ch (sUp s.ch j ((s.ch j).w_sent ((s.ch j).sent.erase x)))
        rw [eraseIdx_erase hnd hyx]
      rw [hS] at R1
      have hnx : x ∉ (s.ch j).sent.erase x := fun hh => (List.Nodup.mem_erase_iff hnd).mp hh |>.1 rfl
      have hch : ((s_rm s j x).ch j).sent = (s.ch j).sent.erase x := by
        unfold s_rm
        rw [s_ch_ch]
        rfl
      have Z1 := Z.dn' (d_rm Z.i hj hkp) R1
      have hl1 : ((s_rm s j x).ch j).sent.length = (s.ch j).sent.length - 1 := by
        rw [hch]
        exact List.length_erase_of_mem (List.mem_of_getElem? hyx)
      refine t_remove_a (s := s_rm s j x) Z1.r Z1.sc hj (L1.k hx gSt3) (L1.th (by decide) (by decide) hy) (by omega) (K g1 h1 Z1 L1) k (by omega) fun i hi hh => ?_
      rw [hch] at hh
      exact hnx (List.mem_of_getElem? hh)
theorem t_removeZ (Z : tZ s0 F b s w g h) (hm : g.kind x0 = (1, 0)) (hj : isH j) (hx : g.kind x1 = (3, j)) (hy : g.kind x2 = (37, x)) (hkp : (s.ch j).state = 1 → ∀ y ∈ (s.ch j).kept, x ∉ y.those) (K : ∀ g1 h1, tZ s0 F b (s_rm s j x) w g1 h1 → gL g g1 → Q .null h1) : zX s0 m_X8_remove (d + 1) [zr x0, zr x1, zr x2] h Q E := by
  refine c_X8_remove (e_I (Z.r.1.cell hx (by decide)) fun (z1 : gI h x1 10 = Int32.ofNat (s.ch j).sent.length) => ?_)
  rw [z1]
  refine t_remove_b Z hm hj hx hy hkp K (s.ch j).sent.length (Nat.le_refl _) fun i hi => ?_
  rw [List.getElem?_eq_none hi]
  exact fun hh => nomatch hh
theorem t_below {a c : Int32} (K : Q (.int (sB (decide (c < 0) || decide (a < c)))) h) : zX s0 m_X8_below d [.int a, .int c] h Q E := by
  refine c_X8_below ⟨fun h0 => ?_, fun h0 => ⟨fun h1 => ?_, fun h1 => ?_⟩⟩
  · rw [decide_eq_true h0, Bool.true_or] at K
    exact K
  · rw [decide_eq_false h0, Bool.false_or, decide_eq_false (Int32.not_lt.mpr h1)] at K
    exact K
  · rw [decide_eq_false h0, Bool.false_or, decide_eq_true (Int32.not_le.mp h1)] at K
    exact K
/-- whether a tag, or one behind, is meant: what is read of one that was sent -/
theorem t_meant {P0 P1 : Prop} (R : tR s0 F b s w g h) (hy : g.kind x7 = (37, x)) (K0 : s_meant s tag all x = false → P0) (K1 : s_meant s tag all x = true → P1) {d' : Nat} {PB : Int32 → zH → Prop} (hPB : ∀ r, PB r h ↔ ((r = 0 → P0) ∧ (¬ r = 0 → P1))) :
    (fI h x7 [34] 3) ∧ ((¬ gI h x7 3 = 0 → P0) ∧ (gI h x7 3 = 0 → ((fI h x7 [34] 0) ∧ ((gI h x7 0 = tag → P1) ∧ (¬ gI h x7 0 = tag → ((sB all = 0 → P0) ∧ (¬ sB all = 0 → ((tag = 0 → P1) ∧ (¬ tag = 0 → ((fI h x7 [34] 0) ∧ (zX s0 m_X8_below d' [.int (gI h x7 0), .int tag] h (fun v1 h1 => ∃ r1 : Int32, v1 = .int r1 ∧ PB r1 h1) E))))))))))) := by
  have ex := R.1.cell hy (by decide)
  unfold s_meant at K0 K1
  refine e_I ex fun (z1 : gI h x7 3 = sB (s.se x).done) => ?_
  rw [z1, sB_0, sB_0]
  refine ⟨fun hd => K0 (by rw [Bool.not_eq_false] at hd; rw [hd]; rfl), fun hd => e_I ex fun (z2 : gI h x7 0 = (s.se x).tag) => ?_⟩
  rw [hd] at K0 K1
  rw [z2]
  refine ⟨fun ht => K1 (by rw [beq_iff_eq.mpr ht]; rfl), fun ht => ⟨fun ha => K0 (by rw [beq_false_of_ne ht, ha]; rfl), fun ha => ?_⟩⟩
  rw [Bool.not_eq_false] at ha
  rw [beq_false_of_ne ht, ha] at K0 K1
  refine ⟨fun h0 => K1 (by rw [beq_iff_eq.mpr h0]; rfl), fun h0 => e_I ex fun _ => ?_⟩
  refine t_below ⟨_, rfl, (hPB _).mpr ?_⟩
  rw [beq_false_of_ne h0] at K0 K1
  rw [sB_0]
  refine ⟨fun hf => K0 (by rw [Bool.false_or]; exact hf), fun hf => K1 ?_⟩
  rw [Bool.not_eq_false] at hf
  exact hf
/-- what a tag tells: one that was sent under it, those that are meant -/
theorem t_told_9 (Z : tZ s0 F (b + 900 + tY s) s w g h) (hm : g.kind x0 = (1, 0)) (hj : isH j) (hx : g.kind x1 = (3, j))
    (K0 : ((s.ch j).sent.any (fun x => !(s.se x).done && (s.se x).tag == tag)) = false ∧ (all = false ∨ tag ≠ 0) → ∀ w1 g1 h1, tZ s0 F (b + tY (s_soft s j 406 w.cl w.me)) (s_soft s j 406 w.cl w.me) w1 g1 h1 → tWm w w1 → gL g g1 → Q (zr 0) h1)
    (K1 : ¬ (((s.ch j).sent.any (fun x => !(s.se x).done && (s.se x).tag == tag)) = false ∧ (all = false ∨ tag ≠ 0)) → zP s0 m_X8_told (d + 78) 116 [none, some (zr x1), some (.int tag), some (.int (sB all)), none, some (.int (Int32.ofNat ((s.ch j).sent.filter (fun x => s_meant s tag all x)).length)), none, none, none] [] h Q E) :
    ∀ (r pre : List Nat), (s.ch j).sent = pre ++ r → zP s0 m_X8_told (d + 78) 9 [some (zr x0), some (zr x1), some (.int tag), some (.int (sB all)), some (.int (sB (pre.any (fun x => !(s.se x).done && (s.se x).tag == tag)))), some (.int (Int32.ofNat (pre.filter (fun x => s_meant s tag all x)).length)), some (.int (Int32.ofNat pre.length)), none, none] [] h Q E
  | [], pre, hp => by
    have hsl := Z.sent hj
    have em := Z.r.main hm
    rw [List.append_nil] at hp
    subst hp
    refine b_X8_told_9 (e_I (Z.r.1.cell hx (by decide)) fun (z1 : gI h x1 10 = Int32.ofNat (s.ch j).sent.length) => ?_)
    rw [z1, i_le (by omega) (by omega), sB_0, sB_0]
    have hsoft : ((s.ch j).sent.any (fun x => !(s.se x).done && (s.se x).tag == tag)) = false ∧ (all = false ∨ tag ≠ 0) → zX s0 m_X8_soft (d + 77) [zr x0, zr x1, .int 406] h (fun _ h1 => Q (zr 0) h1) E := fun hc =>
      t_softZ (d := d) Z hm hx hj fun w4 g4 h4 Z4 W4 L4 => K0 hc w4 g4 h4 Z4 W4.tom L4
    refine ⟨fun _ => ⟨fun h1 => K1 (fun hh => h1 hh.1), fun h1 => ⟨fun ha => ⟨⟨_, em⟩, hsoft ⟨h1, Or.inl ha⟩⟩, fun ha => ⟨fun h0 => K1 (fun hh => hh.2.elim (fun e => ha e) fun e => e h0), fun h0 => ⟨⟨_, em⟩, hsoft ⟨h1, Or.inr h0⟩⟩⟩⟩⟩, fun hh => absurd (Nat.le_refl _) hh⟩
  | y :: r, pre, hp => by
    have hsl := Z.sent hj
    have ex := Z.r.1.cell hx (by decide)
    have hpl : (s.ch j).sent.length = pre.length + (r.length + 1) := by rw [hp, List.length_append]; rfl
    have hy : (s.ch j).sent[pre.length]? = some y := by rw [hp, List.getElem?_append_right (Nat.le_refl _), Nat.sub_self]; rfl
    have hk37 := (Z.sc.ch j hj).1 y (List.mem_of_getElem? hy)
    have hyk : g.kind (g.ref 37 y) = (37, y) := Z.r.al (by decide) (by decide) hk37
    have ey := Z.r.1.cell hyk (by decide)
    obtain ⟨n5, f3, f4, f5⟩ := (Z.r.2.chok hj).2.2.1
    have ih := t_told_9 Z hm hj hx K0 K1 r (pre ++ [y]) (by rw [hp, List.append_assoc]; rfl)
    rw [List.any_append, List.filter_append, List.length_append, List.length_append, List.length_singleton, List.any_cons, List.any_nil, Bool.or_false, ← i_succ] at ih
    refine b_X8_told_9 (e_I ex fun (z1 : gI h x1 10 = Int32.ofNat (s.ch j).sent.length) => ?_)
    rw [z1, i_le (by omega) (by omega)]
    refine ⟨fun hh => absurd hh (by omega), fun _ => e_R ex fun (z2 : gR h x1 16 = g.ref 28 j) => ?_⟩
    rw [z2]
    refine g_El Z.r f5 rfl (by decide) hy (by omega) fun z3 => ?_
    rw [z3]
    have h47 : ∀ v, v = sB (pre.any (fun x => !(s.se x).done && (s.se x).tag == tag) || (!(s.se y).done && (s.se y).tag == tag)) → zP s0 m_X8_told (d + 77 + 1) 47 [some (zr x0), some (zr x1), some (.int tag), some (.int (sB all)), some (.int v), some (.int (Int32.ofNat (pre.filter (fun x => s_meant s tag all x)).length)), some (.int (Int32.ofNat pre.length)), some (zr (g.ref 37 y)), none] [] h Q E := fun v hv => by
      rw [← hv] at ih
      refine b_X8_told_47 (t_meant (x := y) (tag := tag) (all := all) Z.r hyk (fun h0 => ?_) (fun h1 => ?_) fun r => Iff.rfl)
      · rw [List.filter_cons, h0, if_neg (by decide), List.filter_nil, List.length_nil, Nat.add_zero] at ih
        exact ih
      · rw [List.filter_cons, h1, if_pos rfl, List.filter_nil, List.length_singleton, ← i_succ] at ih
        exact ih
    refine e_I ey fun (z4 : gI h (g.ref 37 y) 3 = sB (s.se y).done) => ?_
    rw [z4, sB_0]
    refine ⟨fun hd => h47 _ ?_, fun hd => e_I ey fun (z5 : gI h (g.ref 37 y) 0 = (s.se y).tag) => ?_⟩
    · rw [Bool.not_eq_false] at hd
      rw [hd, Bool.not_true, Bool.false_and, Bool.or_false]
    · rw [z5]
      refine ⟨fun ht => h47 _ ?_, fun ht => h47 _ ?_⟩
      · rw [hd, beq_false_of_ne ht, Bool.and_false, Bool.or_false]
      · rw [hd, beq_iff_eq.mpr ht, Bool.not_false, Bool.true_and, Bool.or_true]
        rfl
theorem t_told_129 (hj : isH j) (hx : g.kind x1 = (3, j)) (I : sScope s) (hsl : (s.ch j).sent.length < 980000) (K : ∀ h1, tR s0 F b s w g h1 → zUn s0 F g h1 n 1020 (((s.ch j).sent.filter (fun x => s_meant s tag all x)).map (fun x => zr (g.ref 37 x))) → Q (zr n) h1) :
    ∀ (r pre : List Nat) (h : zH), (s.ch j).sent = pre ++ r → tR s0 F b s w g h → zUn s0 F g h n 1020 ((pre.filter (fun x => s_meant s tag all x)).map (fun x => zr (g.ref 37 x)) ++ List.replicate (r.filter (fun x => s_meant s tag all x)).length (zr 0)) →
      zP s0 m_X8_told (d + 78) 129 [none, some (zr x1), some (.int tag), some (.int (sB all)), none, some (.int (Int32.ofNat (pre.filter (fun x => s_meant s tag all x)).length)), some (zr n), some (.int (Int32.ofNat pre.length)), none] [] h Q E
  | [], pre, h, hp, R, U => by
    rw [List.append_nil] at hp
    subst hp
    refine b_X8_told_129 (e_I (R.1.cell hx (by decide)) fun (z1 : gI h x1 10 = Int32.ofNat (s.ch j).sent.length) => ?_)
    rw [z1, i_le (by omega) (by omega)]
    refine ⟨fun _ => K h R ?_, fun hh => absurd (Nat.le_refl _) hh⟩
    rw [List.filter_nil, List.length_nil, List.replicate_zero, List.append_nil] at U
    exact U
  | y :: r, pre, h, hp, R, U => by
    have ex := R.1.cell hx (by decide)
    have hpl : (s.ch j).sent.length = pre.length + (r.length + 1) := by rw [hp, List.length_append]; rfl
    have hy : (s.ch j).sent[pre.length]? = some y := by rw [hp, List.getElem?_append_right (Nat.le_refl _), Nat.sub_self]; rfl
    have hk37 := (I.ch j hj).1 y (List.mem_of_getElem? hy)
    have hyk : g.kind (g.ref 37 y) = (37, y) := R.al (by decide) (by decide) hk37
    have ey := R.1.cell hyk (by decide)
    obtain ⟨n5, f3, f4, f5⟩ := (R.2.chok hj).2.2.1
    have hfl : (pre.filter (fun x => s_meant s tag all x)).length ≤ pre.length := List.length_filter_le _ _
    refine b_X8_told_129 (e_I ex fun (z1 : gI h x1 10 = Int32.ofNat (s.ch j).sent.length) => ?_)
    rw [z1, i_le (by omega) (by omega)]
    refine ⟨fun hh => absurd hh (by omega), fun _ => e_R ex fun (z2 : gR h x1 16 = g.ref 28 j) => ?_⟩
    rw [z2]
    refine g_El R f5 rfl (by decide) hy (by omega) fun z3 => ?_
    rw [z3, i_succ]
    have e1 : pre.length + 1 = (pre ++ [y]).length := by rw [List.length_append]; rfl
    rw [e1]
    refine t_meant (x := y) (tag := tag) (all := all) R hyk (P0 := zP s0 m_X8_told (d + 77 + 1) 129 [none, some (zr x1), some (.int tag), some (.int (sB all)), none, some (.int (Int32.ofNat (pre.filter (fun x => s_meant s tag all x)).length)), some (zr n), some (.int (Int32.ofNat (pre ++ [y]).length)), none] [] h Q E)
      (P1 := (fS s0 h n 20 (Int32.ofNat (pre.filter (fun x => s_meant s tag all x)).length)) ∧ ((g.ref 37 y = 0 ∨ zAsg h (g.ref 37 y) (.object "RelayHallModel$Sent")) ∧ (∀ h1, h1 = zput h n (Int32.ofNat (pre.filter (fun x => s_meant s tag all x)).length).toNatClampNeg (zr (g.ref 37 y)) → (zP s0 m_X8_told (d + 77 + 1) 129 [none, some (zr x1), some (.int tag), some (.int (sB all)), none, some (.int (Int32.ofNat (pre.filter (fun x => s_meant s tag all x)).length + 1)), some (zr n), some (.int (Int32.ofNat (pre ++ [y]).length)), none] [] h1 Q E)))) (fun h0 => ?_) (fun h1 => ?_) fun r => Iff.rfl
    · have ef : (pre ++ [y]).filter (fun x => s_meant s tag all x) = pre.filter (fun x => s_meant s tag all x) := by rw [List.filter_append, List.filter_cons, h0]; simp
      have := t_told_129 hj hx I hsl K r (pre ++ [y]) h (by rw [hp, List.append_assoc]; rfl) R (by
        rw [ef]
        rw [List.filter_cons, h0, if_neg (by decide)] at U
        exact U)
      rw [ef] at this
      exact this
    · have ef : (pre ++ [y]).filter (fun x => s_meant s tag all x) = pre.filter (fun x => s_meant s tag all x) ++ [y] := by rw [List.filter_append, List.filter_cons, h1]; simp
      rw [List.filter_cons, h1, if_pos rfl, List.length_cons, List.replicate_succ] at U
      refine g_S (t := 20) U.2.2.1 U.2.2.2.2.2 (zin_of (by rw [List.length_append, List.length_map]; show _ < _ + (_ + 1); omega) (by omega)) ⟨Or.inr (zAsg_own ey zcl_34 rfl), ?_⟩
      rintro h2 rfl
      rw [i_nat (by omega), i_succ]
      have := t_told_129 hj hx I hsl K r (pre ++ [y]) (zput h n (pre.filter (fun x => s_meant s tag all x)).length (zr (g.ref 37 y))) (by rw [hp, List.append_assoc]; rfl) (R.putF U.1 U.2.1) ⟨U.1, U.2.1, by
        rw [zput_self U.2.2.1, ef, List.set_append_right _ _ (by rw [List.length_map]; exact Nat.le_refl _), List.length_map, Nat.sub_self, List.set_cons_zero, List.map_append, List.append_assoc]
        rfl, U.2.2.2⟩
      rw [ef, List.length_append (as := pre.filter _)] at this
      exact this
theorem t_told (Z : tZ s0 F (b + 2902 + tY s) s w g h) (hm : g.kind x0 = (1, 0)) (hj : isH j) (hx : g.kind x1 = (3, j)) (hsl : (s.ch j).sent.length ≤ 12000)
    (K0 : ((s.ch j).sent.any (fun x => !(s.se x).done && (s.se x).tag == tag)) = false ∧ (all = false ∨ tag ≠ 0) → ∀ w1 g1 h1, tZ s0 F (b + tY (s_soft s j 406 w.cl w.me)) (s_soft s j 406 w.cl w.me) w1 g1 h1 → tWm w w1 → gL g g1 → Q (zr 0) h1)
    (K1 : ¬ (((s.ch j).sent.any (fun x => !(s.se x).done && (s.se x).tag == tag)) = false ∧ (all = false ∨ tag ≠ 0)) → ∀ n g1 h1, tZ s0 F (b + 900 + tY s) s w g1 h1 → gL g g1 → gF g1 n (1020, ((s.ch j).sent.filter (fun x => s_meant s tag all x)).map (fun x => zr (g1.ref 37 x))) → Q (zr n) h1) :
    zX s0 m_X8_told (d + 78) [zr x0, zr x1, .int tag, .int (sB all)] h Q E := by
  refine c_X8_told (t_told_9 (d := d) (b := b) (tag := tag) (all := all) (Z.le (by omega)) hm hj hx K0 (fun hn => ?_) (s.ch j).sent [] rfl)
  have hfl : ((s.ch j).sent.filter (fun x => s_meant s tag all x)).length ≤ (s.ch j).sent.length := List.length_filter_le _ _
  refine b_X8_told_116 ⟨i_nn (by omega), ?_⟩
  rw [i_nat (by omega)]
  refine g_N (u := 2001) (b := b + 900 + tY s + tP s) (Z.r.less (by omega)) (by decide) (by omega) Z.r.big fun n1 h1 R1 U1 => ?_
  refine t_told_129 (d := d) hj hx Z.sc (by omega) (fun h2 R2 U2 => ?_) (s.ch j).sent [] h1 rfl R1 U1
  have Z2 : tZ s0 F (b + 900 + tY s) s w (gFz g n1 (1020, ((s.ch j).sent.filter (fun x => s_meant s tag all x)).map (fun x => zr (g.ref 37 x)))) h2 := Z.cut (k := 0) (by omega) (R2.freeze U2)
  exact K1 hn n1 _ h2 Z2 (gL.frz U2.1) gFz_F
end MV
