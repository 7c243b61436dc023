/-! ===== the twin: where a content goes ===== -/
set_option maxRecDepth 100000
/-- one cell more stays as it is -/
def zF1 (F : Nat → Option zC) (n : Nat) (q : zC) : Nat → Option zC := fun m => if m = n then some q else F m
/-- whether a binding leads from e to q -/
def s_cond (s : sSt) (e q : Nat) (key : sBy) (heads : Option sTab) (x : Nat) : Bool := (s.bi x).exch == e && (s.bi x).queue == q && s_matches s x key heads
/-- the marks of what was seen -/
def sSeen (s : sSt) (M : List Value) (seen : List Nat) : Prop := M.length = 12 ∧ ∀ (j e : Nat), s.es[j]? = some e → M[j]? = some (Value.int (sB (decide (e ∈ seen))))
def s_next (s : sSt) (e : Nat) : Option Nat := match (s.ex e).alt with
  | none => none
  | some a => s_exch s a
/-- where a content goes from an exchange, or from none -/
def s_rtO (s : sSt) (key : sBy) (heads : Option sTab) (eo : Option Nat) : List Nat := match eo with
  | none => (s_queue s key).toList
  | some e => s_routeL s key heads 13 [] (some e)
section RT
variable {s0 : zE} {F : Nat → Option zC} {b : Nat} {s s' : sSt} {w w' : tW} {g g' : sG} {h h' : zH} {d x0 x1 x2 x3 x5 i q m c n e : Nat} {Q : Value → zH → Prop} {E : Nat → zH → Prop} {key : sBy} {heads : Option sTab} {fs : List Value}
theorem tR.lend (R : tR s0 F b s w g h) (U : zUn s0 F g h n c fs) : tR s0 (zF1 F n (c, fs)) b s w g h := by
  obtain ⟨⟨a1, a2, a3⟩, G⟩ := R
  refine ⟨⟨a1, fun m q hq => ?_, a3⟩, G⟩
  unfold zF1 at hq
  split at hq
  · rename_i e
    subst e
    rw [← Option.some.inj hq]
    exact ⟨U.2.2.1, U.1, U.2.2.2.2.1⟩
  · exact a2 m q hq
theorem tR.back (R : tR s0 (zF1 F n (c, fs)) b s w g h) (hF : F n = none) (h0 : 0 < n) (hs : s0.1.heap.size < n) : tR s0 F b s w g h ∧ zUn s0 F g h n c fs := by
  obtain ⟨⟨a1, a2, a3⟩, G⟩ := R
  obtain ⟨b1, b2, b3⟩ := a2 n (c, fs) (if_pos rfl)
  refine ⟨⟨⟨a1, fun m q hq => a2 m q ?_, a3⟩, G⟩, b2, hF, b1, h0, b3, hs⟩
  have hne : m ≠ n := fun e => by rw [e, hF] at hq; cases hq
  exact (if_neg hne).trans hq
theorem tJs.lend {q : zC} (J : tJs s0 F) (hF : F n = none) : tJs s0 (zF1 F n q) := by
  refine ⟨J.1, J.2.1, fun c hc => ?_⟩
  have := J.2.2 c hc
  have hne : zls s0 "RelayHallModel" c.1 ≠ n := fun e => by rw [e, hF] at this; cases this
  exact (if_neg hne).trans this
theorem tR.rt (R : tR s0 F b s w g h) {l : List Nat} (A : gAr g 24 0 12 (l.map (fun q => zr (g.ref 33 q)))) : tR s0 F b s (w.w_rt l) g h := by
  obtain ⟨H, a1, ⟨b4, b5, b6, b7, b8, b11, b12, b13, b14, b15, b16, b17, b24, bz⟩, a3⟩ := R
  exact ⟨H, a1, ⟨b4, b5, b6, b7, b8, b11, b12, b13, b14, b15, b16, b17, A, bz⟩, a3⟩
theorem tR.rt0 (R : tR s0 F b s w g h) : tR s0 F b s (w.w_rt []) g h := R.rt ⟨R.2.ar24.1, R.2.ar24.2.1, List.nil_prefix⟩
theorem tR.put24 {l : List Nat} (R : tR s0 F b s (w.w_rt l) g h) (hl : l.length < 12) : tR s0 F b s (w.w_rt (l ++ [q])) (gSet g 24 0 ((g.ar 24 0).set l.length (zr (g.ref 33 q)))) (zput h (g.ref 24 0) l.length (zr (g.ref 33 q))) := by
  have A : gAr g 24 0 12 (l.map (fun q => zr (g.ref 33 q))) := R.2.ar24
  have hlen := A.2.1
  have G := R.2.set24 (l := (g.ar 24 0).set l.length (zr (g.ref 33 q))) (xs := l ++ [q]) (by rw [List.length_set]; exact A.2.1) (by
    have := pre_snoc A.2.2 (v := zr (g.ref 33 q)) (by rw [List.length_map, hlen]; exact hl)
    rw [List.length_map] at this
    rw [List.map_append, List.map_singleton]
    exact this)
  refine ⟨R.1.put A.1 (by decide) rfl rfl (cc := 1000 + 13) (fs := g.ar 24 0) rfl ?_ (fun m hk hne => tcell_set fun e => hne (Prod.ext e.1 e.2)), G⟩
  show (1000 + 13, (gSet g 24 0 _).ar 24 0) = _
  rw [gSet_self]
theorem gO_L {g g' : sG} {k : Nat} (L : gL g g') (R : tR s0 F b s w g h) (R' : tR s0 F b s' w' g' h') (h1 : 32 ≤ k) (h2 : k ≤ 37) {x : Nat} (hx : s.knd x = k) : g'.ref k x = g.ref k x := by
  have hk := R.al h1 h2 hx
  exact R'.1.at (L.th h1 h2 hk) (by omega)
/-- the bindings are gone over -/
theorem t_route_105 {x4 : Int32} (J : tJs s0 F) (I : sScope s) (X : sTx s) (C : sCp s) (hkl : key.length ≤ 40) (ho : ∀ t, heads = some t → sTabOk t) (hq : s.qs[i]? = some q) :
    ∀ (k j : Nat) (fl : Bool) (g : sG) (h : zH), s.bs.length = j + k → tR s0 F b s w g h → g.kind x0 = (1, 0) → gB g x2 key → gTo g x3 heads → g.kind x5 = (32, e) →
      (∀ g1 h1, tR s0 F b s w g1 h1 → gL g g1 → zP s0 m_X8_route (d + 14) 183 [some (zr x0), none, some (zr x2), some (zr x3), some (.int x4), some (zr n), some (zr x5), none, some (.int (Int32.ofNat i)), some (.int (sB (fl || (s.bs.drop j).any (s_cond s e q key heads)))), none] [] h1 Q E) →
      zP s0 m_X8_route (d + 14) 105 [some (zr x0), none, some (zr x2), some (zr x3), some (.int x4), some (zr n), some (zr x5), none, some (.int (Int32.ofNat i)), some (.int (sB fl)), some (.int (Int32.ofNat j))] [] h Q E
  | k, j, fl, g, h, hj, R, hm, hB, hT, h5, K => by
    have em := R.main hm
    have A7 := R.2.ar7
    have A6 := R.2.ar6
    have hbl := C.2.2.2.2.2.1
    have hql := C.2.2.2.2.1
    have hil := (List.getElem?_eq_some_iff.mp hq).1
    refine b_X8_route_105 (e_I em fun (z1 : gI h x0 7 = Int32.ofNat s.bs.length) => ?_)
    rw [z1, i_le (by omega) (by omega), i_succ]
    refine ⟨fun hle => ?_, fun hle => ?_⟩
    · have := K g h R (gL.refl g)
      rw [List.drop_eq_nil_of_le hle, List.any_nil, Bool.or_false] at this
      exact this
    rw [sB_0]
    refine ⟨fun hf => ?_, fun hf => e_R em fun (z2 : gR h x0 3 = g.ref 7 0) => ?_⟩
    · rw [Bool.not_eq_false] at hf
      have := K g h R (gL.refl g)
      rw [hf, Bool.true_or] at this
      rw [hf]
      exact this
    subst hf
    obtain ⟨k', rfl⟩ : ∃ k', k = k' + 1 := ⟨k - 1, by omega⟩
    have hx : s.bs[j]? = some s.bs[j] := List.getElem?_eq_getElem (by omega)
    have hkb := I.bs _ (List.mem_of_getElem? hx)
    have hb : g.kind (g.ref 34 s.bs[j]) = (34, s.bs[j]) := R.al (by decide) (by decide) hkb
    have eb := R.1.cell hb (by decide)
    obtain ⟨kq, ke⟩ := I.bi _ hkb
    have hdr : (s.bs.drop j).any (s_cond s e q key heads) = (s_cond s e q key heads s.bs[j] || (s.bs.drop (j + 1)).any (s_cond s e q key heads)) := by
      rw [List.drop_eq_getElem_cons (by omega), List.any_cons]
    rw [Bool.false_or, hdr] at K
    have hgo : ∀ (fl2 : Bool), s_cond s e q key heads s.bs[j] = fl2 → ∀ (g2 : sG) (h2 : zH), tR s0 F b s w g2 h2 → gL g g2 → zP s0 m_X8_route (d + 14) 105 [some (zr x0), none, some (zr x2), some (zr x3), some (.int x4), some (zr n), some (zr x5), none, some (.int (Int32.ofNat i)), some (.int (sB fl2)), some (.int (Int32.ofNat (j + 1)))] [] h2 Q E := fun fl2 hc g2 h2 R2 L2 => by
      rw [hc] at K
      exact t_route_105 J I X C hkl ho hq k' (j + 1) fl2 g2 h2 (by omega) R2 (L2.m hm) (L2.B hB) (L2.To hT) (L2.th (by decide) (by decide) h5) fun g1 h1 R1 L1 => K g1 h1 R1 (L2.trans L1)
    rw [z2]
    refine g_El R A7 rfl (by decide) hx (by decide) fun z3 => ?_
    rw [z3]
    refine e_R eb fun (z4 : gR h (g.ref 34 s.bs[j]) 1 = g.ref 32 (s.bi s.bs[j]).exch) => ?_
    rw [z4, R.inj (R.al (by decide) (by decide) ke) h5 (by decide)]
    refine ⟨fun hne => hgo false ?_ g h R (gL.refl g), fun heq => e_R em fun _ => ?_⟩
    · unfold s_cond
      rw [beq_false_of_ne hne, Bool.false_and, Bool.false_and]
    refine ⟨f_El R A7 rfl (by decide) hx (by decide), ?_⟩
    refine e_R eb fun (z5 : gR h (g.ref 34 s.bs[j]) 0 = g.ref 33 (s.bi s.bs[j]).queue) => e_R em fun (z6 : gR h x0 2 = g.ref 6 0) => ?_
    rw [z6]
    refine g_El R A6 rfl (by decide) hq (by decide) fun z7 => ?_
    rw [z5, z7, R.inj (R.al (by decide) (by decide) kq) (R.al (by decide) (by decide) (I.qs q (List.mem_of_getElem? hq))) (by decide)]
    refine ⟨fun hne => hgo false ?_ g h R (gL.refl g), fun hqq => e_R em fun _ => ?_⟩
    · unfold s_cond
      rw [beq_false_of_ne hne, Bool.and_false, Bool.false_and]
    refine ⟨f_El R A7 rfl (by decide) hx (by decide), ⟨_, em⟩, ?_⟩
    refine t_matches (d := d) J R I X hm hb hB hkl hT ho fun g2 h2 R2 L2 => ⟨_, rfl, ?_⟩
    have hcc : s_cond s e q key heads s.bs[j] = s_matches s s.bs[j] key heads := by
      unfold s_cond
      rw [beq_iff_eq.mpr heq, beq_iff_eq.mpr hqq, Bool.true_and, Bool.true_and]
    rw [sB_0]
    refine ⟨fun hv => hgo false (hcc.trans hv) g2 h2 R2 L2, fun hv => hgo true (hcc.trans ?_) g2 h2 R2 L2⟩
    rw [Bool.not_eq_false] at hv
    exact hv
theorem s_to_eq : s_to s e key heads = s.qs.filter (fun q => s.bs.any (s_cond s e q key heads)) := rfl
/-- the queues are gone over -/
theorem t_route_90 (J : tJs s0 F) (I : sScope s) (X : sTx s) (C : sCp s) (hkl : key.length ≤ 40) (ho : ∀ t, heads = some t → sTabOk t)  (hke : s.knd e = 32)
    {P : Nat → Value → Prop} :
    ∀ (k j : Nat) (g : sG) (h : zH), s.qs.length = j + k → tR s0 F b s (w.w_rt ((s.qs.take j).filter (fun q => s.bs.any (s_cond s e q key heads)))) g h → g.kind x0 = (1, 0) → gB g x2 key → gTo g x3 heads → g.kind x5 = (32, e) →
      (∀ g1 h1, tR s0 F b s (w.w_rt (s_to s e key heads)) g1 h1 → gL g g1 → zP s0 m_X8_route (d + 14) 40 [some (zr x0), none, some (zr x2), some (zr x3), some (.int (Int32.ofNat (s_to s e key heads).length)), some (zr n), some (zr (gO g1 32 (s_next s e))), none, none, none, none] [] h1 Q E) →
      zP s0 m_X8_route (d + 14) 90 [some (zr x0), none, some (zr x2), some (zr x3), some (.int (Int32.ofNat ((s.qs.take j).filter (fun q => s.bs.any (s_cond s e q key heads))).length)), some (zr n), some (zr x5), none, some (.int (Int32.ofNat j)), none, none] [] h Q E
  | k, j, g, h, hj, R, hm, hB, hT, h5, K => by
    have em := R.main hm
    have A6 := R.2.ar6
    have hql := C.2.2.2.2.1
    refine b_X8_route_90 (e_I em fun (z1 : gI h x0 6 = Int32.ofNat s.qs.length) => ?_)
    rw [z1, i_le (by omega) (by omega)]
    refine ⟨fun hle => ?_, fun hle => ?_⟩
    · have htk : (s.qs.take j).filter (fun q => s.bs.any (s_cond s e q key heads)) = s_to s e key heads := by
        rw [s_to_eq, List.take_of_length_le hle]
      rw [htk] at R ⊢
      have ee := R.1.cell h5 (by decide)
      obtain ⟨-, b2⟩ := R.2.2.2.2.2.2.2.1 e hke
      refine e_R ee fun (z2 : gR h x5 6 = g.rf 32 e 6) => ?_
      rw [z2]
      have K := K g h R (gL.refl g)
      unfold s_next at K
      cases ha : (s.ex e).alt with
      | none =>
        rw [ha] at b2 K
        have b2 : g.rf 32 e 6 = 0 := b2
        exact ⟨fun hh => absurd b2 hh, fun _ => K⟩
      | some a =>
        rw [ha] at b2 K
        have b2 : gB g (g.rf 32 e 6) a := b2
        have hal : a.length ≤ 40 := (X.1 e hke).2.2.1 a ha
        refine ⟨fun _ => e_R ee fun _ => ⟨⟨_, em⟩, t_exchange (d := d + 12) R I hm b2 (by omega) (fun q hq => by have := (X.1 q (I.es q hq)).1; omega) ⟨_, rfl, K⟩⟩, fun hh => absurd hh (R.1.pos b2.1 (by decide))⟩
    · obtain ⟨k', rfl⟩ : ∃ k', k = k' + 1 := ⟨k - 1, by omega⟩
      have hx : s.qs[j]? = some s.qs[j] := List.getElem?_eq_getElem (by omega)
      have htk : (s.qs.take (j + 1)).filter (fun q => s.bs.any (s_cond s e q key heads)) = (s.qs.take j).filter (fun q => s.bs.any (s_cond s e q key heads)) ++ (if s.bs.any (s_cond s e s.qs[j] key heads) = true then [s.qs[j]] else []) := by
        rw [List.take_add_one, hx, Option.toList_some, List.filter_append, List.filter_cons, List.filter_nil]
      have hfl : ((s.qs.take j).filter (fun q => s.bs.any (s_cond s e q key heads))).length ≤ j := Nat.le_trans (List.length_filter_le _ _) (by rw [List.length_take]; omega)
      refine t_route_105 (e := e) J I X C hkl ho hx s.bs.length 0 false g h (Nat.zero_add _).symm R hm hB hT h5 fun g1 h1 R1 L1 => ?_
      rw [Bool.false_or, List.drop_zero]
      have hm1 := L1.m hm
      have em1 := R1.main hm1
      refine b_X8_route_183 ?_
      rw [sB_0, i_succ]
      refine ⟨fun hf => ?_, fun hf => e_R em1 fun (z3 : gR h1 x0 44 = g1.ref 24 0) => e_R em1 fun (z4 : gR h1 x0 2 = g1.ref 6 0) => ?_⟩
      · rw [if_neg (by rw [hf]; decide), List.append_nil] at htk
        rw [← htk]
        rw [← htk] at R1
        exact t_route_90 (P := P) J I X C hkl ho hke k' (j + 1) g1 h1 (by omega) R1 hm1 (L1.B hB) (L1.To hT) (L1.th (by decide) (by decide) h5) fun g2 h2 R2 L2 => K g2 h2 R2 (L1.trans L2)
      · rw [Bool.not_eq_false] at hf
        rw [if_pos hf] at htk
        have A24 := R1.2.ar24
        have e24 : h1.1 (g1.ref 24 0) = some (1000 + 13, g1.ar 24 0) := R1.1.cell A24.1 (by decide)
        have n24 : s0.1.heap.size < g1.ref 24 0 := R1.1.new A24.1 (by decide) (by decide)
        rw [z3, z4]
        have hkq := I.qs _ (List.mem_of_getElem? hx)
        refine g_El R1 R1.2.ar6 rfl (by decide) hx (by decide) fun z5 => ?_
        rw [z5]
        refine g_S (t := 13) e24 n24 (zin_of (by rw [A24.2.1]; omega) (by omega)) ⟨Or.inr (zAsg_own (R1.1.cell (R1.al (by decide) (by decide) hkq) (by decide)) zcl_37 rfl), ?_⟩
        rintro h2 rfl
        rw [i_nat (by omega)]
        have R2 := R1.put24 (q := s.qs[j]) (by omega)
        have hlen : ((s.qs.take j).filter (fun q => s.bs.any (s_cond s e q key heads))).length + 1 = ((s.qs.take (j + 1)).filter (fun q => s.bs.any (s_cond s e q key heads))).length := by
          rw [htk, List.length_append, List.length_singleton]
        rw [i_succ, hlen]
        rw [← htk] at R2
        have L2 : gL g1 (gSet g1 24 0 ((g1.ar 24 0).set ((s.qs.take j).filter (fun q => s.bs.any (s_cond s e q key heads))).length (zr (g1.ref 33 s.qs[j])))) := gL.set
        have L12 := L1.trans L2
        exact t_route_90 (P := P) J I X C hkl ho hke k' (j + 1) _ _ (by omega) R2 (L12.m hm) (L12.B hB) (L12.To hT) (L12.th (by decide) (by decide) h5) fun g2 h2 R2 L2 => K g2 h2 R2 (L12.trans L2)
/-- the place of an exchange is looked for -/
theorem t_route_53 {M : List Value} (C : sCp s) (R : tR s0 F b s w g h) (I : sScope s) (hm : g.kind x0 = (1, 0)) (h5 : g.kind x5 = (32, e)) (U : zUn s0 F g h n 1003 M) (hM : M.length = 12) (he : e ∈ s.es)
    (K : ∀ j, s.es[j]? = some e → (fE h n 3 (Int32.ofNat j) (.int (eI h n (Int32.ofNat j)))) ∧ ((eI h n (Int32.ofNat j) = 0 → ((fS s0 h n 3 (Int32.ofNat j)) ∧ (∀ h1, h1 = zput h n (Int32.ofNat j).toNatClampNeg (narrow .boolean (.int 1)) → (zP s0 m_X8_route (d + 1) 90 [some (zr x0), none, some (zr x2), some (zr x3), some (.int 0), some (zr n), some (zr x5), none, some (.int 0), none, none] [] h1 Q E)))) ∧ (¬ eI h n (Int32.ofNat j) = 0 → (Q (.int 0) h)))) :
    ∀ (k j : Nat), s.es.length = j + k → (∀ i, i < j → s.es[i]? ≠ some e) → zP s0 m_X8_route (d + 1) 53 [some (zr x0), none, some (zr x2), some (zr x3), some (.int 0), some (zr n), some (zr x5), some (.int (Int32.ofNat j)), none, none, none] [] h Q E
  | k, j, hj, hno => by
    have em := R.main hm
    have hel := C.2.2.2.1
    have hjl : j < s.es.length := Classical.byContradiction fun hh => by
      obtain ⟨i, hi⟩ := List.getElem?_of_mem he
      exact hno i (by have := (List.getElem?_eq_some_iff.mp hi).1; omega) hi
    obtain ⟨k', rfl⟩ : ∃ k', k = k' + 1 := ⟨k - 1, by omega⟩
    have hx : s.es[j]? = some s.es[j] := List.getElem?_eq_getElem hjl
    refine b_X8_route_53 (e_R em fun (z1 : gR h x0 1 = g.ref 5 0) => ?_)
    rw [z1]
    refine g_El R R.2.ar5 rfl (by decide) hx (by decide) fun z2 => ?_
    rw [z2, R.inj (R.al (by decide) (by decide) (I.es _ (List.mem_of_getElem? hx))) h5 (by decide), i_succ]
    refine ⟨fun heq => K j (by rw [hx, heq]), fun hne => t_route_53 C R I hm h5 U hM he K k' (j + 1) (by omega) fun i hi hie => ?_⟩
    by_cases ei : i = j
    · subst ei
      rw [hx] at hie
      exact hne (Option.some.inj hie)
    · exact hno i (by omega) hie
theorem exch_mem {nm : sBy} {e : Nat} (h : s_exch s nm = some e) : e ∈ s.es := List.mem_of_find?_eq_some h
theorem next_mem {e' : Nat} (h : s_next s e = some e') : e' ∈ s.es := by
  unfold s_next at h
  split at h
  · cases h
  · exact exch_mem h
theorem t_route_40 {L : List Nat} (J : tJs s0 F) (I : sScope s) (X : sTx s) (C : sCp s) (hkl : key.length ≤ 40) (ho : ∀ t, heads = some t → sTabOk t) (hFn : F n = none) (hn0 : 0 < n) (hns : s0.1.heap.size < n) :
    ∀ (f : Nat) (seen : List Nat) (eo : Option Nat) (l : List Nat) (M : List Value) (g : sG) (h : zH), f + seen.length = 13 → seen.Nodup → (∀ x ∈ seen, x ∈ s.es) → (∀ e, eo = some e → e ∈ s.es) → tR s0 F b s (w.w_rt l) g h → zUn s0 F g h n 1003 M → sSeen s M seen → g.kind x0 = (1, 0) → gB g x2 key → gTo g x3 heads →
      L = (if l = [] then s_routeL s key heads f seen eo else l) → l.length ≤ 12 →
      (∀ g1 h1, tR s0 F b s (w.w_rt L) g1 h1 → gL g g1 → Q (.int (Int32.ofNat L.length)) h1) →
      zP s0 m_X8_route (d + 14) 40 [some (zr x0), none, some (zr x2), some (zr x3), some (.int (Int32.ofNat l.length)), some (zr n), some (zr (gO g 32 eo)), none, none, none, none] [] h Q E
  | f, seen, eo, l, M, g, h, hf, hnd, hse, heo, R, U, hM, hm, hB, hT, hL, hl, K => by
    have hlz : (Int32.ofNat l.length = 0) ↔ l = [] := by
      rw [show (0 : Int32) = Int32.ofNat 0 from rfl, i_inj (by omega) (by decide)]
      exact List.length_eq_zero_iff
    have hdone : L = l → Q (.int (Int32.ofNat l.length)) h := fun e => by
      have := K g h (by rw [e]; exact R) (gL.refl g)
      rw [e] at this
      exact this
    refine b_X8_route_40 ?_
    rw [hlz]
    cases eo with
    | none =>
      refine ⟨fun _ => hdone ?_, fun hh => absurd rfl hh⟩
      rw [hL]
      split
      · rename_i e
        rw [e]
        cases f <;> rfl
      · rfl
    | some e =>
      have he := heo e rfl
      have hke := I.es e he
      have hk : g.kind (g.ref 32 e) = (32, e) := R.al (by decide) (by decide) hke
      have hpos : ¬ gO g 32 (some e) = 0 := R.1.pos hk (by decide)
      refine ⟨fun hh => absurd hh hpos, fun _ => ⟨fun hne => hdone (by rw [hL, if_neg hne]), fun hl0 => ?_⟩⟩
      subst hl0
      rw [if_pos rfl] at hL
      have hel := C.2.2.2.1
      have hseen : seen.length ≤ 12 := Nat.le_trans (len_sub hnd hse) hel
      obtain ⟨f', rfl⟩ : ∃ f', f = f' + 1 := ⟨f - 1, by omega⟩
      rw [s_routeL] at hL
      refine t_route_53 (d := d + 13) C R I hm hk U hM.1 he (fun j hj => ?_) s.es.length 0 (Nat.zero_add _).symm fun i hi => absurd hi (Nat.not_lt_zero _)
      have hjl := (List.getElem?_eq_some_iff.mp hj).1
      have hMj := hM.2 j e hj
      refine g_EI (t := 3) U.2.2.1 (zin_of (by rw [hM.1]; omega) (by omega)) (by rw [i_nat (by omega)]; exact hMj) fun z1 => ?_
      rw [z1, sB_0]
      refine ⟨fun hns2 => ?_, fun hs2 => ?_⟩
      · have hnin : e ∉ seen := of_decide_eq_false hns2
        rw [if_neg hnin] at hL
        refine g_S (t := 3) U.2.2.1 hns (zin_of (by rw [hM.1]; omega) (by omega)) ?_
        rintro h1 rfl
        rw [i_nat (by omega), nb_1]
        have R1 := R.putF (k := j) (v := .int (sB true)) U.1 hFn
        have U1 : zUn s0 F g (zput h n j (.int (sB true))) n 1003 (M.set j (.int (sB true))) := ⟨U.1, U.2.1, zput_self U.2.2.1, U.2.2.2⟩
        have hM1 : sSeen s (M.set j (.int (sB true))) (e :: seen) := by
          refine ⟨by rw [List.length_set]; exact hM.1, fun j' e' hj' => ?_⟩
          by_cases ej : j' = j
          · subst ej
            rw [hj] at hj'
            obtain rfl := Option.some.inj hj'
            rw [List.getElem?_set_self (by rw [hM.1]; omega), decide_eq_true List.mem_cons_self]
          · rw [List.getElem?_set_ne (fun e2 => ej e2.symm), hM.2 j' e' hj']
            have hne : e' ≠ e := fun e2 => ej (by
              subst e2
              exact (List.getElem?_inj (List.getElem?_eq_some_iff.mp hj').1 C.1).mp (hj'.trans hj.symm))
            have : decide (e' ∈ e :: seen) = decide (e' ∈ seen) := by
              rw [decide_eq_decide, List.mem_cons]
              exact ⟨fun h => h.resolve_left hne, Or.inr⟩
            rw [this]
        have Rl := R1.lend U1
        refine t_route_90 (P := fun _ _ => True) (J.lend hFn) I X C hkl ho hke s.qs.length 0 g _ (Nat.zero_add _).symm Rl hm hB hT hk fun g2 h2 R2 L2 => ?_
        obtain ⟨R3, U3⟩ := R2.back hFn hn0 hns
        refine t_route_40 (L := L) J I X C hkl ho hFn hn0 hns f' (e :: seen) (s_next s e) (s_to s e key heads) _ g2 h2 (by rw [List.length_cons]; omega) (List.nodup_cons.mpr ⟨hnin, hnd⟩) (fun x hx => ?_) (fun e' he' => next_mem he') R3 U3 hM1 (L2.m hm) (L2.B hB) (L2.To hT) ?_ ?_ fun g1 h1 R1 L1 => K g1 h1 R1 (L2.trans L1)
        · rcases List.mem_cons.mp hx with e2 | e2
          · rw [e2]; exact he
          · exact hse x e2
        · rw [hL]
          by_cases h0 : s_to s e key heads = []
          · rw [if_neg (fun hh => hh h0), if_pos h0]
            rfl
          · rw [if_pos h0, if_neg h0]
        · exact Nat.le_trans (List.length_filter_le _ _) C.2.2.2.2.1
      · rw [Bool.not_eq_false] at hs2
        have hin : e ∈ seen := of_decide_eq_true hs2
        rw [if_pos hin] at hL
        have := K g h (by rw [hL]; exact R) (gL.refl g)
        rw [hL] at this
        exact this
theorem t_route {eo : Option Nat} (J : tJs s0 F) (R : tR s0 F (b + 2) s w g h) (I : sScope s) (X : sTx s) (C : sCp s) (hm : g.kind x0 = (1, 0)) (hB : gB g x2 key) (hT : gTo g x3 heads) (hkl : key.length ≤ 40) (ho : ∀ t, heads = some t → sTabOk t) (heo : ∀ e, eo = some e → e ∈ s.es)
    (K : ∀ g1 h1, tR s0 F b s (w.w_rt (s_rtO s key heads eo)) g1 h1 → gL g g1 → Q (.int (Int32.ofNat (s_rtO s key heads eo).length)) h1) : zX s0 m_X8_route (d + 14) [zr x0, zr (gO g 32 eo), zr x2, zr x3] h Q E := by
  cases eo with
  | none =>
    have em := R.main hm
    refine c_X8_route ⟨fun hh => absurd rfl hh, fun _ => ⟨⟨_, em⟩, t_queue (d := d + 12) R I hm hB (by omega) (fun q hq => by have := (X.2.1 q (I.qs q hq)).1; omega) ⟨_, rfl, ?_⟩⟩⟩
    have R0 := (R.less (b' := b) (by omega)).rt0
    unfold s_rtO at K
    simp only at K
    cases hq : s_queue s key with
    | none =>
      rw [hq] at K
      exact ⟨fun hh => absurd rfl hh, fun _ => K g h R0 (gL.refl g)⟩
    | some q =>
      rw [hq] at K
      have hqm : q ∈ s.qs := List.mem_of_find?_eq_some hq
      have hkq := I.qs q hqm
      have hk : g.kind (g.ref 33 q) = (33, q) := R.al (by decide) (by decide) hkq
      have A24 := R0.2.ar24
      have e24 : h.1 (g.ref 24 0) = some (1000 + 13, g.ar 24 0) := R0.1.cell A24.1 (by decide)
      have n24 : s0.1.heap.size < g.ref 24 0 := R0.1.new A24.1 (by decide) (by decide)
      refine ⟨fun _ => e_R em fun (z3 : gR h x0 44 = g.ref 24 0) => ?_, fun hh => absurd hh (R.1.pos hk (by decide))⟩
      rw [z3]
      refine g_S (t := 13) (j := 0) e24 n24 (by rw [show (0 : Int32) = Int32.ofNat 0 from rfl]; exact zin_of (by rw [A24.2.1]; decide) (by decide)) ⟨Or.inr (zAsg_own (R0.1.cell hk (by decide)) zcl_37 rfl), ?_⟩
      rintro h2 rfl
      have R2 := R0.put24 (q := q) (by decide)
      exact K _ _ R2 gL.set
  | some e =>
    have he := heo e rfl
    have hk : g.kind (g.ref 32 e) = (32, e) := R.al (by decide) (by decide) (I.es e he)
    have hpos : ¬ gO g 32 (some e) = 0 := R.1.pos hk (by decide)
    refine c_X8_route ⟨fun _ => ⟨by decide, ?_⟩, fun hh => absurd hh hpos⟩
    refine g_N (u := 2) R (by decide) (by decide) R.big fun n1 h1 R1 U1 => ?_
    refine t_route_40 J I X C hkl ho U1.2.1 U1.2.2.2.1 U1.2.2.2.2.2 13 [] (some e) [] _ g h1 rfl List.nodup_nil (fun x hx => nomatch hx) heo R1.rt0 U1 ⟨by rw [List.length_replicate]; rfl, fun j e' hj => ?_⟩ hm hB hT (if_pos rfl).symm (Nat.zero_le _) K
    have hjl := (List.getElem?_eq_some_iff.mp hj).1
    have := C.2.2.2.1
    rw [List.getElem?_replicate, if_pos (by show j < 12; omega), decide_eq_false (List.not_mem_nil)]
    rfl
end RT
