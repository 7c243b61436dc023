/-! ===== the twin: what is safe, records made good ===== -/
set_option maxRecDepth 100000
set_option maxHeartbeats 200000
/-- a list whose part from c on is filtered -/
def flt (p : Nat → Bool) (l : List Nat) (c : Nat) : List Nat := l.take c ++ (l.drop c).filter p
section OB0
variable {p : Nat → Bool} {l : List Nat} {k x : Nat}
theorem flt_0 : flt p l 0 = l.filter p := rfl
theorem flt_all : flt p l l.length = l := by
  unfold flt
  rw [List.take_length, List.drop_length, List.filter_nil, List.append_nil]
theorem flt_get (hx : l[k]? = some x) : (flt p l (k + 1))[k]? = some x := by
  have hk := (List.getElem?_eq_some_iff.mp hx).1
  unfold flt
  rw [List.getElem?_append_left (by rw [List.length_take]; omega), List.getElem?_take, if_pos (Nat.lt_succ_self k), hx]
theorem flt_keep (hx : l[k]? = some x) (hp : p x = true) : flt p l (k + 1) = flt p l k := by
  have hk := (List.getElem?_eq_some_iff.mp hx).1
  have e : l.drop k = x :: l.drop (k + 1) := by rw [List.drop_eq_getElem_cons hk, (List.getElem?_eq_some_iff.mp hx).2]
  unfold flt
  rw [e, List.filter_cons, if_pos hp, List.take_add_one, hx, List.append_assoc]
  rfl
theorem flt_drop (hx : l[k]? = some x) (hp : p x = false) : (flt p l (k + 1)).eraseIdx k = flt p l k := by
  have hk := (List.getElem?_eq_some_iff.mp hx).1
  have e : l.drop k = x :: l.drop (k + 1) := by rw [List.drop_eq_getElem_cons hk, (List.getElem?_eq_some_iff.mp hx).2]
  have hl : (l.take k).length = k := by rw [List.length_take]; omega
  unfold flt
  rw [e, List.filter_cons, if_neg (by rw [hp]; decide), List.take_add_one, hx, List.append_assoc, List.eraseIdx_append_of_length_le (by omega), hl, Nat.sub_self]
  rfl
theorem flt_sub : ∀ y ∈ flt p l k, y ∈ l := fun y hy => by
  rcases List.mem_append.mp hy with h | h
  · exact List.mem_of_mem_take h
  · exact List.mem_of_mem_drop (List.mem_filter.mp h).1
/-- the first k of a list filtered, put ahead; the rest as it was -/
def cmp (p : Nat → Bool) (l : List Nat) (k : Nat) : List Nat := (l.take k).filter p ++ l.drop ((l.take k).filter p).length
theorem cmp_len : ((l.take k).filter p).length ≤ k := Nat.le_trans (List.length_filter_le _ _) (by rw [List.length_take]; omega)
theorem cmp_length (hk : k ≤ l.length) : (cmp p l k).length = l.length := by
  have := cmp_len (p := p) (l := l) (k := k)
  unfold cmp
  rw [List.length_append, List.length_drop]
  omega
theorem cmp_get (hx : l[k]? = some x) : (cmp p l k)[k]? = some x := by
  have := cmp_len (p := p) (l := l) (k := k)
  unfold cmp
  rw [List.getElem?_append_right this, List.getElem?_drop, show ((l.take k).filter p).length + (k - ((l.take k).filter p).length) = k by omega]
  exact hx
theorem take_succ' (hx : l[k]? = some x) : l.take (k + 1) = l.take k ++ [x] := by
  rw [List.take_add_one, hx]
  rfl
theorem cmp_skip (hx : l[k]? = some x) (hp : p x = false) : cmp p l (k + 1) = cmp p l k := by
  unfold cmp
  rw [take_succ' hx, List.filter_append, List.filter_cons, if_neg (by rw [hp]; decide), List.filter_nil, List.append_nil]
theorem cmp_put (hx : l[k]? = some x) (hp : p x = true) : cmp p l (k + 1) = (cmp p l k).set ((l.take k).filter p).length x := by
  have hk := (List.getElem?_eq_some_iff.mp hx).1
  have h1 := cmp_len (p := p) (l := l) (k := k)
  unfold cmp
  rw [take_succ' hx, List.filter_append, List.filter_cons, if_pos hp, List.filter_nil, List.set_append_right _ _ (Nat.le_refl _), Nat.sub_self, List.length_append]
  have e : l.drop ((l.take k).filter p).length = (l[((l.take k).filter p).length]'(by omega)) :: l.drop (((l.take k).filter p).length + 1) := List.drop_eq_getElem_cons (by omega)
  rw [e, List.set_cons_zero, List.append_assoc]
  rfl
theorem cmp_n_skip (hx : l[k]? = some x) (hp : p x = false) : ((l.take (k + 1)).filter p).length = ((l.take k).filter p).length := by
  rw [take_succ' hx, List.filter_append, List.filter_cons, if_neg (by rw [hp]; decide), List.filter_nil, List.append_nil]
theorem cmp_n_put (hx : l[k]? = some x) (hp : p x = true) : ((l.take (k + 1)).filter p).length = ((l.take k).filter p).length + 1 := by
  rw [take_succ' hx, List.filter_append, List.filter_cons, if_pos hp, List.filter_nil, List.length_append]
  rfl
theorem cmp_0 : cmp p l 0 = l := by
  unfold cmp
  rw [List.take_zero, List.filter_nil]
  rfl
theorem cmp_sub : ∀ y ∈ cmp p l k, y ∈ l := fun y hy => by
  rcases List.mem_append.mp hy with h | h
  · exact List.mem_of_mem_take (List.mem_filter.mp h).1
  · exact List.mem_of_mem_drop h
theorem cmp_pre : l.filter p <+: cmp p l l.length := by
  unfold cmp
  rw [List.take_length]
  exact ⟨_, rfl⟩
end OB0
section OB
variable {s0 : zE} {F : Nat → Option zC} {b : Nat} {s s' S : sSt} {w w' : tW} {g g' g0 : sG} {h h' : zH} {d x0 x1 x2 n m c i j q e k : Nat} {Q : Value → zH → Prop} {E : Nat → zH → Prop} {l : List Nat}
theorem t_tsB (R : tR s0 F b s w g h) (hm : g.kind x0 = (1, 0)) (ha : ∀ x ∈ s.sbs, gA1 g 34 x) (hk : k < s.sbs.length)
    (K : ∀ g1 h1, tR s0 F b (s.w_sbs (s.sbs.eraseIdx k)) w g1 h1 → gL g g1 → Q .null h1) : zX s0 m_X8_takeSafeBinding d [zr x0, .int (Int32.ofNat k)] h Q E := by
  have A := R.2.ar13
  have hle := A.le
  rw [List.length_map] at hle
  obtain ⟨eA, hA⟩ := R.arr A rfl (by decide) (by decide)
  have hne : x0 ≠ g.ref 13 0 := kne hm A.1 (by decide)
  refine c_X8_takeSafeBinding (e_I (R.main hm) fun (z1 : gI h x0 24 = Int32.ofNat s.sbs.length) => g_C (R.main hm) ?_)
  rw [z1, show (1 : Int32) = Int32.ofNat 1 from rfl, i_sub (by omega)]
  intro h1 e1
  have ex0 : h1.1 x0 = some (7, (tMain s w g).set 24 (.int (Int32.ofNat (s.sbs.length - 1)))) := by rw [e1]; exact zput_self (R.main hm)
  have eA1 : h1.1 (g.ref 13 0) = some (1000 + 14, g.ar 13 0) := by rw [e1, zput_ne hne.symm]; exact eA
  have G := R.good (C := "RelayHallModel$Binding") A (by decide) ha (fun x => ⟨_, rfl⟩) zcl_38 rfl
  refine sh_loop (Z := fun i hk => zP s0 m_X8_takeSafeBinding d 12 [some (zr x0), none, some (.int (Int32.ofNat i))] [] hk Q E) (own := x0) (oc := 7) (kc := 24) (ka := 20) (n := s.sbs.length) (C := "RelayHallModel$Binding") (t := 14) (arr := g.ref 13 0) hne rfl rfl hA
    (fun i hk H => b_X8_takeSafeBinding_12 (by rw [i_succ] at H ⊢; exact H)) (s.sbs.length - 1 - k) k h1 (g.ar 13 0) (by omega) ex0 eA1 (by rw [A.2.1]; exact hle) (by rw [A.2.1]; decide)
    (G.mono (Nat.le_refl _) fun r hr => hr.imp id fun x => by rw [e1]; exact zAsg_put x) (fun h2 o1 o2 o3 => ?_)
  have hx1 := shf_erase (s.sbs.length - 1 - k) (g.ar 13 0) _ k A.2.2 (by rw [List.length_map]; omega)
  rw [map_eraseIdx] at hx1
  have hlen : (s.sbs.eraseIdx k).length = s.sbs.length - 1 := List.length_eraseIdx_of_lt hk
  refine K (gSet g 13 0 (shf (s.sbs.length - 1 - k) (g.ar 13 0) k)) h2 (R.arM hm A.1 (by decide) (t := 14) rfl ?_ ?_ (fun m m1 m2 => ?_) ?_ o3 ⟨rfl, rfl, rfl, rfl, rfl, rfl, rfl, rfl, rfl⟩ (R.2.set13 (by rw [shf_len]; exact A.2.1) hx1)) gL.set
  · show (1000 + tarT 13, (gSet _ 13 0 _).ar 13 0) = _
    rw [gSet_self]
    rfl
  · rw [o1, e1]
    rfl
  · rw [o2 _ m2, e1, zput_ne m1]
  · rw [o2 _ hne, ex0]
    show _ = some (7, tMain (s.w_sbs (s.sbs.eraseIdx k)) w g)
    rw [← hlen]
    rfl
theorem t_tsE (R : tR s0 F b s w g h) (hm : g.kind x0 = (1, 0)) (ha : ∀ x ∈ s.sen, gA1 g 36 x) (hk : k < s.sen.length)
    (K : ∀ g1 h1, tR s0 F b (s.w_sen (s.sen.eraseIdx k)) w g1 h1 → gL g g1 → Q .null h1) : zX s0 m_X8_takeSafeEntry d [zr x0, .int (Int32.ofNat k)] h Q E := by
  have A := R.2.ar14
  have hle := A.le
  rw [List.length_map] at hle
  obtain ⟨eA, hA⟩ := R.arr A rfl (by decide) (by decide)
  have hne : x0 ≠ g.ref 14 0 := kne hm A.1 (by decide)
  refine c_X8_takeSafeEntry (e_I (R.main hm) fun (z1 : gI h x0 25 = Int32.ofNat s.sen.length) => g_C (R.main hm) ?_)
  rw [z1, show (1 : Int32) = Int32.ofNat 1 from rfl, i_sub (by omega)]
  intro h1 e1
  have ex0 : h1.1 x0 = some (7, (tMain s w g).set 25 (.int (Int32.ofNat (s.sen.length - 1)))) := by rw [e1]; exact zput_self (R.main hm)
  have eA1 : h1.1 (g.ref 14 0) = some (1000 + 18, g.ar 14 0) := by rw [e1, zput_ne hne.symm]; exact eA
  have G := R.good (C := "RelayHallModel$Entry") A (by decide) ha (fun x => ⟨_, rfl⟩) zcl_33 rfl
  refine sh_loop (Z := fun i hk => zP s0 m_X8_takeSafeEntry d 12 [some (zr x0), none, some (.int (Int32.ofNat i))] [] hk Q E) (own := x0) (oc := 7) (kc := 25) (ka := 21) (n := s.sen.length) (C := "RelayHallModel$Entry") (t := 18) (arr := g.ref 14 0) hne rfl rfl hA
    (fun i hk H => b_X8_takeSafeEntry_12 (by rw [i_succ] at H ⊢; exact H)) (s.sen.length - 1 - k) k h1 (g.ar 14 0) (by omega) ex0 eA1 (by rw [A.2.1]; exact hle) (by rw [A.2.1]; decide)
    (G.mono (Nat.le_refl _) fun r hr => hr.imp id fun x => by rw [e1]; exact zAsg_put x) (fun h2 o1 o2 o3 => ?_)
  have hx1 := shf_erase (s.sen.length - 1 - k) (g.ar 14 0) _ k A.2.2 (by rw [List.length_map]; omega)
  rw [map_eraseIdx] at hx1
  have hlen : (s.sen.eraseIdx k).length = s.sen.length - 1 := List.length_eraseIdx_of_lt hk
  refine K (gSet g 14 0 (shf (s.sen.length - 1 - k) (g.ar 14 0) k)) h2 (R.arM hm A.1 (by decide) (t := 18) rfl ?_ ?_ (fun m m1 m2 => ?_) ?_ o3 ⟨rfl, rfl, rfl, rfl, rfl, rfl, rfl, rfl, rfl⟩ (R.2.set14 (by rw [shf_len]; exact A.2.1) hx1)) gL.set
  · show (1000 + tarT 14, (gSet _ 14 0 _).ar 14 0) = _
    rw [gSet_self]
    rfl
  · rw [o1, e1]
    rfl
  · rw [o2 _ m2, e1, zput_ne m1]
  · rw [o2 _ hne, ex0]
    show _ = some (7, tMain (s.w_sen (s.sen.eraseIdx k)) w g)
    rw [← hlen]
    rfl
theorem t_fx_55 (hx1 : g0.kind x1 = (32, e)) (hq : ∀ x ∈ l, s.knd (s.bi x).exch = 32) (hl : ∀ x ∈ l, s.knd x = 34) (h301 : l.length ≤ 400) (hm0 : g0.kind x0 = (1, 0))
    (K : ∀ g1 h1, tR s0 F b (s.w_sbs (l.filter (fun x => !((s.bi x).exch == e)))) w g1 h1 → gL g0 g1 → Q .null h1) :
    ∀ (k : Nat) (g : sG) (h : zH), k ≤ l.length → tR s0 F b (s.w_sbs (flt (fun x => !((s.bi x).exch == e)) l k)) w g h → gL g0 g → zP s0 m_X8_forgetExchange (d + 1) 55 [some (zr x0), some (zr x1), none, some (.int (i_dec k))] [] h Q E
  | 0, g, h, hk, R, L => b_X8_forgetExchange_55 ⟨fun _ => by
      rw [flt_0] at R
      exact K g h R L, fun hh => absurd (show (-1 : Int32) < 0 by decide) hh⟩
  | k + 1, g, h, hk, R, L => by
    have hm := L.m hm0
    obtain ⟨x, hx⟩ : ∃ x, l[k]? = some x := ⟨_, List.getElem?_eq_getElem (by omega)⟩
    have hkx := hl x (List.mem_of_getElem? hx)
    have A := R.2.ar13
    have hg := flt_get (p := (fun x => !((s.bi x).exch == e))) hx
    have hgl := (List.getElem?_eq_some_iff.mp hg).1
    refine b_X8_forgetExchange_55 ⟨fun hh => absurd hh (i_nn (by omega)), fun _ => e_R (R.main hm) fun z1 => ?_⟩
    rw [z1]
    refine g_El R A rfl (by decide) hg (by omega) fun z2 => ?_
    rw [z2]
    have hax : gA1 g 34 x := R.al (c := 34) (by decide) (by decide) hkx
    have hstep : Int32.ofNat k + (-1) = i_dec k := dec_step k
    have hkeep : (fun x => !((s.bi x).exch == e)) x = true → zP s0 m_X8_forgetExchange (d + 1) 55 [some (zr x0), some (zr x1), none, some (.int (Int32.ofNat k + (-1)))] [] h Q E := fun hp => by
      rw [flt_keep hx hp] at R
      rw [hstep]
      exact t_fx_55 hx1 hq hl h301 hm0 K k g h (by omega) R L
    have hdrop : (fun x => !((s.bi x).exch == e)) x = false → (fC h x0 7 ∧ zX s0 m_X8_takeSafeBinding d [zr x0, .int (Int32.ofNat k)] h (fun _ h1 => zP s0 m_X8_forgetExchange (d + 1) 55 [some (zr x0), some (zr x1), none, some (.int (Int32.ofNat k + (-1)))] [] h1 Q E) E) := fun hp =>
      ⟨⟨_, R.main hm⟩, t_tsB R hm (fun y hy => R.al (c := 34) (by decide) (by decide) (hl y (flt_sub y hy))) hgl fun g1 h1 R1 L1 => by
        have e : (s.w_sbs (flt (fun x => !((s.bi x).exch == e)) l (k + 1))).w_sbs ((s.w_sbs (flt (fun x => !((s.bi x).exch == e)) l (k + 1))).sbs.eraseIdx k) = s.w_sbs (flt (fun x => !((s.bi x).exch == e)) l k) := by
          rw [← flt_drop hx hp]
          rfl
        rw [e] at R1
        rw [hstep]
        exact t_fx_55 hx1 hq hl h301 hm0 K k g1 h1 (by omega) R1 (L.trans L1)⟩
    refine e_R (R.1.cell hax (by decide)) fun (z3 : gR h (g.ref 34 x) 1 = g.ref 32 ((s.bi x).exch)) => ?_
    rw [z3, R.inj (R.al (c := 32) (by decide) (by decide) (hq x (List.mem_of_getElem? hx))) (L.th (by decide) (by decide) hx1) (by decide)]
    exact ⟨fun hn => hkeep (by show (!((s.bi x).exch == e)) = true; rw [beq_false_of_ne hn]; rfl), fun he => hdrop (by show (!((s.bi x).exch == e)) = false; rw [beq_iff_eq.mpr he]; rfl)⟩
theorem t_fq_55 (hx1 : g0.kind x1 = (33, q)) (hq : ∀ x ∈ l, s.knd (s.bi x).queue = 33) (hl : ∀ x ∈ l, s.knd x = 34) (h301 : l.length ≤ 400) (hm0 : g0.kind x0 = (1, 0))
    (K : ∀ g1 h1, tR s0 F b (s.w_sbs (l.filter (fun x => !((s.bi x).queue == q)))) w g1 h1 → gL g0 g1 → fI h1 x0 [7] 25 ∧ zP s0 m_X8_forgetQueue (d + 1) 90 [some (zr x0), some (zr x1), none, some (.int (gI h1 x0 25 - 1))] [] h1 Q E) :
    ∀ (k : Nat) (g : sG) (h : zH), k ≤ l.length → tR s0 F b (s.w_sbs (flt (fun x => !((s.bi x).queue == q)) l k)) w g h → gL g0 g → zP s0 m_X8_forgetQueue (d + 1) 55 [some (zr x0), some (zr x1), none, some (.int (i_dec k))] [] h Q E
  | 0, g, h, hk, R, L => b_X8_forgetQueue_55 ⟨fun _ => by
      rw [flt_0] at R
      exact K g h R L, fun hh => absurd (show (-1 : Int32) < 0 by decide) hh⟩
  | k + 1, g, h, hk, R, L => by
    have hm := L.m hm0
    obtain ⟨x, hx⟩ : ∃ x, l[k]? = some x := ⟨_, List.getElem?_eq_getElem (by omega)⟩
    have hkx := hl x (List.mem_of_getElem? hx)
    have A := R.2.ar13
    have hg := flt_get (p := (fun x => !((s.bi x).queue == q))) hx
    have hgl := (List.getElem?_eq_some_iff.mp hg).1
    refine b_X8_forgetQueue_55 ⟨fun hh => absurd hh (i_nn (by omega)), fun _ => e_R (R.main hm) fun z1 => ?_⟩
    rw [z1]
    refine g_El R A rfl (by decide) hg (by omega) fun z2 => ?_
    rw [z2]
    have hax : gA1 g 34 x := R.al (c := 34) (by decide) (by decide) hkx
    have hstep : Int32.ofNat k + (-1) = i_dec k := dec_step k
    have hkeep : (fun x => !((s.bi x).queue == q)) x = true → zP s0 m_X8_forgetQueue (d + 1) 55 [some (zr x0), some (zr x1), none, some (.int (Int32.ofNat k + (-1)))] [] h Q E := fun hp => by
      rw [flt_keep hx hp] at R
      rw [hstep]
      exact t_fq_55 hx1 hq hl h301 hm0 K k g h (by omega) R L
    have hdrop : (fun x => !((s.bi x).queue == q)) x = false → (fC h x0 7 ∧ zX s0 m_X8_takeSafeBinding d [zr x0, .int (Int32.ofNat k)] h (fun _ h1 => zP s0 m_X8_forgetQueue (d + 1) 55 [some (zr x0), some (zr x1), none, some (.int (Int32.ofNat k + (-1)))] [] h1 Q E) E) := fun hp =>
      ⟨⟨_, R.main hm⟩, t_tsB R hm (fun y hy => R.al (c := 34) (by decide) (by decide) (hl y (flt_sub y hy))) hgl fun g1 h1 R1 L1 => by
        have e : (s.w_sbs (flt (fun x => !((s.bi x).queue == q)) l (k + 1))).w_sbs ((s.w_sbs (flt (fun x => !((s.bi x).queue == q)) l (k + 1))).sbs.eraseIdx k) = s.w_sbs (flt (fun x => !((s.bi x).queue == q)) l k) := by
          rw [← flt_drop hx hp]
          rfl
        rw [e] at R1
        rw [hstep]
        exact t_fq_55 hx1 hq hl h301 hm0 K k g1 h1 (by omega) R1 (L.trans L1)⟩
    refine e_R (R.1.cell hax (by decide)) fun (z3 : gR h (g.ref 34 x) 0 = g.ref 33 ((s.bi x).queue)) => ?_
    rw [z3, R.inj (R.al (c := 33) (by decide) (by decide) (hq x (List.mem_of_getElem? hx))) (L.th (by decide) (by decide) hx1) (by decide)]
    exact ⟨fun hn => hkeep (by show (!((s.bi x).queue == q)) = true; rw [beq_false_of_ne hn]; rfl), fun he => hdrop (by show (!((s.bi x).queue == q)) = false; rw [beq_iff_eq.mpr he]; rfl)⟩
theorem t_fq_90 (hx1 : g0.kind x1 = (33, q)) (hq : ∀ x ∈ l, s.knd (s.en x).queue = 33) (hl : ∀ x ∈ l, s.knd x = 36) (h301 : l.length ≤ 400) (hm0 : g0.kind x0 = (1, 0))
    (K : ∀ g1 h1, tR s0 F b (s.w_sen (l.filter (fun x => !((s.en x).queue == q)))) w g1 h1 → gL g0 g1 → Q .null h1) :
    ∀ (k : Nat) (g : sG) (h : zH), k ≤ l.length → tR s0 F b (s.w_sen (flt (fun x => !((s.en x).queue == q)) l k)) w g h → gL g0 g → zP s0 m_X8_forgetQueue (d + 1) 90 [some (zr x0), some (zr x1), none, some (.int (i_dec k))] [] h Q E
  | 0, g, h, hk, R, L => b_X8_forgetQueue_90 ⟨fun _ => by
      rw [flt_0] at R
      exact K g h R L, fun hh => absurd (show (-1 : Int32) < 0 by decide) hh⟩
  | k + 1, g, h, hk, R, L => by
    have hm := L.m hm0
    obtain ⟨x, hx⟩ : ∃ x, l[k]? = some x := ⟨_, List.getElem?_eq_getElem (by omega)⟩
    have hkx := hl x (List.mem_of_getElem? hx)
    have A := R.2.ar14
    have hg := flt_get (p := (fun x => !((s.en x).queue == q))) hx
    have hgl := (List.getElem?_eq_some_iff.mp hg).1
    refine b_X8_forgetQueue_90 ⟨fun hh => absurd hh (i_nn (by omega)), fun _ => e_R (R.main hm) fun z1 => ?_⟩
    rw [z1]
    refine g_El R A rfl (by decide) hg (by omega) fun z2 => ?_
    rw [z2]
    have hax : gA1 g 36 x := R.al (c := 36) (by decide) (by decide) hkx
    have hstep : Int32.ofNat k + (-1) = i_dec k := dec_step k
    have hkeep : (fun x => !((s.en x).queue == q)) x = true → zP s0 m_X8_forgetQueue (d + 1) 90 [some (zr x0), some (zr x1), none, some (.int (Int32.ofNat k + (-1)))] [] h Q E := fun hp => by
      rw [flt_keep hx hp] at R
      rw [hstep]
      exact t_fq_90 hx1 hq hl h301 hm0 K k g h (by omega) R L
    have hdrop : (fun x => !((s.en x).queue == q)) x = false → (fC h x0 7 ∧ zX s0 m_X8_takeSafeEntry d [zr x0, .int (Int32.ofNat k)] h (fun _ h1 => zP s0 m_X8_forgetQueue (d + 1) 90 [some (zr x0), some (zr x1), none, some (.int (Int32.ofNat k + (-1)))] [] h1 Q E) E) := fun hp =>
      ⟨⟨_, R.main hm⟩, t_tsE R hm (fun y hy => R.al (c := 36) (by decide) (by decide) (hl y (flt_sub y hy))) hgl fun g1 h1 R1 L1 => by
        have e : (s.w_sen (flt (fun x => !((s.en x).queue == q)) l (k + 1))).w_sen ((s.w_sen (flt (fun x => !((s.en x).queue == q)) l (k + 1))).sen.eraseIdx k) = s.w_sen (flt (fun x => !((s.en x).queue == q)) l k) := by
          rw [← flt_drop hx hp]
          rfl
        rw [e] at R1
        rw [hstep]
        exact t_fq_90 hx1 hq hl h301 hm0 K k g1 h1 (by omega) R1 (L.trans L1)⟩
    refine e_R (R.1.cell hax (by decide)) fun (z3 : gR h (g.ref 36 x) 4 = g.ref 33 ((s.en x).queue)) => ?_
    rw [z3, R.inj (R.al (c := 33) (by decide) (by decide) (hq x (List.mem_of_getElem? hx))) (L.th (by decide) (by decide) hx1) (by decide)]
    exact ⟨fun hn => hkeep (by show (!((s.en x).queue == q)) = true; rw [beq_false_of_ne hn]; rfl), fun he => hdrop (by show (!((s.en x).queue == q)) = false; rw [beq_iff_eq.mpr he]; rfl)⟩
theorem t_mk_155 {nb id : Nat} {v0 v1 v2 v4 : Value} (hf : gF g0 x1 (31, [v0, v1, v2, zr nb, v4])) (hb : g0.kind nb = (34, id)) (hl : ∀ x ∈ l, s.knd x = 34) (h301 : l.length ≤ 400) (hm0 : g0.kind x0 = (1, 0))
    (K : ∀ g1 h1, tR s0 F b (s.w_sbs (l.filter (fun x => !(x == id)))) w g1 h1 → gL g0 g1 → Q .null h1) :
    ∀ (k : Nat) (g : sG) (h : zH), k ≤ l.length → tR s0 F b (s.w_sbs (flt (fun x => !(x == id)) l k)) w g h → gL g0 g → zP s0 m_X8_make (d + 1) 155 [some (zr x0), some (zr x1), some (.int (i_dec k))] [] h Q E
  | 0, g, h, hk, R, L => b_X8_make_155 ⟨fun _ => by
      rw [flt_0] at R
      exact K g h R L, fun hh => absurd (show (-1 : Int32) < 0 by decide) hh⟩
  | k + 1, g, h, hk, R, L => by
    have hm := L.m hm0
    obtain ⟨x, hx⟩ : ∃ x, l[k]? = some x := ⟨_, List.getElem?_eq_getElem (by omega)⟩
    have hkx := hl x (List.mem_of_getElem? hx)
    have A := R.2.ar13
    have hg := flt_get (p := (fun x => !(x == id))) hx
    have hgl := (List.getElem?_eq_some_iff.mp hg).1
    refine b_X8_make_155 ⟨fun hh => absurd hh (i_nn (by omega)), fun _ => e_R (R.main hm) fun z1 => ?_⟩
    rw [z1]
    refine g_El R A rfl (by decide) hg (by omega) fun z2 => ?_
    rw [z2]
    have hax : gA1 g 34 x := R.al (c := 34) (by decide) (by decide) hkx
    have hstep : Int32.ofNat k + (-1) = i_dec k := dec_step k
    have hkeep : (fun x => !(x == id)) x = true → zP s0 m_X8_make (d + 1) 155 [some (zr x0), some (zr x1), some (.int (Int32.ofNat k + (-1)))] [] h Q E := fun hp => by
      rw [flt_keep hx hp] at R
      rw [hstep]
      exact t_mk_155 hf hb hl h301 hm0 K k g h (by omega) R L
    have hdrop : (fun x => !(x == id)) x = false → (fC h x0 7 ∧ zX s0 m_X8_takeSafeBinding d [zr x0, .int (Int32.ofNat k)] h (fun _ h1 => zP s0 m_X8_make (d + 1) 155 [some (zr x0), some (zr x1), some (.int (Int32.ofNat k + (-1)))] [] h1 Q E) E) := fun hp =>
      ⟨⟨_, R.main hm⟩, t_tsB R hm (fun y hy => R.al (c := 34) (by decide) (by decide) (hl y (flt_sub y hy))) hgl fun g1 h1 R1 L1 => by
        have e : (s.w_sbs (flt (fun x => !(x == id)) l (k + 1))).w_sbs ((s.w_sbs (flt (fun x => !(x == id)) l (k + 1))).sbs.eraseIdx k) = s.w_sbs (flt (fun x => !(x == id)) l k) := by
          rw [← flt_drop hx hp]
          rfl
        rw [e] at R1
        rw [hstep]
        exact t_mk_155 hf hb hl h301 hm0 K k g1 h1 (by omega) R1 (L.trans L1)⟩
    refine e_R (R.fz (L.fz hf)) (fun (z3 : gR h x1 3 = nb) => ?_)
    rw [z3, R.inj hax (L.th (by decide) (by decide) hb) (by decide)]
    exact ⟨fun hn => hkeep (by show (!(x == id)) = true; rw [beq_false_of_ne hn]; rfl), fun he => hdrop (by show (!(x == id)) = false; rw [beq_iff_eq.mpr he]; rfl)⟩
theorem t_mk_219 {nb id : Nat} {v0 v1 v2 v3 : Value} (hf : gF g0 x1 (31, [v0, v1, v2, v3, zr nb])) (hb : g0.kind nb = (36, id)) (hl : ∀ x ∈ l, s.knd x = 36) (h301 : l.length ≤ 400) (hm0 : g0.kind x0 = (1, 0))
    (K : ∀ g1 h1, tR s0 F b (s.w_sen (l.filter (fun x => !(x == id)))) w g1 h1 → gL g0 g1 → Q .null h1) :
    ∀ (k : Nat) (g : sG) (h : zH), k ≤ l.length → tR s0 F b (s.w_sen (flt (fun x => !(x == id)) l k)) w g h → gL g0 g → zP s0 m_X8_make (d + 1) 219 [some (zr x0), some (zr x1), some (.int (i_dec k))] [] h Q E
  | 0, g, h, hk, R, L => b_X8_make_219 ⟨fun _ => by
      rw [flt_0] at R
      exact K g h R L, fun hh => absurd (show (-1 : Int32) < 0 by decide) hh⟩
  | k + 1, g, h, hk, R, L => by
    have hm := L.m hm0
    obtain ⟨x, hx⟩ : ∃ x, l[k]? = some x := ⟨_, List.getElem?_eq_getElem (by omega)⟩
    have hkx := hl x (List.mem_of_getElem? hx)
    have A := R.2.ar14
    have hg := flt_get (p := (fun x => !(x == id))) hx
    have hgl := (List.getElem?_eq_some_iff.mp hg).1
    refine b_X8_make_219 ⟨fun hh => absurd hh (i_nn (by omega)), fun _ => e_R (R.main hm) fun z1 => ?_⟩
    rw [z1]
    refine g_El R A rfl (by decide) hg (by omega) fun z2 => ?_
    rw [z2]
    have hax : gA1 g 36 x := R.al (c := 36) (by decide) (by decide) hkx
    have hstep : Int32.ofNat k + (-1) = i_dec k := dec_step k
    have hkeep : (fun x => !(x == id)) x = true → zP s0 m_X8_make (d + 1) 219 [some (zr x0), some (zr x1), some (.int (Int32.ofNat k + (-1)))] [] h Q E := fun hp => by
      rw [flt_keep hx hp] at R
      rw [hstep]
      exact t_mk_219 hf hb hl h301 hm0 K k g h (by omega) R L
    have hdrop : (fun x => !(x == id)) x = false → (fC h x0 7 ∧ zX s0 m_X8_takeSafeEntry d [zr x0, .int (Int32.ofNat k)] h (fun _ h1 => zP s0 m_X8_make (d + 1) 219 [some (zr x0), some (zr x1), some (.int (Int32.ofNat k + (-1)))] [] h1 Q E) E) := fun hp =>
      ⟨⟨_, R.main hm⟩, t_tsE R hm (fun y hy => R.al (c := 36) (by decide) (by decide) (hl y (flt_sub y hy))) hgl fun g1 h1 R1 L1 => by
        have e : (s.w_sen (flt (fun x => !(x == id)) l (k + 1))).w_sen ((s.w_sen (flt (fun x => !(x == id)) l (k + 1))).sen.eraseIdx k) = s.w_sen (flt (fun x => !(x == id)) l k) := by
          rw [← flt_drop hx hp]
          rfl
        rw [e] at R1
        rw [hstep]
        exact t_mk_219 hf hb hl h301 hm0 K k g1 h1 (by omega) R1 (L.trans L1)⟩
    refine e_R (R.fz (L.fz hf)) (fun (z3 : gR h x1 4 = nb) => ?_)
    rw [z3, R.inj hax (L.th (by decide) (by decide) hb) (by decide)]
    exact ⟨fun hn => hkeep (by show (!(x == id)) = true; rw [beq_false_of_ne hn]; rfl), fun he => hdrop (by show (!(x == id)) = false; rw [beq_iff_eq.mpr he]; rfl)⟩
end OB
