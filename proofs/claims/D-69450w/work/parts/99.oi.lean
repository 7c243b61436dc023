/-! ===== the twin: a crash, its loops ===== -/
set_option maxRecDepth 100000
set_option maxHeartbeats 200000
section OI
variable {s0 : zE} {F : Nat → Option zC} {b : Nat} {s s' S T : sSt} {w w' : tW} {g g' g0 : sG} {h h' : zH} {d x0 x1 x2 x3 x4 n m c i j q e k a : Nat} {Q : Value → zH → Prop} {E : Nat → zH → Prop} {x : Int32} {l : List Nat} {fs : List Value} {u v : Value}
theorem zput_comm (hne : n ≠ m) : zput (zput h n i u) m j v = zput (zput h m j v) n i u := by
  refine Prod.ext (funext fun r => ?_) rfl
  by_cases e : r = n
  · subst e
    rw [zput_ne hne]
    show (if r = r then (h.1 r).map _ else h.1 r) = (if r = r then ((zput h m j v).1 r).map _ else _)
    rw [if_pos rfl, if_pos rfl, zput_ne hne]
  · rw [zput_ne (h := zput h m j v) e]
    by_cases e2 : r = m
    · subst e2
      show (if r = r then ((zput h n i u).1 r).map _ else _) = (if r = r then (h.1 r).map _ else _)
      rw [if_pos rfl, if_pos rfl, zput_ne e]
    · rw [zput_ne e2, zput_ne e2, zput_ne e]
theorem set_same {α : Type} {l : List α} {k : Nat} {v : α} (h : l[k]? = some v) : l.set k v = l := by
  obtain ⟨hk, e⟩ := List.getElem?_eq_some_iff.mp h
  rw [← e]
  exact List.set_getElem_self hk
theorem zput_same (e : h.1 n = some (c, fs)) (hv : fs[k]? = some v) : zput h n k v = h := by
  refine Prod.ext (funext fun r => ?_) rfl
  by_cases er : r = n
  · subst er
    rw [zput_self e, set_same hv, e]
  · rw [zput_ne er]
/-! exchanges -/
def s_exT (s : sSt) (l : List Nat) : sSt := s.w_ex (fun e => if e ∈ l then (s.ex e).w_there true else s.ex e)
theorem there_there (y : sEx) : (y.w_there true).w_there true = y.w_there true := rfl
theorem exT_step : (s_exT s l).w_ex (sUp (s_exT s l).ex e (((s_exT s l).ex e).w_there true)) = s_exT s (l ++ [e]) := by
  have h1 : sUp (s_exT s l).ex e (((s_exT s l).ex e).w_there true) = fun i => if i ∈ l ++ [e] then (s.ex i).w_there true else s.ex i := funext fun i => by
    have h2 : ∀ i, (s_exT s l).ex i = if i ∈ l then (s.ex i).w_there true else s.ex i := fun i => rfl
    by_cases ei : i = e
    · subst ei
      rw [sUp_self, h2, if_pos (List.mem_append.mpr (Or.inr (List.mem_singleton.mpr rfl)))]
      split <;> rfl
    · rw [sUp_ne ei, h2]
      by_cases hm : i ∈ l
      · rw [if_pos hm, if_pos (List.mem_append.mpr (Or.inl hm))]
      · rw [if_neg hm, if_neg (fun hh => (List.mem_append.mp hh).elim hm fun h3 => ei (List.mem_singleton.mp h3))]
  rw [h1]
  rfl
/-- exchanges from what is safe, as far as they are there -/
def s_crE (s : sSt) (l : List Nat) : sSt := (s_exT s l).w_es l
theorem crE_step : ((s_crE s l).w_es (l ++ [e])).w_ex (sUp ((s_crE s l).w_es (l ++ [e])).ex e ((((s_crE s l).w_es (l ++ [e])).ex e).w_there true)) = s_crE s (l ++ [e]) := by
  show ((s_exT s l).w_ex (sUp (s_exT s l).ex e (((s_exT s l).ex e).w_there true))).w_es (l ++ [e]) = _
  rw [exT_step]
  rfl
theorem crE_main {l' : List Nat} : (tMain (s_crE s l) w g).set 5 v = (tMain (s_crE s l') w g').set 5 v ↔ (tMain s w g).set 5 v = (tMain s w g').set 5 v := Iff.rfl
theorem es_main (l' : List Nat) : tMain (s.w_es l') w g = (tMain s w g).set 5 (vI l'.length) := rfl
theorem t_cr_115 {N : Nat} (hses : s.ses = l) (hlN : l.length = N) (hk : ∀ e ∈ l, s.knd e = 32) (hl : l.length ≤ 12) (hm0 : g0.kind x0 = (1, 0))
    (K : ∀ g1 h1, tR s0 F b (s_crE s l) w g1 h1 → gL g0 g1 → (fI h1 x0 [7] 23) ∧ ((fC h1 x0 7) ∧ (∀ h2, h2 = zput h1 x0 6 (.int (gI h1 x0 23)) → (zP s0 m_X8_crash (d + 1) 161 [some (zr x0), none, some (.int (0)), none, none] [] h2 Q E)))) :
    ∀ (k i : Nat) (g : sG) (h : zH), l.length = i + k → h.1 x0 = some (7, (tMain (s_crE s (l.take i)) w g).set 5 (vI N)) → tR s0 F b (s_crE s (l.take i)) w g (zput h x0 5 (vI i)) → gL g0 g →
      zP s0 m_X8_crash (d + 1) 115 [some (zr x0), none, some (.int (Int32.ofNat i)), none, none] [] h Q E
  | k, i, g, h, hi, ex, R, L => by
    have hm := L.m hm0
    refine b_X8_crash_115 (e_I ex fun (z1 : gI h x0 5 = Int32.ofNat N) => ?_)
    rw [z1, i_le (by omega) (by omega)]
    refine ⟨fun hle => ?_, fun hle => ?_⟩
    · have ei : i = l.length := by omega
      rw [zput_same ex (by rw [show i = N by omega]; rfl), ei, List.take_length] at R
      exact K g h R L
    obtain ⟨k', rfl⟩ : ∃ k', k = k' + 1 := ⟨k - 1, by omega⟩
    obtain ⟨e, hx⟩ : ∃ e, l[i]? = some e := ⟨_, List.getElem?_eq_getElem (by omega)⟩
    have hke := hk e (List.mem_of_getElem? hx)
    have A5 := R.2.ar5
    have A11 := R.2.ar11
    have hce : gA1 g 32 e := R.al (c := 32) (by decide) (by decide) hke
    have ne5 : x0 ≠ g.ref 5 0 := kne hm A5.1 fun e => absurd (congrArg Prod.fst e) (by show ¬ (1 : Nat) = 5; decide)
    have ne11 : x0 ≠ g.ref 11 0 := kne hm A11.1 fun e => absurd (congrArg Prod.fst e) (by show ¬ (1 : Nat) = 11; decide)
    have ne32 : x0 ≠ g.ref 32 e := kne hm hce fun e => absurd (congrArg Prod.fst e) (by show ¬ (1 : Nat) = 32; decide)
    have n532 : g.ref 32 e ≠ g.ref 5 0 := kne hce A5.1 fun e => absurd (congrArg Prod.fst e) (by show ¬ (32 : Nat) = 5; decide)
    obtain ⟨eA5, hA5⟩ := R.arr (t := 12) A5 rfl (by decide) (by decide)
    obtain ⟨eA11, hA11⟩ := R.arr (t := 12) A11 rfl (by decide) (by decide)
    have ecE : h.1 (g.ref 32 e) = some (36, tEx ((s_crE s (l.take i)).ex e) g e) := by
      have := R.1.cell hce (by decide)
      rw [zput_ne ne32.symm] at this
      exact this
    rw [zput_ne ne5.symm] at eA5
    rw [zput_ne ne11.symm] at eA11
    have hg11 : (g.ar 11 0)[i]? = some (zr (g.ref 32 e)) := by
      refine pre_get A11.2.2 ?_
      show (s.ses.map _)[i]? = _
      rw [hses, List.getElem?_map, hx]
      rfl
    have ht := take_succ' hx
    refine e_R ex fun (z2 : gR h x0 1 = g.ref 5 0) => e_R ex fun (z3 : gR h x0 18 = g.ref 11 0) => ?_
    rw [z2, z3]
    refine g_ER (t := 12) eA11 (zin_of (by rw [A11.2.1]; omega) (by omega)) (by rw [i_nat (by omega)]; exact hg11) fun z4 => ?_
    rw [z4]
    refine g_S (t := 12) eA5 hA5 (zin_of (by rw [A5.2.1]; omega) (by omega)) ⟨Or.inr (zAsg_own ecE zcl_36 rfl), ?_⟩
    rintro h2 e2
    rw [i_nat (by omega)] at e2
    have ex2 : h2.1 x0 = some (7, (tMain (s_crE s (l.take i)) w g).set 5 (vI N)) := by rw [e2, zput_ne ne5]; exact ex
    have eA2 : h2.1 (g.ref 5 0) = some (1012, (g.ar 5 0).set i (zr (g.ref 32 e))) := by rw [e2]; exact zput_self eA5
    have ecE2 : h2.1 (g.ref 32 e) = some (36, tEx ((s_crE s (l.take i)).ex e) g e) := by rw [e2, zput_ne n532]; exact ecE
    refine e_R ex2 fun (z5 : gR h2 x0 1 = g.ref 5 0) => ?_
    rw [z5]
    refine g_ER (t := 12) eA2 (zin_of (by rw [List.length_set, A5.2.1]; omega) (by omega)) (by rw [i_nat (by omega), List.getElem?_set_self (by rw [A5.2.1]; omega)]) fun z6 => ?_
    rw [z6]
    refine g_C ecE2 ?_
    rintro h3 rfl
    rw [i_succ]
    have hpre : (l.take (i + 1)).map (fun e => zr (g.ref 32 e)) <+: (g.ar 5 0).set i (zr (g.ref 32 e)) := by
      have := pre_snoc A5.2.2 (v := zr (g.ref 32 e)) (by rw [A5.2.1, List.length_map]; show (l.take i).length < 12; rw [List.length_take]; omega)
      rw [List.length_map] at this
      rw [ht, List.map_append]
      have hlen : (s_crE s (l.take i)).es.length = i := by show (l.take i).length = i; rw [List.length_take]; omega
      rw [hlen] at this
      exact this
    have G := R.2.set5 (xs := l.take (i + 1)) (by rw [List.length_set]; exact A5.2.1) hpre
    have R2 := R.arM (t := 12) (s' := (s_crE s (l.take i)).w_es (l.take (i + 1))) (w' := w) (h' := zput h2 x0 5 (vI (i + 1))) hm A5.1 (by decide) rfl (by
      show (1000 + tarT 5, (gSet g 5 0 _).ar 5 0) = _
      rw [gSet_self]
      rfl) (by rw [e2]; rfl) (fun r r0 r1 => by rw [zput_ne r0, e2, zput_ne r1, zput_ne r0]) (by
      rw [zput_self ex2, List.set_set, es_main, show (l.take (i + 1)).length = i + 1 by rw [List.length_take]; omega]) (by rw [zput_ne ne5.symm]; exact eA2) ⟨rfl, rfl, rfl, rfl, rfl, rfl, rfl, rfl, rfl⟩ G
    have hce2 : (gSet g 5 0 ((g.ar 5 0).set i (zr (g.ref 32 e)))).kind (g.ref 32 e) = (32, e) := hce
    have R3 := R2.pex (k := 5) (v := .int 1) (x := (((s_crE s (l.take i)).w_es (l.take (i + 1))).ex e).w_there true) hce2 rfl (R2.2.ex fun hk => R2.2.2.2.2.2.2.2.1 e hk)
    rw [zput_comm ne32] at R3
    have hst : ((s_crE s (l.take i)).w_es (l.take (i + 1))).w_ex (sUp ((s_crE s (l.take i)).w_es (l.take (i + 1))).ex e ((((s_crE s (l.take i)).w_es (l.take (i + 1))).ex e).w_there true)) = s_crE s (l.take (i + 1)) := by
      rw [ht]
      exact crE_step
    rw [hst] at R3
    refine t_cr_115 hses hlN hk hl hm0 K k' (i + 1) _ _ (by omega) ?_ R3 (L.trans gL.set)
    rw [zput_ne ne32, ex2]
    rfl
/-! queues -/
def s_quT (s : sSt) (l : List Nat) : sSt := s.w_qu (fun q => if q ∈ l then (((s.qu q).w_there true).w_ents []).w_last none else s.qu q)
theorem quT_step : (s_quT s l).w_qu (sUp (s_quT s l).qu q (((((s_quT s l).qu q).w_there true).w_ents []).w_last none)) = s_quT s (l ++ [q]) := by
  have h1 : sUp (s_quT s l).qu q (((((s_quT s l).qu q).w_there true).w_ents []).w_last none) = fun i => if i ∈ l ++ [q] then (((s.qu i).w_there true).w_ents []).w_last none else s.qu i := funext fun i => by
    have h2 : ∀ i, (s_quT s l).qu i = if i ∈ l then (((s.qu i).w_there true).w_ents []).w_last none else s.qu i := fun i => rfl
    by_cases ei : i = q
    · subst ei
      rw [sUp_self, h2, if_pos (List.mem_append.mpr (Or.inr (List.mem_singleton.mpr rfl)))]
      split <;> rfl
    · rw [sUp_ne ei, h2]
      by_cases hm : i ∈ l
      · rw [if_pos hm, if_pos (List.mem_append.mpr (Or.inl hm))]
      · rw [if_neg hm, if_neg (fun hh => (List.mem_append.mp hh).elim hm fun h3 => ei (List.mem_singleton.mp h3))]
  rw [h1]
  rfl
def s_crQ (s : sSt) (l : List Nat) : sSt := (s_quT s l).w_qs l
theorem crQ_step : ((s_crQ s l).w_qs (l ++ [q])).w_qu (sUp ((s_crQ s l).w_qs (l ++ [q])).qu q ((((((s_crQ s l).w_qs (l ++ [q])).qu q).w_there true).w_ents []).w_last none)) = s_crQ s (l ++ [q]) := by
  show ((s_quT s l).w_qu (sUp (s_quT s l).qu q (((((s_quT s l).qu q).w_there true).w_ents []).w_last none))).w_qs (l ++ [q]) = _
  rw [quT_step]
  rfl
theorem qs_main (l' : List Nat) : tMain (s.w_qs l') w g = (tMain s w g).set 6 (vI l'.length) := rfl
theorem w_qu_qu {x y : Nat → sQu} : (s.w_qu x).w_qu y = s.w_qu y := rfl
theorem t_cr_161 {N : Nat} (hsqs : s.sqs = l) (hlN : l.length = N) (hk : ∀ e ∈ l, s.knd e = 33) (hl : l.length ≤ 12) (hm0 : g0.kind x0 = (1, 0))
    (K : ∀ g1 h1, tR s0 F b (s_crQ s l) w g1 h1 → gL g0 g1 → (fI h1 x0 [7] 24) ∧ ((fC h1 x0 7) ∧ (∀ h2, h2 = zput h1 x0 7 (.int (gI h1 x0 24)) → (zP s0 m_X8_crash (d + 1) 227 [some (zr x0), none, some (.int (0)), none, none] [] h2 Q E)))) :
    ∀ (k i : Nat) (g : sG) (h : zH), l.length = i + k → h.1 x0 = some (7, (tMain (s_crQ s (l.take i)) w g).set 6 (vI N)) → tR s0 F b (s_crQ s (l.take i)) w g (zput h x0 6 (vI i)) → gL g0 g →
      zP s0 m_X8_crash (d + 1) 161 [some (zr x0), none, some (.int (Int32.ofNat i)), none, none] [] h Q E
  | k, i, g, h, hi, ex, R, L => by
    have hm := L.m hm0
    refine b_X8_crash_161 (e_I ex fun (z1 : gI h x0 6 = Int32.ofNat N) => ?_)
    rw [z1, i_le (by omega) (by omega)]
    refine ⟨fun hle => ?_, fun hle => ?_⟩
    · have ei : i = l.length := by omega
      rw [zput_same ex (by rw [show i = N by omega]; rfl), ei, List.take_length] at R
      exact K g h R L
    obtain ⟨k', rfl⟩ : ∃ k', k = k' + 1 := ⟨k - 1, by omega⟩
    obtain ⟨q, hx⟩ : ∃ q, l[i]? = some q := ⟨_, List.getElem?_eq_getElem (by omega)⟩
    have hkq := hk q (List.mem_of_getElem? hx)
    have A6 := R.2.ar6
    have A12 := R.2.ar12
    have hce : gA1 g 33 q := R.al (c := 33) (by decide) (by decide) hkq
    have ne6 : x0 ≠ g.ref 6 0 := kne hm A6.1 fun e => absurd (congrArg Prod.fst e) (by show ¬ (1 : Nat) = 6; decide)
    have ne12 : x0 ≠ g.ref 12 0 := kne hm A12.1 fun e => absurd (congrArg Prod.fst e) (by show ¬ (1 : Nat) = 12; decide)
    have ne33 : x0 ≠ g.ref 33 q := kne hm hce fun e => absurd (congrArg Prod.fst e) (by show ¬ (1 : Nat) = 33; decide)
    have n633 : g.ref 33 q ≠ g.ref 6 0 := kne hce A6.1 fun e => absurd (congrArg Prod.fst e) (by show ¬ (33 : Nat) = 6; decide)
    obtain ⟨eA6, hA6⟩ := R.arr (t := 13) A6 rfl (by decide) (by decide)
    obtain ⟨eA12, hA12⟩ := R.arr (t := 13) A12 rfl (by decide) (by decide)
    have ecQ : h.1 (g.ref 33 q) = some (37, tQu ((s_crQ s (l.take i)).qu q) g q) := by
      have := R.1.cell hce (by decide)
      rw [zput_ne ne33.symm] at this
      exact this
    rw [zput_ne ne6.symm] at eA6
    rw [zput_ne ne12.symm] at eA12
    have hg12 : (g.ar 12 0)[i]? = some (zr (g.ref 33 q)) := by
      refine pre_get A12.2.2 ?_
      show (s.sqs.map _)[i]? = _
      rw [hsqs, List.getElem?_map, hx]
      rfl
    have ht := take_succ' hx
    refine e_R ex fun (z2 : gR h x0 2 = g.ref 6 0) => e_R ex fun (z3 : gR h x0 19 = g.ref 12 0) => ?_
    rw [z2, z3]
    refine g_ER (t := 13) eA12 (zin_of (by rw [A12.2.1]; omega) (by omega)) (by rw [i_nat (by omega)]; exact hg12) fun z4 => ?_
    rw [z4]
    refine g_S (t := 13) eA6 hA6 (zin_of (by rw [A6.2.1]; omega) (by omega)) ⟨Or.inr (zAsg_own ecQ zcl_37 rfl), ?_⟩
    rintro h2 e2
    rw [i_nat (by omega)] at e2
    have ex2 : h2.1 x0 = some (7, (tMain (s_crQ s (l.take i)) w g).set 6 (vI N)) := by rw [e2, zput_ne ne6]; exact ex
    have eA2 : h2.1 (g.ref 6 0) = some (1013, (g.ar 6 0).set i (zr (g.ref 33 q))) := by rw [e2]; exact zput_self eA6
    have ecQ2 : h2.1 (g.ref 33 q) = some (37, tQu ((s_crQ s (l.take i)).qu q) g q) := by rw [e2, zput_ne n633]; exact ecQ
    have hzin : zin (Int32.ofNat i) ((g.ar 6 0).set i (zr (g.ref 33 q))).length := zin_of (by rw [List.length_set, A6.2.1]; omega) (by omega)
    have hget : ((g.ar 6 0).set i (zr (g.ref 33 q)))[(Int32.ofNat i).toNatClampNeg]? = some (zr (g.ref 33 q)) := by rw [i_nat (by omega), List.getElem?_set_self (by rw [A6.2.1]; omega)]
    have hpre : (l.take (i + 1)).map (fun q => zr (g.ref 33 q)) <+: (g.ar 6 0).set i (zr (g.ref 33 q)) := by
      have := pre_snoc A6.2.2 (v := zr (g.ref 33 q)) (by rw [A6.2.1, List.length_map]; show (l.take i).length < 12; rw [List.length_take]; omega)
      rw [List.length_map] at this
      rw [ht, List.map_append]
      have hlen : (s_crQ s (l.take i)).qs.length = i := by show (l.take i).length = i; rw [List.length_take]; omega
      rw [hlen] at this
      exact this
    have G := R.2.set6 (xs := l.take (i + 1)) (by rw [List.length_set]; exact A6.2.1) hpre
    have R2 := R.arM (t := 13) (s' := (s_crQ s (l.take i)).w_qs (l.take (i + 1))) (w' := w) (h' := zput h2 x0 6 (vI (i + 1))) hm A6.1 (by decide) rfl (by
      show (1000 + tarT 6, (gSet g 6 0 _).ar 6 0) = _
      rw [gSet_self]
      rfl) (by rw [e2]; rfl) (fun r r0 r1 => by rw [zput_ne r0, e2, zput_ne r1, zput_ne r0]) (by
      rw [zput_self ex2, List.set_set, qs_main, show (l.take (i + 1)).length = i + 1 by rw [List.length_take]; omega]) (by rw [zput_ne ne6.symm]; exact eA2) ⟨rfl, rfl, rfl, rfl, rfl, rfl, rfl, rfl, rfl⟩ G
    have hst : ((s_crQ s (l.take i)).w_qs (l.take (i + 1))).w_qu (sUp ((s_crQ s (l.take i)).w_qs (l.take (i + 1))).qu q ((((((s_crQ s (l.take i)).w_qs (l.take (i + 1))).qu q).w_there true).w_ents []).w_last none)) = s_crQ s (l.take (i + 1)) := by
      rw [ht]
      exact crQ_step
    have hce2 : (gSet g 6 0 ((g.ar 6 0).set i (zr (g.ref 33 q)))).kind (g.ref 33 q) = (33, q) := hce
    have hqq : ((s_crQ s (l.take i)).w_qs (l.take (i + 1))).qu q = (s_crQ s (l.take i)).qu q := rfl
    have hr6 : (gSet g 6 0 ((g.ar 6 0).set i (zr (g.ref 33 q)))).ref = g.ref := rfl
    have L2 : gL g (gSet g 6 0 ((g.ar 6 0).set i (zr (g.ref 33 q)))) := gL.set
    have ex2' : h2.1 x0 = some (7, (tMain ((s_crQ s (l.take i)).w_qs (l.take (i + 1))) w (gSet g 6 0 ((g.ar 6 0).set i (zr (g.ref 33 q))))).set 6 (vI N)) := ex2
    have hmain : ∀ g2 : sG, (tMain ((s_crQ s (l.take i)).w_qs (l.take (i + 1))) w g2).set 6 (vI N) = (tMain (s_crQ s (l.take (i + 1))) w g2).set 6 (vI N) := fun _ => rfl
    generalize gSet g 6 0 ((g.ar 6 0).set i (zr (g.ref 33 q))) = g2 at R2 hce2 hr6 L2 ex2'
    rw [hmain] at ex2'
    generalize (s_crQ s (l.take i)).w_qs (l.take (i + 1)) = S at R2 hst hqq
    have hkS : S.knd q = 33 := R2.ak (by decide) (by decide) hce2
    obtain ⟨p1, p2, p3, p4⟩ := R2.2.2.2.2.2.2.2.2.1 q hkS
    -- the three writes
    refine e_R ex2 fun (z5 : gR h2 x0 2 = g.ref 6 0) => ?_
    rw [z5]
    refine g_ER (t := 13) eA2 hzin hget fun z6 => ?_
    rw [z6]
    refine g_C ecQ2 ?_
    rintro h3 e3
    have ex3 : h3.1 x0 = some (7, (tMain (s_crQ s (l.take i)) w g).set 6 (vI N)) := by rw [e3, zput_ne ne33]; exact ex2
    have eA3 : h3.1 (g.ref 6 0) = some (1013, (g.ar 6 0).set i (zr (g.ref 33 q))) := by rw [e3, zput_ne n633.symm]; exact eA2
    have R3 := R2.pqu (k := 4) (v := .int 1) (x := (S.qu q).w_there true) hce2 rfl (R2.2.qu fun _ => ⟨p1, p2, p3, p4⟩)
    rw [zput_comm ne33, ← e3] at R3
    have ecQ3 := R3.1.cell hce2 (by decide)
    rw [zput_ne ne33.symm] at ecQ3
    have c3 : (S.w_qu (sUp S.qu q ((S.qu q).w_there true))).qu q = (S.qu q).w_there true := sUp_self
    refine e_R ex3 fun (z7 : gR h3 x0 2 = g.ref 6 0) => ?_
    rw [z7]
    refine g_ER (t := 13) eA3 hzin hget fun z8 => ?_
    rw [z8]
    refine g_C ecQ3 ?_
    rintro h4 e4
    have ex4 : h4.1 x0 = some (7, (tMain (s_crQ s (l.take i)) w g).set 6 (vI N)) := by rw [e4, zput_ne ne33]; exact ex3
    have eA4 : h4.1 (g.ref 6 0) = some (1013, (g.ar 6 0).set i (zr (g.ref 33 q))) := by rw [e4, zput_ne n633.symm]; exact eA3
    have R4 := R3.pqu (k := 12) (v := .int 0) (x := ((S.qu q).w_there true).w_ents []) hce2 (by rw [c3]; rfl) (R3.2.qu fun _ => ⟨p1, p2, p3, p4.1, p4.2.1, List.nil_prefix⟩)
    rw [zput_comm ne33, ← e4, w_qu_qu, show (S.w_qu (sUp S.qu q ((S.qu q).w_there true))).qu = sUp S.qu q ((S.qu q).w_there true) from rfl, sUp_sUp] at R4
    have ecQ4 := R4.1.cell hce2 (by decide)
    rw [zput_ne ne33.symm] at ecQ4
    have c4 : (S.w_qu (sUp S.qu q (((S.qu q).w_there true).w_ents []))).qu q = ((S.qu q).w_there true).w_ents [] := sUp_self
    refine e_R ex4 fun (z9 : gR h4 x0 2 = g.ref 6 0) => ?_
    rw [z9]
    refine g_ER (t := 13) eA4 hzin hget fun z10 => ?_
    rw [z10]
    refine g_C ecQ4 ?_
    rintro h5 e5
    have R5 := R4.pqu (k := 13) (v := zr 0) (x := (((S.qu q).w_there true).w_ents []).w_last none) hce2 (by rw [c4]; rfl) (R4.2.qu fun _ => ⟨p1, p2, p3, p4.1, p4.2.1, List.nil_prefix⟩)
    rw [zput_comm ne33, ← e5, w_qu_qu, show (S.w_qu (sUp S.qu q (((S.qu q).w_there true).w_ents []))).qu = sUp S.qu q (((S.qu q).w_there true).w_ents []) from rfl, sUp_sUp, hst] at R5
    rw [i_succ]
    refine t_cr_161 hsqs hlN hk hl hm0 K k' (i + 1) g2 h5 (by omega) ?_ R5 (L.trans L2)
    rw [e5, zput_ne ne33, e4, zput_ne ne33, e3, zput_ne ne33]
    exact ex2'
/-! bindings -/
theorem bs_main (l' : List Nat) : tMain (s.w_bs l') w g = (tMain s w g).set 7 (vI l'.length) := rfl
theorem t_cr_227 {N : Nat} (hsbs : s.sbs = l) (hlN : l.length = N) (hk : ∀ e ∈ l, s.knd e = 34) (hl : l.length ≤ 40) (hm0 : g0.kind x0 = (1, 0))
    (K : ∀ g1 h1, tR s0 F b (s.w_bs l) w g1 h1 → gL g0 g1 → (fI h1 x0 [7] 25) ∧ ((¬ (gI h1 x0 25) < 0) ∧ ((zroom s0 h1 ((gI h1 x0 25)).toNatClampNeg) ∧ (∀ n1, n1 = h1.2.1 → (∀ h2, h2 = znew h1 1018 (List.replicate ((gI h1 x0 25)).toNatClampNeg (zr 0)) ((gI h1 x0 25)).toNatClampNeg → (zP s0 m_X8_crash (d + 1) 266 [some (zr (x0)), none, some (.int (gI h1 x0 25)), some (zr (n1)), some (.int (0))] [] h2 Q E)))))) :
    ∀ (k i : Nat) (g : sG) (h : zH), l.length = i + k → h.1 x0 = some (7, (tMain (s.w_bs (l.take i)) w g).set 7 (vI N)) → tR s0 F b (s.w_bs (l.take i)) w g (zput h x0 7 (vI i)) → gL g0 g →
      zP s0 m_X8_crash (d + 1) 227 [some (zr x0), none, some (.int (Int32.ofNat i)), none, none] [] h Q E
  | k, i, g, h, hi, ex, R, L => by
    have hm := L.m hm0
    refine b_X8_crash_227 (e_I ex fun (z1 : gI h x0 7 = Int32.ofNat N) => ?_)
    rw [z1, i_le (by omega) (by omega)]
    refine ⟨fun hle => ?_, fun hle => ?_⟩
    · have ei : i = l.length := by omega
      rw [zput_same ex (by rw [show i = N by omega]; rfl), ei, List.take_length] at R
      exact K g h R L
    obtain ⟨k', rfl⟩ : ∃ k', k = k' + 1 := ⟨k - 1, by omega⟩
    obtain ⟨e, hx⟩ : ∃ e, l[i]? = some e := ⟨_, List.getElem?_eq_getElem (by omega)⟩
    have hke := hk e (List.mem_of_getElem? hx)
    have A7 := R.2.ar7
    have A13 := R.2.ar13
    have hce : gA1 g 34 e := R.al (c := 34) (by decide) (by decide) hke
    have ne7 : x0 ≠ g.ref 7 0 := kne hm A7.1 fun e => absurd (congrArg Prod.fst e) (by show ¬ (1 : Nat) = 7; decide)
    have ne13 : x0 ≠ g.ref 13 0 := kne hm A13.1 fun e => absurd (congrArg Prod.fst e) (by show ¬ (1 : Nat) = 13; decide)
    have ne34 : x0 ≠ g.ref 34 e := kne hm hce fun e => absurd (congrArg Prod.fst e) (by show ¬ (1 : Nat) = 34; decide)
    obtain ⟨eA7, hA7⟩ := R.arr (t := 14) A7 rfl (by decide) (by decide)
    obtain ⟨eA13, hA13⟩ := R.arr (t := 14) A13 rfl (by decide) (by decide)
    have ecE := R.1.cell hce (by decide)
    rw [zput_ne ne34.symm] at ecE
    rw [zput_ne ne7.symm] at eA7
    rw [zput_ne ne13.symm] at eA13
    have hg13 : (g.ar 13 0)[i]? = some (zr (g.ref 34 e)) := by
      refine pre_get A13.2.2 ?_
      show (s.sbs.map _)[i]? = _
      rw [hsbs, List.getElem?_map, hx]
      rfl
    have ht := take_succ' hx
    refine e_R ex fun (z2 : gR h x0 3 = g.ref 7 0) => e_R ex fun (z3 : gR h x0 20 = g.ref 13 0) => ?_
    rw [z2, z3]
    refine g_ER (t := 14) eA13 (zin_of (by rw [A13.2.1]; omega) (by omega)) (by rw [i_nat (by omega)]; exact hg13) fun z4 => ?_
    rw [z4]
    refine g_S (t := 14) eA7 hA7 (zin_of (by rw [A7.2.1]; omega) (by omega)) ⟨Or.inr (zAsg_own ecE zcl_38 rfl), ?_⟩
    rintro h2 e2
    rw [i_nat (by omega)] at e2
    rw [i_succ]
    have ex2 : h2.1 x0 = some (7, (tMain (s.w_bs (l.take i)) w g).set 7 (vI N)) := by rw [e2, zput_ne ne7]; exact ex
    have eA2 : h2.1 (g.ref 7 0) = some (1014, (g.ar 7 0).set i (zr (g.ref 34 e))) := by rw [e2]; exact zput_self eA7
    have hpre : (l.take (i + 1)).map (fun e => zr (g.ref 34 e)) <+: (g.ar 7 0).set i (zr (g.ref 34 e)) := by
      have := pre_snoc A7.2.2 (v := zr (g.ref 34 e)) (by rw [A7.2.1, List.length_map]; show (l.take i).length < 40; rw [List.length_take]; omega)
      rw [List.length_map] at this
      rw [ht, List.map_append]
      have hlen : (s.w_bs (l.take i)).bs.length = i := by show (l.take i).length = i; rw [List.length_take]; omega
      rw [hlen] at this
      exact this
    have G := R.2.set7 (xs := l.take (i + 1)) (by rw [List.length_set]; exact A7.2.1) hpre
    have R2 := R.arM (t := 14) (s' := s.w_bs (l.take (i + 1))) (w' := w) (h' := zput h2 x0 7 (vI (i + 1))) hm A7.1 (by decide) rfl (by
      show (1000 + tarT 7, (gSet g 7 0 _).ar 7 0) = _
      rw [gSet_self]
      rfl) (by rw [e2]; rfl) (fun r r0 r1 => by rw [zput_ne r0, e2, zput_ne r1, zput_ne r0]) (by
      rw [zput_self ex2, List.set_set, bs_main, bs_main, List.set_set, show (l.take (i + 1)).length = i + 1 by rw [List.length_take]; omega]) (by rw [zput_ne ne7.symm]; exact eA2) ⟨rfl, rfl, rfl, rfl, rfl, rfl, rfl, rfl, rfl⟩ G
    exact t_cr_227 hsbs hlN hk hl hm0 K k' (i + 1) _ h2 (by omega) ex2 R2 (L.trans gL.set)
end OI
