/-! ===== what holds where a message comes ===== -/
set_option maxRecDepth 100000
/-- m goes to the end of its queue q -/
def sNi (s s' : sSt) (q m : Nat) : Prop := sDi s s' ∧ sLx s s' ∧ (∀ j, (s'.qu j).ents = if j = q then (s.qu j).ents ++ [m] else (s.qu j).ents) ∧ (∀ j, (s'.en j).state = (s.en j).state) ∧ s'.messages = s.messages + 1 ∧
  s'.facts = s.facts ++ (if sRecM s m then [(6, m)] else []) ∧ s'.dead = s.dead
section PZ
variable {s s' s1 s2 : sSt} {m q e i h c n : Nat} {b : sBy}
theorem len_sub : ∀ {l L : List Nat}, l.Nodup → (∀ x ∈ l, x ∈ L) → l.length ≤ L.length
  | [], _, _, _ => Nat.zero_le _
  | x :: l, L, hn, hs => by
    have hn' := List.nodup_cons.mp hn
    have hx := hs x List.mem_cons_self
    have := len_sub (l := l) (L := L.erase x) hn'.2 fun y hy => (List.mem_erase_of_ne (fun e => hn'.1 (by rw [← e]; exact hy))).mpr (hs y (List.mem_cons_of_mem _ hy))
    rw [List.length_erase_of_mem hx] at this
    have := List.length_pos_of_mem hx
    rw [List.length_cons]
    omega
theorem len_flat {f : Nat → List Nat} : ∀ {l : List Nat}, (l.flatMap f).length = (l.map (fun x => (f x).length)).sum
  | [] => rfl
  | x :: l => by
    rw [List.flatMap_cons, List.length_append, len_flat, List.map_cons, List.sum_cons]
/-- no more messages are safe than there are -/
theorem safe_len (I : sHi s) : (sSafe s s.facts.length).2.2.2.length ≤ sEnts s := by
  have hn : (sSafe s s.facts.length).2.2.2.Nodup := by
    have := (I.1 s.facts.length).2.2.2.2.2.2.2.2.2.2.2.2.2
    rw [List.pairwise_map] at this
    exact this.imp fun {a b} h e => absurd h (by rw [e]; exact Int32.lt_irrefl)
  have h2 := len_sub (L := s.qs.flatMap (fun q => (s.qu q).ents)) hn fun x hx => by
    obtain ⟨h1, h2, -⟩ := (I.2.2.2.2.1 x).mp hx
    exact List.mem_flatMap.mpr ⟨_, h2, h1⟩
  rw [len_flat] at h2
  exact h2
theorem sEnts.ni (I : sMs s) (hq : q ∈ s.qs) (L : sNi s s' q m) : sEnts s' = sEnts s + 1 := by
  obtain ⟨D, -, h3, -⟩ := L
  unfold sEnts
  rw [D.2.2.2.1]
  refine sum_up (f := fun q => (s.qu q).ents.length) (j := q) (k := 1) I.1 hq fun x _ => ?_
  rw [h3 x]
  split
  · rename_i e
    subst e
    rw [List.length_append, List.length_singleton]
  · rfl
theorem sTx.ni (I : sTx s) (L : sNi s s' q m) : sTx s' := by
  obtain ⟨⟨D1, D2, D3, D4, D5, D6, D7, D8, D9, D10, D11, D12, D13⟩, -, -, -, -, -, hd⟩ := L
  obtain ⟨a1, a2, a3, a4, a5, a6, a7⟩ := I
  refine ⟨fun i hi => ?_, fun i hi => ?_, fun i hi => ?_, fun i hi => ?_, fun i hi => ?_, by rw [hd]; exact a6, fun h hh => ?_⟩
  · rw [D1] at hi
    rw [D8]
    exact a1 i hi
  · rw [D1] at hi
    rw [D12 i]
    exact a2 i hi
  · rw [D1] at hi
    rw [D9]
    exact a3 i hi
  · rw [D1] at hi
    rw [D10]
    exact a4 i hi
  · rw [D1] at hi
    rw [D13 i]
    exact a5 i hi
  · rw [D3]
    exact a7 h hh
theorem sMs.ni (I : sMs s) (hq : q ∈ s.qs) (h0 : (s.en m).state = 0) (hout : m ∉ (s.qu q).ents) (hE : sEnts s < 300) (L : sNi s s' q m) : sMs s' := by
  have hs := sEnts.ni I hq L
  obtain ⟨⟨D1, D2, D3, D4, D5, -⟩, -, h3, h4, h5, -⟩ := L
  obtain ⟨a1, a2, a3, a4⟩ := I
  refine ⟨by rw [D4]; exact a1, fun j hj => ?_, ?_, by omega⟩
  · rw [D1] at hj
    obtain ⟨b1, b2, b3⟩ := a2 j hj
    rw [h3 j, D4]
    by_cases ej : j = q
    · rw [if_pos ej]
      subst ej
      refine ⟨?_, fun hn => absurd hq hn, fun x hx => ?_⟩
      · rw [List.nodup_append]
        refine ⟨b1, List.nodup_cons.mpr ⟨List.not_mem_nil, List.nodup_nil⟩, fun a ha c hc e => hout ?_⟩
        rw [← List.mem_singleton.mp hc, ← e]
        exact ha
      · rw [h4 x]
        rcases List.mem_append.mp hx with hx | hx
        · exact b3 x hx
        · rw [List.mem_singleton.mp hx]
          exact Or.inl h0
    · rw [if_neg ej]
      refine ⟨b1, b2, fun x hx => ?_⟩
      rw [h4 x]
      exact b3 x hx
  · rw [h5, a3, hs, i_succ]
theorem sSn.ni (I : sSn s) (L : sNi s s' q m) : sSn s' := by
  obtain ⟨D, -, h3, h4, -⟩ := L
  have hen := D.en
  obtain ⟨D1, D2, D3, D4, D5, D6, D7, D8, D9, D10, D11, -, -⟩ := D
  obtain ⟨a1, a2, a3⟩ := I
  refine ⟨fun h hh => ?_, fun h k hh hk x hx y hy hs he => ?_, fun h hh => ?_⟩
  · rw [D3, D11]
    refine ⟨(a1 h hh).1, fun x hx => ⟨?_, fun hs => ?_⟩⟩
    · rw [h4]
      exact ((a1 h hh).2 x hx).1
    · rw [h4] at hs
      have := ((a1 h hh).2 x hx).2 hs
      rw [(hen _).1, h3]
      split
      · exact List.mem_append_left _ this
      · exact this
  · rw [D3] at hx hy
    rw [D11] at hs he
    rw [h4] at hs
    exact a2 h k hh hk x hx y hy hs he
  · rw [D3, D11]
    exact a3 h hh
theorem sCp.ni (I : sCp s) (L : sNi s s' q m) : sCp s' := by
  obtain ⟨D, X, -, -, -, -, h7⟩ := L
  have hqu := D.qu
  obtain ⟨D1, D2, D3, D4, D5, D6, D7, D8, D9, D10, D11, -, -⟩ := D
  obtain ⟨X1, X2, X3, X4, -⟩ := X
  obtain ⟨a1, a2, a3, a4, a5, a6, a7, a8, a9, a10, a11, a12, a13, a14, a15, a16, a17, a18⟩ := I
  refine ⟨by rw [D5]; exact a1, by rw [D6]; exact a2, by rw [D7]; exact a3, by rw [D5]; exact a4, by rw [D4]; exact a5, by rw [D6]; exact a6, by rw [D7]; exact a7, by rw [h7]; exact a8, ?_, fun q hq x hx => ?_, fun i hi => ?_, ?_, ?_, ?_, ?_, ?_, fun q hq p hp he => ?_, ?_⟩
  · rw [D6, D9, D5, D4]
    exact a9
  · rw [D1] at hq
    rw [(hqu q).1] at hx
    rw [D10]
    exact a10 q hq x hx
  · rw [D7] at hi
    rw [D10, (hqu _).2.1, D4]
    exact a11 i hi
  · rw [D3]
    exact a12
  · rw [D2]
    exact a13
  · rw [X3]
    exact a14
  · rw [X3]
    exact a15
  · rw [X4]
    exact a16
  · rw [D4] at hq hp
    rw [(hqu q).2.2.1, (hqu p).2.2.1] at he
    exact a17 q hq p hp he
  · rw [D5, D8]
    exact a18
theorem mk4_6 {fe fq mq : Nat → Nat} {t : sS4} : s_mk4 fe fq mq t (6, m) = (t.1, t.2.1, t.2.2.1, t.2.2.2 ++ [m]) := rfl
theorem sHi.ni (Isc : sScope s) (M : sMs s) (I : sHi s) (hk : s.knd m = 36) (hq : q ∈ s.qs) (hmq : (s.en m).queue = q) (hout : m ∉ (s.qu q).ents) (hlt : ∀ x ∈ (s.qu q).ents, (s.en x).number < (s.en m).number) (hlt2 : ∀ x ∈ (sSafe s s.facts.length).2.2.2, (s.en x).number < (s.en m).number)
    (hpos : 0 < (s.en m).number ∧ (s.en m).number ≤ s.lastNum) (hE : sEnts s < 300) (L : sNi s s' q m) : sHi s' := by
  obtain ⟨D, X, h3, h4, -, h6, -⟩ := L
  have hen := D.en
  have hqu := D.qu
  have hrec := D.rec
  have hsa := fun n => safe_app D X h6 n
  have hX3 := X.2.2.1
  have hsl := safe_len I
  obtain ⟨a1, a2, a3, a4, a5, a6, a7⟩ := I
  have hfit : ∀ n, sFit s (sSafe s' n) := fun n => by
    rw [hsa n]
    by_cases hr : sRecM s m = true
    · rw [if_pos hr]
      cases hn : n - s.facts.length with
      | zero => exact a1 n
      | succ k =>
        rw [List.take_of_length_le (by simp), safe_over (by omega)]
        obtain ⟨b1, b2, b3, b4, b5, b6, b7, b8, b9, b10, b11, b12, b13, b14⟩ := a1 s.facts.length
        rw [List.foldl_cons, List.foldl_nil, mk4_6]
        have hmem : q ∈ (sSafe s s.facts.length).2.1 := by
          rw [a3]
          refine List.mem_filter.mpr ⟨hq, ?_⟩
          unfold sRecM s_rec at hr
          rw [hmq] at hr
          exact (Bool.and_eq_true_iff.mp hr).1
        refine ⟨b1, b2, b3, ?_, b5, b6, b7, b8, b9, b10, fun x hx => ?_, b12, b13, ?_⟩
        · show ((sSafe s s.facts.length).2.2.2 ++ [m]).length ≤ 300
          rw [List.length_append, List.length_singleton]
          omega
        · rcases List.mem_append.mp hx with hx | hx
          · exact b11 x hx
          · rw [List.mem_singleton.mp hx, hmq]
            exact ⟨hk, hmem, hr, hpos⟩
        · show (((sSafe s s.facts.length).2.2.2 ++ [m]).map (fun m => (s.en m).number)).Pairwise (· < ·)
          rw [List.map_append, List.pairwise_append]
          refine ⟨b14, List.pairwise_singleton _ _, fun a ha c hc => ?_⟩
          obtain ⟨x, hx, rfl⟩ := List.mem_map.mp ha
          rw [List.map_singleton] at hc
          rw [List.mem_singleton.mp hc]
          exact hlt2 x hx
    · rw [if_neg hr, List.take_nil]
      exact a1 n
  have hlen : s'.facts.length = s.facts.length + (if sRecM s m = true then [((6 : Int32), m)] else []).length := by
    rw [h6, List.length_append]
  have hfull : sSafe s' s'.facts.length = (if sRecM s m = true then [((6 : Int32), m)] else []).foldl (s_mk4 (fun x => (s.bi x).exch) (fun x => (s.bi x).queue) (fun m => (s.en m).queue)) (sSafe s s.facts.length) := by
    rw [hsa, safe_over (by omega), hlen, Nat.add_sub_cancel_left, List.take_length]
  have h1 : (sSafe s' s'.facts.length).1 = (sSafe s s.facts.length).1 ∧ (sSafe s' s'.facts.length).2.1 = (sSafe s s.facts.length).2.1 ∧ (sSafe s' s'.facts.length).2.2.1 = (sSafe s s.facts.length).2.2.1 ∧ (sSafe s' s'.facts.length).2.2.2 = (if sRecM s m = true then (sSafe s s.facts.length).2.2.2 ++ [m] else (sSafe s s.facts.length).2.2.2) := by
    rw [hfull]
    split
    · exact ⟨rfl, rfl, rfl, rfl⟩
    · exact ⟨rfl, rfl, rfl, rfl⟩
  refine ⟨fun n => (hfit n).st D hX3, ?_, ?_, ?_, fun x => ?_, fun j hj => ?_, fun j hj x hx => ?_⟩
  · rw [h1.1, a2, D.2.2.2.2.1, D.2.2.2.2.2.2.2.1]
  · rw [h1.2.1, a3, D.2.2.2.1]
    exact List.filter_congr fun q _ => (hqu q).2.2.2.symm
  · rw [h1.2.2.1, a4, D.2.2.2.2.2.1, D.2.2.2.2.2.2.2.1, D.2.2.2.2.2.2.2.2.1]
    exact List.filter_congr fun q _ => by rw [(hqu _).2.2.2]
  · rw [h1.2.2.2, (hen x).1, hrec x, D.2.2.2.1, h3]
    have hx0 := a5 x
    by_cases ex : x = m
    · subst ex
      rw [if_pos hmq]
      refine ⟨fun h => ⟨List.mem_append_right _ (List.mem_singleton.mpr rfl), by rw [hmq]; exact hq, ?_⟩, fun h => ?_⟩
      · split at h
        · rename_i hr
          exact hr
        · exact (hx0.mp h).2.2
      · rw [if_pos h.2.2]
        exact List.mem_append_right _ (List.mem_singleton.mpr rfl)
    · have hme : (x ∈ if (s.en x).queue = q then (s.qu (s.en x).queue).ents ++ [m] else (s.qu (s.en x).queue).ents) ↔ x ∈ (s.qu (s.en x).queue).ents := by
        split
        · rw [List.mem_append]
          exact ⟨fun h => h.resolve_right fun h => ex (List.mem_singleton.mp h), Or.inl⟩
        · exact Iff.rfl
      rw [hme]
      split
      · rw [List.mem_append, ← hx0]
        exact ⟨fun h => h.resolve_right fun h => ex (List.mem_singleton.mp h), Or.inl⟩
      · exact hx0
  · rw [D.1] at hj
    rw [h3, show (fun m => (s'.en m).number) = (fun m => (s.en m).number) from funext fun m => (hen m).2.2]
    split
    · rename_i e
      subst e
      rw [List.map_append, List.pairwise_append]
      refine ⟨a6 j hj, List.pairwise_singleton _ _, fun a ha c hc => ?_⟩
      obtain ⟨x, hx, rfl⟩ := List.mem_map.mp ha
      rw [List.map_singleton] at hc
      rw [List.mem_singleton.mp hc]
      exact hlt x hx
    · exact a6 j hj
  · rw [D.1] at hj
    rw [h3] at hx
    rw [(hen x).2.2, hX3]
    split at hx
    · rcases List.mem_append.mp hx with hx | hx
      · exact a7 j hj x hx
      · rw [List.mem_singleton.mp hx]
        exact hpos
    · exact a7 j hj x hx
theorem sI.ni (I : sI s) (Isc : sScope s') (hk : s.knd m = 36) (hq : q ∈ s.qs) (hmq : (s.en m).queue = q) (h0 : (s.en m).state = 0) (hout : m ∉ (s.qu q).ents) (hlt : ∀ x ∈ (s.qu q).ents, (s.en x).number < (s.en m).number) (hlt2 : ∀ x ∈ (sSafe s s.facts.length).2.2.2, (s.en x).number < (s.en m).number)
    (hpos : 0 < (s.en m).number ∧ (s.en m).number ≤ s.lastNum) (hE : sEnts s < 300) (L : sNi s s' q m) : sI s' :=
  ⟨Isc, I.tx.ni L, I.ms.ni hq h0 hout hE L, I.sn.ni L, I.cp.ni L, I.hi.ni I.sc I.ms hk hq hmq hout hlt hlt2 hpos hE L⟩
theorem rdy_ni (I : sMs s) (hq : q ∈ s.qs) (h0 : (s.en m).state = 0) (L : sNi s s' q m) : sRdy s' = sRdy s + 1 := by
  obtain ⟨D, -, h3, h4, -⟩ := L
  unfold sRdy
  rw [D.2.2.2.1]
  refine sum_up (f := fun q => (s_ready s q).length) (j := q) (k := 1) I.1 hq fun x _ => ?_
  unfold s_ready
  rw [h3 x, List.filter_congr (l := if x = q then _ else _) fun y _ => by rw [h4 y]]
  split
  · rename_i e
    subst e
    rw [List.filter_append, List.length_append]
    have : [m].filter (fun m => (s.en m).state == 0) = [m] := by
      rw [List.filter_cons, h0]
      rfl
    rw [this, List.length_singleton]
  · rfl
theorem sWt_ni (L : sNi s s' q m) : sWt s' ≤ sWt s + 1 := by
  obtain ⟨D, -, -, -, -, h6, -⟩ := L
  unfold sWt
  rw [D.2.2.1, h6, List.length_append]
  split
  · simp only [List.length_singleton]
    omega
  · simp only [List.length_nil]
    omega
theorem tP_ni (I : sMs s) (hq : q ∈ s.qs) (L : sNi s s' q m) : tP s' = tP s + 10 := by
  have := sEnts.ni I hq L
  obtain ⟨D, X, -, -, -, -, h7⟩ := L
  unfold tP
  rw [this, X.2.2.1, h7, D.2.2.2.1, D.2.2.2.2.1]
  omega
theorem tY_ni (I : sMs s) (hq : q ∈ s.qs) (h0 : (s.en m).state = 0) (L : sNi s s' q m) : tY s' = tY s + 3 := by
  have := rdy_ni I hq h0 L
  obtain ⟨D, X, -, -, -, -, h7⟩ := L
  have hv : sLive s' = sLive s := sLive_same fun c => by rw [D.2.1]
  have hl : s'.lastNum = s.lastNum := X.2.2.1
  unfold tY
  rw [this, hl, hv]
  omega
/-- numbers go up -/
theorem sFit.num {t : sS4} (H : sFit s t) {v : Int32} (hv : s.lastNum ≤ v) : sFit (s.w_lastNum v) t := by
  obtain ⟨a1, a2, a3, a4, a5, a6, a7, a8, a9, a10, a11, a12, a13, a14⟩ := H
  exact ⟨a1, a2, a3, a4, a5, a6, a7, a8, a9, a10, fun m hm => ⟨(a11 m hm).1, (a11 m hm).2.1, (a11 m hm).2.2.1, (a11 m hm).2.2.2.1, Int32.le_trans (a11 m hm).2.2.2.2 hv⟩, a12, a13, a14⟩
theorem sI.num (I : sI s) {v : Int32} (hv : s.lastNum ≤ v) (h12 : v ≤ 12000) : sI (s.w_lastNum v) := by
  refine ⟨I.sc.lastNum, I.tx, I.ms, I.sn, ?_, ?_⟩
  · obtain ⟨a1, a2, a3, a4, a5, a6, a7, a8, a9, a10, a11, a12, a13, a14, a15, a16⟩ := I.cp
    exact ⟨a1, a2, a3, a4, a5, a6, a7, a8, a9, a10, a11, a12, a13, Int32.le_trans a14 hv, h12, a16⟩
  · obtain ⟨a1, a2, a3, a4, a5, a6, a7⟩ := I.hi
    exact ⟨fun n => (a1 n).num hv, a2, a3, a4, a5, a6, fun q hq m hm => ⟨(a7 q hq m hm).1, Int32.le_trans (a7 q hq m hm).2 hv⟩⟩
end PZ
