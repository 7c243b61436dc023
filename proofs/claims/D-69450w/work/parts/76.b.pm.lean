/-! ===== what holds at all times, where messages leave ===== -/
set_option maxRecDepth 100000
/-- what messages do not touch -/
def sLx (s s' : sSt) : Prop := s'.next = s.next ∧ s'.clock = s.clock ∧ s'.lastNum = s.lastNum ∧ s'.tape = s.tape ∧ s'.ses = s.ses ∧ s'.sqs = s.sqs ∧ s'.sbs = s.sbs ∧ s'.sen = s.sen
/-- a message has left; perhaps it is among the dead -/
def sLf (s s' : sSt) (m : Nat) : Prop := sDi s s' ∧ sLx s s' ∧ (∀ j, (s'.qu j).ents = if j = (s.en m).queue then (s.qu j).ents.erase m else (s.qu j).ents) ∧ (∀ j, (s'.en j).state = if j = m then 2 else (s.en j).state) ∧ s'.messages = s.messages - 1 ∧
  s'.facts = s.facts ++ (if sRecM s m then [(7, m)] else []) ∧ (∀ x ∈ s'.dead, x ∈ s.dead ∨ (x.entry = m ∧ (s.qu (s.en m).queue).dlx = some x.exch ∧ x.key = (s.qu (s.en m).queue).dlk)) ∧ s'.dead.length ≤ s.dead.length + 1 ∧ (s.dead.length ≤ 300 → s'.dead.length ≤ 300)
section PM
variable {s s' : sSt} {m q e i h c : Nat} {b : sBy}
theorem s_lv_x : sLx s (s_lv s m) := ⟨rfl, rfl, rfl, rfl, rfl, rfl, rfl, rfl⟩
theorem sLx.tell (X : sLx s s') {k : Int32} : sLx s (s_tell s' k i) := X
theorem sLv.to (Y : sLv s s') : sDi s s' := ⟨Y.1, Y.2.2⟩
theorem s_lv_lf : ∀ j, ((s_lv s m).qu j).ents = if j = (s.en m).queue then (s.qu j).ents.erase m else (s.qu j).ents := fun j => by
  rw [s_lv_eq, wr_qu_messages, wr_qu]
  by_cases e : j = (s.en m).queue
  · subst e
    rw [sUp_self, if_pos rfl]
    rfl
  · rw [sUp_ne e, if_neg e]
theorem s_lv_st : ∀ j, ((s_lv s m).en j).state = if j = m then 2 else (s.en j).state := fun j => by
  rw [s_lv_eq, wr_en_messages, wr_en_qu, wr_en]
  by_cases e : j = m
  · subst e
    rw [sUp_self, if_pos rfl]
    rfl
  · rw [sUp_ne e, if_neg e]
theorem s_lv_me : (s_lv s m).messages = s.messages - 1 := by
  rw [s_lv_eq, wr_messages]
theorem s_lv_fa : (s_lv s m).facts = s.facts ∧ (s_lv s m).dead = s.dead := ⟨rfl, rfl⟩
theorem lf_leaves : sLf s (s_leaves s m) m := by
  cases hr : s_rec (s.qu (s.en m).queue) (s.en m).cont
  · have hr2 : sRecM s m = false := hr
    rw [s_leaves_f hr]
    refine ⟨s_lv_lv.to, s_lv_x, s_lv_lf, s_lv_st, s_lv_me, ?_, fun x hx => Or.inl ?_, ?_, fun hd => ?_⟩
    · rw [s_lv_fa.1, hr2]
      exact (List.append_nil _).symm
    · rw [s_lv_fa.2] at hx
      exact hx
    · rw [s_lv_fa.2]
      exact Nat.le_succ _
    · rw [s_lv_fa.2]
      exact hd
  · have hr2 : sRecM s m = true := hr
    rw [s_leaves_t hr]
    refine ⟨s_lv_lv.tell.to, s_lv_x.tell, fun j => by rw [wt_qu]; exact s_lv_lf j, fun j => by rw [wt_en]; exact s_lv_st j, by rw [wt_messages]; exact s_lv_me, ?_, fun x hx => Or.inl ?_, ?_, fun hd => ?_⟩
    · rw [wt_facts, s_lv_fa.1, hr2]
      rfl
    · rw [wt_dead, s_lv_fa.2] at hx
      exact hx
    · rw [wt_dead, s_lv_fa.2]
      exact Nat.le_succ _
    · rw [wt_dead, s_lv_fa.2]
      exact hd
theorem sLx.deadOnes (X : sLx s s') {v : Int32} : sLx s (s'.w_deadOnes v) := X
theorem sLx.dead (X : sLx s s') {v : List sDe} : sLx s (s'.w_dead v) := X
theorem sDi.deadOnes (X : sDi s s') {v : Int32} : sDi s (s'.w_deadOnes v) := X
theorem sDi.dead (X : sDi s s') {v : List sDe} : sDi s (s'.w_dead v) := X
theorem lf_dies : sLf s (s_dies s m) m := by
  obtain ⟨a1, a2, a3, a4, a5, a6, a7, a8, a9⟩ := lf_leaves (s := s) (m := m)
  have hd0 : (s_leaves s m).dead = s.dead := (s_leaves_lv (s := s) (m := m)).2.1
  obtain ⟨v, e | ⟨x, hx, hn, e⟩⟩ := s_dies_cases (s := s) (m := m)
  · rw [e]
    exact ⟨a1.deadOnes, a2.deadOnes, fun j => by rw [wr_qu_deadOnes]; exact a3 j, fun j => by rw [wr_en_deadOnes]; exact a4 j, by rw [wr_messages_deadOnes]; exact a5, by rw [wr_facts_deadOnes]; exact a6, fun x hx => a7 x (by rw [wr_dead_deadOnes] at hx; exact hx), by rw [wr_dead_deadOnes]; exact a8, fun h => by rw [wr_dead_deadOnes]; exact a9 h⟩
  · rw [e]
    refine ⟨a1.deadOnes.dead, a2.deadOnes.dead, fun j => by rw [wr_qu_dead, wr_qu_deadOnes]; exact a3 j, fun j => by rw [wr_en_dead, wr_en_deadOnes]; exact a4 j, by rw [wr_messages_dead, wr_messages_deadOnes]; exact a5, by rw [wr_facts_dead, wr_facts_deadOnes]; exact a6, fun y hy => ?_, ?_, fun hd => ?_⟩
    · rw [wr_dead, hd0] at hy
      rcases List.mem_append.mp hy with h | h
      · exact Or.inl h
      · rw [List.mem_singleton.mp h]
        exact Or.inr ⟨rfl, hx, rfl⟩
    · rw [wr_dead, hd0, List.length_append]
      exact Nat.le_refl _
    · rw [wr_dead, hd0, List.length_append]
      simp only [List.length_singleton]
      omega
theorem sOk40.of {o : Option sBy} {x : sBy} (H : sOk40 o) (e : o = some x) : x.length ≤ 40 := H x e
theorem sTx.lf (I : sTx s) (hq : s.knd (s.en m).queue = 33) (L : sLf s s' m) : sTx s' := by
  obtain ⟨⟨D1, D2, D3, D4, D5, D6, D7, D8, D9, D10, D11, D12, D13⟩, -, -, -, -, -, hd, -, -⟩ := L
  obtain ⟨a1, a2, a3, a4, a5, a6, a7⟩ := I
  refine ⟨fun i hi => ?_, fun i hi => ?_, fun i hi => ?_, fun i hi => ?_, fun i hi => ?_, fun x hx => ?_, fun h hh => ?_⟩
  · rw [D1] at hi
    rw [D8]
    exact a1 i hi
  · rw [D1] at hi
    rw [D12 i]
    exact a2 i hi
  · rw [D1] at hi
    rw [D9]
    exact a3 i hi
  · rw [D1] at hi
    rw [D10]
    exact a4 i hi
  · rw [D1] at hi
    rw [D13 i]
    exact a5 i hi
  · rcases hd x hx with h | ⟨h1, h2, h3⟩
    · exact a6 x h
    · obtain ⟨b1, b2, b3, b4, -⟩ := a2 _ hq
      rw [h3]
      exact ⟨b3.of h2, b4⟩
  · rw [D3]
    exact a7 h hh
theorem sMs.mem (I : sMs s) (hq : s.knd q = 33) (hm : m ∈ (s.qu q).ents) : q ∈ s.qs := Classical.byContradiction fun hn => by
  rw [((I.2.1 q hq).2.1) hn] at hm
  cases hm
theorem sEnts.lf (I : sMs s) (hq : s.knd (s.en m).queue = 33) (hm : m ∈ (s.qu (s.en m).queue).ents) (L : sLf s s' m) : sEnts s' + 1 = sEnts s := by
  obtain ⟨⟨D1, D2, D3, D4, D5, -⟩, -, h3, -⟩ := L
  unfold sEnts
  have e : (fun q => (s'.qu q).ents.length) = (fun q => if q = (s.en m).queue then (fun q => (s.qu q).ents.length) (s.en m).queue - 1 else (fun q => (s.qu q).ents.length) q) := funext fun j => by
    rw [h3 j]
    by_cases ej : j = (s.en m).queue
    · rw [if_pos ej, if_pos ej, ej]
      exact List.length_erase_of_mem hm
    · rw [if_neg ej, if_neg ej]
  rw [D4, e]
  exact sum_cut (f := fun q => (s.qu q).ents.length) I.1 (I.mem hq hm) (List.length_pos_of_mem hm)
theorem sMs.lf (Isc : sScope s) (I : sMs s) (hq : s.knd (s.en m).queue = 33) (hm : m ∈ (s.qu (s.en m).queue).ents) (L : sLf s s' m) : sMs s' := by
  have hs := sEnts.lf I hq hm L
  obtain ⟨⟨D1, D2, D3, D4, D5, -⟩, -, h3, h4, h5, -⟩ := L
  obtain ⟨a1, a2, a3, a4⟩ := I
  refine ⟨by rw [D4]; exact a1, fun j hj => ?_, ?_, by omega⟩
  · rw [D1] at hj
    obtain ⟨b1, b2, b3⟩ := a2 j hj
    rw [h3 j, D4]
    by_cases ej : j = (s.en m).queue
    · rw [if_pos ej]
      subst ej
      refine ⟨b1.erase _, fun hn => ?_, fun x hx => ?_⟩
      · rw [b2 hn]
        rfl
      · rw [h4 x, if_neg (fun e => by rw [e] at hx; exact (List.Nodup.not_mem_erase b1) hx)]
        exact b3 x (List.mem_of_mem_erase hx)
    · rw [if_neg ej]
      refine ⟨b1, b2, fun x hx => ?_⟩
      rw [h4 x]
      split
      · rename_i e
        rw [e] at hx
        exact absurd ((Isc.qu j hj).1 m hx).2.symm ej
      · exact b3 x hx
  · rw [h5, a3, ← hs, i_pred (by omega), Nat.add_sub_cancel]
theorem sDi.en (D : sDi s s') (j : Nat) : (s'.en j).queue = (s.en j).queue ∧ (s'.en j).cont = (s.en j).cont ∧ (s'.en j).number = (s.en j).number := by
  rw [D.2.2.2.2.2.2.2.2.2.2.2.2 j]
  exact ⟨rfl, rfl, rfl⟩
theorem sDi.qu (D : sDi s s') (j : Nat) : (s'.qu j).last = (s.qu j).last ∧ (s'.qu j).there = (s.qu j).there ∧ (s'.qu j).name = (s.qu j).name ∧ s_kept (s'.qu j) = s_kept (s.qu j) := by
  rw [D.2.2.2.2.2.2.2.2.2.2.2.1 j]
  exact ⟨rfl, rfl, rfl, rfl⟩
theorem sDi.rec (D : sDi s s') (j : Nat) : sRecM s' j = sRecM s j := by
  unfold sRecM s_rec
  rw [(D.en j).1, (D.en j).2.1, (D.qu _).2.2.2]
theorem sSn.lf (I : sSn s) (L : sLf s s' m) : sSn s' := by
  obtain ⟨D, -, h3, h4, -⟩ := L
  have hen := D.en
  obtain ⟨D1, D2, D3, D4, D5, D6, D7, D8, D9, D10, D11, -, -⟩ := D
  obtain ⟨a1, a2, a3⟩ := I
  have hst : ∀ j, (s'.en j).state = 1 → j ≠ m ∧ (s.en j).state = 1 := fun j hj => by
    rw [h4 j] at hj
    split at hj
    · exact absurd hj (by decide)
    · rename_i e
      exact ⟨e, hj⟩
  refine ⟨fun h hh => ?_, fun h k hh hk x hx y hy hs he => ?_, fun h hh => ?_⟩
  · rw [D3, D11]
    refine ⟨(a1 h hh).1, fun x hx => ⟨?_, fun hs => ?_⟩⟩
    · rw [h4]
      split
      · decide
      · exact ((a1 h hh).2 x hx).1
    · obtain ⟨e1, e2⟩ := hst _ hs
      have := ((a1 h hh).2 x hx).2 e2
      rw [(hen _).1, h3]
      split
      · exact (List.mem_erase_of_ne e1).mpr this
      · exact this
  · rw [D3] at hx hy
    rw [D11] at hs he
    exact a2 h k hh hk x hx y hy (hst _ hs).2 he
  · rw [D3, D11]
    exact a3 h hh
theorem sCp.lf (I : sCp s) (L : sLf s s' m) : sCp s' := by
  obtain ⟨D, X, -, -, -, -, -, -, h9⟩ := L
  have hqu := D.qu
  obtain ⟨D1, D2, D3, D4, D5, D6, D7, D8, D9, D10, D11, -, -⟩ := D
  obtain ⟨X1, X2, X3, X4, -⟩ := X
  obtain ⟨a1, a2, a3, a4, a5, a6, a7, a8, a9, a10, a11, a12, a13, a14, a15, a16, a17, a18⟩ := I
  refine ⟨by rw [D5]; exact a1, by rw [D6]; exact a2, by rw [D7]; exact a3, by rw [D5]; exact a4, by rw [D4]; exact a5, by rw [D6]; exact a6, by rw [D7]; exact a7, h9 a8, ?_, fun q hq x hx => ?_, fun i hi => ?_, ?_, ?_, ?_, ?_, ?_, fun q hq p hp he => ?_, ?_⟩
  · rw [D6, D9, D5, D4]
    exact a9
  · rw [D1] at hq
    rw [(hqu q).1] at hx
    rw [D10]
    exact a10 q hq x hx
  · rw [D7] at hi
    rw [D10, (hqu _).2.1, D4]
    exact a11 i hi
  · rw [D3]
    exact a12
  · rw [D2]
    exact a13
  · rw [X3]
    exact a14
  · rw [X3]
    exact a15
  · rw [X4]
    exact a16
  · rw [D4] at hq hp
    rw [(hqu q).2.2.1, (hqu p).2.2.1] at he
    exact a17 q hq p hp he
  · rw [D5, D8]
    exact a18
theorem mk4_7 {fe fq mq : Nat → Nat} {t : sS4} : s_mk4 fe fq mq t (7, m) = (t.1, t.2.1, t.2.2.1, t.2.2.2.filter (fun x => !(x == m))) := rfl
theorem sFit.st (D : sDi s s') (hl : s'.lastNum = s.lastNum) {t : sS4} (H : sFit s t) : sFit s' t := by
  have hen := D.en
  have hqu := D.qu
  have hrec := D.rec
  obtain ⟨D1, D2, D3, D4, D5, D6, D7, D8, D9, D10, D11, -, -⟩ := D
  obtain ⟨a1, a2, a3, a4, a5, a6, a7, a8, a9, a10, a11, a12, a13, a14⟩ := H
  refine ⟨a1, a2, a3, a4, a5, a6, a7, ?_, fun q hq => ?_, ?_, fun x hx => ?_, fun q hq p hp he => ?_, ?_, ?_⟩
  · rw [D1, D8]
    exact a8
  · rw [D1, (hqu q).2.2.2]
    exact a9 q hq
  · rw [D1, D9]
    exact a10
  · rw [D1, (hen x).1, hrec x, (hen x).2.2, hl]
    exact a11 x hx
  · rw [(hqu q).2.2.1, (hqu p).2.2.1] at he
    exact a12 q hq p hp he
  · rw [D8]
    exact a13
  · rw [show (fun m => (s'.en m).number) = (fun m => (s.en m).number) from funext fun m => (hen m).2.2]
    exact a14
/-- records that are told on top: what is safe with the first n of them -/
theorem safe_app (D : sDi s s') (X : sLx s s') {l : List sFa} (hf : s'.facts = s.facts ++ l) (n : Nat) : sSafe s' n = (l.take (n - s.facts.length)).foldl (s_mk4 (fun x => (s.bi x).exch) (fun x => (s.bi x).queue) (fun m => (s.en m).queue)) (sSafe s n) := by
  unfold sSafe
  rw [hf, D.2.2.2.2.2.2.2.2.1, show (fun m => (s'.en m).queue) = (fun m => (s.en m).queue) from funext fun m => (D.en m).1, X.2.2.2.2.1, X.2.2.2.2.2.1, X.2.2.2.2.2.2.1, X.2.2.2.2.2.2.2, List.take_append, List.foldl_append]
theorem safe_over {n : Nat} (hn : s.facts.length ≤ n) : sSafe s n = sSafe s s.facts.length := by
  unfold sSafe
  rw [List.take_of_length_le hn, List.take_length]
theorem sHi.lf (Isc : sScope s) (M : sMs s) (I : sHi s) (hk : s.knd m = 36) (hm : m ∈ (s.qu (s.en m).queue).ents) (L : sLf s s' m) : sHi s' := by
  obtain ⟨D, X, h3, h4, -, h6, -⟩ := L
  have hen := D.en
  have hqu := D.qu
  have hrec := D.rec
  have hsa := fun n => safe_app D X h6 n
  have hX3 := X.2.2.1
  obtain ⟨a1, a2, a3, a4, a5, a6, a7⟩ := I
  have hq := Isc.en m hk
  have hfit : ∀ n, sFit s (sSafe s' n) := fun n => by
    rw [hsa n]
    split
    · cases hn : n - s.facts.length with
      | zero => exact a1 n
      | succ k =>
        rw [List.take_of_length_le (by simp)]
        obtain ⟨b1, b2, b3, b4, b5, b6, b7, b8, b9, b10, b11, b12, b13, b14⟩ := a1 n
        rw [List.foldl_cons, List.foldl_nil, mk4_7]
        exact ⟨b1, b2, b3, Nat.le_trans (List.length_filter_le _ _) b4, b5, b6, b7, b8, b9, b10, fun x hx => b11 x (List.mem_filter.mp hx).1, b12, b13, List.Pairwise.sublist (List.Sublist.map _ List.filter_sublist) b14⟩
    · rw [List.take_nil]
      exact a1 n
  have hlen : s'.facts.length = s.facts.length + (if sRecM s m = true then [((7 : Int32), m)] else []).length := by
    rw [h6, List.length_append]
  have hfull : sSafe s' s'.facts.length = (if sRecM s m = true then [((7 : Int32), m)] else []).foldl (s_mk4 (fun x => (s.bi x).exch) (fun x => (s.bi x).queue) (fun m => (s.en m).queue)) (sSafe s s.facts.length) := by
    rw [hsa, safe_over (by omega), hlen, Nat.add_sub_cancel_left, List.take_length]
  have h1 : (sSafe s' s'.facts.length).1 = (sSafe s s.facts.length).1 ∧ (sSafe s' s'.facts.length).2.1 = (sSafe s s.facts.length).2.1 ∧ (sSafe s' s'.facts.length).2.2.1 = (sSafe s s.facts.length).2.2.1 ∧ (sSafe s' s'.facts.length).2.2.2 = (if sRecM s m = true then (sSafe s s.facts.length).2.2.2.filter (fun x => !(x == m)) else (sSafe s s.facts.length).2.2.2) := by
    rw [hfull]
    split
    · exact ⟨rfl, rfl, rfl, rfl⟩
    · exact ⟨rfl, rfl, rfl, rfl⟩
  refine ⟨fun n => (hfit n).st D hX3, ?_, ?_, ?_, fun x => ?_, fun q hq2 => ?_, fun q hq2 x hx => ?_⟩
  · rw [h1.1, a2, D.2.2.2.2.1, D.2.2.2.2.2.2.2.1]
  · rw [h1.2.1, a3, D.2.2.2.1]
    exact List.filter_congr fun q _ => (hqu q).2.2.2.symm
  · rw [h1.2.2.1, a4, D.2.2.2.2.2.1, D.2.2.2.2.2.2.2.1, D.2.2.2.2.2.2.2.2.1]
    exact List.filter_congr fun q _ => by rw [(hqu _).2.2.2]
  · rw [h1.2.2.2, (hen x).1, hrec x, D.2.2.2.1, h3]
    have hx0 := a5 x
    by_cases ex : x = m
    · subst ex
      rw [if_pos rfl]
      have hnd := (M.2.1 _ hq).1
      refine ⟨fun h => ?_, fun h => absurd h.1 (List.Nodup.not_mem_erase hnd)⟩
      split at h
      · exact absurd (List.mem_filter.mp h).2 (by simp)
      · rename_i hr
        exact absurd (hx0.mp h).2.2 hr
    · have hme : (x ∈ if (s.en x).queue = (s.en m).queue then (s.qu (s.en x).queue).ents.erase m else (s.qu (s.en x).queue).ents) ↔ x ∈ (s.qu (s.en x).queue).ents := by
        split
        · exact List.mem_erase_of_ne ex
        · exact Iff.rfl
      rw [hme]
      split
      · rw [List.mem_filter, hx0]
        have : (!(x == m)) = true := by rw [beq_false_of_ne ex]; rfl
        exact ⟨fun h => h.1, fun h => ⟨h, this⟩⟩
      · exact hx0
  · rw [D.1] at hq2
    rw [h3, show (fun m => (s'.en m).number) = (fun m => (s.en m).number) from funext fun m => (hen m).2.2]
    split
    · exact List.Pairwise.sublist (List.Sublist.map _ List.erase_sublist) (a6 q hq2)
    · exact a6 q hq2
  · rw [D.1] at hq2
    rw [h3] at hx
    rw [(hen x).2.2, hX3]
    split at hx
    · exact a7 q hq2 x (List.mem_of_mem_erase hx)
    · exact a7 q hq2 x hx
theorem d_lf (I : sI s) (Isc : sScope s') (hk : s.knd m = 36) (hm : m ∈ (s.qu (s.en m).queue).ents) (L : sLf s s' m) : sDn s s' ∧ tP s' + 4 ≤ tP s := by
  have hq := I.sc.en m hk
  have he := sEnts.lf I.ms hq hm L
  have hI : sI s' := ⟨Isc, I.tx.lf hq L, I.ms.lf I.sc hq hm L, I.sn.lf L, I.cp.lf L, I.hi.lf I.sc I.ms hk hm L⟩
  obtain ⟨⟨D1, D2, D3, D4, D5, D6, D7, D8, D9, D10, D11, D12, D13⟩, ⟨X1, X2, X3, -⟩, h3, h4, -, h6, -, h8, -⟩ := L
  have hp : tP s' + 4 ≤ tP s := by
    unfold tP
    rw [X3, D4, D5]
    omega
  have hw : sWt s' ≤ sWt s + 1 := by
    unfold sWt
    rw [D3, h6, List.length_append]
    split
    · simp only [List.length_singleton]
      omega
    · simp only [List.length_nil]
      omega
  refine ⟨⟨fun _ => hI, fun _ => by omega, fun _ => by omega, by rw [D7]; exact List.Sublist.refl _, by rw [D4]; exact List.Sublist.refl _, by rw [D5]; exact List.Sublist.refl _, by rw [D6]; exact List.Sublist.refl _, fun c hc => by rw [D2]; exact hc, fun h hh => by rw [D3]; exact hh, fun h hh => by rw [D3]; exact hh, D1, X1, X2, D10, D9, D11, X3,
    fun j => ⟨(s'.qu j).ents, (s.qu j).there, (s.qu j).last, D12 j⟩, fun j => ⟨(s.ex j).there, by rw [D8]; rfl⟩, fun j => ⟨(s'.en j).state, (s.en j).redel, D13 j⟩, fun h => by rw [D3]⟩, hp⟩
theorem d_leaves (I : sI s) (hk : s.knd m = 36) (hm : m ∈ (s.qu (s.en m).queue).ents) : sDn s (s_leaves s m) := (d_lf I (I.sc.lv hk) hk hm lf_leaves).1
theorem d_dies (I : sI s) (hk : s.knd m = 36) (hm : m ∈ (s.qu (s.en m).queue).ents) : sDn s (s_dies s m) ∧ tP (s_dies s m) + 4 ≤ tP s := d_lf I (I.sc.dies hk) hk hm lf_dies
end PM
