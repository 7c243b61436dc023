/-! ===== what holds where an exchange, a queue, a binding, a consumer is new among those that are there, or a binding is none ===== -/
set_option maxRecDepth 100000
def s_addE (s : sSt) (e : Nat) : sSt := if (s.ex e).dur = true then s_tell (s.w_es (s.es ++ [e])) 0 e else s.w_es (s.es ++ [e])
def s_addQ (s : sSt) (q : Nat) (v : Int32) : sSt := if s_kept (s.qu q) = true then s_tell ((s.w_qs (s.qs ++ [q])).w_gener v) 2 q else (s.w_qs (s.qs ++ [q])).w_gener v
def s_addX (s : sSt) (x : Nat) : sSt := if (s.ex (s.bi x).exch).dur = true ∧ s_kept (s.qu (s.bi x).queue) = true then s_tell (s.w_bs (s.bs ++ [x])) 4 x else s.w_bs (s.bs ++ [x])
def s_offX (s : sSt) (x : Nat) : sSt := if (s.ex (s.bi x).exch).dur = true ∧ s_kept (s.qu (s.bi x).queue) = true then s_tell (s.w_bs (s.bs.erase x)) 5 x else s.w_bs (s.bs.erase x)
/-- what stays where lists and records change -/
def sAl (s s' : sSt) : Prop := s'.knd = s.knd ∧ s'.qu = s.qu ∧ s'.ex = s.ex ∧ s'.bi = s.bi ∧ s'.en = s.en ∧ s'.ses = s.ses ∧ s'.sqs = s.sqs ∧ s'.sbs = s.sbs ∧ s'.sen = s.sen ∧ s'.lastNum = s.lastNum
def s_mkS (s : sSt) (t : sS4) (f : sFa) : sS4 := s_mk4 (fun x => (s.bi x).exch) (fun x => (s.bi x).queue) (fun m => (s.en m).queue) t f
section MK
variable {s s' s1 s2 : sSt} {m q e i h c x : Nat} {f : sFa} {v : Int32}
theorem safe_al (A : sAl s s') (hf : s'.facts = s.facts ++ [f]) (n : Nat) : sSafe s' n = if n ≤ s.facts.length then sSafe s n else s_mkS s (sSafe s s.facts.length) f := by
  obtain ⟨-, -, -, a4, a5, a6, a7, a8, a9, -⟩ := A
  unfold sSafe s_mkS
  rw [hf, a4, a5, a6, a7, a8, a9]
  split
  · rename_i h
    rw [List.take_append_of_le_length h]
  · rename_i h
    rw [List.take_of_length_le (by rw [List.length_append, List.length_singleton]; omega), List.foldl_append, List.take_length]
    rfl
theorem safe_al0 (A : sAl s s') (hf : s'.facts = s.facts) (n : Nat) : sSafe s' n = sSafe s n := by
  obtain ⟨-, -, -, a4, a5, a6, a7, a8, a9, -⟩ := A
  unfold sSafe
  rw [hf, a4, a5, a6, a7, a8, a9]
theorem sFit.al (A : sAl s s') {t : sS4} (H : sFit s t) : sFit s' t := by
  obtain ⟨a1, a2, a3, a4, a5, -, -, -, -, a10⟩ := A
  unfold sFit sRecM at H ⊢
  rw [a1, a2, a3, a4, a5, a10]
  exact H
theorem sHi.al1 {T : sS4} (I : sHi s) (A : sAl s s') (hf : s'.facts = s.facts ++ [f]) (hT : s_mkS s (sSafe s s.facts.length) f = T) (F : sFit s T) (h1 : T.1 = s'.es.filter (fun e => (s.ex e).dur)) (h2 : T.2.1 = s'.qs.filter (fun q => s_kept (s.qu q)))
    (h3 : T.2.2.1 = s'.bs.filter (fun x => (s.ex (s.bi x).exch).dur && s_kept (s.qu (s.bi x).queue))) (h4 : ∀ m, m ∈ T.2.2.2 ↔ (m ∈ (s.qu (s.en m).queue).ents ∧ (s.en m).queue ∈ s'.qs ∧ sRecM s m = true)) : sHi s' := by
  have hs := safe_al A hf
  have hl : sSafe s' s'.facts.length = T := by
    rw [hs, hf, List.length_append, List.length_singleton, if_neg (by omega), hT]
  obtain ⟨a1, a2, a3, a4, a5, a6, a7⟩ := I
  refine ⟨fun n => ?_, ?_⟩
  · rw [hs]
    split
    · exact (a1 n).al A
    · rw [hT]
      exact F.al A
  · rw [hl]
    obtain ⟨b1, b2, b3, b4, b5, -, -, -, -, b10⟩ := A
    unfold sRecM at h4 ⊢
    rw [b1, b2, b3, b4, b5, b10]
    exact ⟨h1, h2, h3, h4, a6, a7⟩
theorem sHi.al0 (I : sHi s) (A : sAl s s') (hf : s'.facts = s.facts) (h1 : (sSafe s s.facts.length).1 = s'.es.filter (fun e => (s.ex e).dur)) (h2 : (sSafe s s.facts.length).2.1 = s'.qs.filter (fun q => s_kept (s.qu q)))
    (h3 : (sSafe s s.facts.length).2.2.1 = s'.bs.filter (fun x => (s.ex (s.bi x).exch).dur && s_kept (s.qu (s.bi x).queue))) (h4 : ∀ m, m ∈ (sSafe s s.facts.length).2.2.2 ↔ (m ∈ (s.qu (s.en m).queue).ents ∧ (s.en m).queue ∈ s'.qs ∧ sRecM s m = true)) : sHi s' := by
  have hs := safe_al0 A hf
  obtain ⟨a1, a2, a3, a4, a5, a6, a7⟩ := I
  refine ⟨fun n => ?_, ?_⟩
  · rw [hs]
    exact (a1 n).al A
  · rw [hs, hf]
    obtain ⟨b1, b2, b3, b4, b5, -, -, -, -, b10⟩ := A
    unfold sRecM at h4 ⊢
    rw [b1, b2, b3, b4, b5, b10]
    exact ⟨h1, h2, h3, h4, a6, a7⟩
theorem nodup_snoc {l : List Nat} (hn : l.Nodup) (hx : x ∉ l) : (l ++ [x]).Nodup := by
  rw [List.nodup_append]
  exact ⟨hn, List.nodup_cons.mpr ⟨List.not_mem_nil, List.nodup_nil⟩, fun a ha c hc e => hx (by rw [← List.mem_singleton.mp hc, ← e]; exact ha)⟩
theorem name_snoc {l : List Nat} {f : Nat → sBy} (hn : ∀ q ∈ l, ∀ p ∈ l, f q = f p → q = p) (hx : ∀ q ∈ l, f q ≠ f x) : ∀ q ∈ l ++ [x], ∀ p ∈ l ++ [x], f q = f p → q = p := by
  intro q hq p hp e
  rcases List.mem_append.mp hq with hq | hq <;> rcases List.mem_append.mp hp with hp | hp
  · exact hn q hq p hp e
  · rw [List.mem_singleton.mp hp] at e
    exact absurd e (hx q hq)
  · rw [List.mem_singleton.mp hq] at e
    exact absurd e.symm (hx p hp)
  · rw [List.mem_singleton.mp hq, List.mem_singleton.mp hp]
theorem sTx.tell (I : sTx s) {k : Int32} {i : Nat} : sTx (s_tell s k i) := I
theorem sMs.tell (I : sMs s) {k : Int32} {i : Nat} : sMs (s_tell s k i) := I
theorem sSn.tell (I : sSn s) {k : Int32} {i : Nat} : sSn (s_tell s k i) := I
theorem sCp.tell (I : sCp s) {k : Int32} {i : Nat} : sCp (s_tell s k i) := I
theorem tell_w {k : Int32} {i : Nat} : sWt (s_tell s k i) = sWt s + 1 := by
  unfold sWt
  rw [wt_facts, wt_ch, List.length_append, List.length_singleton]
  omega
theorem es_w {l : List Nat} : sWt (s.w_es l) = sWt s := by
  unfold sWt
  rw [wr_facts_es, wr_ch_es]
theorem qs_w {l : List Nat} : sWt ((s.w_qs l).w_gener v) = sWt s := by
  unfold sWt
  rw [wr_facts_gener, wr_ch_gener, wr_facts_qs, wr_ch_qs]
theorem bs_w {l : List Nat} : sWt (s.w_bs l) = sWt s := by
  unfold sWt
  rw [wr_facts_bs, wr_ch_bs]
theorem es_e {l : List Nat} : sEnts (s.w_es l) = sEnts s := by
  unfold sEnts
  rw [wr_qs_es, wr_qu_es]
theorem bs_e {l : List Nat} : sEnts (s.w_bs l) = sEnts s := by
  unfold sEnts
  rw [wr_qs_bs, wr_qu_bs]
theorem tell_e {k : Int32} {i : Nat} : sEnts (s_tell s k i) = sEnts s := by
  unfold sEnts
  rw [wt_qs, wt_qu]
theorem tell_p {k : Int32} {i : Nat} : tP (s_tell s k i) = tP s := by
  unfold tP
  rw [tell_e, wt_lastNum, wt_dead, wt_es, wt_qs]
theorem es_p {l : List Nat} (hl : l.length = s.es.length + 1) : tP (s.w_es l) = tP s + 4 := by
  unfold tP
  rw [es_e, wr_lastNum_es, wr_dead_es, wr_es, wr_qs_es, hl]
  omega
theorem bs_p {l : List Nat} : tP (s.w_bs l) = tP s := by
  unfold tP
  rw [bs_e, wr_lastNum_bs, wr_dead_bs, wr_es_bs, wr_qs_bs]
theorem tell_y {k : Int32} {i : Nat} : tY (s_tell s k i) = tY s := by
  unfold tY sRdy s_ready sLive
  rw [wt_lastNum, wt_qs, wt_qu, wt_en, wt_cn]
theorem es_y {l : List Nat} : tY (s.w_es l) = tY s := by
  unfold tY sRdy s_ready sLive
  rw [wr_lastNum_es, wr_qs_es, wr_qu_es, wr_en_es, wr_cn_es]
theorem bs_y {l : List Nat} : tY (s.w_bs l) = tY s := by
  unfold tY sRdy s_ready sLive
  rw [wr_lastNum_bs, wr_qs_bs, wr_qu_bs, wr_en_bs, wr_cn_bs]
/-! an exchange -/
theorem sScope.addEs (I : sScope s) (hk : s.knd e = 32) : sScope (s.w_es (s.es ++ [e])) := by
  obtain ⟨a1, a2, a3⟩ := I
  exact ⟨a1, fun x hx => (List.mem_append.mp hx).elim (fun h => a2 x h) fun h => by rw [List.mem_singleton.mp h]; exact hk, a3⟩
theorem sCp.addEs (I : sCp s) (hn : e ∉ s.es) (hl : s.es.length < 12) (hu : ∀ x ∈ s.es, (s.ex x).name ≠ (s.ex e).name) : sCp (s.w_es (s.es ++ [e])) := by
  obtain ⟨a1, a2, a3, a4, a5, a6, a7, a8, a9, a10, a11, a12, a13, a14, a15, a16, a17, a18⟩ := I
  refine ⟨nodup_snoc a1 hn, a2, a3, ?_, a5, a6, a7, a8, fun x hx => ⟨List.mem_append.mpr (Or.inl (a9 x hx).1), (a9 x hx).2⟩, a10, a11, a12, a13, a14, a15, a16, a17, name_snoc a18 hu⟩
  show (s.es ++ [e]).length ≤ 12
  rw [List.length_append, List.length_singleton]
  omega
theorem addE_fit (I : sI s) (hk : s.knd e = 32) (hn : e ∉ s.es) (hl : s.es.length < 12) (hu : ∀ x ∈ s.es, (s.ex x).name ≠ (s.ex e).name) (hd : (s.ex e).dur = true) : sFit s ((sSafe s s.facts.length).1 ++ [e], (sSafe s s.facts.length).2) := by
  have F := I.hi.1 s.facts.length
  have e1 := I.hi.2.1
  obtain ⟨a1, a2, a3, a4, a5, a6, a7, a8, a9, a10, a11, a12, a13, a14⟩ := F
  have hs : ∀ x ∈ (sSafe s s.facts.length).1, x ∈ s.es := fun x hx => by
    rw [e1] at hx
    exact (List.mem_filter.mp hx).1
  have hle : (sSafe s s.facts.length).1.length ≤ s.es.length := by
    rw [e1]
    exact List.length_filter_le _ _
  refine ⟨?_, a2, a3, a4, nodup_snoc a5 (fun h => hn (hs e h)), a6, a7, fun x hx => ?_, a9, fun x hx => ⟨(a10 x hx).1, List.mem_append.mpr (Or.inl (a10 x hx).2.1), (a10 x hx).2.2⟩, a11, a12, name_snoc a13 (fun x hx => hu x (hs x hx)), a14⟩
  · show (_ ++ [e]).length ≤ 12
    rw [List.length_append, List.length_singleton]
    omega
  · rcases List.mem_append.mp hx with h | h
    · exact a8 x h
    · rw [List.mem_singleton.mp h]
      exact ⟨hk, hd⟩
theorem p_addE (I : sI s) (hk : s.knd e = 32) (hn : e ∉ s.es) (hl : s.es.length < 12) (hu : ∀ x ∈ s.es, (s.ex x).name ≠ (s.ex e).name) : sI (s_addE s e) := by
  have hsc := I.sc.addEs hk
  have hcp := I.cp.addEs hn hl hu
  unfold s_addE
  by_cases hd : (s.ex e).dur = true
  · rw [if_pos hd]
    refine ⟨hsc.tell' (by decide) (by decide) hk, I.tx, I.ms, I.sn, hcp.tell, ?_⟩
    refine I.hi.al1 (f := (0, e)) ⟨rfl, rfl, rfl, rfl, rfl, rfl, rfl, rfl, rfl, rfl⟩ rfl (T := ((sSafe s s.facts.length).1 ++ [e], (sSafe s s.facts.length).2)) rfl (addE_fit I hk hn hl hu hd) ?_ I.hi.2.2.1 I.hi.2.2.2.1 I.hi.2.2.2.2.1
    show _ = (s.es ++ [e]).filter _
    rw [List.filter_append, ← I.hi.2.1]
    simp [hd]
  · rw [if_neg hd]
    refine ⟨hsc, I.tx, I.ms, I.sn, hcp, ?_⟩
    refine I.hi.al0 ⟨rfl, rfl, rfl, rfl, rfl, rfl, rfl, rfl, rfl, rfl⟩ rfl ?_ I.hi.2.2.1 I.hi.2.2.2.1 I.hi.2.2.2.2.1
    show _ = (s.es ++ [e]).filter _
    rw [List.filter_append, ← I.hi.2.1]
    simp [hd]
theorem addE_w : tP (s_addE s e) = tP s + 4 ∧ sWt (s_addE s e) ≤ sWt s + 1 ∧ tY (s_addE s e) = tY s := by
  have h0 : (s.es ++ [e]).length = s.es.length + 1 := by rw [List.length_append, List.length_singleton]
  unfold s_addE
  by_cases hd : (s.ex e).dur = true
  · rw [if_pos hd, tell_p, tell_y, es_p h0, es_y, tell_w, es_w]
    exact ⟨rfl, Nat.le_refl _, rfl⟩
  · rw [if_neg hd, es_p h0, es_y, es_w]
    exact ⟨rfl, Nat.le_succ _, rfl⟩
/-! a queue -/
theorem sScope.addQs (I : sScope s) (hk : s.knd q = 33) : sScope ((s.w_qs (s.qs ++ [q])).w_gener v) := by
  obtain ⟨a1, a2⟩ := I
  exact ⟨fun x hx => (List.mem_append.mp hx).elim (fun h => a1 x h) fun h => by rw [List.mem_singleton.mp h]; exact hk, a2⟩
theorem ents_addQ (he : (s.qu q).ents = []) : sEnts ((s.w_qs (s.qs ++ [q])).w_gener v) = sEnts s := by
  unfold sEnts
  rw [wr_qs_gener, wr_qs, wr_qu_gener, wr_qu_qs, List.map_append, List.sum_append, List.map_cons, he]
  rfl
theorem sMs.addQs (I : sMs s) (hn : q ∉ s.qs) (he : (s.qu q).ents = []) : sMs ((s.w_qs (s.qs ++ [q])).w_gener v) := by
  obtain ⟨a1, a2, a3, a4⟩ := I
  refine ⟨nodup_snoc a1 hn, fun p hp => ?_, by rw [ents_addQ he]; exact a3, by rw [ents_addQ he]; exact a4⟩
  obtain ⟨b1, b2, b3⟩ := a2 p hp
  exact ⟨b1, fun h => b2 fun h2 => h (List.mem_append.mpr (Or.inl h2)), b3⟩
theorem sCp.addQs (I : sCp s) (hn : q ∉ s.qs) (hl : s.qs.length < 12) (hu : ∀ x ∈ s.qs, (s.qu x).name ≠ (s.qu q).name) (hc : ∀ i ∈ s.cs, (s.co i).queue ≠ q) : sCp ((s.w_qs (s.qs ++ [q])).w_gener v) := by
  obtain ⟨a1, a2, a3, a4, a5, a6, a7, a8, a9, a10, a11, a12, a13, a14, a15, a16, a17, a18⟩ := I
  refine ⟨a1, a2, a3, a4, ?_, a6, a7, a8, fun x hx => ⟨(a9 x hx).1, List.mem_append.mpr (Or.inl (a9 x hx).2)⟩, a10, fun i hi => ?_, a12, a13, a14, a15, a16, name_snoc a17 hu, a18⟩
  · show (s.qs ++ [q]).length ≤ 12
    rw [List.length_append, List.length_singleton]
    omega
  · show _ ↔ (s.co i).queue ∈ s.qs ++ [q]
    rw [List.mem_append, List.mem_singleton]
    exact ⟨fun h => Or.inl ((a11 i hi).mp h), fun h => h.elim (fun h => (a11 i hi).mpr h) fun h => absurd h (hc i hi)⟩
theorem addQ_fit (I : sI s) (hk : s.knd q = 33) (hn : q ∉ s.qs) (hl : s.qs.length < 12) (hu : ∀ x ∈ s.qs, (s.qu x).name ≠ (s.qu q).name) (hd : s_kept (s.qu q) = true) : sFit s ((sSafe s s.facts.length).1, (sSafe s s.facts.length).2.1 ++ [q], (sSafe s s.facts.length).2.2) := by
  have F := I.hi.1 s.facts.length
  have e1 := I.hi.2.2.1
  obtain ⟨a1, a2, a3, a4, a5, a6, a7, a8, a9, a10, a11, a12, a13, a14⟩ := F
  have hs : ∀ x ∈ (sSafe s s.facts.length).2.1, x ∈ s.qs := fun x hx => by
    rw [e1] at hx
    exact (List.mem_filter.mp hx).1
  have hle : (sSafe s s.facts.length).2.1.length ≤ s.qs.length := by
    rw [e1]
    exact List.length_filter_le _ _
  refine ⟨a1, ?_, a3, a4, a5, nodup_snoc a6 (fun h => hn (hs q h)), a7, a8, fun x hx => ?_, fun x hx => ⟨(a10 x hx).1, (a10 x hx).2.1, List.mem_append.mpr (Or.inl (a10 x hx).2.2)⟩, fun m hm => ⟨(a11 m hm).1, List.mem_append.mpr (Or.inl (a11 m hm).2.1), (a11 m hm).2.2⟩, name_snoc a12 (fun x hx => hu x (hs x hx)), a13, a14⟩
  · show (_ ++ [q]).length ≤ 12
    rw [List.length_append, List.length_singleton]
    omega
  · rcases List.mem_append.mp hx with h | h
    · exact a9 x h
    · rw [List.mem_singleton.mp h]
      exact ⟨hk, hd⟩
theorem p_addQ (I : sI s) (hk : s.knd q = 33) (hn : q ∉ s.qs) (hl : s.qs.length < 12) (hu : ∀ x ∈ s.qs, (s.qu x).name ≠ (s.qu q).name) (hc : ∀ i ∈ s.cs, (s.co i).queue ≠ q) (he : (s.qu q).ents = []) : sI (s_addQ s q v) := by
  have hsc := I.sc.addQs (v := v) hk
  have hcp := I.cp.addQs (v := v) hn hl hu hc
  have hms := I.ms.addQs (v := v) hn he
  have h5 : ∀ m, m ∈ (sSafe s s.facts.length).2.2.2 ↔ (m ∈ (s.qu (s.en m).queue).ents ∧ (s.en m).queue ∈ s.qs ++ [q] ∧ sRecM s m = true) := fun m => by
    rw [I.hi.2.2.2.2.1 m, List.mem_append, List.mem_singleton]
    refine ⟨fun h => ⟨h.1, Or.inl h.2.1, h.2.2⟩, fun h => ⟨h.1, h.2.1.resolve_right fun e => ?_, h.2.2⟩⟩
    rw [e, he] at h
    exact nomatch h.1
  unfold s_addQ
  by_cases hd : s_kept (s.qu q) = true
  · rw [if_pos hd]
    refine ⟨hsc.tell' (by decide) (by decide) hk, I.tx, hms.tell, I.sn, hcp.tell, ?_⟩
    refine I.hi.al1 (f := (2, q)) ⟨rfl, rfl, rfl, rfl, rfl, rfl, rfl, rfl, rfl, rfl⟩ rfl (T := ((sSafe s s.facts.length).1, (sSafe s s.facts.length).2.1 ++ [q], (sSafe s s.facts.length).2.2)) rfl (addQ_fit I hk hn hl hu hd) I.hi.2.1 ?_ I.hi.2.2.2.1 h5
    show _ = (s.qs ++ [q]).filter _
    rw [List.filter_append, ← I.hi.2.2.1]
    simp [hd]
  · rw [if_neg hd]
    refine ⟨hsc, I.tx, hms, I.sn, hcp, ?_⟩
    refine I.hi.al0 ⟨rfl, rfl, rfl, rfl, rfl, rfl, rfl, rfl, rfl, rfl⟩ rfl I.hi.2.1 ?_ I.hi.2.2.2.1 h5
    show _ = (s.qs ++ [q]).filter _
    rw [List.filter_append, ← I.hi.2.2.1]
    simp [hd]
theorem qs_p (he : (s.qu q).ents = []) : tP ((s.w_qs (s.qs ++ [q])).w_gener v) = tP s + 4 := by
  unfold tP
  rw [ents_addQ he, wr_lastNum_gener, wr_lastNum_qs, wr_dead_gener, wr_dead_qs, wr_es_gener, wr_es_qs, wr_qs_gener, wr_qs, List.length_append, List.length_singleton]
  omega
theorem qs_y (he : (s.qu q).ents = []) : tY ((s.w_qs (s.qs ++ [q])).w_gener v) = tY s := by
  have h0 : s_ready s q = [] := by unfold s_ready; rw [he]; rfl
  unfold s_ready at h0
  unfold tY sRdy s_ready sLive
  rw [wr_lastNum_gener, wr_lastNum_qs, wr_qs_gener, wr_qs, wr_qu_gener, wr_qu_qs, wr_en_gener, wr_en_qs, wr_cn_gener, wr_cn_qs, List.map_append, List.sum_append, List.map_cons, h0]
  rfl
theorem addQ_w (he : (s.qu q).ents = []) : tP (s_addQ s q v) = tP s + 4 ∧ sWt (s_addQ s q v) ≤ sWt s + 1 ∧ tY (s_addQ s q v) = tY s := by
  unfold s_addQ
  by_cases hd : s_kept (s.qu q) = true
  · rw [if_pos hd, tell_p, tell_y, qs_p he, qs_y he, tell_w, qs_w]
    exact ⟨rfl, Nat.le_refl _, rfl⟩
  · rw [if_neg hd, qs_p he, qs_y he, qs_w]
    exact ⟨rfl, Nat.le_succ _, rfl⟩
/-! a binding -/
theorem sScope.addXs (I : sScope s) (hk : s.knd x = 34) : sScope (s.w_bs (s.bs ++ [x])) := by
  obtain ⟨a1, a2, a3, a4⟩ := I
  exact ⟨a1, a2, fun y hy => (List.mem_append.mp hy).elim (fun h => a3 y h) fun h => by rw [List.mem_singleton.mp h]; exact hk, a4⟩
theorem sCp.addXs (I : sCp s) (hn : x ∉ s.bs) (hl : s.bs.length < 40) (he : (s.bi x).exch ∈ s.es) (hq : (s.bi x).queue ∈ s.qs) : sCp (s.w_bs (s.bs ++ [x])) := by
  obtain ⟨a1, a2, a3, a4, a5, a6, a7, a8, a9, a10⟩ := I
  refine ⟨a1, nodup_snoc a2 hn, a3, a4, a5, ?_, a7, a8, fun y hy => ?_, a10⟩
  · show (s.bs ++ [x]).length ≤ 40
    rw [List.length_append, List.length_singleton]
    omega
  · rcases List.mem_append.mp hy with h | h
    · exact a9 y h
    · rw [List.mem_singleton.mp h]
      exact ⟨he, hq⟩
theorem p_addX (I : sI s) (hk : s.knd x = 34) (hn : x ∉ s.bs) (hl : s.bs.length < 40) (he : (s.bi x).exch ∈ s.es) (hq : (s.bi x).queue ∈ s.qs) : sI (s_addX s x) := by
  have hsc := I.sc.addXs hk
  have hcp := I.cp.addXs hn hl he hq
  unfold s_addX
  by_cases hd : (s.ex (s.bi x).exch).dur = true ∧ s_kept (s.qu (s.bi x).queue) = true
  · rw [if_pos hd]
    refine ⟨hsc.tell' (by decide) (by decide) hk, I.tx, I.ms, I.sn, hcp.tell, ?_⟩
    refine I.hi.al1 (f := (4, x)) ⟨rfl, rfl, rfl, rfl, rfl, rfl, rfl, rfl, rfl, rfl⟩ rfl (T := ((sSafe s s.facts.length).1, (sSafe s s.facts.length).2.1, (sSafe s s.facts.length).2.2.1 ++ [x], (sSafe s s.facts.length).2.2.2)) rfl ?_ I.hi.2.1 I.hi.2.2.1 ?_ I.hi.2.2.2.2.1
    · have F := I.hi.1 s.facts.length
      have e1 := I.hi.2.2.2.1
      obtain ⟨a1, a2, a3, a4, a5, a6, a7, a8, a9, a10, a11⟩ := F
      have hs : ∀ y ∈ (sSafe s s.facts.length).2.2.1, y ∈ s.bs := fun y hy => by
        rw [e1] at hy
        exact (List.mem_filter.mp hy).1
      have hle : (sSafe s s.facts.length).2.2.1.length ≤ s.bs.length := by
        rw [e1]
        exact List.length_filter_le _ _
      refine ⟨a1, a2, ?_, a4, a5, a6, nodup_snoc a7 (fun h => hn (hs x h)), a8, a9, fun y hy => ?_, a11⟩
      · show (_ ++ [x]).length ≤ 40
        rw [List.length_append, List.length_singleton]
        omega
      · rcases List.mem_append.mp hy with h | h
        · exact a10 y h
        · rw [List.mem_singleton.mp h]
          refine ⟨hk, ?_, ?_⟩
          · show _ ∈ (sSafe s s.facts.length).1
            rw [I.hi.2.1]
            exact List.mem_filter.mpr ⟨he, hd.1⟩
          · show _ ∈ (sSafe s s.facts.length).2.1
            rw [I.hi.2.2.1]
            exact List.mem_filter.mpr ⟨hq, hd.2⟩
    · show _ = (s.bs ++ [x]).filter _
      rw [List.filter_append, ← I.hi.2.2.2.1]
      simp [hd]
  · rw [if_neg hd]
    refine ⟨hsc, I.tx, I.ms, I.sn, hcp, ?_⟩
    refine I.hi.al0 ⟨rfl, rfl, rfl, rfl, rfl, rfl, rfl, rfl, rfl, rfl⟩ rfl I.hi.2.1 I.hi.2.2.1 ?_ I.hi.2.2.2.2.1
    show _ = (s.bs ++ [x]).filter _
    rw [List.filter_append, ← I.hi.2.2.2.1]
    have : ((s.ex (s.bi x).exch).dur && s_kept (s.qu (s.bi x).queue)) = false := by
      rw [← Bool.not_eq_true, Bool.and_eq_true]
      exact hd
    simp [this]
theorem addX_w : tP (s_addX s x) = tP s ∧ sWt (s_addX s x) ≤ sWt s + 1 ∧ tY (s_addX s x) = tY s := by
  unfold s_addX
  by_cases hd : (s.ex (s.bi x).exch).dur = true ∧ s_kept (s.qu (s.bi x).queue) = true
  · rw [if_pos hd, tell_p, tell_y, bs_p, bs_y, tell_w, bs_w]
    exact ⟨rfl, Nat.le_refl _, rfl⟩
  · rw [if_neg hd, bs_p, bs_y, bs_w]
    exact ⟨rfl, Nat.le_succ _, rfl⟩
theorem p_offX (I : sI s) (hx : x ∈ s.bs) : sI (s_offX s x) := by
  have hk := I.sc.bs x hx
  have hsub : ∀ y ∈ s.bs.erase x, y ∈ s.bs := fun y hy => List.mem_of_mem_erase hy
  have hsc : sScope (s.w_bs (s.bs.erase x)) := I.sc.bsw hsub
  have hcp : sCp (s.w_bs (s.bs.erase x)) := by
    obtain ⟨a1, a2, a3, a4, a5, a6, a7, a8, a9, a10⟩ := I.cp
    exact ⟨a1, a2.erase x, a3, a4, a5, Nat.le_trans (List.erase_sublist).length_le a6, a7, a8, fun y hy => a9 y (hsub y hy), a10⟩
  have hf : ∀ p : Nat → Bool, (s.bs.erase x).filter p = (s.bs.filter p).filter (fun y => !(y == x)) := fun p => by
    rw [erase_ne I.cp.2.1, List.filter_filter, List.filter_filter]
    exact List.filter_congr fun y _ => by rw [Bool.and_comm]
  unfold s_offX
  by_cases hd : (s.ex (s.bi x).exch).dur = true ∧ s_kept (s.qu (s.bi x).queue) = true
  · rw [if_pos hd]
    refine ⟨hsc.tell' (by decide) (by decide) hk, I.tx, I.ms, I.sn, hcp.tell, ?_⟩
    refine I.hi.al1 (f := (5, x)) ⟨rfl, rfl, rfl, rfl, rfl, rfl, rfl, rfl, rfl, rfl⟩ rfl (T := ((sSafe s s.facts.length).1, (sSafe s s.facts.length).2.1, (sSafe s s.facts.length).2.2.1.filter (fun y => !(y == x)), (sSafe s s.facts.length).2.2.2)) rfl ?_ I.hi.2.1 I.hi.2.2.1 ?_ I.hi.2.2.2.2.1
    · obtain ⟨a1, a2, a3, a4, a5, a6, a7, a8, a9, a10, a11⟩ := I.hi.1 s.facts.length
      exact ⟨a1, a2, Nat.le_trans (List.length_filter_le _ _) a3, a4, a5, a6, a7.filter _, a8, a9, fun y hy => a10 y (List.mem_filter.mp hy).1, a11⟩
    · show _ = (s.bs.erase x).filter _
      rw [hf, ← I.hi.2.2.2.1]
  · rw [if_neg hd]
    refine ⟨hsc, I.tx, I.ms, I.sn, hcp, ?_⟩
    refine I.hi.al0 ⟨rfl, rfl, rfl, rfl, rfl, rfl, rfl, rfl, rfl, rfl⟩ rfl I.hi.2.1 I.hi.2.2.1 ?_ I.hi.2.2.2.2.1
    show _ = (s.bs.erase x).filter _
    rw [hf, ← I.hi.2.2.2.1]
    refine (List.filter_eq_self.mpr fun y hy => ?_).symm
    have : y ≠ x := fun e => by
      subst e
      rw [I.hi.2.2.2.1] at hy
      have := (List.mem_filter.mp hy).2
      rw [Bool.and_eq_true] at this
      exact hd this
    rw [beq_false_of_ne this]
    rfl
theorem offX_w : tP (s_offX s x) = tP s ∧ sWt (s_offX s x) ≤ sWt s + 1 ∧ tY (s_offX s x) = tY s := by
  unfold s_offX
  by_cases hd : (s.ex (s.bi x).exch).dur = true ∧ s_kept (s.qu (s.bi x).queue) = true
  · rw [if_pos hd, tell_p, tell_y, bs_p, bs_y, tell_w, bs_w]
    exact ⟨rfl, Nat.le_refl _, rfl⟩
  · rw [if_neg hd, bs_p, bs_y, bs_w]
    exact ⟨rfl, Nat.le_succ _, rfl⟩
/-! a consumer -/
theorem p_addC (I : sI s) (hk : s.knd i = 35) (hn : i ∉ s.cs) (hl : s.cs.length < 16) (ht : (s.qu (s.co i).queue).there = true) (hq : (s.co i).queue ∈ s.qs) : sI (s.w_cs (s.cs ++ [i])) := by
  refine ⟨?_, I.tx, I.ms, I.sn, ?_, I.hi⟩
  · obtain ⟨a1, a2, a3, a4, a5⟩ := I.sc
    exact ⟨a1, a2, a3, fun y hy => (List.mem_append.mp hy).elim (fun h => a4 y h) fun h => by rw [List.mem_singleton.mp h]; exact hk, a5⟩
  · obtain ⟨a1, a2, a3, a4, a5, a6, a7, a8, a9, a10, a11, a12⟩ := I.cp
    refine ⟨a1, a2, nodup_snoc a3 hn, a4, a5, a6, ?_, a8, a9, a10, fun y hy => ?_, a12⟩
    · show (s.cs ++ [i]).length ≤ 16
      rw [List.length_append, List.length_singleton]
      omega
    · rcases List.mem_append.mp hy with h | h
      · exact a11 y h
      · rw [List.mem_singleton.mp h]
        exact ⟨fun _ => hq, fun _ => ht⟩
end MK
