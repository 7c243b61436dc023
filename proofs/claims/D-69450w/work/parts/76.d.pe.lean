/-! ===== what holds at all times, where exchanges go ===== -/
set_option maxRecDepth 100000
/-- an exchange is no more -/
def sXg (s s' : sSt) (e : Nat) : Prop := s'.es = s.es.erase e ∧ s'.bs = s.bs.filter (fun b => !((s.bi b).exch == e)) ∧ (∀ j, s'.ex j = (s.ex j).w_there (s'.ex j).there) ∧ s'.facts = s.facts ++ (if (s.ex e).dur = true then [((1 : Int32), e)] else []) ∧
  s'.knd = s.knd ∧ s'.next = s.next ∧ s'.clock = s.clock ∧ s'.lastNum = s.lastNum ∧ s'.messages = s.messages ∧ s'.dead = s.dead ∧ s'.cn = s.cn ∧ s'.ch = s.ch ∧ s'.qs = s.qs ∧ s'.cs = s.cs ∧ s'.qu = s.qu ∧ s'.co = s.co ∧ s'.en = s.en ∧ s'.se = s.se ∧ s'.bi = s.bi ∧
  s'.tape = s.tape ∧ s'.ses = s.ses ∧ s'.sqs = s.sqs ∧ s'.sbs = s.sbs ∧ s'.sen = s.sen
/-- as sCp and sHi, but that a queue o is no more in the list while its bindings still are -/
def sCpx (o : Option Nat) (s : sSt) : Prop := s.es.Nodup ∧ s.bs.Nodup ∧ s.cs.Nodup ∧ s.es.length ≤ 12 ∧ s.qs.length ≤ 12 ∧ s.bs.length ≤ 40 ∧ s.cs.length ≤ 16 ∧ s.dead.length ≤ 300 ∧ (∀ x ∈ s.bs, (s.bi x).exch ∈ s.es ∧ ((s.bi x).queue ∈ s.qs ∨ some (s.bi x).queue = o)) ∧
  (∀ q, s.knd q = 33 → ∀ x, (s.qu q).last = some x → (s.co x).queue = q) ∧ (∀ i ∈ s.cs, ((s.qu (s.co i).queue).there = true ↔ (s.co i).queue ∈ s.qs)) ∧ (∀ h, isH h → (s.ch h).kept.length ≤ 32) ∧
  (∀ c, c < 4 → (s.cn c).inp.length ≤ 828 ∧ (s.cn c).out.length ≤ 5000 ∧ 0 ≤ (s.cn c).state ∧ (s.cn c).state ≤ 6) ∧ 0 ≤ s.lastNum ∧ s.lastNum ≤ 12000 ∧ s.tape.length ≤ 420 ∧
  (∀ q ∈ s.qs, ∀ p ∈ s.qs, (s.qu q).name = (s.qu p).name → q = p) ∧ (∀ q ∈ s.es, ∀ p ∈ s.es, (s.ex q).name = (s.ex p).name → q = p)
def sHix (o : Option Nat) (s : sSt) : Prop := (∀ n, sFit s (sSafe s n)) ∧ (sSafe s s.facts.length).1 = s.es.filter (fun e => (s.ex e).dur) ∧ (sSafe s s.facts.length).2.1 = s.qs.filter (fun q => s_kept (s.qu q)) ∧
  (sSafe s s.facts.length).2.2.1 = (s.bs.filter (fun x => !(o == some (s.bi x).queue))).filter (fun x => (s.ex (s.bi x).exch).dur && s_kept (s.qu (s.bi x).queue)) ∧ (∀ m, m ∈ (sSafe s s.facts.length).2.2.2 ↔ (m ∈ (s.qu (s.en m).queue).ents ∧ (s.en m).queue ∈ s.qs ∧ sRecM s m = true)) ∧
  (∀ q, s.knd q = 33 → ((s.qu q).ents.map (fun m => (s.en m).number)).Pairwise (· < ·)) ∧ (∀ q, s.knd q = 33 → ∀ m ∈ (s.qu q).ents, 0 < (s.en m).number ∧ (s.en m).number ≤ s.lastNum)
section PE
variable {s s' : sSt} {m q e i h c : Nat} {b : sBy}
theorem exs_there : ∀ j, sUp s.ex e ((s.ex e).w_there false) j = (s.ex j).w_there (sUp s.ex e ((s.ex e).w_there false) j).there := fun j => by
  by_cases ej : j = e
  · subst ej
    rw [sUp_self]
    rfl
  · rw [sUp_ne ej]
    rfl
theorem s_delE_d (hd : (s.ex e).dur = true) : s_delE s e = ((s_tell (s_ex s e (fun x => x.w_there false)) 1 e).w_es (s.es.erase e)).w_bs (s.bs.filter (fun b => !((s.bi b).exch == e))) := by
  unfold s_delE
  dsimp only
  rw [hd]
  rfl
theorem s_delE_n (hd : (s.ex e).dur = false) : s_delE s e = ((s_ex s e (fun x => x.w_there false)).w_es (s.es.erase e)).w_bs (s.bs.filter (fun b => !((s.bi b).exch == e))) := by
  unfold s_delE
  dsimp only
  rw [hd]
  rfl
theorem de_delE : sXg s (s_delE s e) e := by
  cases hd : (s.ex e).dur
  · rw [s_delE_n hd]
    exact ⟨by rw [wr_es_bs, wr_es], by rw [wr_bs], fun j => by unfold s_ex; rw [wr_ex_bs, wr_ex_es, wr_ex]; exact exs_there j, by unfold s_ex; rw [wr_facts_bs, wr_facts_es, wr_facts_ex, if_neg (by rw [hd]; decide), List.append_nil], by unfold s_ex; rw [wr_knd_bs, wr_knd_es, wr_knd_ex], by unfold s_ex; rw [wr_next_bs, wr_next_es, wr_next_ex], by unfold s_ex; rw [wr_clock_bs, wr_clock_es, wr_clock_ex], by unfold s_ex; rw [wr_lastNum_bs, wr_lastNum_es, wr_lastNum_ex], by unfold s_ex; rw [wr_messages_bs, wr_messages_es, wr_messages_ex], by unfold s_ex; rw [wr_dead_bs, wr_dead_es, wr_dead_ex], by unfold s_ex; rw [wr_cn_bs, wr_cn_es, wr_cn_ex], by unfold s_ex; rw [wr_ch_bs, wr_ch_es, wr_ch_ex], by unfold s_ex; rw [wr_qs_bs, wr_qs_es, wr_qs_ex], by unfold s_ex; rw [wr_cs_bs, wr_cs_es, wr_cs_ex], by unfold s_ex; rw [wr_qu_bs, wr_qu_es, wr_qu_ex], by unfold s_ex; rw [wr_co_bs, wr_co_es, wr_co_ex], by unfold s_ex; rw [wr_en_bs, wr_en_es, wr_en_ex], by unfold s_ex; rw [wr_se_bs, wr_se_es, wr_se_ex], by unfold s_ex; rw [wr_bi_bs, wr_bi_es, wr_bi_ex], by unfold s_ex; rw [wr_tape_bs, wr_tape_es, wr_tape_ex], by unfold s_ex; rw [wr_ses_bs, wr_ses_es, wr_ses_ex], by unfold s_ex; rw [wr_sqs_bs, wr_sqs_es, wr_sqs_ex], by unfold s_ex; rw [wr_sbs_bs, wr_sbs_es, wr_sbs_ex], by unfold s_ex; rw [wr_sen_bs, wr_sen_es, wr_sen_ex]⟩
  · rw [s_delE_d hd]
    exact ⟨by rw [wr_es_bs, wr_es], by rw [wr_bs], fun j => by unfold s_ex; rw [wr_ex_bs, wr_ex_es, wt_ex, wr_ex]; exact exs_there j, by unfold s_ex; rw [wr_facts_bs, wr_facts_es, wt_facts, wr_facts_ex, if_pos hd], by unfold s_ex; rw [wr_knd_bs, wr_knd_es, wt_knd, wr_knd_ex], by unfold s_ex; rw [wr_next_bs, wr_next_es, wt_next, wr_next_ex], by unfold s_ex; rw [wr_clock_bs, wr_clock_es, wt_clock, wr_clock_ex], by unfold s_ex; rw [wr_lastNum_bs, wr_lastNum_es, wt_lastNum, wr_lastNum_ex], by unfold s_ex; rw [wr_messages_bs, wr_messages_es, wt_messages, wr_messages_ex], by unfold s_ex; rw [wr_dead_bs, wr_dead_es, wt_dead, wr_dead_ex], by unfold s_ex; rw [wr_cn_bs, wr_cn_es, wt_cn, wr_cn_ex], by unfold s_ex; rw [wr_ch_bs, wr_ch_es, wt_ch, wr_ch_ex], by unfold s_ex; rw [wr_qs_bs, wr_qs_es, wt_qs, wr_qs_ex], by unfold s_ex; rw [wr_cs_bs, wr_cs_es, wt_cs, wr_cs_ex], by unfold s_ex; rw [wr_qu_bs, wr_qu_es, wt_qu, wr_qu_ex], by unfold s_ex; rw [wr_co_bs, wr_co_es, wt_co, wr_co_ex], by unfold s_ex; rw [wr_en_bs, wr_en_es, wt_en, wr_en_ex], by unfold s_ex; rw [wr_se_bs, wr_se_es, wt_se, wr_se_ex], by unfold s_ex; rw [wr_bi_bs, wr_bi_es, wt_bi, wr_bi_ex], by unfold s_ex; rw [wr_tape_bs, wr_tape_es, wt_tape, wr_tape_ex], by unfold s_ex; rw [wr_ses_bs, wr_ses_es, wt_ses, wr_ses_ex], by unfold s_ex; rw [wr_sqs_bs, wr_sqs_es, wt_sqs, wr_sqs_ex], by unfold s_ex; rw [wr_sbs_bs, wr_sbs_es, wt_sbs, wr_sbs_ex], by unfold s_ex; rw [wr_sen_bs, wr_sen_es, wt_sen, wr_sen_ex]⟩
theorem mk4_1 {fe fq mq : Nat → Nat} {t : sS4} : s_mk4 fe fq mq t (1, e) = (t.1.filter (fun x => !(x == e)), t.2.1, t.2.2.1.filter (fun b => !(fe b == e)), t.2.2.2) := rfl
theorem erase_ne {l : List Nat} (hn : l.Nodup) : l.erase e = l.filter (fun x => !(x == e)) := by
  rw [hn.erase_eq_filter]
  rfl
theorem sTx.de (I : sTx s) (D : sXg s s' e) : sTx s' := by
  obtain ⟨-, -, h3, -, k1, -, -, -, -, k6, -, k8, -, -, k11, k12, k13, -, k15, -⟩ := D
  obtain ⟨a1, a2, a3, a4, a5, a6, a7⟩ := I
  refine ⟨fun i hi => ?_, ?_, ?_, ?_, ?_, ?_, ?_⟩
  · rw [k1] at hi
    rw [h3 i]
    exact a1 i hi
  · rw [k1, k11]; exact a2
  · rw [k1, k15]; exact a3
  · rw [k1, k12]; exact a4
  · rw [k1, k13]; exact a5
  · rw [k6]; exact a6
  · rw [k8]; exact a7
theorem sMs.de (I : sMs s) (D : sXg s s' e) : sMs s' ∧ sEnts s' = sEnts s := by
  obtain ⟨-, -, -, -, k1, -, -, -, k5, -, -, -, k9, -, k11, -, k13, -⟩ := D
  have he : sEnts s' = sEnts s := by
    unfold sEnts
    rw [k9, k11]
  refine ⟨?_, he⟩
  unfold sMs
  rw [he, k1, k9, k11, k13, k5]
  exact I
theorem sSn.de (I : sSn s) (D : sXg s s' e) : sSn s' := by
  obtain ⟨-, -, -, -, -, -, -, -, -, -, -, k8, -, -, k11, -, k13, k14, -⟩ := D
  unfold sSn
  rw [k8, k11, k13, k14]
  exact I
theorem sCpx.de {o : Option Nat} (I : sCpx o s) (D : sXg s s' e) : sCpx o s' := by
  obtain ⟨h1, h2, h3, -, k1, -, -, k4, -, k6, k7, k8, k9, k10, k11, k12, -, -, k15, k16, -⟩ := D
  have hnm : ∀ j, (s'.ex j).name = (s.ex j).name := fun j => by rw [h3 j]; rfl
  obtain ⟨a1, a2, a3, a4, a5, a6, a7, a8, a9, a10, a11, a12, a13, a14, a15, a16, a17, a18⟩ := I
  refine ⟨by rw [h1]; exact a1.erase _, by rw [h2]; exact List.Pairwise.sublist List.filter_sublist a2, by rw [k10]; exact a3, by rw [h1]; exact Nat.le_trans List.erase_sublist.length_le a4, by rw [k9]; exact a5, by rw [h2]; exact Nat.le_trans (List.length_filter_le _ _) a6, by rw [k10]; exact a7, by rw [k6]; exact a8, fun x hx => ?_, ?_, ?_, ?_, ?_, ?_, ?_, ?_, ?_, fun q hq p hp he => ?_⟩
  · rw [h2] at hx
    obtain ⟨hx1, hx2⟩ := List.mem_filter.mp hx
    rw [k15, h1, k9]
    refine ⟨(List.mem_erase_of_ne ?_).mpr (a9 x hx1).1, (a9 x hx1).2⟩
    intro e2
    rw [e2] at hx2
    simp at hx2
  · rw [k1, k11, k12]; exact a10
  · rw [k10, k11, k12, k9]; exact a11
  · rw [k8]; exact a12
  · rw [k7]; exact a13
  · rw [k4]; exact a14
  · rw [k4]; exact a15
  · rw [k16]; exact a16
  · rw [k9, k11]; exact a17
  · rw [h1] at hq hp
    rw [hnm, hnm] at he
    exact a18 q (List.mem_of_mem_erase hq) p (List.mem_of_mem_erase hp) he
theorem sCp.x (I : sCp s) (o : Option Nat) : sCpx o s := by
  obtain ⟨a1, a2, a3, a4, a5, a6, a7, a8, a9, a10⟩ := I
  exact ⟨a1, a2, a3, a4, a5, a6, a7, a8, fun x hx => ⟨(a9 x hx).1, Or.inl (a9 x hx).2⟩, a10⟩
theorem sCpx.of {o : Option Nat} (I : sCpx o s) (h : ∀ x ∈ s.bs, some (s.bi x).queue ≠ o) : sCp s := by
  obtain ⟨a1, a2, a3, a4, a5, a6, a7, a8, a9, a10⟩ := I
  exact ⟨a1, a2, a3, a4, a5, a6, a7, a8, fun x hx => ⟨(a9 x hx).1, (a9 x hx).2.resolve_right (h x hx)⟩, a10⟩
theorem sCp.de (I : sCp s) (D : sXg s s' e) : sCp s' := ((I.x none).de D).of fun x _ h => nomatch h
theorem sHix.of {o : Option Nat} (I : sHix o s) (h : ∀ x ∈ s.bs, some (s.bi x).queue ≠ o) : sHi s := by
  obtain ⟨a1, a2, a3, a4, a5⟩ := I
  refine ⟨a1, a2, a3, ?_, a5⟩
  have e : s.bs.filter (fun x => !(o == some (s.bi x).queue)) = s.bs := List.filter_eq_self.mpr fun x hx => by
    rw [beq_false_of_ne (fun e => h x hx e.symm)]
    rfl
  rw [a4, e]
theorem sHi.x (I : sHi s) {o : Option Nat} (h : ∀ x ∈ s.bs, some (s.bi x).queue ≠ o) : sHix o s := by
  obtain ⟨a1, a2, a3, a4, a5⟩ := I
  refine ⟨a1, a2, a3, ?_, a5⟩
  have e : s.bs.filter (fun x => !(o == some (s.bi x).queue)) = s.bs := List.filter_eq_self.mpr fun x hx => by
    rw [beq_false_of_ne (fun e => h x hx e.symm)]
    rfl
  rw [a4, e]
theorem filter_comm {f g : Nat → Bool} {l : List Nat} : (l.filter f).filter g = (l.filter g).filter f := by
  rw [List.filter_filter, List.filter_filter]
  exact List.filter_congr fun x _ => Bool.and_comm _ _
theorem sHix.de {o : Option Nat} (hes : s.es.Nodup) (I : sHix o s) (D : sXg s s' e) : sHix o s' := by
  obtain ⟨h1, h2, h3, h4, k1, -, -, k4, -, -, -, -, k9, -, k11, -, k13, -, k15, -, l1, l2, l3, l4⟩ := D
  have hdu : ∀ j, (s'.ex j).dur = (s.ex j).dur := fun j => by rw [h3 j]; rfl
  have hnm : ∀ j, (s'.ex j).name = (s.ex j).name := fun j => by rw [h3 j]; rfl
  have hrec : ∀ j, sRecM s' j = sRecM s j := fun j => by
    unfold sRecM
    rw [k11, k13]
  obtain ⟨a1, a2, a3, a4, a5, a6, a7⟩ := I
  have hsa : ∀ n, sSafe s' n = ((if (s.ex e).dur = true then [((1 : Int32), e)] else []).take (n - s.facts.length)).foldl (s_mk4 (fun x => (s.bi x).exch) (fun x => (s.bi x).queue) (fun m => (s.en m).queue)) (sSafe s n) := fun n => by
    unfold sSafe
    rw [h4, k15, k13, l1, l2, l3, l4, List.take_append, List.foldl_append]
  have hfit : ∀ n, sFit s (sSafe s' n) := fun n => by
    rw [hsa n]
    split
    · cases hn : n - s.facts.length with
      | zero => exact a1 n
      | succ k =>
        rw [List.take_of_length_le (by simp)]
        obtain ⟨b1, b2, b3, b4, b5, b6, b7, b8, b9, b10, b11, b12, b13, b14⟩ := a1 n
        rw [List.foldl_cons, List.foldl_nil, mk4_1]
        refine ⟨Nat.le_trans (List.length_filter_le _ _) b1, b2, Nat.le_trans (List.length_filter_le _ _) b3, b4, List.Pairwise.sublist List.filter_sublist b5, b6, List.Pairwise.sublist List.filter_sublist b7, fun x hx => b8 x (List.mem_filter.mp hx).1, b9, fun x hx => ?_, b11, b12, fun q hq p hp => b13 q (List.mem_filter.mp hq).1 p (List.mem_filter.mp hp).1, b14⟩
        obtain ⟨hx1, hx2⟩ := List.mem_filter.mp hx
        exact ⟨(b10 x hx1).1, List.mem_filter.mpr ⟨(b10 x hx1).2.1, hx2⟩, (b10 x hx1).2.2⟩
    · rw [List.take_nil]
      exact a1 n
  have hst : ∀ t, sFit s t → sFit s' t := fun t ⟨b1, b2, b3, b4, b5, b6, b7, b8, b9, b10, b11, b12, b13, b14⟩ => by
    refine ⟨b1, b2, b3, b4, b5, b6, b7, fun x hx => ?_, by rw [k1, k11]; exact b9, by rw [k1, k15]; exact b10, fun x hx => ?_, by rw [k11]; exact b12, fun q hq p hp he => ?_, by rw [k13]; exact b14⟩
    · rw [k1, hdu]
      exact b8 x hx
    · rw [k1, k13, hrec, k4]
      exact b11 x hx
    · rw [hnm, hnm] at he
      exact b13 q hq p hp he
  have hlen : s'.facts.length = s.facts.length + (if (s.ex e).dur = true then [((1 : Int32), e)] else []).length := by
    rw [h4, List.length_append]
  have hfull : sSafe s' s'.facts.length = (if (s.ex e).dur = true then [((1 : Int32), e)] else []).foldl (s_mk4 (fun x => (s.bi x).exch) (fun x => (s.bi x).queue) (fun m => (s.en m).queue)) (sSafe s s.facts.length) := by
    rw [hsa, safe_over (by omega), hlen, Nat.add_sub_cancel_left, List.take_length]
  have hres : (sSafe s' s'.facts.length).1 = (s.es.erase e).filter (fun e => (s.ex e).dur) ∧ (sSafe s' s'.facts.length).2.1 = (sSafe s s.facts.length).2.1 ∧ (sSafe s' s'.facts.length).2.2.1 = ((s.bs.filter (fun x => !(o == some (s.bi x).queue))).filter (fun b => !((s.bi b).exch == e))).filter (fun x => (s.ex (s.bi x).exch).dur && s_kept (s.qu (s.bi x).queue)) ∧ (sSafe s' s'.facts.length).2.2.2 = (sSafe s s.facts.length).2.2.2 := by
    rw [hfull, erase_ne hes]
    by_cases hd : (s.ex e).dur = true
    · rw [if_pos hd, List.foldl_cons, List.foldl_nil, mk4_1]
      refine ⟨?_, rfl, ?_, rfl⟩
      · show (sSafe s s.facts.length).1.filter _ = _
        rw [a2, filter_comm]
      · show (sSafe s s.facts.length).2.2.1.filter _ = _
        rw [a4, filter_comm]
    · rw [if_neg hd, List.foldl_nil]
      refine ⟨?_, rfl, ?_, rfl⟩
      · rw [a2, List.filter_filter]
        refine List.filter_congr fun x _ => ?_
        by_cases ex : x = e
        · subst ex
          rw [Bool.not_eq_true] at hd
          rw [hd]
          rfl
        · rw [beq_false_of_ne ex]
          simp
      · rw [a4]
        generalize s.bs.filter (fun x => !(o == some (s.bi x).queue)) = X
        rw [List.filter_filter]
        refine List.filter_congr fun x _ => ?_
        by_cases ex : (s.bi x).exch = e
        · rw [ex]
          rw [Bool.not_eq_true] at hd
          rw [hd]
          rfl
        · rw [beq_false_of_ne ex]
          simp
  refine ⟨fun n => hst _ (hfit n), ?_, ?_, ?_, fun x => ?_, ?_, ?_⟩
  · rw [hres.1, h1]
    exact List.filter_congr fun x _ => (hdu x).symm
  · rw [hres.2.1, a3, k9, k11]
  · rw [hres.2.2.1, h2, k15, k11, filter_comm (l := s.bs) (f := fun x => !(o == some (s.bi x).queue)) (g := fun b => !((s.bi b).exch == e))]
    exact List.filter_congr fun x _ => by rw [hdu]
  · rw [hres.2.2.2, k11, k13, k9, hrec]
    exact a5 x
  · rw [k1, k11, k13]
    exact a6
  · rw [k1, k11, k13, k4]
    exact a7
theorem sHi.de (C : sCp s) (I : sHi s) (D : sXg s s' e) : sHi s' := ((I.x (o := none) fun _ _ h => nomatch h).de C.1 D).of fun _ _ h => nomatch h
theorem d_delE (I : sI s) (he : e ∈ s.es) : sDn s (s_delE s e) ∧ tP (s_delE s e) + 4 ≤ tP s := by
  have D := de_delE (s := s) (e := e)
  have hE := (I.ms.de D).2
  have hI : sI (s_delE s e) := ⟨I.sc.delE (I.sc.es e he), I.tx.de D, (I.ms.de D).1, I.sn.de D, I.cp.de D, I.hi.de I.cp D⟩
  revert D hE hI
  generalize s_delE s e = s'
  intro D hE hI
  obtain ⟨h1, h2, h3, h4, k1, k2, k3, k4, k5, k6, k7, k8, k9, k10, k11, k12, k13, k14, k15, -⟩ := D
  have hl : s'.es.length + 1 = s.es.length := by
    rw [h1, List.length_erase_of_mem he]
    have := List.length_pos_of_mem he
    omega
  have hp : tP s' + 4 ≤ tP s := by
    unfold tP
    rw [k4, k6, k9, hE]
    omega
  have hw : sWt s' ≤ sWt s + 1 := by
    unfold sWt
    rw [k8, h4, List.length_append]
    split
    · simp only [List.length_singleton]
      omega
    · simp only [List.length_nil]
      omega
  exact ⟨⟨fun _ => hI, fun _ => by omega, fun _ => by omega, by rw [k10]; exact List.Sublist.refl _, by rw [k9]; exact List.Sublist.refl _, by rw [h1]; exact List.erase_sublist, by rw [h2]; exact List.filter_sublist, fun c hc => by rw [k7]; exact hc, fun h hh => by rw [k8]; exact hh, fun h hh => by rw [k8]; exact hh, k1, k2, k3, k12, k15, k14, k4,
    fun j => ⟨(s.qu j).ents, (s.qu j).there, (s.qu j).last, by rw [k11]; rfl⟩, fun j => ⟨_, h3 j⟩, fun j => ⟨(s.en j).state, (s.en j).redel, by rw [k13]; rfl⟩, fun h => by rw [k8]⟩, hp⟩
end PE
