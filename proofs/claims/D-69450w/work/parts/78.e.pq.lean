/-! ===== what holds at all times, where queues go ===== -/
set_option maxRecDepth 100000
/-- what holds while the bindings of a queue that is no more are taken out -/
def sIx (q : Nat) (s : sSt) : Prop := sScope s ∧ sTx s ∧ sMs s ∧ sSn s ∧ sCpx (some q) s ∧ sHix (some q) s
/-- a queue is out of the list, its messages have left -/
def sDq (s s' : sSt) (q : Nat) : Prop := s'.qs = s.qs.erase q ∧ (∀ j, s'.qu j = ((s.qu j).w_ents (if j = q then [] else (s.qu j).ents)).w_there (if j = q then false else (s.qu j).there)) ∧ (∀ j, s'.en j = (s.en j).w_state (if j ∈ (s.qu q).ents then 2 else (s.en j).state)) ∧
  s'.messages = s.messages - Int32.ofNat (s.qu q).ents.length ∧ s'.facts = s.facts ++ (if s_kept (s.qu q) = true then [((3 : Int32), q)] else []) ∧
  s'.knd = s.knd ∧ s'.next = s.next ∧ s'.clock = s.clock ∧ s'.lastNum = s.lastNum ∧ s'.dead = s.dead ∧ s'.cn = s.cn ∧ s'.ch = s.ch ∧ s'.es = s.es ∧ s'.bs = s.bs ∧ s'.cs = s.cs ∧ s'.ex = s.ex ∧ s'.co = s.co ∧ s'.se = s.se ∧ s'.bi = s.bi ∧ s'.tape = s.tape ∧ s'.ses = s.ses ∧ s'.sqs = s.sqs ∧ s'.sbs = s.sbs ∧ s'.sen = s.sen
/-- exchanges and bindings change, no more -/
def sEb (s s' : sSt) : Prop := s'.es.Sublist s.es ∧ s'.bs.Sublist s.bs ∧ (∀ j, s'.ex j = (s.ex j).w_there (s'.ex j).there) ∧ s'.knd = s.knd ∧ s'.next = s.next ∧ s'.clock = s.clock ∧ s'.lastNum = s.lastNum ∧ s'.messages = s.messages ∧ s'.dead = s.dead ∧ s'.cn = s.cn ∧ s'.ch = s.ch ∧ s'.qs = s.qs ∧ s'.cs = s.cs ∧ s'.qu = s.qu ∧ s'.co = s.co ∧ s'.en = s.en ∧ s'.se = s.se ∧ s'.bi = s.bi ∧ s'.tape = s.tape ∧
  s'.facts.length + s'.es.length ≤ s.facts.length + s.es.length
section PQ
variable {s s' s2 : sSt} {m q e i h c : Nat} {b : sBy}
theorem sEb.refl (s : sSt) : sEb s s := ⟨List.Sublist.refl _, List.Sublist.refl _, fun _ => rfl, rfl, rfl, rfl, rfl, rfl, rfl, rfl, rfl, rfl, rfl, rfl, rfl, rfl, rfl, rfl, rfl, Nat.le_refl _⟩
theorem sEb.trans (A : sEb s s') (B : sEb s' s2) : sEb s s2 := by
  obtain ⟨a1, a2, a3, a4, a5, a6, a7, a8, a9, a10, a11, a12, a13, a14, a15, a16, a17, a18, a19, a20⟩ := A
  obtain ⟨b1, b2, b3, b4, b5, b6, b7, b8, b9, b10, b11, b12, b13, b14, b15, b16, b17, b18, b19, b20⟩ := B
  exact ⟨b1.trans a1, b2.trans a2, fun j => by rw [b3 j, a3 j]; rfl, b4.trans a4, b5.trans a5, b6.trans a6, b7.trans a7, b8.trans a8, b9.trans a9, b10.trans a10, b11.trans a11, b12.trans a12, b13.trans a13, b14.trans a14, b15.trans a15, b16.trans a16, b17.trans a17, b18.trans a18, b19.trans a19, Nat.le_trans b20 a20⟩
theorem sXg.eb (D : sXg s s' e) (he : e ∈ s.es) : sEb s s' := by
  obtain ⟨h1, h2, h3, h4, k1, k2, k3, k4, k5, k6, k7, k8, k9, k10, k11, k12, k13, k14, k15, k16, -⟩ := D
  refine ⟨by rw [h1]; exact List.erase_sublist, by rw [h2]; exact List.filter_sublist, h3, k1, k2, k3, k4, k5, k6, k7, k8, k9, k10, k11, k12, k13, k14, k15, k16, ?_⟩
  have := List.length_pos_of_mem he
  rw [h4, h1, List.length_append, List.length_erase_of_mem he]
  split
  · simp only [List.length_singleton]
    omega
  · simp only [List.length_nil]
    omega
theorem unb_eb : sEb s (s_unb s q e) := ⟨List.Sublist.refl _, List.filter_sublist, fun _ => rfl, rfl, rfl, rfl, rfl, rfl, rfl, rfl, rfl, rfl, rfl, rfl, rfl, rfl, rfl, rfl, rfl, Nat.le_refl _⟩
theorem sTx.w_bs (I : sTx s) {v : List Nat} : sTx (s.w_bs v) := I
theorem sMs.w_bs (I : sMs s) {v : List Nat} : sMs (s.w_bs v) := I
theorem sSn.w_bs (I : sSn s) {v : List Nat} : sSn (s.w_bs v) := I
theorem unb_sIx (I : sIx q s) : sIx q (s_unb s q e) := by
  obtain ⟨i1, i2, i3, i4, i5, i6⟩ := I
  refine ⟨i1.bsw fun x hx => (List.mem_filter.mp hx).1, i2.w_bs, i3.w_bs, i4.w_bs, ?_, ?_⟩
  · obtain ⟨a1, a2, a3, a4, a5, a6, a7, a8, a9, a10⟩ := i5
    exact ⟨a1, List.Pairwise.sublist List.filter_sublist a2, a3, a4, a5, Nat.le_trans (List.length_filter_le _ _) a6, a7, a8, fun x hx => a9 x (List.mem_filter.mp hx).1, a10⟩
  · obtain ⟨a1, a2, a3, a4, a5⟩ := i6
    refine ⟨a1, a2, a3, ?_, a5⟩
    have e1 : (s.bs.filter (fun b => !((s.bi b).exch == e && (s.bi b).queue == q))).filter (fun x => !(some q == some (s.bi x).queue)) = s.bs.filter (fun x => !(some q == some (s.bi x).queue)) := by
      rw [List.filter_filter]
      refine List.filter_congr fun x _ => ?_
      by_cases ex : (s.bi x).queue = q
      · rw [ex]
        simp
      · rw [beq_false_of_ne ex, Bool.and_false]
        simp
    show (sSafe s s.facts.length).2.2.1 = ((s.bs.filter (fun b => !((s.bi b).exch == e && (s.bi b).queue == q))).filter (fun x => !(some q == some (s.bi x).queue))).filter _
    rw [e1]
    exact a4
theorem unbAll_sIx (I : sIx q s) (he : e ∈ s.es) : sIx q (s_unbindAll s q e) ∧ sEb s (s_unbindAll s q e) ∧ (∀ x ∈ (s_unbindAll s q e).bs, (s.bi x).queue = q → (s.bi x).exch ≠ e) ∧ (∀ x ∈ s.es, x ≠ e → x ∈ (s_unbindAll s q e).es) := by
  have I1 := unb_sIx (e := e) I
  have hb : ∀ x ∈ (s_unb s q e).bs, (s.bi x).queue = q → (s.bi x).exch ≠ e := fun x hx h1 h2 => by
    have := (List.mem_filter.mp (show x ∈ s.bs.filter (fun b => !((s.bi b).exch == e && (s.bi b).queue == q)) from hx)).2
    rw [h1, h2] at this
    simp at this
  rw [s_unb_eq]
  split
  · have D := de_delE (s := s_unb s q e) (e := e)
    have he1 : e ∈ (s_unb s q e).es := he
    refine ⟨⟨I1.1.delE (I1.1.es e he1), I1.2.1.de D, (I1.2.2.1.de D).1, I1.2.2.2.1.de D, I1.2.2.2.2.1.de D, I1.2.2.2.2.2.de I1.2.2.2.2.1.1 D⟩, unb_eb.trans (D.eb he1), fun x hx => hb x ?_, fun x hx hne => ?_⟩
    · rw [D.2.1] at hx
      exact (List.mem_filter.mp hx).1
    · rw [D.1]
      exact (List.mem_erase_of_ne hne).mpr hx
  · exact ⟨I1, unb_eb, hb, fun x hx _ => hx⟩
theorem foldUnb : ∀ (l : List Nat) (s : sSt), sIx q s → l.Nodup → (∀ e ∈ l, e ∈ s.es) → (∀ x ∈ s.bs, (s.bi x).queue = q → (s.bi x).exch ∈ l) → sIx q (l.foldl (fun s e => s_unbindAll s q e) s) ∧ sEb s (l.foldl (fun s e => s_unbindAll s q e) s) ∧ ∀ x ∈ (l.foldl (fun s e => s_unbindAll s q e) s).bs, (s.bi x).queue ≠ q
  | [], s, I, _, _, hb => ⟨I, sEb.refl s, fun x hx e => nomatch hb x hx e⟩
  | e :: l, s, I, hn, hl, hb => by
    have hn' := List.nodup_cons.mp hn
    obtain ⟨I1, E1, b1, c1⟩ := unbAll_sIx I (hl e List.mem_cons_self)
    have hbi : (s_unbindAll s q e).bi = s.bi := E1.2.2.2.2.2.2.2.2.2.2.2.2.2.2.2.2.2.1
    rw [List.foldl_cons]
    obtain ⟨I2, E2, b2⟩ := foldUnb l (s_unbindAll s q e) I1 hn'.2 (fun x hx => c1 x (hl x (List.mem_cons_of_mem _ hx)) fun e2 => hn'.1 (by rw [← e2]; exact hx)) fun x hx hq => by
      rw [hbi] at hq ⊢
      have h1 := hb x (E1.2.1.subset hx) hq
      exact (List.mem_cons.mp h1).resolve_left (b1 x hx hq)
    refine ⟨I2, E1.trans E2, fun x hx => ?_⟩
    rw [← hbi]
    exact b2 x hx
theorem dq_qu {v : Nat → sQu} {j : Nat} (hv : v = sUp s.qu q ((s.qu q).w_there false)) : sUp v q ((v q).w_ents []) j = ((s.qu j).w_ents (if j = q then [] else (s.qu j).ents)).w_there (if j = q then false else (s.qu j).there) := by
  subst hv
  by_cases ej : j = q
  · subst ej
    rw [sUp_self, sUp_self, if_pos rfl, if_pos rfl]
    rfl
  · rw [sUp_ne ej, sUp_ne ej, if_neg ej, if_neg ej]
    rfl
theorem dq_en {l : List Nat} {j : Nat} : (if j ∈ l.take l.length then (s.en j).w_state 2 else s.en j) = (s.en j).w_state (if j ∈ l then 2 else (s.en j).state) := by
  rw [List.take_length]
  split <;> rfl
theorem s_dq5_t (hk : s_kept (s.qu q) = true) : s_dq5 s q = (s_qu (s_gn ((s_tell (s_qu s q (fun x => x.w_there false)) 3 q).w_qs ((s_tell (s_qu s q (fun x => x.w_there false)) 3 q).qs.erase q)) (s.qu q).ents (s.qu q).ents.length) q (fun x => x.w_ents [])).w_messages (s.messages - Int32.ofNat (s.qu q).ents.length) := by
  unfold s_dq5
  dsimp only
  rw [hk, if_pos rfl, gn_messages, wr_messages_qs, wt_messages]
  unfold s_qu
  rw [wr_messages_qu]
theorem s_dq5_n (hk : s_kept (s.qu q) = false) : s_dq5 s q = (s_qu (s_gn ((s_qu s q (fun x => x.w_there false)).w_qs ((s_qu s q (fun x => x.w_there false)).qs.erase q)) (s.qu q).ents (s.qu q).ents.length) q (fun x => x.w_ents [])).w_messages (s.messages - Int32.ofNat (s.qu q).ents.length) := by
  unfold s_dq5
  dsimp only
  rw [hk, if_neg (by decide), gn_messages, wr_messages_qs]
  unfold s_qu
  rw [wr_messages_qu]
theorem dq_dq5 : sDq s (s_dq5 s q) q := by
  cases hk : s_kept (s.qu q)
  · rw [s_dq5_n hk]
    unfold s_qu s_gn
    exact ⟨by rw [wr_qs_messages, wr_qs_qu, wr_qs_en, wr_qs, wr_qs_qu], fun j => by rw [wr_qu_messages, wr_qu]; exact dq_qu (by rw [wr_qu_en, wr_qu_qs, wr_qu]), fun j => by rw [wr_en_messages, wr_en_qu, wr_en, wr_en_qs, wr_en_qu]; exact dq_en, by rw [wr_messages], by rw [wr_facts_messages, wr_facts_qu, wr_facts_en, wr_facts_qs, wr_facts_qu]; rw [if_neg (by rw [hk]; decide), List.append_nil], by rw [wr_knd_messages, wr_knd_qu, wr_knd_en, wr_knd_qs, wr_knd_qu], by rw [wr_next_messages, wr_next_qu, wr_next_en, wr_next_qs, wr_next_qu], by rw [wr_clock_messages, wr_clock_qu, wr_clock_en, wr_clock_qs, wr_clock_qu], by rw [wr_lastNum_messages, wr_lastNum_qu, wr_lastNum_en, wr_lastNum_qs, wr_lastNum_qu], by rw [wr_dead_messages, wr_dead_qu, wr_dead_en, wr_dead_qs, wr_dead_qu], by rw [wr_cn_messages, wr_cn_qu, wr_cn_en, wr_cn_qs, wr_cn_qu], by rw [wr_ch_messages, wr_ch_qu, wr_ch_en, wr_ch_qs, wr_ch_qu], by rw [wr_es_messages, wr_es_qu, wr_es_en, wr_es_qs, wr_es_qu], by rw [wr_bs_messages, wr_bs_qu, wr_bs_en, wr_bs_qs, wr_bs_qu], by rw [wr_cs_messages, wr_cs_qu, wr_cs_en, wr_cs_qs, wr_cs_qu], by rw [wr_ex_messages, wr_ex_qu, wr_ex_en, wr_ex_qs, wr_ex_qu], by rw [wr_co_messages, wr_co_qu, wr_co_en, wr_co_qs, wr_co_qu], by rw [wr_se_messages, wr_se_qu, wr_se_en, wr_se_qs, wr_se_qu], by rw [wr_bi_messages, wr_bi_qu, wr_bi_en, wr_bi_qs, wr_bi_qu], by rw [wr_tape_messages, wr_tape_qu, wr_tape_en, wr_tape_qs, wr_tape_qu], by rw [wr_ses_messages, wr_ses_qu, wr_ses_en, wr_ses_qs, wr_ses_qu], by rw [wr_sqs_messages, wr_sqs_qu, wr_sqs_en, wr_sqs_qs, wr_sqs_qu], by rw [wr_sbs_messages, wr_sbs_qu, wr_sbs_en, wr_sbs_qs, wr_sbs_qu], by rw [wr_sen_messages, wr_sen_qu, wr_sen_en, wr_sen_qs, wr_sen_qu]⟩
  · rw [s_dq5_t hk]
    unfold s_qu s_gn
    exact ⟨by rw [wr_qs_messages, wr_qs_qu, wr_qs_en, wr_qs, wt_qs, wr_qs_qu], fun j => by rw [wr_qu_messages, wr_qu]; exact dq_qu (by rw [wr_qu_en, wr_qu_qs, wt_qu, wr_qu]), fun j => by rw [wr_en_messages, wr_en_qu, wr_en, wr_en_qs, wt_en, wr_en_qu]; exact dq_en, by rw [wr_messages], by rw [wr_facts_messages, wr_facts_qu, wr_facts_en, wr_facts_qs, wt_facts, wr_facts_qu]; rw [if_pos hk], by rw [wr_knd_messages, wr_knd_qu, wr_knd_en, wr_knd_qs, wt_knd, wr_knd_qu], by rw [wr_next_messages, wr_next_qu, wr_next_en, wr_next_qs, wt_next, wr_next_qu], by rw [wr_clock_messages, wr_clock_qu, wr_clock_en, wr_clock_qs, wt_clock, wr_clock_qu], by rw [wr_lastNum_messages, wr_lastNum_qu, wr_lastNum_en, wr_lastNum_qs, wt_lastNum, wr_lastNum_qu], by rw [wr_dead_messages, wr_dead_qu, wr_dead_en, wr_dead_qs, wt_dead, wr_dead_qu], by rw [wr_cn_messages, wr_cn_qu, wr_cn_en, wr_cn_qs, wt_cn, wr_cn_qu], by rw [wr_ch_messages, wr_ch_qu, wr_ch_en, wr_ch_qs, wt_ch, wr_ch_qu], by rw [wr_es_messages, wr_es_qu, wr_es_en, wr_es_qs, wt_es, wr_es_qu], by rw [wr_bs_messages, wr_bs_qu, wr_bs_en, wr_bs_qs, wt_bs, wr_bs_qu], by rw [wr_cs_messages, wr_cs_qu, wr_cs_en, wr_cs_qs, wt_cs, wr_cs_qu], by rw [wr_ex_messages, wr_ex_qu, wr_ex_en, wr_ex_qs, wt_ex, wr_ex_qu], by rw [wr_co_messages, wr_co_qu, wr_co_en, wr_co_qs, wt_co, wr_co_qu], by rw [wr_se_messages, wr_se_qu, wr_se_en, wr_se_qs, wt_se, wr_se_qu], by rw [wr_bi_messages, wr_bi_qu, wr_bi_en, wr_bi_qs, wt_bi, wr_bi_qu], by rw [wr_tape_messages, wr_tape_qu, wr_tape_en, wr_tape_qs, wt_tape, wr_tape_qu], by rw [wr_ses_messages, wr_ses_qu, wr_ses_en, wr_ses_qs, wt_ses, wr_ses_qu], by rw [wr_sqs_messages, wr_sqs_qu, wr_sqs_en, wr_sqs_qs, wt_sqs, wr_sqs_qu], by rw [wr_sbs_messages, wr_sbs_qu, wr_sbs_en, wr_sbs_qs, wt_sbs, wr_sbs_qu], by rw [wr_sen_messages, wr_sen_qu, wr_sen_en, wr_sen_qs, wt_sen, wr_sen_qu]⟩
theorem mk4_3 {fe fq mq : Nat → Nat} {t : sS4} : s_mk4 fe fq mq t (3, q) = (t.1, t.2.1.filter (fun x => !(x == q)), t.2.2.1.filter (fun b => !(fq b == q)), t.2.2.2.filter (fun m => !(mq m == q))) := rfl
theorem sum_erase {f : Nat → Nat} : ∀ {l : List Nat}, q ∈ l → ((l.erase q).map f).sum + f q = (l.map f).sum
  | x :: l, hx => by
    by_cases e : x = q
    · subst e
      rw [List.erase_cons_head, List.map_cons, List.sum_cons, Nat.add_comm]
    · rw [List.erase_cons_tail (by simpa using e), List.map_cons, List.sum_cons, List.map_cons, List.sum_cons, Nat.add_assoc, sum_erase ((List.mem_cons.mp hx).resolve_left fun e2 => e e2.symm)]
theorem sDq.qus (D : sDq s s' q) (j : Nat) : (s'.qu j).last = (s.qu j).last ∧ (s'.qu j).there = (if j = q then false else (s.qu j).there) ∧ (s'.qu j).name = (s.qu j).name ∧ s_kept (s'.qu j) = s_kept (s.qu j) ∧ (s'.qu j).ents = (if j = q then [] else (s.qu j).ents) := by
  rw [D.2.1 j]
  exact ⟨rfl, rfl, rfl, rfl, rfl⟩
theorem sDq.ens (D : sDq s s' q) (j : Nat) : (s'.en j).queue = (s.en j).queue ∧ (s'.en j).cont = (s.en j).cont ∧ (s'.en j).number = (s.en j).number ∧ (s'.en j).state = (if j ∈ (s.qu q).ents then 2 else (s.en j).state) := by
  rw [D.2.2.1 j]
  exact ⟨rfl, rfl, rfl, rfl⟩
theorem sDq.rec (D : sDq s s' q) (j : Nat) : sRecM s' j = sRecM s j := by
  unfold sRecM s_rec
  rw [(D.ens j).1, (D.ens j).2.1, (D.qus _).2.2.2.1]
theorem sEnts.dq (I : sMs s) (hq : q ∈ s.qs) (D : sDq s s' q) : sEnts s' + (s.qu q).ents.length = sEnts s := by
  unfold sEnts
  rw [D.1, ← sum_erase (f := fun q => (s.qu q).ents.length) hq]
  have e : (s.qs.erase q).map (fun q => (s'.qu q).ents.length) = (s.qs.erase q).map (fun q => (s.qu q).ents.length) := List.map_congr_left fun j hj => by
    have hne : j ≠ q := fun e => by rw [e] at hj; exact I.1.not_mem_erase hj
    rw [(D.qus j).2.2.2.2, if_neg hne]
  rw [e]
theorem dq_sIx (I : sI s) (hq : q ∈ s.qs) (Isc : sScope s') (D : sDq s s' q) : sIx q s' := by
  have hqus := D.qus
  have hens := D.ens
  have hrec := D.rec
  have hE := sEnts.dq I.ms hq D
  have hkq := I.sc.qs q hq
  obtain ⟨c1, c2, c3, c4, c5, k1, k2, k3, k4, k5, k6, k7, k8, k9, k10, k11, k12, k13, k14, k15, l1, l2, l3, l4⟩ := D
  obtain ⟨m1, m2, m3, m4⟩ := I.ms
  refine ⟨Isc, ?_, ?_, ?_, ?_, ?_⟩
  · obtain ⟨a1, a2, a3, a4, a5, a6, a7⟩ := I.tx
    refine ⟨by rw [k1, k11]; exact a1, fun i hi => ?_, by rw [k1, k14]; exact a3, by rw [k1, k12]; exact a4, fun i hi => ?_, by rw [k5]; exact a6, by rw [k7]; exact a7⟩
    · rw [k1] at hi
      rw [c2 i]
      exact a2 i hi
    · rw [k1] at hi
      rw [c3 i]
      exact a5 i hi
  · refine ⟨by rw [c1]; exact m1.erase _, fun j hj => ?_, ?_, by omega⟩
    · rw [k1] at hj
      obtain ⟨b1, b2, b3⟩ := m2 j hj
      rw [(hqus j).2.2.2.2, c1]
      by_cases ej : j = q
      · rw [if_pos ej]
        exact ⟨List.nodup_nil, fun _ => rfl, fun x hx => nomatch hx⟩
      · rw [if_neg ej]
        refine ⟨b1, fun hn => b2 fun h => hn ((List.mem_erase_of_ne ej).mpr h), fun x hx => ?_⟩
        rw [(hens x).2.2.2, if_neg (fun h => ej (((I.sc.qu j hj).1 x hx).2.symm.trans ((I.sc.qu q hkq).1 x h).2))]
        exact b3 x hx
    · rw [c4, m3, ← hE, i_sub (by omega), Nat.add_sub_cancel]
  · obtain ⟨a1, a2, a3⟩ := I.sn
    have hst : ∀ j, (s'.en j).state = 1 → j ∉ (s.qu q).ents ∧ (s.en j).state = 1 := fun j hj => by
      rw [(hens j).2.2.2] at hj
      split at hj
      · exact absurd hj (by decide)
      · rename_i e
        exact ⟨e, hj⟩
    refine ⟨fun h hh => ?_, fun h k hh hk x hx y hy hs he => ?_, fun h hh => ?_⟩
    · rw [k7, k13]
      refine ⟨(a1 h hh).1, fun x hx => ⟨?_, fun hs => ?_⟩⟩
      · rw [(hens _).2.2.2]
        split
        · decide
        · exact ((a1 h hh).2 x hx).1
      · obtain ⟨e1, e2⟩ := hst _ hs
        have := ((a1 h hh).2 x hx).2 e2
        rw [(hens _).1, (hqus _).2.2.2.2]
        split
        · rename_i e
          rw [e] at this
          exact absurd this e1
        · exact this
    · rw [k7] at hx hy
      rw [k13] at hs he
      exact a2 h k hh hk x hx y hy (hst _ hs).2 he
    · rw [k7, k13]
      exact a3 h hh
  · obtain ⟨a1, a2, a3, a4, a5, a6, a7, a8, a9, a10, a11, a12, a13, a14, a15, a16, a17, a18⟩ := I.cp
    refine ⟨by rw [k8]; exact a1, by rw [k9]; exact a2, by rw [k10]; exact a3, by rw [k8]; exact a4, by rw [c1]; exact Nat.le_trans List.erase_sublist.length_le a5, by rw [k9]; exact a6, by rw [k10]; exact a7, by rw [k5]; exact a8, fun x hx => ?_, fun j hj x hx => ?_, fun i hi => ?_, ?_, ?_, ?_, ?_, ?_, fun j hj p hp he => ?_, ?_⟩
    · rw [k9] at hx
      rw [k14, k8, c1]
      refine ⟨(a9 x hx).1, ?_⟩
      by_cases e : (s.bi x).queue = q
      · exact Or.inr (by rw [e])
      · exact Or.inl ((List.mem_erase_of_ne e).mpr (a9 x hx).2)
    · rw [k1] at hj
      rw [(hqus j).1] at hx
      rw [k12]
      exact a10 j hj x hx
    · rw [k10] at hi
      rw [k12, (hqus _).2.1, c1]
      by_cases e : (s.co i).queue = q
      · rw [if_pos e, e]
        exact ⟨fun h => absurd h (by decide), fun h => absurd h m1.not_mem_erase⟩
      · rw [if_neg e, List.mem_erase_of_ne e]
        exact a11 i hi
    · rw [k7]; exact a12
    · rw [k6]; exact a13
    · rw [k4]; exact a14
    · rw [k4]; exact a15
    · rw [k15]; exact a16
    · rw [c1] at hj hp
      rw [(hqus j).2.2.1, (hqus p).2.2.1] at he
      exact a17 j (List.mem_of_mem_erase hj) p (List.mem_of_mem_erase hp) he
    · rw [k8, k11]; exact a18
  · obtain ⟨a1, a2, a3, a4, a5, a6, a7⟩ := I.hi
    have hmq : (fun m => (s'.en m).queue) = (fun m => (s.en m).queue) := funext fun m => (hens m).1
    have hnum : (fun m => (s'.en m).number) = (fun m => (s.en m).number) := funext fun m => (hens m).2.2.1
    have hsa : ∀ n, sSafe s' n = ((if s_kept (s.qu q) = true then [((3 : Int32), q)] else []).take (n - s.facts.length)).foldl (s_mk4 (fun x => (s.bi x).exch) (fun x => (s.bi x).queue) (fun m => (s.en m).queue)) (sSafe s n) := fun n => by
      unfold sSafe
      rw [c5, k14, hmq, l1, l2, l3, l4, List.take_append, List.foldl_append]
    have hfit : ∀ n, sFit s (sSafe s' n) := fun n => by
      rw [hsa n]
      split
      · cases hn : n - s.facts.length with
        | zero => exact a1 n
        | succ k =>
          rw [List.take_of_length_le (by simp)]
          obtain ⟨b1, b2, b3, b4, b5, b6, b7, b8, b9, b10, b11, b12, b13, b14⟩ := a1 n
          rw [List.foldl_cons, List.foldl_nil, mk4_3]
          refine ⟨b1, Nat.le_trans (List.length_filter_le _ _) b2, Nat.le_trans (List.length_filter_le _ _) b3, Nat.le_trans (List.length_filter_le _ _) b4, b5, List.Pairwise.sublist List.filter_sublist b6, List.Pairwise.sublist List.filter_sublist b7, b8, fun x hx => b9 x (List.mem_filter.mp hx).1, fun x hx => ?_, fun x hx => ?_, fun j hj p hp => b12 j (List.mem_filter.mp hj).1 p (List.mem_filter.mp hp).1, b13, List.Pairwise.sublist (List.Sublist.map _ List.filter_sublist) b14⟩
          · obtain ⟨hx1, hx2⟩ := List.mem_filter.mp hx
            exact ⟨(b10 x hx1).1, (b10 x hx1).2.1, List.mem_filter.mpr ⟨(b10 x hx1).2.2, hx2⟩⟩
          · obtain ⟨hx1, hx2⟩ := List.mem_filter.mp hx
            exact ⟨(b11 x hx1).1, List.mem_filter.mpr ⟨(b11 x hx1).2.1, hx2⟩, (b11 x hx1).2.2⟩
      · rw [List.take_nil]
        exact a1 n
    have hst : ∀ t, sFit s t → sFit s' t := fun t ⟨b1, b2, b3, b4, b5, b6, b7, b8, b9, b10, b11, b12, b13, b14⟩ => by
      refine ⟨b1, b2, b3, b4, b5, b6, b7, by rw [k1, k11]; exact b8, fun x hx => ?_, by rw [k1, k14]; exact b10, fun x hx => ?_, fun j hj p hp he => ?_, by rw [k11]; exact b13, by rw [hnum]; exact b14⟩
      · rw [k1, (hqus x).2.2.2.1]
        exact b9 x hx
      · rw [k1, (hens x).1, hrec, (hens x).2.2.1, k4]
        exact b11 x hx
      · rw [(hqus j).2.2.1, (hqus p).2.2.1] at he
        exact b12 j hj p hp he
    have hlen : s'.facts.length = s.facts.length + (if s_kept (s.qu q) = true then [((3 : Int32), q)] else []).length := by
      rw [c5, List.length_append]
    have hfull : sSafe s' s'.facts.length = (if s_kept (s.qu q) = true then [((3 : Int32), q)] else []).foldl (s_mk4 (fun x => (s.bi x).exch) (fun x => (s.bi x).queue) (fun m => (s.en m).queue)) (sSafe s s.facts.length) := by
      rw [hsa, safe_over (by omega), hlen, Nat.add_sub_cancel_left, List.take_length]
    have hres : (sSafe s' s'.facts.length).1 = (sSafe s s.facts.length).1 ∧ (sSafe s' s'.facts.length).2.1 = (s.qs.erase q).filter (fun q => s_kept (s.qu q)) ∧ (sSafe s' s'.facts.length).2.2.1 = (s.bs.filter (fun x => !(some q == some (s.bi x).queue))).filter (fun x => (s.ex (s.bi x).exch).dur && s_kept (s.qu (s.bi x).queue)) ∧
        (∀ m, m ∈ (sSafe s' s'.facts.length).2.2.2 ↔ m ∈ (sSafe s s.facts.length).2.2.2 ∧ (s.en m).queue ≠ q) := by
      rw [hfull, erase_ne m1]
      by_cases hd : s_kept (s.qu q) = true
      · rw [if_pos hd, List.foldl_cons, List.foldl_nil, mk4_3]
        refine ⟨rfl, ?_, ?_, fun m => ?_⟩
        · show (sSafe s s.facts.length).2.1.filter _ = _
          rw [a3, filter_comm]
        · show (sSafe s s.facts.length).2.2.1.filter _ = _
          rw [a4, filter_comm]
          congr 1
          refine List.filter_congr fun x _ => ?_
          by_cases e : (s.bi x).queue = q
          · rw [e]
            simp
          · rw [beq_false_of_ne e, beq_false_of_ne (fun e2 => e (by cases e2; rfl))]
        · show m ∈ (sSafe s s.facts.length).2.2.2.filter _ ↔ _
          rw [List.mem_filter]
          simp
      · rw [if_neg hd, List.foldl_nil]
        rw [Bool.not_eq_true] at hd
        refine ⟨rfl, ?_, ?_, fun m => ?_⟩
        · rw [a3, List.filter_filter]
          refine List.filter_congr fun x _ => ?_
          by_cases ex : x = q
          · subst ex
            rw [hd]
            rfl
          · rw [beq_false_of_ne ex]
            simp
        · rw [a4, List.filter_filter]
          refine List.filter_congr fun x _ => ?_
          by_cases ex : (s.bi x).queue = q
          · rw [ex, hd]
            simp
          · rw [beq_false_of_ne (fun e2 => ex (by cases e2; rfl))]
            simp
        · refine ⟨fun h => ⟨h, fun e => ?_⟩, fun h => h.1⟩
          have := ((a5 m).mp h).2.2
          unfold sRecM s_rec at this
          rw [e, hd, Bool.false_and] at this
          exact absurd this (by decide)
    refine ⟨fun n => hst _ (hfit n), ?_, ?_, ?_, fun x => ?_, fun j hj => ?_, fun j hj x hx => ?_⟩
    · rw [hres.1, a2, k8, k11]
    · rw [hres.2.1, c1]
      exact List.filter_congr fun x _ => (hqus x).2.2.2.1.symm
    · rw [hres.2.2.1, k9, k14, k11]
      exact List.filter_congr fun x _ => by rw [(hqus _).2.2.2.1]
    · rw [hres.2.2.2, a5, (hens x).1, (hqus _).2.2.2.2, c1, hrec]
      by_cases e : (s.en x).queue = q
      · rw [if_pos e]
        exact ⟨fun h => absurd e h.2, fun h => nomatch h.1⟩
      · rw [if_neg e, List.mem_erase_of_ne e]
        exact ⟨fun h => h.1, fun h => ⟨h, e⟩⟩
    · rw [k1] at hj
      rw [(hqus j).2.2.2.2, hnum]
      split
      · exact List.Pairwise.nil
      · exact a6 j hj
    · rw [k1] at hj
      rw [(hqus j).2.2.2.2] at hx
      rw [(hens x).2.2.1, k4]
      split at hx
      · cases hx
      · exact a7 j hj x hx
theorem delQ1_all (I : sI s) (hq : q ∈ s.qs) : sIx q (s_delQ1 s q) ∧ sDq s (s_dq5 s q) q ∧ sEb (s_dq5 s q) (s_delQ1 s q) ∧ ∀ x ∈ (s_delQ1 s q).bs, (s.bi x).queue ≠ q := by
  have D := dq_dq5 (s := s) (q := q)
  have I5 := dq_sIx I hq (dq5_scope I.sc (I.sc.qs q hq)) D
  have hes : (s_dq5 s q).es = s.es := D.2.2.2.2.2.2.2.2.2.2.2.2.1
  have hbs : (s_dq5 s q).bs = s.bs := D.2.2.2.2.2.2.2.2.2.2.2.2.2.1
  have hbi : (s_dq5 s q).bi = s.bi := D.2.2.2.2.2.2.2.2.2.2.2.2.2.2.2.2.2.2.1
  rw [s_delQ1_eq]
  obtain ⟨h1, h2, h3⟩ := foldUnb s.es (s_dq5 s q) I5 I.cp.1 (fun e he => by rw [hes]; exact he) fun x hx _ => by
    rw [hbs] at hx
    rw [hbi]
    exact (I.cp.2.2.2.2.2.2.2.2.1 x hx).1
  exact ⟨h1, D, h2, fun x hx => by rw [← hbi]; exact h3 x hx⟩
theorem delQ1_qs (hq : q ∈ s.qs) (I : sI s) : (s_delQ1 s q).qs.length + 1 = s.qs.length := by
  obtain ⟨-, D, B, -⟩ := delQ1_all I hq
  rw [B.2.2.2.2.2.2.2.2.2.2.2.1, D.1, List.length_erase_of_mem hq]
  have := List.length_pos_of_mem hq
  omega
theorem delQ1_tP (I : sI s) (hq : q ∈ s.qs) : tP (s_delQ1 s q) + 4 + 4 * (s.es.length - (s_delQ1 s q).es.length) ≤ tP s ∧ (s_delQ1 s q).es.length ≤ s.es.length ∧ (s_delQ1 s q).facts.length + (s_delQ1 s q).es.length ≤ s.facts.length + s.es.length + 1 ∧ (s_delQ1 s q).ch = s.ch := by
  have h1 := delQ1_qs hq I
  obtain ⟨-, D, B, -⟩ := delQ1_all I hq
  have hE := sEnts.dq I.ms hq D
  obtain ⟨c1, c2, c3, c4, c5, k1, k2, k3, k4, k5, k6, k7, k8, -⟩ := D
  obtain ⟨b1, b2, b3, b4, b5, b6, b7, b8, b9, b10, b11, b12, b13, b14, b15, b16, b17, b18, b19, b20⟩ := B
  have hE2 : sEnts (s_delQ1 s q) = sEnts (s_dq5 s q) := by
    unfold sEnts
    rw [b12, b14]
  have hel := b1.length_le
  rw [k8] at hel b20
  refine ⟨?_, hel, ?_, b11.trans k7⟩
  · unfold tP
    rw [b7, k4, b9, k5, hE2]
    omega
  · rw [c5, List.length_append] at b20
    split at b20
    · simp only [List.length_singleton] at b20
      omega
    · simp only [List.length_nil] at b20
      omega
theorem d_delQ1 (I : sI s) (hq : q ∈ s.qs) : sDn s (s_delQ1 s q) := by
  obtain ⟨t1, t2, t3, t4⟩ := delQ1_tP I hq
  obtain ⟨Ix, D, B, hb⟩ := delQ1_all I hq
  obtain ⟨c1, c2, c3, c4, c5, k1, k2, k3, k4, k5, k6, k7, k8, k9, k10, k11, k12, k13, k14, -⟩ := D
  obtain ⟨b1, b2, b3, b4, b5, b6, b7, b8, b9, b10, b11, b12, b13, b14, b15, b16, b17, b18, b19, b20⟩ := B
  have hbi : (s_delQ1 s q).bi = s.bi := b18.trans k14
  have hno : ∀ x ∈ (s_delQ1 s q).bs, some ((s_delQ1 s q).bi x).queue ≠ some q := fun x hx e => by
    rw [hbi] at e
    exact hb x hx (by cases e; rfl)
  have hI : sI (s_delQ1 s q) := ⟨Ix.1, Ix.2.1, Ix.2.2.1, Ix.2.2.2.1, Ix.2.2.2.2.1.of hno, Ix.2.2.2.2.2.of hno⟩
  have hw : sWt (s_delQ1 s q) + tP (s_delQ1 s q) ≤ sWt s + tP s := by
    unfold sWt
    rw [t4]
    omega
  refine ⟨fun _ => hI, fun _ => by omega, fun _ => hw, by rw [b13, k10]; exact List.Sublist.refl _, by rw [b12, c1]; exact List.erase_sublist, by rw [← k8]; exact b1, by rw [← k9]; exact b2, fun c hc => by rw [b10, k6]; exact hc, fun h hh => by rw [t4]; exact hh, fun h hh => by rw [t4]; exact hh, b4.trans k1, b5.trans k2, b6.trans k3, b15.trans k12, hbi, b17.trans k13, b7.trans k4,
    fun j => ⟨(if j = q then [] else (s.qu j).ents), (if j = q then false else (s.qu j).there), (s.qu j).last, by rw [b14, c2 j]; rfl⟩, fun j => ⟨_, by rw [b3 j, k11]⟩, fun j => ⟨(if j ∈ (s.qu q).ents then 2 else (s.en j).state), (s.en j).redel, by rw [b16, c3 j]; rfl⟩, fun h => by rw [t4]⟩
/-- a deleted queue sets free what its records cost -/
theorem d_delQ1_pay (I : sI s) (hq : q ∈ s.qs) {N b : Nat} (hN : tP s = N + (3 + 3 * s.es.length)) : b + tP (s_delQ1 s q) ≤ b + N + 3 * (s_delQ1 s q).es.length := by
  obtain ⟨t1, t2, -⟩ := delQ1_tP I hq
  omega
end PQ
