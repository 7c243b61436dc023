/-! ===== the twin: queues are deleted: out of the list, their messages ===== -/
set_option maxRecDepth 100000
section DR
variable {s0 : zE} {F : Nat → Option zC} {b : Nat} {s s' : sSt} {w w' : tW} {g g' : sG} {h h' : zH} {d x0 x1 x2 i q m e j : Nat} {Q : Value → zH → Prop} {E : Nat → zH → Prop}
theorem sScope.qsw (I : sScope s) {l : List Nat} (hl : ∀ x ∈ l, x ∈ s.qs) : sScope (s.w_qs l) := by
  obtain ⟨a1, a2, a3, a4, a5, a6, a7, a8, a9⟩ := I
  exact ⟨fun x hx => a1 x (hl x hx), a2, a3, a4, a5, a6, a7, a8, a9⟩
theorem t_delQ_23 (R : tR s0 F b s w g h) (I : sScope s) (hm : g.kind x0 = (1, 0)) (hx : g.kind x1 = (33, q))
    (K : ∀ pre suf, s.qs = pre ++ q :: suf → q ∉ pre → ∀ h1, h1 = zput h x0 6 (.int (Int32.ofNat s.qs.length - 1)) → zP s0 m_X8_delete (d + 4) 51 [some (zr x0), some (zr x1), none, some (.int (Int32.ofNat pre.length)), none, none, none] [] h1 Q E) :
    ∀ (rest pre : List Nat), s.qs = pre ++ rest → q ∉ pre → q ∈ rest → zP s0 m_X8_delete (d + 4) 23 [some (zr x0), some (zr x1), some (.int (Int32.ofNat pre.length)), none, none, none, none] [] h Q E
  | [], pre, _, _, hi => by cases hi
  | x :: rest, pre, hcs, hp, hi => by
    have A := R.2.ar6
    have hle := A.le
    rw [List.length_map] at hle
    have hj : s.qs[pre.length]? = some x := by rw [hcs]; simp
    have hax := R.al (c := 33) (by decide) (by decide) (I.qs x (List.mem_of_getElem? hj))
    refine b_X8_delete_23 (e_R (R.main hm) fun z1 => ?_)
    rw [z1]
    refine g_El R A rfl (by decide) hj (by decide) fun z2 => ?_
    rw [z2]
    constructor
    · intro e1
      have ex : x = q := (R.inj hax hx (by decide)).mp e1
      subst ex
      refine e_I (R.main hm) fun (z3 : gI h x0 6 = Int32.ofNat s.qs.length) => g_C (R.main hm) ?_
      rw [z3]
      exact fun h1 e1 => K pre rest hcs hp h1 e1
    · intro e1
      have ex : x ≠ q := fun e2 => e1 ((R.inj hax hx (by decide)).mpr e2)
      rw [i_succ, show pre.length + 1 = (pre ++ [x]).length by simp]
      exact t_delQ_23 R I hm hx K rest (pre ++ [x]) (by rw [hcs, List.append_assoc]; rfl) (by simp only [List.mem_append, List.mem_singleton]; exact fun e3 => e3.elim hp fun e4 => ex e4.symm) (by
        rcases List.mem_cons.mp hi with e2 | e2
        · exact absurd e2.symm ex
        · exact e2)
/-- behind the record: out of the list -/
theorem t_delQ_21 (R : tR s0 F b s w g h) (I : sScope s) (hm : g.kind x0 = (1, 0)) (hx : g.kind x1 = (33, q)) (hi : q ∈ s.qs)
    (K : ∀ g1 h1, tR s0 F b (s.w_qs (s.qs.erase q)) w g1 h1 → gL g g1 → zP s0 m_X8_delete (d + 4) 91 [some (zr x0), some (zr x1), none, some (.int (Int32.ofNat 0)), none, none, none] [] h1 Q E) : zP s0 m_X8_delete (d + 4) 21 [some (zr x0), some (zr x1), none, none, none, none, none] [] h Q E := by
  have A := R.2.ar6
  have hle := A.le
  rw [List.length_map] at hle
  obtain ⟨eA, hA⟩ := R.arr A rfl (by decide) (by decide)
  have hne : x0 ≠ g.ref 6 0 := kne hm A.1 (by decide)
  refine b_X8_delete_21 (t_delQ_23 R I hm hx (fun pre suf hcs hp h1 e1 => ?_) s.qs [] rfl (by simp) hi)
  have hlen : s.qs.length = pre.length + suf.length + 1 := by rw [hcs]; simp; omega
  rw [i_pred (by omega)] at e1
  have ex0 : h1.1 x0 = some (7, (tMain s w g).set 6 (.int (Int32.ofNat (s.qs.length - 1)))) := by rw [e1]; exact zput_self (R.main hm)
  have eA1 : h1.1 (g.ref 6 0) = some (1000 + 13, g.ar 6 0) := by rw [e1, zput_ne hne.symm]; exact eA
  have G := R.good (C := "RelayHallModel$Queue") A (by decide) (fun x hx => R.al (c := 33) (by decide) (by decide) (I.qs x hx)) (fun x => ⟨_, rfl⟩) zcl_37 rfl
  refine sh_loop (Z := fun i hk => zP s0 m_X8_delete (d + 4) 51 [some (zr x0), some (zr x1), none, some (.int (Int32.ofNat i)), none, none, none] [] hk Q E) (own := x0) (oc := 7) (kc := 6) (ka := 2) (n := s.qs.length) (C := "RelayHallModel$Queue") (t := 13) (arr := g.ref 6 0) hne rfl rfl hA
    (fun i hk H => b_X8_delete_51 (by rw [i_succ] at H ⊢; exact H)) suf.length pre.length h1 (g.ar 6 0) (by omega) ex0 eA1 (by rw [A.2.1]; exact hle) (by rw [A.2.1]; decide)
    (G.mono (Nat.le_refl _) fun r hr => hr.imp id fun x => by rw [e1]; exact zAsg_put x) (fun h2 o1 o2 o3 => ?_)
  refine sh_fin (oc := 7) (own := x0) (ka := 2) (kc := 6) (by rw [o2 _ hne]; exact ex0) rfl rfl o3 hA (by rw [shf_len, A.2.1]; omega) (by rw [shf_len, A.2.1]; decide) fun h3 p1 p2 p3 => ?_
  have hx1 := shf_erase suf.length (g.ar 6 0) _ pre.length A.2.2 (by rw [List.length_map]; omega)
  rw [erase_split hcs hp] at hx1
  have hx2 : (s.qs.erase q).map (fun i => zr (g.ref 33 i)) <+: (shf suf.length (g.ar 6 0) pre.length).set (s.qs.length - 1) .null := pre_set_out hx1 (by rw [List.length_map, List.length_erase_of_mem hi]; exact Nat.le_refl _)
  have R3 : tR s0 F b (s.w_qs (s.qs.erase q)) w (gSet g 6 0 ((shf suf.length (g.ar 6 0) pre.length).set (s.qs.length - 1) .null)) h3 := by
    refine R.arM hm A.1 (by decide) (t := 13) rfl ?_ ?_ (fun m m1 m2 => ?_) ?_ p3 ⟨rfl, rfl, rfl, rfl, rfl, rfl, rfl, rfl, rfl⟩ (R.2.set6 (by rw [List.length_set, shf_len]; exact A.2.1) hx2)
    · show (1000 + tarT 6, (gSet _ 6 0 _).ar 6 0) = _
      rw [gSet_self]
      rfl
    · rw [p1, o1, e1]
      rfl
    · rw [p2 _ m2, o2 _ m2, e1, zput_ne m1]
    · rw [p2 _ hne, o2 _ hne, ex0]
      show _ = some (7, tMain (s.w_qs (s.qs.erase q)) w g)
      rw [← List.length_erase_of_mem hi]
      rfl
  exact K _ h3 R3 gL.set
/-- the messages of l, as far as j, have left -/
def s_gn (s : sSt) (l : List Nat) (j : Nat) : sSt := s.w_en (fun m => if m ∈ l.take j then (s.en m).w_state 2 else s.en m)
theorem gn_step {l : List Nat} {j x : Nat} (hx : l[j]? = some x) : (s_gn s l j).w_en (sUp (s_gn s l j).en x (((s_gn s l j).en x).w_state 2)) = s_gn s l (j + 1) := by
  have e : sUp (s_gn s l j).en x (((s_gn s l j).en x).w_state 2) = (s_gn s l (j + 1)).en := funext fun m => by
    have hm : m ∈ l.take (j + 1) ↔ m ∈ l.take j ∨ m = x := by
      rw [List.take_add_one, hx, List.mem_append]
      simp
    show sUp _ x _ m = if m ∈ l.take (j + 1) then (s.en m).w_state 2 else s.en m
    by_cases e : m = x
    · subst e
      rw [sUp_self, if_pos (hm.mpr (Or.inr rfl))]
      show ((if m ∈ l.take j then (s.en m).w_state 2 else s.en m) : sEn).w_state 2 = _
      split <;> rfl
    · rw [sUp_ne e]
      show (if m ∈ l.take j then (s.en m).w_state 2 else s.en m) = _
      by_cases h1 : m ∈ l.take j
      · rw [if_pos h1, if_pos (hm.mpr (Or.inl h1))]
      · rw [if_neg h1, if_neg fun h2 => (hm.mp h2).elim h1 e]
  rw [e]
  rfl
theorem gn_zero {l : List Nat} : s_gn s l 0 = s := by
  have e : (fun m => if m ∈ l.take 0 then (s.en m).w_state 2 else s.en m) = s.en := funext fun m => if_neg (by rw [List.take_zero]; exact fun h => nomatch h)
  unfold s_gn
  rw [e]
  rfl
theorem gn_all {l : List Nat} : s_gn s l l.length = s.w_en (fun m => if m ∈ l then (s.en m).w_state 2 else s.en m) := by
  unfold s_gn
  rw [List.take_length]
theorem gn_static {l : List Nat} {j m : Nat} : ((s_gn s l j).en m).cont = (s.en m).cont ∧ ((s_gn s l j).en m).exch = (s.en m).exch ∧ ((s_gn s l j).en m).key = (s.en m).key ∧ ((s_gn s l j).en m).queue = (s.en m).queue := by
  show (if m ∈ l.take j then (s.en m).w_state 2 else s.en m : sEn).cont = _ ∧ (if m ∈ l.take j then (s.en m).w_state 2 else s.en m : sEn).exch = _ ∧ (if m ∈ l.take j then (s.en m).w_state 2 else s.en m : sEn).key = _ ∧ (if m ∈ l.take j then (s.en m).w_state 2 else s.en m : sEn).queue = _
  split <;> exact ⟨rfl, rfl, rfl, rfl⟩
theorem sScope.gn (I : sScope s) {l : List Nat} {j : Nat} : sScope (s_gn s l j) := by
  obtain ⟨a1, a2, a3, a4, a5, a6, a7, a8, a9, a10, a11, a12, a13, a14⟩ := I
  refine ⟨a1, a2, a3, a4, a5, a6, a7, a8, a9, fun i hi => ⟨fun n hn => ?_, (a10 i hi).2⟩, a11, a12, fun i hi => ?_, a14⟩
  · show s.knd n = 36 ∧ ((s_gn s l j).en n).queue = i
    rw [gn_static.2.2.2]
    exact (a10 i hi).1 n hn
  · show s.knd ((s_gn s l j).en i).queue = 33
    rw [gn_static.2.2.2]
    exact a13 i hi
theorem w_qu_messages {X : Nat → sQu} {Y : Int32} : (s.w_messages Y).w_qu X = (s.w_qu X).w_messages Y := by
  show ((X, (s.w_messages Y).ex, (s.w_messages Y).bi, (s.w_messages Y).co, (s.w_messages Y).en, (s.w_messages Y).se, (s.w_messages Y).cn, (s.w_messages Y).ch, (s.w_messages Y).qs, (s.w_messages Y).es, (s.w_messages Y).bs, (s.w_messages Y).cs, (s.w_messages Y).dead, (s.w_messages Y).facts, (s.w_messages Y).sqs, (s.w_messages Y).ses, (s.w_messages Y).sbs, (s.w_messages Y).sen, (s.w_messages Y).messages, (s.w_messages Y).lastNum, (s.w_messages Y).gener, (s.w_messages Y).clock, (s.w_messages Y).deadOnes, (s.w_messages Y).crashes, (s.w_messages Y).tape, (s.w_messages Y).next, (s.w_messages Y).knd) : sSt) = ((s.w_qu X).qu, (s.w_qu X).ex, (s.w_qu X).bi, (s.w_qu X).co, (s.w_qu X).en, (s.w_qu X).se, (s.w_qu X).cn, (s.w_qu X).ch, (s.w_qu X).qs, (s.w_qu X).es, (s.w_qu X).bs, (s.w_qu X).cs, (s.w_qu X).dead, (s.w_qu X).facts, (s.w_qu X).sqs, (s.w_qu X).ses, (s.w_qu X).sbs, (s.w_qu X).sen, Y, (s.w_qu X).lastNum, (s.w_qu X).gener, (s.w_qu X).clock, (s.w_qu X).deadOnes, (s.w_qu X).crashes, (s.w_qu X).tape, (s.w_qu X).next, (s.w_qu X).knd)
  rw [wr_ex_messages, wr_bi_messages, wr_co_messages, wr_en_messages, wr_se_messages, wr_cn_messages, wr_ch_messages, wr_qs_messages, wr_es_messages, wr_bs_messages, wr_cs_messages, wr_dead_messages, wr_facts_messages, wr_sqs_messages, wr_ses_messages, wr_sbs_messages, wr_sen_messages, wr_messages, wr_lastNum_messages, wr_gener_messages, wr_clock_messages, wr_deadOnes_messages, wr_crashes_messages, wr_tape_messages, wr_next_messages, wr_knd_messages, wr_qu, wr_ex_qu, wr_bi_qu, wr_co_qu, wr_en_qu, wr_se_qu, wr_cn_qu, wr_ch_qu, wr_qs_qu, wr_es_qu, wr_bs_qu, wr_cs_qu, wr_dead_qu, wr_facts_qu, wr_sqs_qu, wr_ses_qu, wr_sbs_qu, wr_sen_qu, wr_lastNum_qu, wr_gener_qu, wr_clock_qu, wr_deadOnes_qu, wr_crashes_qu, wr_tape_qu, wr_next_qu, wr_knd_qu]
theorem t_delQ_91 {l : List Nat} (hle : l = (s.qu q).ents) (I : sScope s) (hm : g.kind x0 = (1, 0)) (hx : g.kind x1 = (33, q)) 
    (K : ∀ h1, tR s0 F b ((s_qu (s_gn s l l.length) q (fun x => x.w_ents [])).w_messages (s.messages - Int32.ofNat l.length)) w g h1 → zP s0 m_X8_delete (d + 4) 135 [some (zr x0), some (zr x1), none, some (.int (Int32.ofNat 0)), none, none, none] [] h1 Q E) :
    ∀ (k j : Nat) (h : zH), l.length = j + k → tR s0 F b (s_gn s l j) w g h → zP s0 m_X8_delete (d + 4) 91 [some (zr x0), some (zr x1), none, some (.int (Int32.ofNat j)), none, none, none] [] h Q E := by
  have hgq : ∀ j, (s_gn s l j).qu = s.qu := fun j => wr_qu_en
  have hgk : ∀ j, (s_gn s l j).knd = s.knd := fun j => wr_knd_en
  have hgm : ∀ j, (s_gn s l j).messages = s.messages := fun j => wr_messages_en
  have hgs : ∀ j x, l[j]? = some x → (s_gn s l j).w_en (sUp (s_gn s l j).en x (((s_gn s l j).en x).w_state 2)) = s_gn s l (j + 1) := fun j x hx => gn_step hx
  revert K hgq hgk hgm hgs
  generalize s_gn s l = sg
  intro K hgq hgk hgm hgs k
  have hlen0 : ∀ j (h : zH), tR s0 F b (sg j) w g h → s.knd q = 33 ∧ gAr g 31 q 301 ((s.qu q).ents.map (fun m => zr (g.ref 36 m))) ∧ l.length ≤ 301 := fun j h R => by
    have hq : (sg j).knd q = 33 := R.ak (c := 33) (by decide) (by decide) hx
    have A := R.ents hq
    rw [hgq] at A
    have hlen := A.le
    rw [List.length_map] at hlen
    rw [hgk] at hq
    exact ⟨hq, A, by rw [hle]; exact hlen⟩
  induction k with
  | zero =>
    intro j h hj R
    obtain ⟨hq, A, hlen⟩ := hlen0 j h R
    have ej : j = l.length := by omega
    subst ej
    have e := R.1.cell hx (by decide)
    have e : h.1 x1 = some (37, tQu ((sg l.length).qu q) g q) := e
    rw [hgq] at e
    refine b_X8_delete_91 (e_I e fun (z1 : gI h x1 12 = Int32.ofNat (s.qu q).ents.length) => ?_)
    rw [z1, ← hle, i_le (by omega) (by omega)]
    refine ⟨fun hc => ?_, fun hc => absurd (Nat.le_refl _) hc⟩
    refine e_I (R.main hm) fun z2 => e_I e fun _ => ?_
    rw [z2, hgm]
    refine g_Mmessages R hm (s.messages - Int32.ofNat l.length) fun h1 R1 _ => ?_
    have e1 : h1.1 x1 = some (37, tQu (((sg l.length).w_messages (s.messages - Int32.ofNat l.length)).qu q) g q) := R1.1.cell hx (by decide)
    have hq1 : ((sg l.length).w_messages (s.messages - Int32.ofNat l.length)).qu = s.qu := by rw [wr_qu_messages, hgq]
    refine g_Pqu R1 hx ((s.qu q).w_ents []) (by rw [hq1]; rfl) (R1.2.qu fun hk => ?_) fun h2 R2 _ => ?_
    · obtain ⟨f1, f2, f3, f4⟩ := R.2.2.2.2.2.2.2.2.1 q (R.ak (c := 33) (by decide) (by decide) hx)
      rw [hgq] at f1 f2 f3
      exact ⟨f1, f2, f3, f4.1, f4.2.1, List.nil_prefix⟩
    · refine K h2 ?_
      unfold s_qu
      rw [hq1, w_qu_messages] at R2
      rw [hgq]
      exact R2
  | succ k ih =>
    intro j h hj R
    obtain ⟨hq, A, hlen⟩ := hlen0 j h R
    have e := R.1.cell hx (by decide)
    have e : h.1 x1 = some (37, tQu ((sg j).qu q) g q) := e
    rw [hgq] at e
    refine b_X8_delete_91 (e_I e fun (z1 : gI h x1 12 = Int32.ofNat (s.qu q).ents.length) => ?_)
    rw [z1, ← hle, i_le (by omega) (by omega)]
    refine ⟨fun hc => absurd hc (by omega), fun hc => ?_⟩
    obtain ⟨x, hx5⟩ : ∃ x, l[j]? = some x := ⟨_, List.getElem?_eq_getElem (by omega)⟩
    have hx6 : (s.qu q).ents[j]? = some x := by rw [← hle]; exact hx5
    have hkx := ((I.qu q hq).1 x (List.mem_of_getElem? hx6)).1
    have ax := R.al (c := 36) (by decide) (by decide) (show (sg j).knd x = 36 by rw [hgk]; exact hkx)
    refine e_R e fun (z2 : gR h x1 11 = g.ref 31 q) => ?_
    rw [z2]
    refine g_El R A rfl (by decide) hx6 (by decide) fun z3 => ?_
    rw [z3]
    refine g_Pen R ax (((sg j).en x).w_state 2) rfl (R.2.en fun hk => R.2.2.2.2.2.2.2.2.2.2.2.1 x hk) fun h1 R1 _ => ?_
    rw [hgs j x hx5] at R1
    rw [i_succ]
    exact ih (j + 1) h1 (by omega) R1
theorem gn_messages {l : List Nat} {j : Nat} : (s_gn s l j).messages = s.messages := by
  unfold s_gn
  rw [wr_messages_en]
/-- a queue is no more: ahead of its exchanges' bindings -/
def s_dq5 (s : sSt) (q : Nat) : sSt :=
  let s1 := s_qu s q (fun x => x.w_there false)
  let s2 := if s_kept (s.qu q) then s_tell s1 3 q else s1
  let s3 := s2.w_qs (s2.qs.erase q)
  (s_qu (s_gn s3 (s.qu q).ents (s.qu q).ents.length) q (fun x => x.w_ents [])).w_messages ((s_gn s3 (s.qu q).ents (s.qu q).ents.length).messages - Int32.ofNat (s.qu q).ents.length)
theorem s_delQ1_dq5 : s_delQ1 s q = (s_dq5 s q).es.foldl (fun s e => s_unbindAll s q e) (s_dq5 s q) := by
  unfold s_delQ1 s_dq5
  dsimp only
  rw [gn_all]
theorem dq5_rows {s2 : sSt} {l : List Nat} {v : Int32} : ((s_qu (s_gn (s2.w_qs (s2.qs.erase q)) l l.length) q (fun x => x.w_ents [])).w_messages v).es = s2.es ∧ ((s_qu (s_gn (s2.w_qs (s2.qs.erase q)) l l.length) q (fun x => x.w_ents [])).w_messages v).facts = s2.facts := by
  unfold s_qu s_gn
  exact ⟨by rw [wr_es_messages, wr_es_qu, wr_es_en, wr_es_qs], by rw [wr_facts_messages, wr_facts_qu, wr_facts_en, wr_facts_qs]⟩
theorem s_two {b : Bool} : (if b = true then s_tell (s_qu s q (fun x => x.w_there false)) 3 q else s_qu s q (fun x => x.w_there false)).qs = s.qs ∧ (if b = true then s_tell (s_qu s q (fun x => x.w_there false)) 3 q else s_qu s q (fun x => x.w_there false)).es = s.es ∧
    (if b = true then s_tell (s_qu s q (fun x => x.w_there false)) 3 q else s_qu s q (fun x => x.w_there false)).messages = s.messages ∧ ((if b = true then s_tell (s_qu s q (fun x => x.w_there false)) 3 q else s_qu s q (fun x => x.w_there false)).qu q).ents = (s.qu q).ents ∧
    (if b = true then s_tell (s_qu s q (fun x => x.w_there false)) 3 q else s_qu s q (fun x => x.w_there false)).facts.length ≤ s.facts.length + 1 := by
  unfold s_qu
  cases b
  · rw [if_neg (by decide)]
    refine ⟨wr_qs_qu, wr_es_qu, wr_messages_qu, by rw [wr_qu, sUp_self]; rfl, by rw [wr_facts_qu]; exact Nat.le_succ _⟩
  · rw [if_pos rfl]
    refine ⟨by rw [wt_qs, wr_qs_qu], by rw [wt_es, wr_es_qu], by rw [wt_messages, wr_messages_qu], by rw [wt_qu, wr_qu, sUp_self]; rfl, by rw [wt_facts, wr_facts_qu, List.length_append]; exact Nat.le_refl _⟩
theorem dq5_es : (s_dq5 s q).es = s.es := by
  unfold s_dq5
  dsimp only
  rw [dq5_rows.1, s_two.2.1]
theorem s_delQ1_eq : s_delQ1 s q = s.es.foldl (fun s e => s_unbindAll s q e) (s_dq5 s q) := by
  rw [s_delQ1_dq5, dq5_es]
theorem sScope.qut (I : sScope s) {x : sQu} (hx : x.ents = (s.qu q).ents) (hl : x.last = (s.qu q).last) (ho : x.owner = (s.qu q).owner) : sScope (s.w_qu (sUp s.qu q x)) := I.quw (fun y hy => by rw [← hx]; exact hy) hl ho
theorem dq5_scope (I : sScope s) (hq : s.knd q = 33) : sScope (s_dq5 s q) := by
  have I1 : sScope (s_qu s q (fun x => x.w_there false)) := I.qut rfl rfl rfl
  have k1 : (s_qu s q (fun x => x.w_there false)).knd = s.knd := by
    unfold s_qu
    rw [wr_knd_qu]
  unfold s_dq5
  dsimp only
  have I2 : sScope (if s_kept (s.qu q) = true then s_tell (s_qu s q (fun x => x.w_there false)) 3 q else s_qu s q (fun x => x.w_there false)) := by
    split
    · exact I1.tell' (by decide) (by decide) (by rw [k1, hq]; decide)
    · exact I1
  revert I2
  generalize (if s_kept (s.qu q) = true then s_tell (s_qu s q (fun x => x.w_there false)) 3 q else s_qu s q (fun x => x.w_there false)) = s2
  intro I2
  have I3 := (I2.qsw (l := s2.qs.erase q) fun x hx => List.mem_of_mem_erase hx).gn (l := (s.qu q).ents) (j := (s.qu q).ents.length)
  revert I3
  generalize s_gn (s2.w_qs (s2.qs.erase q)) (s.qu q).ents (s.qu q).ents.length = s3
  intro I3
  exact (I3.quw (q := q) (x := (s3.qu q).w_ents []) (fun y hy => nomatch hy) rfl rfl).messages
theorem t_delQ1 (R : tR s0 F (b + 3 + 3 * s.es.length) s w g h) (I : sScope s) (hm : g.kind x0 = (1, 0)) (hx : g.kind x1 = (33, q)) (hi : q ∈ s.qs) (hnd : s.es.Nodup) (hcap : s.facts.length < 980000)
    (K : ∀ g1 h1, tR s0 F (b + 3 * (s_delQ1 s q).es.length) (s_delQ1 s q) w g1 h1 → sScope (s_delQ1 s q) → gL g g1 → zP s0 m_X8_delete (d + 4) 254 [some (zr x0), some (zr x1), none, some (.int (Int32.ofNat 0)), none, none, none] [] h1 Q E) :
    zX s0 m_X8_delete (d + 4) [zr x0, zr x1] h Q E := by
  have hq := R.ak (c := 33) (by decide) (by decide) hx
  have hel : s.es.length ≤ 12 := by
    have := R.2.ar5.le
    rw [List.length_map] at this
    exact this
  refine c_X8_delete ?_
  refine g_Pqu R hx ((s.qu q).w_there false) rfl (R.2.qu fun hk => R.2.2.2.2.2.2.2.2.1 q hk) fun h1 R1 _ => ?_
  have R1 : tR s0 F (b + 3 + 3 * s.es.length) (s_qu s q (fun x => x.w_there false)) w g h1 := R1
  have I1 : sScope (s_qu s q (fun x => x.w_there false)) := I.qut rfl rfl rfl
  have I5 := dq5_scope I hq
  rw [s_delQ1_eq] at K
  have hk1 : s_kept ((s_qu s q (fun x => x.w_there false)).qu q) = s_kept (s.qu q) := by
    show s_kept (sUp s.qu q _ q) = _
    rw [sUp_self]
    rfl
  refine ⟨⟨_, R1.1.cell hx (by decide)⟩, t_kept R1 hx ⟨_, rfl, ?_⟩⟩
  rw [sB_0, hk1]
  have hfin : ∀ (s2 : sSt) (g2 : sG) (h2 : zH), s2 = (if s_kept (s.qu q) = true then s_tell (s_qu s q (fun x => x.w_there false)) 3 q else s_qu s q (fun x => x.w_there false)) → tR s0 F (b + 3 * s.es.length) s2 w g2 h2 → sScope s2 → gL g g2 →
      zP s0 m_X8_delete (d + 4) 21 [some (zr x0), some (zr x1), none, none, none, none, none] [] h2 Q E := fun s2 g2 h2 e2 R2 I2 L2 => by
    obtain ⟨hqs, hes, hme, hqe, hfa⟩ := s_two (s := s) (q := q) (b := s_kept (s.qu q))
    rw [← e2] at hqs hes hme hqe hfa
    have h5 : s_dq5 s q = (s_qu (s_gn (s2.w_qs (s2.qs.erase q)) (s.qu q).ents (s.qu q).ents.length) q (fun x => x.w_ents [])).w_messages ((s2.w_qs (s2.qs.erase q)).messages - Int32.ofNat (s.qu q).ents.length) := by
      unfold s_dq5
      dsimp only
      rw [← e2, gn_messages]
    refine t_delQ_21 R2 I2 (L2.m hm) (L2.th (by decide) (by decide) hx) (by rw [hqs]; exact hi) fun g3 h3 R3 L3 => ?_
    have I3 : sScope (s2.w_qs (s2.qs.erase q)) := I2.qsw fun x hx => List.mem_of_mem_erase hx
    refine t_delQ_91 (s := s2.w_qs (s2.qs.erase q)) (l := (s.qu q).ents) hqe.symm I3 (L3.m (L2.m hm)) (L3.th (by decide) (by decide) (L2.th (by decide) (by decide) hx)) (fun h4 R4 => ?_) (s.qu q).ents.length 0 h3 (by omega) (by rw [gn_zero]; exact R3)
    have R4 : tR s0 F (b + 3 * s.es.length) (s_dq5 s q) w g3 h4 := by rw [h5]; exact R4
    have hes5 : (s_dq5 s q).es = s.es := dq5_es
    have hfa5 : (s_dq5 s q).facts = s2.facts := by rw [h5, dq5_rows.2]
    have h6 := t_delQ_135 (Q := Q) (E := E) (d := d) (q := q) (x0 := x0) (x1 := x1) s.es [] (s_dq5 s q) g3 h4 (by rw [hes5]; rfl) (by rw [hes5]; exact hnd) (by rw [hes5]; exact R4) I5 (L3.m (L2.m hm)) (L3.th (by decide) (by decide) (L2.th (by decide) (by decide) hx)) (by rw [hes5, hfa5]; omega)
      (fun g5 h5 R5 I6 L5 => K g5 h5 R5 I6 (L2.trans (L3.trans L5)))
    exact h6
  refine ⟨fun hr => ?_, fun hr => ⟨⟨_, R1.main hm⟩, ?_⟩⟩
  · exact hfin _ g h1 (by rw [hr, if_neg (by decide)]) (R1.less (by omega)) I1 (gL.refl g)
  · rw [Bool.not_eq_false] at hr
    rw [show b + 3 + 3 * s.es.length = b + 3 * s.es.length + 3 by omega] at R1
    refine t_tell (id := q) R1 hm (show s.facts.length < 1000000 by omega) ⟨fun e => absurd e (by decide), fun _ => (R1.1.at hx (by decide)).symm, fun e => absurd e (by decide), fun e => absurd e (by decide), by decide, by decide⟩ fun g2 h2 R2 L2 => ?_
    exact hfin _ g2 h2 (by rw [hr, if_pos rfl]) R2 (I1.tell' (by decide) (by decide) (by show s.knd q = _; rw [hq]; decide)) L2
end DR
