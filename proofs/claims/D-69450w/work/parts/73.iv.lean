/-! ===== what holds of the hall at all times; what may still be spent ===== -/
set_option maxRecDepth 100000
def sOk40 (o : Option sBy) : Prop := ∀ b, o = some b → b.length ≤ 40
def sTabOk (t : sTab) : Prop := t.raw.length ≤ 160 ∧ t.rows.length ≤ 54 ∧ ∀ w ∈ t.rows, w.1.length ≤ 40 ∧ w.2.2.2.length ≤ 40 ∧ (w.2.1 = 73 ∧ w.2.2.2 = [] ∨ w.2.1 = 116 ∧ w.2.2.2 = [] ∨ w.2.1 = 83 ∧ w.2.2.1 = 0)
def sHeadOk (c : sCont) : Prop := c.exch.length ≤ 40 ∧ c.key.length ≤ 40 ∧ (∀ t, c.heads = some t → sTabOk t) ∧ 0 ≤ c.prio ∧ c.prio ≤ 255 ∧ (c.expi = -1 ∨ (0 ≤ c.expi ∧ c.expi ≤ 4294967295))
def sContOk (c : sCont) : Prop := sHeadOk c ∧ c.body.length ≤ 200
def sExOk (x : sEx) : Prop := x.name.length ≤ 40 ∧ x.name ≠ [] ∧ sOk40 x.alt ∧ x.alt ≠ some [] ∧ 0 ≤ x.kind ∧ x.kind ≤ 3
def sQuOk (x : sQu) : Prop := x.name.length ≤ 40 ∧ x.name ≠ [] ∧ sOk40 x.dlx ∧ sOk40 x.dlk ∧ (x.max = -1 ∨ (1 ≤ x.max ∧ x.max ≤ 50)) ∧ (x.ttl = -1 ∨ (1 ≤ x.ttl ∧ x.ttl ≤ 1000)) ∧ 0 ≤ x.pri ∧ x.pri ≤ 9 ∧ (x.exc = true ↔ x.owner ≠ none)
def sChTx (k : sCh) : Prop := sOk40 k.lastq ∧ k.want ≤ 200 ∧ (k.junk = false → ∀ c, k.cont = some c → sHeadOk c ∧ c.body.length ≤ k.want ∧ (k.due = 2 → c.body = [] ∧ c.prio = 0 ∧ c.pers = false ∧ c.expi = -1 ∧ c.heads = none)) ∧ (∀ x ∈ k.kept, ∀ c, x.cont = some c → sContOk c) ∧ (k.due = 0 ∨ k.due = 2 ∨ k.due = 3) ∧ (k.due = 0 ↔ k.cont = none) ∧ 0 ≤ k.mode ∧ k.mode ≤ 2
/-- texts are as short as they may be -/
def sTx (s : sSt) : Prop := (∀ i, s.knd i = 32 → sExOk (s.ex i)) ∧ (∀ i, s.knd i = 33 → sQuOk (s.qu i)) ∧ (∀ i, s.knd i = 34 → (s.bi i).key.length ≤ 40 ∧ sTabOk (s.bi i).tab) ∧ (∀ i, s.knd i = 35 → (s.co i).tag.length ≤ 40 ∧ (s.co i).tag ≠ []) ∧
  (∀ i, s.knd i = 36 → sContOk (s.en i).cont ∧ (s.en i).exch.length ≤ 40 ∧ (s.en i).key.length ≤ 40 ∧ ((s.en i).expi = -1 ∨ (0 ≤ (s.en i).expi ∧ (s.en i).expi ≤ 4294967295))) ∧ (∀ x ∈ s.dead, x.exch.length ≤ 40 ∧ sOk40 x.key) ∧ (∀ h, isH h → sChTx (s.ch h))
/-- how many messages there are -/
def sEnts (s : sSt) : Nat := (s.qs.map (fun q => (s.qu q).ents.length)).sum
/-- the books of messages -/
def sMs (s : sSt) : Prop := s.qs.Nodup ∧ (∀ q, s.knd q = 33 → (s.qu q).ents.Nodup ∧ (q ∉ s.qs → (s.qu q).ents = []) ∧ ∀ m ∈ (s.qu q).ents, (s.en m).state = 0 ∨ (s.en m).state = 1) ∧ s.messages = Int32.ofNat (sEnts s) ∧ sEnts s ≤ 300
/-- what was sent and isn't acknowledged -/
def sSn (s : sSt) : Prop := (∀ h, isH h → (s.ch h).sent.Nodup ∧ (∀ x ∈ (s.ch h).sent, (s.en (s.se x).entry).state ≠ 0 ∧ ((s.en (s.se x).entry).state = 1 → (s.se x).entry ∈ (s.qu (s.en (s.se x).entry).queue).ents))) ∧
  (∀ h k, isH h → isH k → ∀ x ∈ (s.ch h).sent, ∀ y ∈ (s.ch k).sent, (s.en (s.se x).entry).state = 1 → (s.se x).entry = (s.se y).entry → h = k ∧ x = y) ∧
  (∀ h, isH h → (s.ch h).state = 1 → (∀ k ∈ (s.ch h).kept, ∀ x ∈ k.those, x ∈ (s.ch h).sent ∧ (s.se x).done = true))
/-- a message that was given away: it may be put back -/
def sFree (s : sSt) (m : Nat) : Prop := (s.en m).state = 1 → m ∈ (s.qu (s.en m).queue).ents ∧ ∀ k, isH k → ∀ y ∈ (s.ch k).sent, (s.se y).entry ≠ m
/-- sizes -/
def sCp (s : sSt) : Prop := s.es.Nodup ∧ s.bs.Nodup ∧ s.cs.Nodup ∧ s.es.length ≤ 12 ∧ s.qs.length ≤ 12 ∧ s.bs.length ≤ 40 ∧ s.cs.length ≤ 16 ∧ s.dead.length ≤ 300 ∧ (∀ x ∈ s.bs, (s.bi x).exch ∈ s.es ∧ (s.bi x).queue ∈ s.qs) ∧
  (∀ q, s.knd q = 33 → ∀ x, (s.qu q).last = some x → (s.co x).queue = q) ∧ (∀ i ∈ s.cs, ((s.qu (s.co i).queue).there = true ↔ (s.co i).queue ∈ s.qs)) ∧ (∀ h, isH h → (s.ch h).kept.length ≤ 32) ∧
  (∀ c, c < 4 → (s.cn c).inp.length ≤ 828 ∧ (s.cn c).out.length ≤ 5000 ∧ 0 ≤ (s.cn c).state ∧ (s.cn c).state ≤ 6) ∧ 0 ≤ s.lastNum ∧ s.lastNum ≤ 12000 ∧ s.tape.length ≤ 420 ∧
  (∀ q ∈ s.qs, ∀ p ∈ s.qs, (s.qu q).name = (s.qu p).name → q = p) ∧ (∀ q ∈ s.es, ∀ p ∈ s.es, (s.ex q).name = (s.ex p).name → q = p)
/-- what is safe: exchanges, queues, bindings, messages -/
abbrev sS4 : Type := List Nat × List Nat × List Nat × List Nat
/-- one record more is safe; fe, fq, mq: a binding's exchange and queue, a message's queue -/
def s_mk4 (fe fq mq : Nat → Nat) (t : sS4) (f : sFa) : sS4 :=
  if f.kind = 0 then (t.1 ++ [f.id], t.2) else
  if f.kind = 1 then (t.1.filter (fun e => !(e == f.id)), t.2.1, t.2.2.1.filter (fun b => !(fe b == f.id)), t.2.2.2) else
  if f.kind = 2 then (t.1, t.2.1 ++ [f.id], t.2.2) else
  if f.kind = 3 then (t.1, t.2.1.filter (fun q => !(q == f.id)), t.2.2.1.filter (fun b => !(fq b == f.id)), t.2.2.2.filter (fun m => !(mq m == f.id))) else
  if f.kind = 4 then (t.1, t.2.1, t.2.2.1 ++ [f.id], t.2.2.2) else
  if f.kind = 5 then (t.1, t.2.1, t.2.2.1.filter (fun b => !(b == f.id)), t.2.2.2) else
  if f.kind = 6 then (t.1, t.2.1, t.2.2.1, t.2.2.2 ++ [f.id]) else (t.1, t.2.1, t.2.2.1, t.2.2.2.filter (fun m => !(m == f.id)))
/-- what is safe once the first n records are -/
def sSafe (s : sSt) (n : Nat) : sS4 := (s.facts.take n).foldl (s_mk4 (fun x => (s.bi x).exch) (fun x => (s.bi x).queue) (fun m => (s.en m).queue)) (s.ses, s.sqs, s.sbs, s.sen)
def sRecM (s : sSt) (m : Nat) : Bool := s_rec (s.qu (s.en m).queue) (s.en m).cont
/-- lists of what is safe that may stand for a hall -/
def sFit (s : sSt) (t : sS4) : Prop := t.1.length ≤ 12 ∧ t.2.1.length ≤ 12 ∧ t.2.2.1.length ≤ 40 ∧ t.2.2.2.length ≤ 300 ∧ t.1.Nodup ∧ t.2.1.Nodup ∧ t.2.2.1.Nodup ∧
  (∀ e ∈ t.1, s.knd e = 32 ∧ (s.ex e).dur = true) ∧ (∀ q ∈ t.2.1, s.knd q = 33 ∧ s_kept (s.qu q) = true) ∧ (∀ x ∈ t.2.2.1, s.knd x = 34 ∧ (s.bi x).exch ∈ t.1 ∧ (s.bi x).queue ∈ t.2.1) ∧ (∀ m ∈ t.2.2.2, s.knd m = 36 ∧ (s.en m).queue ∈ t.2.1 ∧ sRecM s m = true ∧ 0 < (s.en m).number ∧ (s.en m).number ≤ s.lastNum) ∧
  (∀ q ∈ t.2.1, ∀ p ∈ t.2.1, (s.qu q).name = (s.qu p).name → q = p) ∧ (∀ q ∈ t.1, ∀ p ∈ t.1, (s.ex q).name = (s.ex p).name → q = p) ∧ (t.2.2.2.map (fun m => (s.en m).number)).Pairwise (· < ·)
/-- what the records tell -/
def sHi (s : sSt) : Prop := (∀ n, sFit s (sSafe s n)) ∧ (sSafe s s.facts.length).1 = s.es.filter (fun e => (s.ex e).dur) ∧ (sSafe s s.facts.length).2.1 = s.qs.filter (fun q => s_kept (s.qu q)) ∧
  (sSafe s s.facts.length).2.2.1 = s.bs.filter (fun x => (s.ex (s.bi x).exch).dur && s_kept (s.qu (s.bi x).queue)) ∧ (∀ m, m ∈ (sSafe s s.facts.length).2.2.2 ↔ (m ∈ (s.qu (s.en m).queue).ents ∧ (s.en m).queue ∈ s.qs ∧ sRecM s m = true)) ∧
  (∀ q, s.knd q = 33 → ((s.qu q).ents.map (fun m => (s.en m).number)).Pairwise (· < ·)) ∧ (∀ q, s.knd q = 33 → ∀ m ∈ (s.qu q).ents, 0 < (s.en m).number ∧ (s.en m).number ≤ s.lastNum)
def sI (s : sSt) : Prop := sScope s ∧ sTx s ∧ sMs s ∧ sSn s ∧ sCp s ∧ sHi s
/-- what the messages that there are and may still come, the dead, queues and exchanges may cost the twin -/
def tP (s : sSt) : Nat := 16 * (12000 - s.lastNum.toNatClampNeg) + 10 * sEnts s + 6 * s.dead.length + 4 * (s.es.length + s.qs.length)
/-- what makes arrays grow -/
def sWt (s : sSt) : Nat := s.facts.length + (s_hs.map (fun h => (s.ch h).sent.length + (s.ch h).confs.length)).sum
def tZ (s0 : zE) (F : Nat → Option zC) (b : Nat) (s : sSt) (w : tW) (g : sG) (h : zH) : Prop := tR s0 F (b + tP s) s w g h ∧ sI s ∧ sWt s + b + tP s ≤ 960000
/-- what an end, a step down, may change -/
def sDn (s s' : sSt) : Prop := (sI s → sI s') ∧ (sI s → tP s' ≤ tP s) ∧ (sI s → sWt s' + tP s' ≤ sWt s + tP s) ∧ s'.cs.Sublist s.cs ∧ s'.qs.Sublist s.qs ∧ s'.es.Sublist s.es ∧ s'.bs.Sublist s.bs ∧
  (∀ c, (s.cn c).state = 0 → (s'.cn c).state = 0) ∧ (∀ h, (s.ch h).confs = [] → (s'.ch h).confs = []) ∧ (∀ h, (s.ch h).state ≠ 1 → (s'.ch h).state ≠ 1) ∧ s'.knd = s.knd ∧ s'.next = s.next ∧ s'.clock = s.clock ∧ s'.co = s.co ∧ s'.bi = s.bi ∧ s'.se = s.se ∧ s'.lastNum = s.lastNum ∧
  (∀ j, ∃ e t l, s'.qu j = ((((s.qu j).w_ents e).w_there t).w_last l)) ∧ (∀ j, ∃ t, s'.ex j = (s.ex j).w_there t) ∧ (∀ j, ∃ t r, s'.en j = ((s.en j).w_state t).w_redel r) ∧ (∀ h, (s'.ch h).lastq = (s.ch h).lastq)
/-- how many connections are not closed -/
def sLive (s : sSt) : Nat := ((List.range 4).filter (fun c => !((s.cn c).state == 0))).length
/-- what is under way stays; confirms that were told may be forgotten -/
def tWk (s1 : sSt) (w w1 : tW) : Prop := w1.rd = w.rd ∧ w1.cl = w.cl ∧ w1.me = w.me ∧ w1.thr = w.thr ∧ w1.rt = w.rt ∧ ∀ h, w1.cd h = w.cd h ∨ (w1.cd h = 0 ∧ (s1.ch h).confs = [])
section IV
variable {s0 : zE} {F : Nat → Option zC} {b : Nat} {s s' s1 s2 : sSt} {w w' w1 w2 : tW} {g g' : sG} {h h' : zH}
theorem sI.sc (I : sI s) : sScope s := I.1
theorem sI.tx (I : sI s) : sTx s := I.2.1
theorem sI.ms (I : sI s) : sMs s := I.2.2.1
theorem sI.sn (I : sI s) : sSn s := I.2.2.2.1
theorem sI.cp (I : sI s) : sCp s := I.2.2.2.2.1
theorem sI.hi (I : sI s) : sHi s := I.2.2.2.2.2
theorem tZ.r (Z : tZ s0 F b s w g h) : tR s0 F (b + tP s) s w g h := Z.1
theorem tZ.i (Z : tZ s0 F b s w g h) : sI s := Z.2.1
theorem tZ.sc (Z : tZ s0 F b s w g h) : sScope s := Z.2.1.1
theorem tZ.c (Z : tZ s0 F b s w g h) : sWt s + b + tP s ≤ 960000 := Z.2.2
theorem tZ.less {b' : Nat} (Z : tZ s0 F b s w g h) (hb : b' ≤ b) : tZ s0 F b' s w g h := ⟨Z.1.less (by omega), Z.2.1, by have := Z.2.2; omega⟩
theorem tZ.facts (Z : tZ s0 F b s w g h) : s.facts.length ≤ 960000 := by
  have := Z.2.2
  unfold sWt at this
  omega
theorem mem_sum_le {f : Nat → Nat} {x : Nat} : ∀ {l : List Nat}, x ∈ l → f x ≤ (l.map f).sum
  | y :: l, hx => by
    rw [List.map_cons, List.sum_cons]
    rcases List.mem_cons.mp hx with e | e
    · rw [e]; omega
    · have := mem_sum_le (f := f) e
      omega
theorem tZ.sent (Z : tZ s0 F b s w g h) {j : Nat} (hj : isH j) : (s.ch j).sent.length + (s.ch j).confs.length ≤ 960000 := by
  have := Z.2.2
  unfold sWt at this
  have h2 := mem_sum_le (f := fun h => (s.ch h).sent.length + (s.ch h).confs.length) hj.hs
  omega
/-- a step: what it costs is paid out of b and what the state sets free -/
theorem tZ.step {b' : Nat} (R : tR s0 F (b' + tP s') s' w' g' h') (I : sI s') (hc : sWt s' + b' + tP s' ≤ 960000) : tZ s0 F b' s' w' g' h' := ⟨R, I, hc⟩
theorem sDn.refl (s : sSt) : sDn s s := ⟨id, fun _ => Nat.le_refl _, fun _ => Nat.le_refl _, List.Sublist.refl _, List.Sublist.refl _, List.Sublist.refl _, List.Sublist.refl _, fun _ h => h, fun _ h => h, fun _ h => h, rfl, rfl, rfl, rfl, rfl, rfl, rfl, fun j => ⟨_, _, _, rfl⟩, fun j => ⟨_, rfl⟩, fun j => ⟨_, _, rfl⟩, fun _ => rfl⟩
theorem sDn.trans (A : sDn s s1) (B : sDn s1 s2) : sDn s s2 := by
  obtain ⟨a1, a2, a3, a4, a5, a6, a7, a8, a9, a10, a11, a12, a13, a14, a15, a16, a17, a18, a19, a20, a21⟩ := A
  obtain ⟨b1, b2, b3, b4, b5, b6, b7, b8, b9, b10, b11, b12, b13, b14, b15, b16, b17, b18, b19, b20, b21⟩ := B
  refine ⟨fun I => b1 (a1 I), fun I => Nat.le_trans (b2 (a1 I)) (a2 I), fun I => Nat.le_trans (b3 (a1 I)) (a3 I), b4.trans a4, b5.trans a5, b6.trans a6, b7.trans a7, fun c hc => b8 c (a8 c hc), fun c hc => b9 c (a9 c hc), fun c hc => b10 c (a10 c hc), b11.trans a11, b12.trans a12, b13.trans a13, b14.trans a14, b15.trans a15, b16.trans a16, b17.trans a17,
    fun j => ?_, fun j => ?_, fun j => ?_, fun j => (b21 j).trans (a21 j)⟩
  · obtain ⟨e, t, l, h1⟩ := a18 j
    obtain ⟨e2, t2, l2, h2⟩ := b18 j
    exact ⟨e2, t2, l2, by rw [h2, h1]; rfl⟩
  · obtain ⟨t, h1⟩ := a19 j
    obtain ⟨t2, h2⟩ := b19 j
    exact ⟨t2, by rw [h2, h1]; rfl⟩
  · obtain ⟨t, l, h1⟩ := a20 j
    obtain ⟨t2, l2, h2⟩ := b20 j
    exact ⟨t2, l2, by rw [h2, h1]; rfl⟩
theorem sDn.live (D : sDn s s') : sLive s' ≤ sLive s := by
  unfold sLive
  rw [← List.countP_eq_length_filter, ← List.countP_eq_length_filter]
  refine List.countP_mono_left fun c _ hc => ?_
  by_cases e : (s.cn c).state = 0
  · have := D.2.2.2.2.2.2.2.1 c e
    rw [this] at hc
    exact absurd hc (by decide)
  · rw [beq_false_of_ne e]
    rfl
theorem tWk.refl : tWk s w w := ⟨rfl, rfl, rfl, rfl, rfl, fun _ => Or.inl rfl⟩
theorem tWk.trans (A : tWk s1 w w1) (B : tWk s2 w1 w2) (D : ∀ h, (s1.ch h).confs = [] → (s2.ch h).confs = []) : tWk s2 w w2 := by
  obtain ⟨a1, a2, a3, a4, a5, a6⟩ := A
  obtain ⟨b1, b2, b3, b4, b5, b6⟩ := B
  refine ⟨b1.trans a1, b2.trans a2, b3.trans a3, b4.trans a4, b5.trans a5, fun h => ?_⟩
  rcases b6 h with e | e
  · rcases a6 h with e1 | e1
    · exact Or.inl (e.trans e1)
    · exact Or.inr ⟨e.trans e1.1, D h e1.2⟩
  · exact Or.inr e
theorem tZ.dn {w : tW} {g : sG} {h : zH} (Z : tZ s0 F b s w g h) (D : sDn s s1) (R : tR s0 F (b + tP s1) s1 w1 g' h') : tZ s0 F b s1 w1 g' h' := ⟨R, D.1 Z.i, by
  have h1 := D.2.2.1 Z.i
  have h2 := Z.c
  omega⟩
end IV
