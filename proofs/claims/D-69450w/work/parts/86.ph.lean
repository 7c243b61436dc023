/-! ===== what holds where a message is handed on, where one comes ===== -/
set_option maxRecDepth 100000
section PH
variable {s s' s1 s2 : sSt} {m q e i h c n : Nat} {b : sBy}
theorem rec_qu {v : Nat → sQu} (hv : ∀ j, s_kept (v j) = s_kept (s.qu j)) (j : Nat) : sRecM (s.w_qu v) j = sRecM s j := by
  show s_rec (v (s.en j).queue) (s.en j).cont = s_rec (s.qu (s.en j).queue) (s.en j).cont
  unfold s_rec
  rw [hv]
/-- queues' last consumers change, no more -/
theorem sI.w_last (I : sI s) {v : Nat → sQu} (hv : ∀ j, v j = (s.qu j).w_last (v j).last) (hvl : ∀ j x, (v j).last = some x → (s.knd x = 35 ∧ (s.co x).queue = j) ∨ (s.qu j).last = some x) : sI (s.w_qu v) := by
  have hr : ∀ j, (v j).ents = (s.qu j).ents ∧ (v j).name = (s.qu j).name ∧ s_kept (v j) = s_kept (s.qu j) ∧ (v j).there = (s.qu j).there ∧ (v j).owner = (s.qu j).owner := fun j => by
    rw [hv j]
    exact ⟨rfl, rfl, rfl, rfl, rfl⟩
  have hok : ∀ j, sQuOk (s.qu j) → sQuOk (v j) := fun j h => by
    rw [hv j]
    exact h
  have hE : sEnts (s.w_qu v) = sEnts s := by
    show (s.qs.map (fun q => (v q).ents.length)).sum = (s.qs.map (fun q => (s.qu q).ents.length)).sum
    rw [List.map_congr_left fun q _ => by rw [(hr q).1]]
  have hrec := rec_qu (s := s) (v := v) fun j => (hr j).2.2.1
  have hsa : ∀ n, sSafe (s.w_qu v) n = sSafe s n := fun n => rfl
  have hfit : ∀ t, sFit s t → sFit (s.w_qu v) t := fun t H => by
    obtain ⟨a1, a2, a3, a4, a5, a6, a7, a8, a9, a10, a11, a12, a13, a14⟩ := H
    refine ⟨a1, a2, a3, a4, a5, a6, a7, a8, fun q hq => ?_, a10, fun x hx => ?_, fun q hq p hp he => ?_, a13, a14⟩
    · show s.knd q = 33 ∧ s_kept (v q) = true
      rw [(hr q).2.2.1]
      exact a9 q hq
    · rw [hrec]
      exact a11 x hx
    · have he : (v q).name = (v p).name := he
      rw [(hr q).2.1, (hr p).2.1] at he
      exact a12 q hq p hp he
  refine ⟨?_, ?_, ?_, ?_, ?_, ?_⟩
  · obtain ⟨a1, a2, a3, a4, a5, a6, a7, a8, a9, a10, a11⟩ := I.sc
    refine ⟨a1, a2, a3, a4, a5, a6, a7, a8, a9, fun j hj => ?_, a11⟩
    show (∀ m ∈ (v j).ents, s.knd m = 36 ∧ (s.en m).queue = j) ∧ (∀ y, (v j).last = some y → s.knd y = 35) ∧ (∀ c, (v j).owner = some c → c < 4)
    rw [(hr j).1, (hr j).2.2.2.2]
    obtain ⟨b1, b2, b3⟩ := a10 j hj
    exact ⟨b1, fun y hy => (hvl j y hy).elim (fun h => h.1) (b2 y), b3⟩
  · obtain ⟨a1, a2, a3⟩ := I.tx
    exact ⟨a1, fun j hj => hok j (a2 j hj), a3⟩
  · obtain ⟨a1, a2, a3, a4⟩ := I.ms
    refine ⟨a1, fun j hj => ?_, by rw [hE]; exact a3, by rw [hE]; exact a4⟩
    show (v j).ents.Nodup ∧ (j ∉ s.qs → (v j).ents = []) ∧ ∀ m ∈ (v j).ents, _
    rw [(hr j).1]
    exact a2 j hj
  · obtain ⟨a1, a2, a3⟩ := I.sn
    refine ⟨fun h hh => ⟨(a1 h hh).1, fun x hx => ⟨((a1 h hh).2 x hx).1, fun hs => ?_⟩⟩, a2, a3⟩
    show _ ∈ (v _).ents
    rw [(hr _).1]
    exact ((a1 h hh).2 x hx).2 hs
  · obtain ⟨a1, a2, a3, a4, a5, a6, a7, a8, a9, a10, a11, a12, a13, a14, a15, a16, a17, a18⟩ := I.cp
    refine ⟨a1, a2, a3, a4, a5, a6, a7, a8, a9, fun j hj x hx => (hvl j x hx).elim (fun h => h.2) (a10 j hj x), fun x hx => ?_, a12, a13, a14, a15, a16, fun q hq p hp he => ?_, a18⟩
    · show (v _).there = true ↔ _
      rw [(hr _).2.2.2.1]
      exact a11 x hx
    · have he : (v q).name = (v p).name := he
      rw [(hr q).2.1, (hr p).2.1] at he
      exact a17 q hq p hp he
  · obtain ⟨a1, a2, a3, a4, a5, a6, a7⟩ := I.hi
    refine ⟨fun n => hfit _ (a1 n), a2, ?_, ?_, fun m => ?_, fun j hj => ?_, fun j hj x hx => ?_⟩
    · refine a3.trans (List.filter_congr fun q _ => ?_)
      show s_kept (s.qu q) = s_kept (v q)
      exact (hr q).2.2.1.symm
    · refine a4.trans (List.filter_congr fun x _ => ?_)
      show _ = ((s.ex (s.bi x).exch).dur && s_kept (v (s.bi x).queue))
      rw [(hr _).2.2.1]
    · rw [hrec]
      show _ ↔ (m ∈ (v (s.en m).queue).ents ∧ _)
      rw [(hr _).1]
      exact a5 m
    · show ((v j).ents.map (fun m => (s.en m).number)).Pairwise _
      rw [(hr j).1]
      exact a6 j hj
    · have hx : x ∈ (v j).ents := hx
      rw [(hr j).1] at hx
      exact a7 j hj x hx
theorem last_up (o : Option Nat) : ∀ j, sUp s.qu q ((s.qu q).w_last o) j = (s.qu j).w_last (sUp s.qu q ((s.qu q).w_last o) j).last := fun j => by
  by_cases ej : j = q
  · subst ej
    rw [sUp_self]
    rfl
  · rw [sUp_ne ej]
    rfl
theorem d_last (hk : s.knd i = 35) (hq : (s.co i).queue = q) : sDn s (s_qu s q (fun x => x.w_last (some i))) := by
  have hv := last_up (s := s) (q := q) (some i)
  have hvl : ∀ j x, (sUp s.qu q ((s.qu q).w_last (some i)) j).last = some x → (s.knd x = 35 ∧ (s.co x).queue = j) ∨ (s.qu j).last = some x := fun j x hx => by
    by_cases ej : j = q
    · subst ej
      rw [sUp_self] at hx
      obtain rfl : i = x := Option.some.inj hx
      exact Or.inl ⟨hk, hq⟩
    · rw [sUp_ne ej] at hx
      exact Or.inr hx
  unfold s_qu
  revert hv hvl
  generalize sUp s.qu q ((s.qu q).w_last (some i)) = v
  intro hv hvl
  have hE : sEnts (s.w_qu v) = sEnts s := by
    show (s.qs.map (fun q => (v q).ents.length)).sum = (s.qs.map (fun q => (s.qu q).ents.length)).sum
    exact congrArg List.sum (List.map_congr_left fun q _ => by rw [hv q]; exact rfl)
  have hp : tP (s.w_qu v) = tP s := by
    show 16 * (12000 - s.lastNum.toNatClampNeg) + 10 * sEnts (s.w_qu v) + 6 * s.dead.length + 4 * (s.es.length + s.qs.length) = _
    rw [hE]
    rfl
  have hw : sWt (s.w_qu v) = sWt s := rfl
  exact ⟨fun I => I.w_last hv hvl, fun _ => Nat.le_of_eq hp, fun _ => by rw [hp, hw]; exact Nat.le_refl _, List.Sublist.refl _, List.Sublist.refl _, List.Sublist.refl _, List.Sublist.refl _, fun _ h => h, fun _ h => h, fun _ h => h, rfl, rfl, rfl, rfl, rfl, rfl, rfl,
    fun j => ⟨(s.qu j).ents, (s.qu j).there, (v j).last, by show v j = _; rw [hv j]; exact rfl⟩, fun j => ⟨_, rfl⟩, fun j => ⟨_, _, rfl⟩, fun _ => rfl⟩
theorem rdy_last {o : Option Nat} : sRdy (s_qu s q (fun x => x.w_last o)) = sRdy s := by
  have hv := last_up (s := s) (q := q) o
  unfold s_qu
  revert hv
  generalize sUp s.qu q ((s.qu q).w_last o) = v
  intro hv
  show (s.qs.map (fun q => ((v q).ents.filter (fun m => (s.en m).state == 0)).length)).sum = (s.qs.map (fun q => ((s.qu q).ents.filter (fun m => (s.en m).state == 0)).length)).sum
  exact congrArg List.sum (List.map_congr_left fun q _ => by rw [hv q]; exact rfl)
theorem tY_last {o : Option Nat} : tY (s_qu s q (fun x => x.w_last o)) = tY s := by
  unfold tY
  rw [rdy_last]
  rfl
theorem sI.taken (I : sI s) (h0 : (s.en m).state = 0) : sI (s_en s m (fun e => e.w_state 1)) := by
  have hE : sEs s.en (sUp s.en m ((s.en m).w_state 1)) := sEs.up ⟨rfl, rfl, rfl, rfl, rfl, rfl⟩
  have hst : ∀ j, (sUp s.en m ((s.en m).w_state 1) j).state = if j = m then 1 else (s.en j).state := fun j => by
    by_cases ej : j = m
    · subst ej
      rw [sUp_self, if_pos rfl]
      rfl
    · rw [sUp_ne ej, if_neg ej]
  obtain ⟨a1, a2, a3⟩ := I.sn
  have hfree : ∀ h, isH h → ∀ x ∈ (s.ch h).sent, (s.se x).entry ≠ m := fun h hh x hx e => ((a1 h hh).2 x hx).1 (by rw [e]; exact h0)
  unfold s_en
  refine ⟨I.sc.enw rfl, I.tx.w_en hE, I.ms.w_en fun j => ?_, ?_, I.cp.w_en, I.hi.w_en hE⟩
  · rw [hst]
    split
    · exact Or.inr (Or.inr rfl)
    · exact Or.inl rfl
  · refine ⟨fun h hh => ⟨(a1 h hh).1, fun x hx => ?_⟩, fun h k hh hk2 x hx y hy h1 he => ?_, a3⟩
    · have hne : (s.se x).entry ≠ m := hfree h hh x hx
      show (sUp s.en m _ (s.se x).entry).state ≠ 0 ∧ ((sUp s.en m _ (s.se x).entry).state = 1 → (s.se x).entry ∈ (s.qu (sUp s.en m _ (s.se x).entry).queue).ents)
      rw [sUp_ne hne]
      exact (a1 h hh).2 x hx
    · have hne : (s.se x).entry ≠ m := hfree h hh x hx
      have h1' : (sUp s.en m ((s.en m).w_state 1) (s.se x).entry).state = 1 := h1
      rw [sUp_ne hne] at h1'
      exact a2 h k hh hk2 x hx y hy h1' he
theorem sI.sent (I : sI s) (hj : isH h) {V : Nat → sCh} (hV : V h = (s.ch h).w_sent ((s.ch h).sent ++ [n])) (hV2 : ∀ k, k ≠ h → V k = s.ch k) (hn : s.knd n = 37) (hnew : ∀ k, isH k → n ∉ (s.ch k).sent)
    (h1 : (s.en (s.se n).entry).state ≠ 0 ∧ ((s.en (s.se n).entry).state = 1 → (s.se n).entry ∈ (s.qu (s.en (s.se n).entry).queue).ents)) (hfree : ∀ k, isH k → ∀ x ∈ (s.ch k).sent, (s.se x).entry ≠ (s.se n).entry) : sI (s.w_ch V) := by
  have hm : ∀ k x, x ∈ (V k).sent → x ∈ (s.ch k).sent ∨ (k = h ∧ x = n) := fun k x hx => by
    by_cases e : k = h
    · subst e
      rw [hV] at hx
      exact (List.mem_append.mp hx).imp id fun e => ⟨rfl, List.mem_singleton.mp e⟩
    · rw [hV2 k e] at hx
      exact Or.inl hx
  have hm2 : ∀ k x, x ∈ (s.ch k).sent → x ∈ (V k).sent := fun k x hx => by
    by_cases e : k = h
    · subst e
      rw [hV]
      exact List.mem_append_left _ hx
    · rw [hV2 k e]
      exact hx
  have hr : ∀ k, (V k).kept = (s.ch k).kept ∧ (V k).state = (s.ch k).state ∧ (sChTx (s.ch k) → sChTx (V k)) ∧ ((s.ch k).sent.Nodup → isH k → (V k).sent.Nodup) := fun k => by
    by_cases e : k = h
    · subst e
      rw [hV]
      refine ⟨rfl, rfl, fun hx => hx, fun hx hk => ?_⟩
      show ((s.ch k).sent ++ [n]).Nodup
      rw [List.nodup_append]
      refine ⟨hx, List.nodup_cons.mpr ⟨List.not_mem_nil, List.nodup_nil⟩, fun a ha b hb e => hnew k hk ?_⟩
      rw [← List.mem_singleton.mp hb, ← e]
      exact ha
    · rw [hV2 k e]
      exact ⟨rfl, rfl, fun hx => hx, fun hx _ => hx⟩
  obtain ⟨a1, a2, a3⟩ := I.sn
  have hent : ∀ k, isH k → ∀ x ∈ (V k).sent, (s.en (s.se x).entry).state ≠ 0 ∧ ((s.en (s.se x).entry).state = 1 → (s.se x).entry ∈ (s.qu (s.en (s.se x).entry).queue).ents) := fun k hk x hx => by
    rcases hm k x hx with e | ⟨-, rfl⟩
    · exact (a1 k hk).2 x e
    · exact h1
  refine ⟨I.sc.w_ch fun k hk => ⟨fun x hx => ?_, ?_⟩, I.tx.w_ch fun k hk => (hr k).2.2.1 (I.tx.ch k hk), I.ms.w_ch, ⟨fun k hk => ⟨(hr k).2.2.2 (a1 k hk).1 hk, hent k hk⟩, fun k l hk hl x hx y hy hs he => ?_, fun k hk hs => ?_⟩, I.cp.w_ch fun k hk => ?_, I.hi.w_ch⟩
  · rcases hm k x hx with e | ⟨-, rfl⟩
    · exact (I.sc.ch k hk).1 x e
    · exact hn
  · rw [(hr k).1]
    exact (I.sc.ch k hk).2
  · rcases hm k x hx with e | ⟨e1, e2⟩
    · rcases hm l y hy with f | ⟨f1, f2⟩
      · exact a2 k l hk hl x e y f hs he
      · have he : (s.se x).entry = (s.se y).entry := he
        rw [f2] at he
        exact absurd he (hfree k hk x e)
    · rcases hm l y hy with f | ⟨f1, f2⟩
      · have he : (s.se x).entry = (s.se y).entry := he
        rw [e2] at he
        exact absurd he.symm (hfree l hl y f)
      · exact ⟨e1.trans f1.symm, e2.trans f2.symm⟩
  · have hs : (V k).state = 1 := hs
    show ∀ y ∈ (V k).kept, ∀ x ∈ y.those, x ∈ (V k).sent ∧ (s.se x).done = true
    rw [(hr k).2.1] at hs
    rw [(hr k).1]
    intro y hy x hx
    have := a3 k hk hs y hy x hx
    exact ⟨hm2 k x this.1, this.2⟩
  · rw [(hr k).1]
    exact I.cp.kept k hk
theorem sum_up {f g : Nat → Nat} {j k : Nat} {l : List Nat} (hn : l.Nodup) (hj : j ∈ l) (hg : ∀ x ∈ l, g x = if x = j then f j + k else f x) : (l.map g).sum = (l.map f).sum + k := by
  have h1 := sum_cut (f := fun x => if x = j then f j + k else f x) (l := l) (j := j) (k := k) hn hj (by show k ≤ if j = j then f j + k else f j; rw [if_pos rfl]; omega)
  rw [List.map_congr_left hg, ← h1]
  congr 2
  refine List.map_congr_left fun x _ => ?_
  by_cases e : x = j
  · subst e
    rw [if_pos rfl]
    show (if x = x then f x + k else f x) - k = f x
    rw [if_pos rfl]
    omega
  · rw [if_neg e]
    show (if x = j then f j + k else f x) = f x
    rw [if_neg e]
theorem s_hand_t {o : Option Nat} : s_hand s h m o true = s_leaves (s_ch s h (fun k => k.w_tag (k.tag + 1))) m := rfl
theorem s_hand_f {o : Option Nat} : s_hand s h m o false = s_ch (s_b37 (s_en (s_ch s h (fun k => k.w_tag (k.tag + 1))) m (fun e => e.w_state 1)) (((s_ch s h (fun k => k.w_tag (k.tag + 1))).ch h).tag, m, o, false)) h (fun k => k.w_sent (k.sent ++ [(s_en (s_ch s h (fun k => k.w_tag (k.tag + 1))) m (fun e => e.w_state 1)).next])) := rfl
theorem sI.tagUp (I : sI s) (hj : isH h) {v : Int32} : sI (s_ch s h (fun k => k.w_tag v)) := by
  unfold s_ch
  exact I.chUp ⟨(I.sn.1 h hj).1, fun _ hx => hx⟩ (fun _ hx => hx) (fun hx => hx) (Nat.le_refl _) fun e => I.sn.2.2 h hj e
theorem tP_en {v : Nat → sEn} : tP (s.w_en v) = tP s := rfl
theorem sWt_en {v : Nat → sEn} : sWt (s.w_en v) = sWt s := rfl
theorem live_en {v : Nat → sEn} : sLive (s.w_en v) = sLive s := rfl
theorem rdy_take (I : sI s) (hk : s.knd m = 36) (hm : m ∈ (s.qu (s.en m).queue).ents) (h0 : (s.en m).state = 0) : sRdy (s_en s m (fun e => e.w_state 1)) + 1 = sRdy s := by
  have hq := I.sc.en m hk
  refine rdy_off (q := (s.en m).queue) (m := m) I.ms.1 rfl (I.ms.mem hq hm) (List.mem_filter.mpr ⟨hm, by rw [h0]; rfl⟩) fun j hj => ?_
  have hnd := (I.ms.2.1 j (I.sc.qs j hj)).1
  have hst : ∀ x, x ≠ m → ((sUp s.en m ((s.en m).w_state 1) x).state == 0) = ((s.en x).state == 0) := fun x hx => by rw [sUp_ne hx]
  have hst2 : ((sUp s.en m ((s.en m).w_state 1) m).state == 0) = false := by rw [sUp_self]; exact rfl
  show (s.qu j).ents.filter (fun x => (sUp s.en m ((s.en m).w_state 1) x).state == 0) = _
  by_cases ej : j = (s.en m).queue
  · rw [if_pos ej, ← ej]
    exact filter_off hnd hst hst2
  · rw [if_neg ej]
    refine List.filter_congr fun x hx => hst x fun e => ej ?_
    subst e
    exact ((I.sc.qu j (I.sc.qs j hj)).1 x hx).2.symm
/-- what was sent is noted -/
theorem p_hd3 {s3 : sSt} (I3 : sI s3) (hj : isH h) (n3 : s3.knd n = 37) (a3 : (s3.se n).entry = m) (f3 : ∀ k, isH k → ∀ x ∈ (s3.ch k).sent, x ≠ n ∧ (s3.se x).entry ≠ m) (g3 : (s3.en m).state = 1 ∧ m ∈ (s3.qu (s3.en m).queue).ents) :
    sI (s_ch s3 h (fun k => k.w_sent (k.sent ++ [n]))) ∧ tP (s_ch s3 h (fun k => k.w_sent (k.sent ++ [n]))) = tP s3 ∧ sWt (s_ch s3 h (fun k => k.w_sent (k.sent ++ [n]))) = sWt s3 + 1 ∧ tY (s_ch s3 h (fun k => k.w_sent (k.sent ++ [n]))) = tY s3 := by
  unfold s_ch
  refine ⟨I3.sent hj sUp_self (fun k hk => sUp_ne hk) n3 (fun k hk hx => (f3 k hk _ hx).1 rfl) (by rw [a3]; exact ⟨by rw [g3.1]; decide, fun _ => g3.2⟩) (fun k hk x hx => by rw [a3]; exact (f3 k hk x hx).2), tP_ch, ?_, tY_ch⟩
  unfold sWt
  have := sum_up (f := fun h => (s3.ch h).sent.length + (s3.ch h).confs.length) (g := fun k => ((s3.w_ch (sUp s3.ch h ((s3.ch h).w_sent ((s3.ch h).sent ++ [n])))).ch k).sent.length + ((s3.w_ch (sUp s3.ch h ((s3.ch h).w_sent ((s3.ch h).sent ++ [n])))).ch k).confs.length) (j := h) (k := 1) (l := s_hs) (by decide) hj.hs fun x _ => by
    show (sUp s3.ch h _ x).sent.length + (sUp s3.ch h _ x).confs.length = _
    by_cases e : x = h
    · subst e
      rw [sUp_self, if_pos rfl]
      show ((s3.ch x).sent ++ [n]).length + (s3.ch x).confs.length = _
      rw [List.length_append, List.length_singleton]
      omega
    · rw [sUp_ne e, if_neg e]
  rw [this]
  exact (Nat.add_assoc ..).symm
theorem p_hd2 {s2 : sSt} (I2 : sI s2) (hj : isH h) (hk : s2.knd m = 36) (hm : m ∈ (s2.qu (s2.en m).queue).ents) (h1 : (s2.en m).state = 1) (hfree : ∀ k, isH k → ∀ x ∈ (s2.ch k).sent, (s2.se x).entry ≠ m) {o : Option Nat} (ho : ∀ y, o = some y → s2.knd y = 35) {tag : Int32} :
    sI (s_ch (s_b37 s2 (tag, m, o, false)) h (fun k => k.w_sent (k.sent ++ [s2.next]))) ∧ tP (s_ch (s_b37 s2 (tag, m, o, false)) h (fun k => k.w_sent (k.sent ++ [s2.next]))) = tP s2 ∧ sWt (s_ch (s_b37 s2 (tag, m, o, false)) h (fun k => k.w_sent (k.sent ++ [s2.next]))) = sWt s2 + 1 ∧
      tY (s_ch (s_b37 s2 (tag, m, o, false)) h (fun k => k.w_sent (k.sent ++ [s2.next]))) = tY s2 := by
  have B := bn37 (s := s2) (v := (tag, m, o, false))
  have Isc : sScope (s_b37 s2 (tag, m, o, false)) := I2.sc.born B b37_next (by decide) (fun e => absurd e (by decide)) (fun e => absurd e (by decide)) (fun e => absurd e (by decide)) (fun e => absurd e (by decide)) (fun _ => by
    rw [b37_at]
    exact ⟨hk, ho⟩)
  have I3 := I2.born B Isc b37_messages b37_lastNum (fun e => absurd e (by decide)) (fun e => absurd e (by decide)) (fun e => absurd e (by decide)) (fun e => absurd e (by decide)) (fun e => absurd e (by decide))
  have P3 := tP_born I2.sc B b37_lastNum
  have W3 := sWt_born B
  have Y3 := tY_born I2.sc B b37_lastNum
  have n3 : (s_b37 s2 (tag, m, o, false)).knd s2.next = 37 := by rw [b37_knd]; exact sUp_self
  have a3 : ((s_b37 s2 (tag, m, o, false)).se s2.next).entry = m := by
    rw [b37_at]
    exact rfl
  have f3 : ∀ k, isH k → ∀ x ∈ ((s_b37 s2 (tag, m, o, false)).ch k).sent, x ≠ s2.next ∧ ((s_b37 s2 (tag, m, o, false)).se x).entry ≠ m := fun k hk x hx => by
    rw [b37_ch] at hx
    have hx2 := I2.sc.old ((I2.sc.ch k hk).1 x hx) (by decide)
    rw [b37_se, sUp_ne hx2]
    exact ⟨hx2, hfree k hk x hx⟩
  have g3 : ((s_b37 s2 (tag, m, o, false)).en m).state = 1 ∧ m ∈ ((s_b37 s2 (tag, m, o, false)).qu ((s_b37 s2 (tag, m, o, false)).en m).queue).ents := by
    rw [b37_en, b37_qu]
    exact ⟨h1, hm⟩
  clear Isc B
  generalize s_b37 s2 (tag, m, o, false) = s3 at *
  obtain ⟨q1, q2, q3, q4⟩ := p_hd3 I3 hj n3 a3 f3 g3
  exact ⟨q1, q2.trans P3, by rw [q3, W3], q4.trans Y3⟩
theorem p_hd (I : sI s) (hj : isH h) (hk : s.knd m = 36) (hm : m ∈ (s.qu (s.en m).queue).ents) (h0 : (s.en m).state = 0) {o : Option Nat} (ho : ∀ y, o = some y → s.knd y = 35) {tag : Int32} :
    sI (s_ch (s_b37 (s_en s m (fun e => e.w_state 1)) (tag, m, o, false)) h (fun k => k.w_sent (k.sent ++ [(s_en s m (fun e => e.w_state 1)).next]))) ∧ tP (s_ch (s_b37 (s_en s m (fun e => e.w_state 1)) (tag, m, o, false)) h (fun k => k.w_sent (k.sent ++ [(s_en s m (fun e => e.w_state 1)).next]))) = tP s ∧
      sWt (s_ch (s_b37 (s_en s m (fun e => e.w_state 1)) (tag, m, o, false)) h (fun k => k.w_sent (k.sent ++ [(s_en s m (fun e => e.w_state 1)).next]))) = sWt s + 1 ∧ tY (s_ch (s_b37 (s_en s m (fun e => e.w_state 1)) (tag, m, o, false)) h (fun k => k.w_sent (k.sent ++ [(s_en s m (fun e => e.w_state 1)).next]))) + 3 = tY s := by
  have hfree : ∀ k, isH k → ∀ x ∈ (s.ch k).sent, (s.se x).entry ≠ m := fun k hk x hx e => ((I.sn.1 k hk).2 x hx).1 (by rw [e]; exact h0)
  have I2 := I.taken h0
  have r2 := rdy_take I hk hm h0
  have e2 : (s_en s m (fun e => e.w_state 1)).en m = (s.en m).w_state 1 := by
    unfold s_en
    rw [wr_en, sUp_self]
  have q2 : (s_en s m (fun e => e.w_state 1)).qu = s.qu := wr_qu_en
  have c2 : (s_en s m (fun e => e.w_state 1)).ch = s.ch := wr_ch_en
  have d2 : (s_en s m (fun e => e.w_state 1)).se = s.se := wr_se_en
  have k2 : (s_en s m (fun e => e.w_state 1)).knd = s.knd := wr_knd_en
  have P2 : tP (s_en s m (fun e => e.w_state 1)) = tP s := tP_en
  have W2 : sWt (s_en s m (fun e => e.w_state 1)) = sWt s := sWt_en
  have l2 : (s_en s m (fun e => e.w_state 1)).lastNum = s.lastNum := wr_lastNum_en
  have v2 : sLive (s_en s m (fun e => e.w_state 1)) = sLive s := live_en
  have s2e : ∀ y : sEn, (y.w_state 1).state = 1 ∧ (y.w_state 1).queue = y.queue := fun y => ⟨rfl, rfl⟩
  generalize s_en s m (fun e => e.w_state 1) = s2 at *
  have Y2 : tY s2 + 3 = tY s := by
    unfold tY
    rw [l2, v2]
    omega
  obtain ⟨a1, a2, a3, a4⟩ := p_hd2 (tag := tag) I2 hj (by rw [k2]; exact hk) (by rw [e2, (s2e _).2, q2]; exact hm) (by rw [e2]; exact (s2e _).1) (fun k hk x hx => by rw [d2]; rw [c2] at hx; exact hfree k hk x hx) (fun y hy => by rw [k2]; exact ho y hy)
  exact ⟨a1, a2.trans P2, by rw [a3, W2], by rw [a4]; exact Y2⟩
theorem p_hand (I : sI s) (hj : isH h) (hk : s.knd m = 36) (hm : m ∈ (s.qu (s.en m).queue).ents) (h0 : (s.en m).state = 0) {o : Option Nat} (ho : ∀ y, o = some y → s.knd y = 35) {fr : Bool} :
    sI (s_hand s h m o fr) ∧ tP (s_hand s h m o fr) ≤ tP s ∧ sWt (s_hand s h m o fr) + tP (s_hand s h m o fr) ≤ sWt s + tP s + 1 ∧ tY (s_hand s h m o fr) + 3 ≤ tY s := by
  have I1 := I.tagUp hj (v := (s.ch h).tag + 1)
  have P1 : tP (s_ch s h (fun k => k.w_tag ((s.ch h).tag + 1))) = tP s := tP_ch
  have W1 : sWt (s_ch s h (fun k => k.w_tag ((s.ch h).tag + 1))) ≤ sWt s := sWt_ch fun x => by
    by_cases e : x = h
    · subst e
      rw [sUp_self]
      exact Nat.le_refl _
    · rw [sUp_ne e]
      exact Nat.le_refl _
  have Y1 : tY (s_ch s h (fun k => k.w_tag ((s.ch h).tag + 1))) = tY s := tY_ch
  have k1 : (s_ch s h (fun k => k.w_tag ((s.ch h).tag + 1))).knd = s.knd := wr_knd_ch
  have n1 : (s_ch s h (fun k => k.w_tag ((s.ch h).tag + 1))).en = s.en := wr_en_ch
  have q1 : (s_ch s h (fun k => k.w_tag ((s.ch h).tag + 1))).qu = s.qu := wr_qu_ch
  cases fr with
  | false =>
    rw [s_hand_f]
    have hh : s_ch s h (fun k => k.w_tag (k.tag + 1)) = s_ch s h (fun k => k.w_tag ((s.ch h).tag + 1)) := rfl
    rw [hh]
    revert I1 P1 W1 Y1 k1 n1 q1
    generalize s_ch s h (fun k => k.w_tag ((s.ch h).tag + 1)) = s1
    intro I1 P1 W1 Y1 k1 n1 q1
    obtain ⟨a1, a2, a3, a4⟩ := p_hd I1 hj (by rw [k1]; exact hk) (by rw [n1, q1]; exact hm) (by rw [n1]; exact h0) (fun y hy => by rw [k1]; exact ho y hy) (tag := (s1.ch h).tag)
    exact ⟨a1, by omega, by omega, by omega⟩
  | true =>
    rw [s_hand_t]
    have hh : s_ch s h (fun k => k.w_tag (k.tag + 1)) = s_ch s h (fun k => k.w_tag ((s.ch h).tag + 1)) := rfl
    rw [hh]
    revert I1 P1 W1 Y1 k1 n1 q1
    generalize s_ch s h (fun k => k.w_tag ((s.ch h).tag + 1)) = s1
    intro I1 P1 W1 Y1 k1 n1 q1
    have hk2 : s1.knd m = 36 := by rw [k1]; exact hk
    have hm2 : m ∈ (s1.qu (s1.en m).queue).ents := by rw [n1, q1]; exact hm
    have D := d_leaves I1 hk2 hm2
    have hr := rdy_lf I1 hk2 hm2 (by rw [n1]; exact h0) lf_leaves
    have L := lf_leaves (s := s1) (m := m)
    have hy : tY (s_leaves s1 m) + 3 = tY s1 := by
      unfold tY
      rw [sLive_same (s := s1) (s' := s_leaves s1 m) (fun c => by rw [L.1.2.1]), L.2.1.2.2.1]
      omega
    have p2 := D.2.1 I1
    have p3 := D.2.2.1 I1
    exact ⟨D.1 I1, by omega, by omega, by omega⟩
end PH
