/-! ===== what may still be delivered; what holds where a thing is new ===== -/
set_option maxRecDepth 100000
/-- how many messages are ready -/
def sRdy (s : sSt) : Nat := (s.qs.map (fun q => (s_ready s q).length)).sum
/-- what deliveries may still cost: those ready, those that may come, those put back where connections end -/
def tY (s : sSt) : Nat := 3 * (sRdy s + (12000 - s.lastNum.toNatClampNeg) + 300 * sLive s)
section YD
variable {s s' s1 s2 : sSt} {m q e i h c : Nat} {b : sBy}
theorem rdy_le : sRdy s ≤ sEnts s := by
  unfold sRdy sEnts
  exact sum_mono fun q _ => List.length_filter_le _ _
theorem tY_live (I' : sI s') (hl : s'.lastNum = s.lastNum) (hv : sLive s' < sLive s) : tY s' ≤ tY s := by
  have h1 : sRdy s' ≤ 300 := Nat.le_trans rdy_le I'.ms.2.2.2
  unfold tY
  rw [hl]
  omega
theorem sLive_same {s s' : sSt} (hv : ∀ c, (s'.cn c).state = (s.cn c).state) : sLive s' = sLive s := by
  unfold sLive
  rw [List.filter_congr fun c _ => by rw [hv c]]
theorem tY_close (I : sI s) (hc : c < 4) : tY (s_close s c) ≤ tY s := by
  by_cases h0 : (s.cn c).state = 0
  · have : s_close s c = s := by
      unfold s_close
      rw [s_closeF, if_pos h0]
    rw [this]
    exact Nat.le_refl _
  · have D0 := d_cl0 (c := c) I
    have hl := live_less (f := fun k => ((k.w_state 0).w_inp []).w_deaf false) h0 hc fun k => rfl
    have D : sDn (s_cn s c (fun k => ((k.w_state 0).w_inp []).w_deaf false)) (s_close s c) := by
      unfold s_close
      rw [s_closeF, if_neg h0]
      dsimp only
      split
      · exact d_end (D0.1 I) (d_closeF 4) hc
      · exact sDn.refl _
    have DD := D0.trans D
    exact tY_live (DD.1 I) DD.2.2.2.2.2.2.2.2.2.2.2.2.2.2.2.2.1 (Nat.lt_of_le_of_lt D.live hl)
theorem tY_cn {k : sCn} (hk : k.state = (s.cn c).state) : tY (s.w_cn (sUp s.cn c k)) = tY s := by
  have : sLive (s.w_cn (sUp s.cn c k)) = sLive s := sLive_same fun x => by
    show (sUp s.cn c k x).state = _
    by_cases ex : x = c
    · subst ex
      rw [sUp_self]
      exact hk
    · rw [sUp_ne ex]
  unfold tY
  rw [this]
  rfl
theorem tY_send (I : sI s) (hc : c < 4) : tY (s_send s c b) ≤ tY s := by
  unfold s_send s_go
  split
  · exact Nat.le_refl _
  · split
    · exact tY_close I hc
    · exact Nat.le_of_eq (tY_cn rfl)
theorem tY_simple (I : sI s) (hc : c < 4) {ch k1 me : Int32} : tY (s_simple s c ch k1 me) ≤ tY s := tY_send I hc
theorem tY_ans (I : sI s) (hj : isH h) {k1 me : Int32} : tY (s_ans s h k1 me b) ≤ tY s := tY_send I hj.div
theorem tY_ch {v : Nat → sCh} : tY (s.w_ch v) = tY s := rfl
/-- one message fewer is ready -/
theorem rdy_off (hn : s.qs.Nodup) (hqs : s'.qs = s.qs) (hq : q ∈ s.qs) (hm : m ∈ s_ready s q) (H : ∀ j ∈ s.qs, s_ready s' j = if j = q then (s_ready s q).erase m else s_ready s j) : sRdy s' + 1 = sRdy s := by
  unfold sRdy
  have e : s'.qs.map (fun j => (s_ready s' j).length) = s.qs.map (fun j => if j = q then (fun j => (s_ready s j).length) q - 1 else (fun j => (s_ready s j).length) j) := by
    rw [hqs]
    refine List.map_congr_left fun j hj => ?_
    rw [H j hj]
    by_cases ej : j = q
    · rw [if_pos ej, if_pos ej]
      exact List.length_erase_of_mem hm
    · rw [if_neg ej, if_neg ej]
  rw [e]
  exact sum_cut (f := fun j => (s_ready s j).length) hn hq (List.length_pos_of_mem hm)
theorem filter_off {l : List Nat} {p p' : Nat → Bool} (hn : l.Nodup) (hp : ∀ x, x ≠ m → p' x = p x) (hm : p' m = false) : l.filter p' = (l.filter p).erase m := by
  rw [erase_ne (hn.filter p), List.filter_filter]
  refine List.filter_congr fun x _ => ?_
  by_cases ex : x = m
  · subst ex
    rw [hm]
    simp
  · rw [hp x ex, beq_false_of_ne ex]
    simp
theorem filter_off2 {l : List Nat} {p p' : Nat → Bool} (hn : l.Nodup) (hp : ∀ x, x ≠ m → p' x = p x) : (l.erase m).filter p' = (l.filter p).erase m := by
  rw [erase_ne (hn.filter p), erase_ne hn, List.filter_filter, List.filter_filter]
  refine List.filter_congr fun x _ => ?_
  by_cases ex : x = m
  · subst ex
    simp
  · rw [hp x ex, Bool.and_comm]
/-- a message that leaves, where it was ready -/
theorem rdy_lf (I : sI s) (hk : s.knd m = 36) (hm : m ∈ (s.qu (s.en m).queue).ents) (h0 : (s.en m).state = 0) (L : sLf s s' m) : sRdy s' + 1 = sRdy s := by
  have hq := I.sc.en m hk
  obtain ⟨D, X, h3, h4, -⟩ := L
  refine rdy_off (q := (s.en m).queue) (m := m) I.ms.1 D.2.2.2.1 (I.ms.mem hq hm) (List.mem_filter.mpr ⟨hm, by rw [h0]; rfl⟩) fun j hj => ?_
  have hnd := (I.ms.2.1 j (I.sc.qs j hj)).1
  have hst : ∀ x, x ≠ m → ((s'.en x).state == 0) = ((s.en x).state == 0) := fun x hx => by rw [h4 x, if_neg hx]
  unfold s_ready
  rw [h3 j]
  by_cases ej : j = (s.en m).queue
  · rw [if_pos ej, if_pos ej, ← ej]
    exact filter_off2 hnd hst
  · rw [if_neg ej, if_neg ej]
    refine List.filter_congr fun x hx => hst x fun e => ej ?_
    subst e
    exact ((I.sc.qu j (I.sc.qs j hj)).1 x hx).2.symm
theorem rdy_lf_le (I : sI s) (hk : s.knd m = 36) (hm : m ∈ (s.qu (s.en m).queue).ents) (L : sLf s s' m) : sRdy s' ≤ sRdy s := by
  by_cases h0 : (s.en m).state = 0
  · have := rdy_lf I hk hm h0 L
    omega
  · obtain ⟨D, X, h3, h4, -⟩ := L
    unfold sRdy
    rw [D.2.2.2.1]
    refine sum_mono fun j hj => ?_
    have hst : ∀ x, ((s'.en x).state == 0) = ((s.en x).state == 0) := fun x => by
      rw [h4 x]
      split
      · rename_i e
        subst e
        rw [beq_false_of_ne h0]
        rfl
      · rfl
    unfold s_ready
    rw [List.filter_congr fun x _ => hst x, h3 j]
    split
    · exact (List.Sublist.filter _ List.erase_sublist).length_le
    · exact Nat.le_refl _
theorem tY_of (hv : ∀ c, (s'.cn c).state = (s.cn c).state) (hl : s'.lastNum = s.lastNum) (hr : sRdy s' ≤ sRdy s) : tY s' ≤ tY s := by
  unfold tY
  rw [sLive_same hv, hl]
  omega
theorem tY_lf (I : sI s) (hk : s.knd m = 36) (hm : m ∈ (s.qu (s.en m).queue).ents) (L : sLf s s' m) : tY s' ≤ tY s :=
  tY_of (fun c => by rw [L.1.2.1]) L.2.1.2.2.1 (rdy_lf_le I hk hm L)
theorem tY_shorten (hq : s.knd q = 33) : ∀ (n : Nat) (s : sSt), sI s → s.knd q = 33 → tY (s_shorten q n s) ≤ tY s
  | 0, s, _, _ => Nat.le_refl _
  | n + 1, s, I, hk => by
    rw [s_shorten]
    split
    · split
      · exact Nat.le_refl _
      · rename_i m hm
        have hb := s_best_mem (f := fun m => (s.en m).state == 0) hm
        have hq2 := (I.sc.qu q hk).1 m hb.1
        have hm2 : m ∈ (s.qu (s.en m).queue).ents := by rw [hq2.2]; exact hb.1
        have D := d_dies I hq2.1 hm2
        exact Nat.le_trans (tY_shorten hq n _ (D.1.1 I) (by rw [D.1.2.2.2.2.2.2.2.2.2.2.1]; exact hk)) (tY_lf I hq2.1 hm2 lf_dies)
    · exact Nat.le_refl _
theorem tY_trim (I : sI s) (hq : s.knd q = 33) : tY (s_trim s q) ≤ tY s := tY_shorten hq _ s I hq

/-! a new thing -/
theorem sScope.old (I : sScope s) {j k : Nat} (h : s.knd j = k) (hk : k ≠ 0) : j ≠ s.next := fun e => hk (by rw [← h, e]; exact I.new _ (Nat.le_refl _))
theorem sTx.born (T : sTx s) (B : sBn s s' c) (o32 : c = 32 → sExOk (s'.ex s.next)) (o33 : c = 33 → sQuOk (s'.qu s.next)) (o34 : c = 34 → (s'.bi s.next).key.length ≤ 40 ∧ sTabOk (s'.bi s.next).tab) (o35 : c = 35 → (s'.co s.next).tag.length ≤ 40 ∧ (s'.co s.next).tag ≠ [])
    (o36 : c = 36 → sContOk (s'.en s.next).cont ∧ (s'.en s.next).exch.length ≤ 40 ∧ (s'.en s.next).key.length ≤ 40 ∧ ((s'.en s.next).expi = -1 ∨ (0 ≤ (s'.en s.next).expi ∧ (s'.en s.next).expi ≤ 4294967295))) : sTx s' := by
  obtain ⟨B1, B2, Bcn, Bch, Bqs, Bes, Bbs, Bcs, Bde, -⟩ := B
  obtain ⟨a1, a2, a3, a4, a5, a6, a7⟩ := T
  have hk : ∀ i, i ≠ s.next → s'.knd i = s.knd i := fun i hi => by rw [B1]; exact sUp_ne hi
  have hs : s'.knd s.next = c := by rw [B1]; exact sUp_self
  refine ⟨fun i hi => ?_, fun i hi => ?_, fun i hi => ?_, fun i hi => ?_, fun i hi => ?_, by rw [Bde]; exact a6, by rw [Bch]; exact a7⟩
  · by_cases e : i = s.next
    · rw [e, hs] at hi
      rw [e]
      exact o32 hi
    · rw [hk i e] at hi
      rw [(B2 i e).2.1]
      exact a1 i hi
  · by_cases e : i = s.next
    · rw [e, hs] at hi
      rw [e]
      exact o33 hi
    · rw [hk i e] at hi
      rw [(B2 i e).1]
      exact a2 i hi
  · by_cases e : i = s.next
    · rw [e, hs] at hi
      rw [e]
      exact o34 hi
    · rw [hk i e] at hi
      rw [(B2 i e).2.2.1]
      exact a3 i hi
  · by_cases e : i = s.next
    · rw [e, hs] at hi
      rw [e]
      exact o35 hi
    · rw [hk i e] at hi
      rw [(B2 i e).2.2.2.1]
      exact a4 i hi
  · by_cases e : i = s.next
    · rw [e, hs] at hi
      rw [e]
      exact o36 hi
    · rw [hk i e] at hi
      rw [(B2 i e).2.2.2.2.1]
      exact a5 i hi
theorem sEnts.born (I : sScope s) (B : sBn s s' c) : sEnts s' = sEnts s := by
  unfold sEnts
  rw [B.2.2.2.2.1]
  exact congrArg List.sum (List.map_congr_left fun q hq => by rw [(B.2.1 q (I.old (I.qs q hq) (by decide))).1])
theorem sMs.born (I : sScope s) (M : sMs s) (B : sBn s s' c) (hme : s'.messages = s.messages) (o33 : c = 33 → (s'.qu s.next).ents = []) : sMs s' := by
  have hE := sEnts.born I B
  obtain ⟨B1, B2, Bcn, Bch, Bqs, -⟩ := B
  obtain ⟨a1, a2, a3, a4⟩ := M
  refine ⟨by rw [Bqs]; exact a1, fun q hq => ?_, by rw [hme, hE]; exact a3, by rw [hE]; exact a4⟩
  by_cases e : q = s.next
  · rw [e, B1, sUp_self] at hq
    rw [e, o33 hq]
    exact ⟨List.nodup_nil, fun _ => rfl, fun m hm => nomatch hm⟩
  · rw [B1, sUp_ne e] at hq
    obtain ⟨b1, b2, b3⟩ := a2 q hq
    rw [(B2 q e).1, Bqs]
    refine ⟨b1, b2, fun m hm => ?_⟩
    rw [(B2 m (I.old ((I.qu q hq).1 m hm).1 (by decide))).2.2.2.2.1]
    exact b3 m hm
theorem sSn.born (I : sScope s) (N : sSn s) (B : sBn s s' c) : sSn s' := by
  have Bch := B.2.2.2.1
  have B2 := B.2.1
  have hse : ∀ h, isH h → ∀ x ∈ (s.ch h).sent, s'.se x = s.se x ∧ s'.en (s.se x).entry = s.en (s.se x).entry ∧ s'.qu (s.en (s.se x).entry).queue = s.qu (s.en (s.se x).entry).queue := fun h hh x hx => by
    have k1 := (I.ch h hh).1 x hx
    have k2 := (I.se x k1).1
    have k3 := I.en _ k2
    exact ⟨(B2 x (I.old k1 (by decide))).2.2.2.2.2, (B2 _ (I.old k2 (by decide))).2.2.2.2.1, (B2 _ (I.old k3 (by decide))).1⟩
  obtain ⟨a1, a2, a3⟩ := N
  refine ⟨fun h hh => ?_, fun h k hh hk x hx y hy => ?_, fun h hh h1 => ?_⟩
  · rw [Bch]
    refine ⟨(a1 h hh).1, fun x hx => ?_⟩
    obtain ⟨e1, e2, e3⟩ := hse h hh x hx
    rw [e1, e2, e3]
    exact (a1 h hh).2 x hx
  · rw [Bch] at hx hy
    rw [(hse h hh x hx).1, (hse h hh x hx).2.1, (hse k hk y hy).1]
    exact a2 h k hh hk x hx y hy
  · rw [Bch] at h1 ⊢
    intro k hk x hx
    have := a3 h hh h1 k hk x hx
    rw [(hse h hh x this.1).1]
    exact this
theorem sCp.born (I : sScope s) (C : sCp s) (B : sBn s s' c) (hl : s'.lastNum = s.lastNum) (o33 : c = 33 → (s'.qu s.next).last = none) : sCp s' := by
  obtain ⟨B1, B2, Bcn, Bch, Bqs, Bes, Bbs, Bcs, Bde, Bfa, Bsq, Bse, Bsb, Bsen, Btp⟩ := B
  obtain ⟨a1, a2, a3, a4, a5, a6, a7, a8, a9, a10, a11, a12, a13, a14, a15, a16, a17, a18⟩ := C
  have hqu : ∀ q ∈ s.qs, s'.qu q = s.qu q := fun q hq => (B2 q (I.old (I.qs q hq) (by decide))).1
  have hex : ∀ q ∈ s.es, s'.ex q = s.ex q := fun q hq => (B2 q (I.old (I.es q hq) (by decide))).2.1
  refine ⟨by rw [Bes]; exact a1, by rw [Bbs]; exact a2, by rw [Bcs]; exact a3, by rw [Bes]; exact a4, by rw [Bqs]; exact a5, by rw [Bbs]; exact a6, by rw [Bcs]; exact a7, by rw [Bde]; exact a8, fun x hx => ?_, fun q hq x hx => ?_, fun i hi => ?_, by rw [Bch]; exact a12, by rw [Bcn]; exact a13, by rw [hl]; exact a14, by rw [hl]; exact a15, by rw [Btp]; exact a16, fun q hq p hp he => ?_, fun q hq p hp he => ?_⟩
  · rw [Bbs] at hx
    rw [Bes, Bqs, (B2 x (I.old (I.bs x hx) (by decide))).2.2.1]
    exact a9 x hx
  · by_cases e : q = s.next
    · rw [e, B1, sUp_self] at hq
      rw [e, o33 hq] at hx
      cases hx
    · rw [B1, sUp_ne e] at hq
      rw [(B2 q e).1] at hx
      rw [(B2 x (I.old ((I.qu q hq).2.1 x hx) (by decide))).2.2.2.1]
      exact a10 q hq x hx
  · rw [Bcs] at hi
    have hk := I.cs i hi
    rw [(B2 i (I.old hk (by decide))).2.2.2.1, (B2 _ (I.old (I.co i hk).1 (by decide))).1, Bqs]
    exact a11 i hi
  · rw [Bqs] at hq hp
    rw [hqu q hq, hqu p hp] at he
    exact a17 q hq p hp he
  · rw [Bes] at hq hp
    rw [hex q hq, hex p hp] at he
    exact a18 q hq p hp he
theorem mk4_congr {fe fq mq fe' fq' mq' : Nat → Nat} {t : sS4} {f : sFa} (h1 : ∀ x ∈ t.2.2.1, fe' x = fe x ∧ fq' x = fq x) (h2 : ∀ m ∈ t.2.2.2, mq' m = mq m) : s_mk4 fe' fq' mq' t f = s_mk4 fe fq mq t f := by
  have e1 : t.2.2.1.filter (fun b => !(fe' b == f.id)) = t.2.2.1.filter (fun b => !(fe b == f.id)) := List.filter_congr fun x hx => by rw [(h1 x hx).1]
  have e2 : t.2.2.1.filter (fun b => !(fq' b == f.id)) = t.2.2.1.filter (fun b => !(fq b == f.id)) := List.filter_congr fun x hx => by rw [(h1 x hx).2]
  have e3 : t.2.2.2.filter (fun b => !(mq' b == f.id)) = t.2.2.2.filter (fun b => !(mq b == f.id)) := List.filter_congr fun x hx => by rw [h2 x hx]
  unfold s_mk4
  rw [e1, e2, e3]
theorem mk4_mem3 {fe fq mq : Nat → Nat} {t : sS4} {f : sFa} {x : Nat} (hx : x ∈ (s_mk4 fe fq mq t f).2.2.1) : x ∈ t.2.2.1 ∨ (f.kind = 4 ∧ x = f.id) := by
  unfold s_mk4 at hx
  repeat' (split at hx)
  all_goals first
    | exact Or.inl hx
    | exact Or.inl (List.mem_filter.mp hx).1
    | exact (List.mem_append.mp hx).imp id fun h => ⟨by assumption, List.mem_singleton.mp h⟩
theorem mk4_mem4 {fe fq mq : Nat → Nat} {t : sS4} {f : sFa} {x : Nat} (hx : x ∈ (s_mk4 fe fq mq t f).2.2.2) : x ∈ t.2.2.2 ∨ (f.kind = 6 ∧ x = f.id) := by
  unfold s_mk4 at hx
  repeat' (split at hx)
  all_goals first
    | exact Or.inl hx
    | exact Or.inl (List.mem_filter.mp hx).1
    | exact (List.mem_append.mp hx).imp id fun h => ⟨by assumption, List.mem_singleton.mp h⟩
theorem fold4_congr {fe fq mq fe' fq' mq' : Nat → Nat} {P P' : Nat → Prop} (h1 : ∀ x, P x → fe' x = fe x ∧ fq' x = fq x) (h2 : ∀ m, P' m → mq' m = mq m) :
    ∀ (l : List sFa) (t : sS4), (∀ x ∈ t.2.2.1, P x) → (∀ m ∈ t.2.2.2, P' m) → (∀ f ∈ l, f.kind = 4 → P f.id) → (∀ f ∈ l, f.kind = 6 → P' f.id) → l.foldl (s_mk4 fe' fq' mq') t = l.foldl (s_mk4 fe fq mq) t
  | [], _, _, _, _, _ => rfl
  | f :: l, t, t1, t2, f1, f2 => by
    rw [List.foldl_cons, List.foldl_cons, mk4_congr (fe := fe) (fq := fq) (mq := mq) (fun x hx => h1 x (t1 x hx)) (fun m hm => h2 m (t2 m hm))]
    refine fold4_congr h1 h2 l _ (fun x hx => ?_) (fun m hm => ?_) (fun g hg => f1 g (List.mem_cons_of_mem _ hg)) (fun g hg => f2 g (List.mem_cons_of_mem _ hg))
    · rcases mk4_mem3 hx with h | ⟨h, rfl⟩
      · exact t1 x h
      · exact f1 f List.mem_cons_self h
    · rcases mk4_mem4 hm with h | ⟨h, rfl⟩
      · exact t2 m h
      · exact f2 f List.mem_cons_self h
theorem sScope.fa (I : sScope s) : ∀ f ∈ s.facts, 0 ≤ f.kind ∧ f.kind ≤ 7 ∧ s.knd f.id = (if f.kind = 0 ∨ f.kind = 1 then 32 else if f.kind = 2 ∨ f.kind = 3 then 33 else if f.kind = 4 ∨ f.kind = 5 then 34 else 36) := I.2.2.2.2.2.2.2.2.2.2.2.2.2.2.2.1
theorem safe_born (I : sScope s) (B : sBn s s' c) (n : Nat) : sSafe s' n = sSafe s n := by
  obtain ⟨B1, B2, Bcn, Bch, Bqs, Bes, Bbs, Bcs, Bde, Bfa, Bsq, Bse, Bsb, Bsen, Btp⟩ := B
  unfold sSafe
  rw [Bfa, Bse, Bsq, Bsb, Bsen]
  refine fold4_congr (P := fun x => s.knd x = 34) (P' := fun x => s.knd x = 36) (fun x hx => ?_) (fun m hm => ?_) _ _ I.2.2.2.2.2.2.1 I.2.2.2.2.2.2.2.1 (fun f hf hk => ?_) (fun f hf hk => ?_)
  · rw [(B2 x (I.old hx (by decide))).2.2.1]
    exact ⟨rfl, rfl⟩
  · rw [(B2 m (I.old hm (by decide))).2.2.2.2.1]
  · have := (I.fa f (List.mem_of_mem_take hf)).2.2
    rw [hk] at this
    exact this
  · have := (I.fa f (List.mem_of_mem_take hf)).2.2
    rw [hk] at this
    exact this
theorem rec_born (I : sScope s) (B : sBn s s' c) (hk : s.knd m = 36) : sRecM s' m = sRecM s m := by
  unfold sRecM
  rw [(B.2.1 m (I.old hk (by decide))).2.2.2.2.1, (B.2.1 _ (I.old (I.en m hk) (by decide))).1]
theorem sFit.born (I : sScope s) (B : sBn s s' c) (hl : s'.lastNum = s.lastNum) {t : sS4} (H : sFit s t) : sFit s' t := by
  have hrec := fun m hm => rec_born (m := m) I B hm
  obtain ⟨B1, B2, -⟩ := B
  obtain ⟨a1, a2, a3, a4, a5, a6, a7, a8, a9, a10, a11, a12, a13, a14⟩ := H
  have hk : ∀ i, i ≠ s.next → s'.knd i = s.knd i := fun i hi => by rw [B1]; exact sUp_ne hi
  have n8 : ∀ e ∈ t.1, e ≠ s.next := fun e he => I.old (a8 e he).1 (by decide)
  have n9 : ∀ e ∈ t.2.1, e ≠ s.next := fun e he => I.old (a9 e he).1 (by decide)
  have n11 : ∀ e ∈ t.2.2.2, e ≠ s.next := fun e he => I.old (a11 e he).1 (by decide)
  refine ⟨a1, a2, a3, a4, a5, a6, a7, fun e he => ?_, fun q hq => ?_, fun x hx => ?_, fun x hx => ?_, fun q hq p hp he => ?_, fun q hq p hp he => ?_, ?_⟩
  · rw [hk e (n8 e he), (B2 e (n8 e he)).2.1]
    exact a8 e he
  · rw [hk q (n9 q hq), (B2 q (n9 q hq)).1]
    exact a9 q hq
  · have hx2 := I.old (a10 x hx).1 (by decide)
    rw [hk x hx2, (B2 x hx2).2.2.1]
    exact a10 x hx
  · rw [hk x (n11 x hx), (B2 x (n11 x hx)).2.2.2.2.1, hrec x (a11 x hx).1, hl]
    exact a11 x hx
  · rw [(B2 q (n9 q hq)).1, (B2 p (n9 p hp)).1] at he
    exact a12 q hq p hp he
  · rw [(B2 q (n8 q hq)).2.1, (B2 p (n8 p hp)).2.1] at he
    exact a13 q hq p hp he
  · rw [List.map_congr_left fun m hm => by rw [(B2 m (n11 m hm)).2.2.2.2.1]]
    exact a14
theorem sHi.born (I : sScope s) (C : sHi s) (B : sBn s s' c) (hl : s'.lastNum = s.lastNum) (o33 : c = 33 → (s'.qu s.next).ents = []) : sHi s' := by
  have hsa := safe_born I B
  have hfit := fun n => (C.1 n).born I B hl
  have hrec := fun m hm => rec_born (m := m) I B hm
  have hfl : s'.facts.length = s.facts.length := by rw [B.2.2.2.2.2.2.2.2.2.1]
  obtain ⟨B1, B2, Bcn, Bch, Bqs, Bes, Bbs, Bcs, -⟩ := B
  obtain ⟨a1, a2, a3, a4, a5, a6, a7⟩ := C
  have hqu : ∀ q ∈ s.qs, s'.qu q = s.qu q := fun q hq => (B2 q (I.old (I.qs q hq) (by decide))).1
  have hqk : ∀ q, s.knd q = 33 → s'.qu q = s.qu q := fun q hq => (B2 q (I.old hq (by decide))).1
  have hen : ∀ q m, s.knd q = 33 → m ∈ (s.qu q).ents → s'.en m = s.en m := fun q m hq hm => (B2 m (I.old ((I.qu q hq).1 m hm).1 (by decide))).2.2.2.2.1
  refine ⟨fun n => by rw [hsa]; exact hfit n, ?_, ?_, ?_, fun m => ?_, fun q hq => ?_, fun q hq x hx => ?_⟩
  · rw [hsa, hfl, a2, Bes]
    exact List.filter_congr fun e he => by rw [(B2 e (I.old (I.es e he) (by decide))).2.1]
  · rw [hsa, hfl, a3, Bqs]
    exact List.filter_congr fun q hq => by rw [hqu q hq]
  · rw [hsa, hfl, a4, Bbs]
    refine List.filter_congr fun x hx => ?_
    have hk := I.bs x hx
    rw [(B2 x (I.old hk (by decide))).2.2.1, (B2 _ (I.old (I.bi x hk).2 (by decide))).2.1, hqk _ (I.bi x hk).1]
  · rw [hsa, hfl, a5]
    by_cases e : m = s.next
    · have h1 : ∀ q, q ∈ s.qs → m ∉ (s.qu q).ents := fun q hq hm => I.old ((I.qu q (I.qs q hq)).1 m hm).1 (by decide) e
      refine ⟨fun h => absurd h.1 (h1 _ h.2.1), fun h => ?_⟩
      rw [Bqs] at h
      rw [hqu _ h.2.1] at h
      exact absurd h.1 (h1 _ h.2.1)
    · rw [(B2 m e).2.2.2.2.1, Bqs]
      refine ⟨fun h => ?_, fun h => ?_⟩
      · have hk := ((I.qu _ (I.qs _ h.2.1)).1 m h.1).1
        rw [hqu _ h.2.1, hrec m hk]
        exact h
      · rw [hqu _ h.2.1] at h
        have hk := ((I.qu _ (I.qs _ h.2.1)).1 m h.1).1
        rw [hrec m hk] at h
        exact h
  · by_cases e : q = s.next
    · rw [e, B1, sUp_self] at hq
      rw [e, o33 hq]
      exact List.Pairwise.nil
    · rw [B1, sUp_ne e] at hq
      rw [hqk q hq, List.map_congr_left fun m hm => by rw [hen q m hq hm]]
      exact a6 q hq
  · by_cases e : q = s.next
    · rw [e, B1, sUp_self] at hq
      rw [e, o33 hq] at hx
      cases hx
    · rw [B1, sUp_ne e] at hq
      rw [hqk q hq] at hx
      rw [hen q x hq hx, hl]
      exact a7 q hq x hx
theorem sI.born (I : sI s) (B : sBn s s' c) (Isc : sScope s') (hme : s'.messages = s.messages) (hl : s'.lastNum = s.lastNum) (o32 : c = 32 → sExOk (s'.ex s.next)) (o33 : c = 33 → sQuOk (s'.qu s.next) ∧ (s'.qu s.next).ents = [] ∧ (s'.qu s.next).last = none)
    (o34 : c = 34 → (s'.bi s.next).key.length ≤ 40 ∧ sTabOk (s'.bi s.next).tab) (o35 : c = 35 → (s'.co s.next).tag.length ≤ 40 ∧ (s'.co s.next).tag ≠ [])
    (o36 : c = 36 → sContOk (s'.en s.next).cont ∧ (s'.en s.next).exch.length ≤ 40 ∧ (s'.en s.next).key.length ≤ 40 ∧ ((s'.en s.next).expi = -1 ∨ (0 ≤ (s'.en s.next).expi ∧ (s'.en s.next).expi ≤ 4294967295))) : sI s' :=
  ⟨Isc, I.tx.born B o32 (fun e => (o33 e).1) o34 o35 o36, I.ms.born I.sc B hme (fun e => (o33 e).2.1), I.sn.born I.sc B, I.cp.born I.sc B hl (fun e => (o33 e).2.2), I.hi.born I.sc B hl (fun e => (o33 e).2.1)⟩
theorem tP_born (I : sScope s) (B : sBn s s' c) (hl : s'.lastNum = s.lastNum) : tP s' = tP s := by
  unfold tP
  rw [sEnts.born I B, hl, B.2.2.2.2.1, B.2.2.2.2.2.1, B.2.2.2.2.2.2.2.2.1]
theorem sWt_born (B : sBn s s' c) : sWt s' = sWt s := by
  unfold sWt
  rw [B.2.2.2.1, B.2.2.2.2.2.2.2.2.2.1]
theorem rdy_born (I : sScope s) (B : sBn s s' c) : sRdy s' = sRdy s := by
  unfold sRdy s_ready
  rw [B.2.2.2.2.1]
  refine congrArg List.sum (List.map_congr_left fun q hq => ?_)
  rw [(B.2.1 q (I.old (I.qs q hq) (by decide))).1, List.filter_congr fun m hm => by rw [(B.2.1 m (I.old ((I.qu q (I.qs q hq)).1 m hm).1 (by decide))).2.2.2.2.1]]
theorem tY_born (I : sScope s) (B : sBn s s' c) (hl : s'.lastNum = s.lastNum) : tY s' = tY s := by
  unfold tY
  rw [rdy_born I B, hl, sLive_same (s := s) (s' := s') fun c => by rw [B.2.2.1]]
end YD
