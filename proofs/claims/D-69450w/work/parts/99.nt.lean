/-! ===== what ends leave as it was, told of channels, messages and what was sent (pure) ===== -/
set_option maxRecDepth 100000
/-- a channel behind ends -/
def sEc (k k' : sCh) : Prop := (k'.kept = k.kept ∨ k'.kept = []) ∧ (k'.junk = k.junk ∨ k'.junk = false) ∧ (k'.state = k.state ∨ ((k'.state = 0 ∨ k'.state = 2) ∧ k'.kept = [] ∧ k'.junk = false)) ∧ k'.tags = k.tags ∧ ∀ x ∈ k'.sent, x ∈ k.sent
/-- queues that are listed are there -/
def sTh (s : sSt) : Prop := s.qs.Nodup ∧ ∀ q ∈ s.qs, (s.qu q).there = true
def sE (s s' : sSt) : Prop := (∀ h, sEc (s.ch h) (s'.ch h)) ∧ (∀ q, ∀ m ∈ (s'.qu q).ents, m ∈ (s.qu q).ents) ∧ (s'.gener = s.gener ∧ s'.tape = s.tape) ∧ (∀ x, x < s.next → (s'.se x).entry = (s.se x).entry) ∧ (∀ m, m < s.next → (s'.en m).number = (s.en m).number) ∧ s'.lastNum = s.lastNum ∧ (sTh s → sTh s') ∧ s.next ≤ s'.next ∧ ∀ c, (s'.cn c).inp.length ≤ (s.cn c).inp.length
section NT
variable {s s' s1 s2 : sSt} {h c q e i m x n : Nat} {k k' k2 : sCh} {cl : sSt → Nat → sSt} {b : sBy}
theorem sEc.refl (k : sCh) : sEc k k := ⟨Or.inl rfl, Or.inl rfl, Or.inl rfl, rfl, fun _ h => h⟩
theorem sEc.trans (A : sEc k k') (B : sEc k' k2) : sEc k k2 := by
  obtain ⟨a1, a2, a3, a4, a5⟩ := A
  obtain ⟨b1, b2, b3, b4, b5⟩ := B
  have c1 : k'.kept = [] → k2.kept = [] := fun e => b1.elim (fun q => q.trans e) id
  have c2 : k'.junk = false → k2.junk = false := fun e => b2.elim (fun q => q.trans e) id
  refine ⟨?_, ?_, ?_, b4.trans a4, fun x hx => a5 x (b5 x hx)⟩
  · rcases a1 with e | e
    · rw [← e]; exact b1
    · exact Or.inr (c1 e)
  · rcases a2 with e | e
    · rw [← e]; exact b2
    · exact Or.inr (c2 e)
  · rcases b3 with e | e
    · rcases a3 with e1 | e1
      · exact Or.inl (e.trans e1)
      · exact Or.inr ⟨by rw [e]; exact e1.1, c1 e1.2.1, c2 e1.2.2⟩
    · exact Or.inr e
theorem sE.refl (s : sSt) : sE s s := ⟨fun _ => sEc.refl _, fun _ _ h => h, ⟨rfl, rfl⟩, fun _ _ => rfl, fun _ _ => rfl, rfl, fun h => h, Nat.le_refl _, fun _ => Nat.le_refl _⟩
theorem sE.trans (A : sE s s1) (B : sE s1 s2) : sE s s2 := by
  obtain ⟨a1, a2, a3, a4, a5, a6, a7, a8, a9⟩ := A
  obtain ⟨b1, b2, b3, b4, b5, b6, b7, b8, b9⟩ := B
  exact ⟨fun h => (a1 h).trans (b1 h), fun q m hm => a2 q m (b2 q m hm), ⟨b3.1.trans a3.1, b3.2.trans a3.2⟩, fun x hx => (b4 x (Nat.lt_of_lt_of_le hx a8)).trans (a4 x hx), fun m hm => (b5 m (Nat.lt_of_lt_of_le hm a8)).trans (a5 m hm), b6.trans a6, fun t => b7 (a7 t), Nat.le_trans a8 b8, fun c => Nat.le_trans (b9 c) (a9 c)⟩
/-- of what these facts do not tell of -/
theorem sE.of (h1 : s'.ch = s.ch) (h2 : s'.qu = s.qu) (h3 : s'.gener = s.gener) (h4 : s'.se = s.se) (h5 : s'.en = s.en) (h6 : s'.lastNum = s.lastNum) (h7 : s'.qs = s.qs) (h8 : s.next ≤ s'.next) (h9 : s'.cn = s.cn) (h10 : s'.tape = s.tape) : sE s s' :=
  ⟨fun h => by rw [h1]; exact sEc.refl _, fun q m hm => by rw [h2] at hm; exact hm, ⟨h3, h10⟩, fun x _ => by rw [h4], fun m _ => by rw [h5], h6, fun t => by unfold sTh at t ⊢; rw [h7, h2]; exact t, h8, fun c => by rw [h9]; exact Nat.le_refl _⟩
theorem e_cn {v : Nat → sCn} (H : ∀ c, (v c).inp.length ≤ (s.cn c).inp.length) : sE s (s.w_cn v) := ⟨fun _ => sEc.refl _, fun _ _ h => h, ⟨rfl, rfl⟩, fun _ _ => rfl, fun _ _ => rfl, rfl, fun h => h, Nat.le_refl _, H⟩
theorem e_cnUp {f : sCn → sCn} (H : ∀ k, (f k).inp.length ≤ k.inp.length) : sE s (s_cn s c f) := e_cn fun j => by
  by_cases e : j = c
  · subst e; rw [sUp_self]; exact H _
  · rw [sUp_ne e]; exact Nat.le_refl _
theorem e_tell {kd : Int32} {id : Nat} : sE s (s_tell s kd id) := sE.of rfl rfl rfl rfl rfl rfl rfl (Nat.le_refl _) rfl rfl
theorem e_cs {l : List Nat} : sE s (s.w_cs l) := sE.of rfl rfl rfl rfl rfl rfl rfl (Nat.le_refl _) rfl rfl
theorem e_bs {l : List Nat} : sE s (s.w_bs l) := sE.of rfl rfl rfl rfl rfl rfl rfl (Nat.le_refl _) rfl rfl
theorem e_es {l : List Nat} : sE s (s.w_es l) := sE.of rfl rfl rfl rfl rfl rfl rfl (Nat.le_refl _) rfl rfl
theorem e_ex {v : Nat → sEx} : sE s (s.w_ex v) := sE.of rfl rfl rfl rfl rfl rfl rfl (Nat.le_refl _) rfl rfl
theorem e_dead {l : List sDe} : sE s (s.w_dead l) := sE.of rfl rfl rfl rfl rfl rfl rfl (Nat.le_refl _) rfl rfl
theorem e_deadOnes {v : Int32} : sE s (s.w_deadOnes v) := sE.of rfl rfl rfl rfl rfl rfl rfl (Nat.le_refl _) rfl rfl
theorem e_messages {v : Int32} : sE s (s.w_messages v) := sE.of rfl rfl rfl rfl rfl rfl rfl (Nat.le_refl _) rfl rfl
theorem e_clock {v : Int32} : sE s (s.w_clock v) := sE.of rfl rfl rfl rfl rfl rfl rfl (Nat.le_refl _) rfl rfl
theorem e_if {p : Prop} [Decidable p] (A : p → sE s s1) (B : ¬ p → sE s s2) : sE s (if p then s1 else s2) := by
  by_cases h : p
  · rw [if_pos h]; exact A h
  · rw [if_neg h]; exact B h
theorem e_en {v : Nat → sEn} (H : ∀ m, (v m).number = (s.en m).number) : sE s (s.w_en v) := ⟨fun _ => sEc.refl _, fun _ _ h => h, ⟨rfl, rfl⟩, fun _ _ => rfl, fun m _ => H m, rfl, fun h => h, Nat.le_refl _, fun _ => Nat.le_refl _⟩
theorem e_se {v : Nat → sSe} (H : ∀ m, (v m).entry = (s.se m).entry) : sE s (s.w_se v) := ⟨fun _ => sEc.refl _, fun _ _ h => h, ⟨rfl, rfl⟩, fun m _ => H m, fun _ _ => rfl, rfl, fun h => h, Nat.le_refl _, fun _ => Nat.le_refl _⟩
theorem e_bi {v : Nat → sBi} : sE s (s.w_bi v) := sE.of rfl rfl rfl rfl rfl rfl rfl (Nat.le_refl _) rfl rfl
theorem e_co {v : Nat → sCo} : sE s (s.w_co v) := sE.of rfl rfl rfl rfl rfl rfl rfl (Nat.le_refl _) rfl rfl
theorem e_new {k : Nat} : sE s (s_new s k) := sE.of rfl rfl rfl rfl rfl rfl rfl (Nat.le_succ _) rfl rfl
theorem e_enUp {f : sEn → sEn} (H : ∀ k, (f k).number = k.number) : sE s (s_en s m f) := e_en fun j => by
  by_cases e : j = m
  · subst e; rw [sUp_self]; exact H _
  · rw [sUp_ne e]
theorem e_quUp {f : sQu → sQu} (H : ∀ k, (f k).there = k.there) (H2 : ∀ x ∈ (f (s.qu q)).ents, x ∈ (s.qu q).ents) : sE s (s_qu s q f) := by
  refine ⟨fun _ => sEc.refl _, fun j x hx => ?_, ⟨rfl, rfl⟩, fun _ _ => rfl, fun _ _ => rfl, rfl, fun t => ⟨t.1, fun j hj => ?_⟩, Nat.le_refl _, fun _ => Nat.le_refl _⟩
  · have hx : x ∈ (sUp s.qu q (f (s.qu q)) j).ents := hx
    by_cases e : j = q
    · subst e; rw [sUp_self] at hx; exact H2 x hx
    · rw [sUp_ne e] at hx; exact hx
  · show (sUp s.qu q (f (s.qu q)) j).there = true
    by_cases e : j = q
    · subst e; rw [sUp_self, H]; exact t.2 _ hj
    · rw [sUp_ne e]; exact t.2 _ hj
theorem e_chUp {f : sCh → sCh} (H : sEc (s.ch h) (f (s.ch h))) : sE s (s_ch s h f) := by
  refine ⟨fun j => ?_, fun _ _ h => h, ⟨rfl, rfl⟩, fun _ _ => rfl, fun _ _ => rfl, rfl, fun t => t, Nat.le_refl _, fun _ => Nat.le_refl _⟩
  show sEc (s.ch j) (sUp s.ch h (f (s.ch h)) j)
  by_cases e : j = h
  · subst e; rw [sUp_self]; exact H
  · rw [sUp_ne e]; exact sEc.refl _
/-- of a field of a channel that these facts do not tell of -/
theorem e_chN {f : sCh → sCh} (H : ∀ k, (f k).kept = k.kept ∧ (f k).junk = k.junk ∧ (f k).state = k.state ∧ (f k).tags = k.tags ∧ (f k).sent = k.sent) : sE s (s_ch s h f) := e_chUp (by
  obtain ⟨a1, a2, a3, a4, a5⟩ := H (s.ch h)
  exact ⟨Or.inl a1, Or.inl a2, Or.inl a3, a4, fun x hx => by rw [a5] at hx; exact hx⟩)
theorem e_state {v : Int32} : sE s (s_en s m (fun e => e.w_state v)) := e_enUp (f := fun e => e.w_state v) fun _ => rfl
theorem e_again : sE s (s_en s m (fun e => (e.w_state 0).w_redel true)) := e_enUp (f := fun e => (e.w_state 0).w_redel true) fun _ => rfl
theorem e_erase : sE s (s_qu s q (fun x => x.w_ents (x.ents.erase m))) := e_quUp (f := fun x => x.w_ents (x.ents.erase m)) (fun _ => rfl) fun x hx => List.mem_of_mem_erase hx
theorem chEnd1 : ∀ k : sCh, sEc k (k.w_kept []) := fun ⟨a1, a2, a3, a4, a5, a6, a7, a8, a9, b1, b2, b3, b4, b5, b6, b7⟩ => ⟨Or.inr rfl, Or.inl rfl, Or.inl rfl, rfl, fun x hx => hx⟩
theorem chEnd2 {u v w : Int32} {o : Option sCont} {l : List Int32} : ∀ k : sCh, sEc k ((((((k.w_confs l).w_due u).w_cont o).w_mode v).w_confirm w).w_tag w) := fun ⟨a1, a2, a3, a4, a5, a6, a7, a8, a9, b1, b2, b3, b4, b5, b6, b7⟩ => ⟨Or.inl rfl, Or.inl rfl, Or.inl rfl, rfl, fun x hx => hx⟩
theorem jk_junk (k : sCh) : (k.w_junk false).junk = false := rfl
theorem jk_kept (k : sCh) : (k.w_junk false).kept = k.kept := rfl
theorem jk_state (k : sCh) : (k.w_junk false).state = k.state := rfl
theorem jk_tags (k : sCh) : (k.w_junk false).tags = k.tags := rfl
theorem jk_sent (k : sCh) : (k.w_junk false).sent = k.sent := rfl
theorem chEnd3 (k : sCh) : sEc k (k.w_junk false) := ⟨Or.inl (jk_kept k), Or.inr (jk_junk k), Or.inl (jk_state k), jk_tags k, fun x hx => by rw [jk_sent] at hx; exact hx⟩
theorem e_chEnd : sE s (s_ch s h (fun k => (((((((k.w_kept []).w_confs []).w_due 0).w_cont none).w_mode 0).w_confirm 0).w_tag 0).w_junk false)) := e_chUp (f := fun k => (((((((k.w_kept []).w_confs []).w_due 0).w_cont none).w_mode 0).w_confirm 0).w_tag 0).w_junk false) ((chEnd1 _).trans ((chEnd2 _).trans (chEnd3 _)))
theorem e_cnSt {v u : Int32} : sE s (s_cn s c (fun k => (k.w_state v).w_closing u)) := e_cnUp (f := fun k => (k.w_state v).w_closing u) fun _ => Nat.le_refl _
theorem e_leaves : sE s (s_leaves s m) := by
  unfold s_leaves
  dsimp only
  have A : sE s (s_qu (s_en s m (fun e => e.w_state 2)) (s.en m).queue (fun x => x.w_ents (x.ents.erase m))) := sE.trans (e_state (s := s) (m := m) (v := 2)) (e_erase (s := s_en s m (fun e => e.w_state 2)) (q := (s.en m).queue) (m := m))
  exact e_if (fun _ => (A.trans e_messages).trans e_tell) fun _ => A.trans e_messages
theorem e_dies : sE s (s_dies s m) := by
  unfold s_dies
  dsimp only
  split
  · exact e_leaves.trans e_deadOnes
  · exact e_if (fun _ => e_leaves.trans e_deadOnes) fun _ => (e_leaves.trans e_deadOnes).trans e_dead
theorem e_shorten : ∀ (n : Nat) (s : sSt), sE s (s_shorten q n s)
  | 0, s => sE.refl s
  | n + 1, s => by
    rw [s_shorten]
    refine e_if (fun _ => ?_) fun _ => sE.refl s
    split
    · exact sE.refl s
    · exact e_dies.trans (e_shorten n _)
theorem e_trim : sE s (s_trim s q) := e_shorten _ s
theorem e_requeue : sE s (s_requeue s m) := by
  unfold s_requeue
  exact e_if (fun _ => sE.refl s) fun _ => e_again.trans e_trim
theorem e_delE : sE s (s_delE s e) := by
  unfold s_delE s_ex
  dsimp only
  by_cases hd : (s.ex e).dur = true
  · rw [if_pos hd]
    exact ((e_ex.trans e_tell).trans e_es).trans e_bs
  · rw [if_neg hd]
    exact (e_ex.trans e_es).trans e_bs
theorem e_unbindAll : sE s (s_unbindAll s q e) := by
  unfold s_unbindAll
  dsimp only
  exact e_if (fun _ => e_bs.trans e_delE) fun _ => e_bs
theorem e_fold {α : Type} {f : sSt → α → sSt} (H : ∀ s x, sE s (f s x)) : ∀ (l : List α) (s : sSt), sE s (l.foldl f s)
  | [], s => sE.refl s
  | x :: l, s => (H s x).trans (e_fold H l (f s x))
theorem e_out : sE s ((s_qu s q (fun x => x.w_there false)).w_qs (s.qs.erase q)) := by
  refine ⟨fun _ => sEc.refl _, fun j x hx => ?_, ⟨rfl, rfl⟩, fun _ _ => rfl, fun _ _ => rfl, rfl, fun t => ⟨t.1.erase q, fun j hj => ?_⟩, Nat.le_refl _, fun _ => Nat.le_refl _⟩
  · have hx : x ∈ (sUp s.qu q ((s.qu q).w_there false) j).ents := hx
    by_cases e : j = q
    · subst e; rw [sUp_self] at hx; exact hx
    · rw [sUp_ne e] at hx; exact hx
  · have hj : j ∈ s.qs.erase q := hj
    show (sUp s.qu q ((s.qu q).w_there false) j).there = true
    have hm := (t.1.mem_erase_iff).mp hj
    rw [sUp_ne hm.1]
    exact t.2 _ hm.2
theorem e_delQ1 : sE s (s_delQ1 s q) := by
  unfold s_delQ1
  dsimp only
  refine sE.trans ?_ (e_fold (fun _ _ => e_unbindAll) _ _)
  have e3 : (if s_kept (s.qu q) then s_tell (s_qu s q (fun x => x.w_there false)) 3 q else s_qu s q (fun x => x.w_there false)).w_qs ((if s_kept (s.qu q) then s_tell (s_qu s q (fun x => x.w_there false)) 3 q else s_qu s q (fun x => x.w_there false)).qs.erase q) =
      (if s_kept (s.qu q) then s_tell ((s_qu s q (fun x => x.w_there false)).w_qs (s.qs.erase q)) 3 q else (s_qu s q (fun x => x.w_there false)).w_qs (s.qs.erase q)) := by
    split <;> rfl
  rw [e3]
  have A : sE s (if s_kept (s.qu q) then s_tell ((s_qu s q (fun x => x.w_there false)).w_qs (s.qs.erase q)) 3 q else (s_qu s q (fun x => x.w_there false)).w_qs (s.qs.erase q)) := e_if (fun _ => e_out.trans e_tell) fun _ => e_out
  generalize (if s_kept (s.qu q) then s_tell ((s_qu s q (fun x => x.w_there false)).w_qs (s.qs.erase q)) 3 q else (s_qu s q (fun x => x.w_there false)).w_qs (s.qs.erase q)) = s3 at A ⊢
  refine A.trans (sE.trans ?_ e_messages)
  refine sE.trans (e_en fun j => ?_) (e_quUp (fun _ => rfl) fun x hx => absurd (show x ∈ [] from hx) List.not_mem_nil)
  split <;> rfl
theorem e_go (hcl : ∀ s c, sE s (cl s c)) : sE s (s_go cl s c b) := by
  unfold s_go
  exact e_if (fun _ => sE.refl s) fun _ => e_if (fun _ => hcl s c) fun _ => e_cnUp fun _ => Nat.le_refl _
theorem e_sendCancel (hcl : ∀ s c, sE s (cl s c)) : sE s (s_sendCancel cl s i) := e_go hcl
theorem e_takeOut : sE s (s_takeOut s i) := e_cs
theorem e_dropQ (hcl : ∀ s c, sE s (cl s c)) : ∀ (n : Nat) (s : sSt), sE s (s_dropQ cl q n s)
  | 0, s => sE.refl s
  | n + 1, s => by
    rw [s_dropQ]
    split
    · exact sE.refl s
    · exact (e_if (fun _ => e_takeOut.trans (e_sendCancel hcl)) fun _ => e_takeOut).trans (e_dropQ hcl n _)
theorem e_delQ (hcl : ∀ s c, sE s (cl s c)) : sE s (s_delQ cl s q) := e_delQ1.trans (e_dropQ hcl _ _)
theorem e_cancel (hcl : ∀ s c, sE s (cl s c)) : sE s (s_cancel cl s i) := by
  unfold s_cancel
  dsimp only
  exact e_if (fun _ => e_takeOut.trans (e_delQ hcl)) fun _ => e_takeOut
theorem e_cancelAll (hcl : ∀ s c, sE s (cl s c)) : ∀ (n : Nat) (s : sSt), sE s (s_cancelAll cl h n s)
  | 0, s => sE.refl s
  | n + 1, s => by
    rw [s_cancelAll]
    split
    · exact sE.refl s
    · exact (e_cancel hcl).trans (e_cancelAll hcl n _)
theorem e_sent {l : List Nat} (H : ∀ x ∈ l, x ∈ (s.ch h).sent) : sE s (s_ch s h (fun k => k.w_sent l)) := e_chUp ⟨Or.inl rfl, Or.inl rfl, Or.inl rfl, rfl, H⟩
theorem e_backAll : ∀ (l : List Nat) (s : sSt), (∀ x ∈ l, x ∈ (s.ch h).sent) → sE s (s_backAll h l s)
  | [], s, _ => sE.refl s
  | x :: r, s, H => by
    rw [s_backAll]
    have A := e_sent (s := s) (h := h) (l := r) fun y hy => H y (List.mem_cons_of_mem _ hy)
    -- what is left is what is sent
    have hr : ∀ (s1 : sSt) (m : Nat), (s_requeue s1 m).ch = s1.ch := fun s1 m => s_requeue_ch
    refine (A.trans e_requeue).trans (e_backAll r _ fun y hy => ?_)
    rw [hr]
    show y ∈ (sUp s.ch h ((s.ch h).w_sent r) h).sent
    rw [sUp_self]
    exact hy
theorem sEc.emp (A : sEc k k') (h : k.kept = [] ∧ k.junk = false) : k'.kept = [] ∧ k'.junk = false :=
  ⟨A.1.elim (fun q => q.trans h.1) id, A.2.1.elim (fun q => q.trans h.2) id⟩
theorem e_gone (hcl : ∀ s c, sE s (cl s c)) : sE s (s_gone cl s h) := by
  unfold s_gone
  dsimp only
  refine ((e_cancelAll hcl _ s).trans (e_backAll _ _ fun x hx => hx)).trans e_chEnd
theorem gone_fin : ((s_gone cl s h).ch h).kept = [] ∧ ((s_gone cl s h).ch h).junk = false := by
  unfold s_gone
  dsimp only
  rw [s_ch_ch]
  exact ⟨rfl, rfl⟩
theorem e_ownAll (hcl : ∀ s c, sE s (cl s c)) : ∀ (n : Nat) (s : sSt), sE s (s_ownAll cl c n s)
  | 0, s => sE.refl s
  | n + 1, s => by
    rw [s_ownAll]
    split
    · exact sE.refl s
    · exact (e_delQ hcl).trans (e_ownAll hcl n _)
/-- a channel's state is set, then it ends -/
theorem e_st {v : Int32} (hv : v = 0 ∨ v = 2) (B : sE (s_ch s h (fun k => k.w_state v)) s2) (hf : (s2.ch h).kept = [] ∧ (s2.ch h).junk = false) : sE s s2 := by
  obtain ⟨b1, b2, b3, b4, b5, b6, b7, b8, b9⟩ := B
  refine ⟨fun j => ?_, b2, b3, b4, b5, b6, b7, b8, b9⟩
  have hj := b1 j
  by_cases e : j = h
  · subst e
    have e1 : (s_ch s j (fun k => k.w_state v)).ch j = (s.ch j).w_state v := by rw [s_ch_ch]
    rw [e1] at hj
    obtain ⟨a1, a2, a3, a4, a5⟩ := hj
    exact ⟨a1, a2, Or.inr ⟨a3.elim (fun q => by rw [q]; exact hv) fun q => q.1, hf.1, hf.2⟩, a4, a5⟩
  · have e1 : (s_ch s h (fun k => k.w_state v)).ch j = s.ch j := sUp_ne e
    rw [e1] at hj
    exact hj
theorem e_endF (hcl : ∀ s c, sE s (cl s c)) : sE s (s_end cl s c) ∧ ∀ k, 1 ≤ k → k ≤ 3 → ((s_end cl s c).ch (4 * c + k)).kept = [] ∧ ((s_end cl s c).ch (4 * c + k)).junk = false := by
  unfold s_end
  dsimp only
  have G1 := fun s h => e_gone (s := s) (h := h) hcl
  have f1 := gone_fin (cl := cl) (s := s_ch (s_ch (s_ch s (4 * c + 1) (fun k => k.w_state 0)) (4 * c + 2) (fun k => k.w_state 0)) (4 * c + 3) (fun k => k.w_state 0)) (h := 4 * c + 1)
  have g1 := G1 (s_ch (s_ch (s_ch s (4 * c + 1) (fun k => k.w_state 0)) (4 * c + 2) (fun k => k.w_state 0)) (4 * c + 3) (fun k => k.w_state 0)) (4 * c + 1)
  generalize s_gone cl (s_ch (s_ch (s_ch s (4 * c + 1) (fun k => k.w_state 0)) (4 * c + 2) (fun k => k.w_state 0)) (4 * c + 3) (fun k => k.w_state 0)) (4 * c + 1) = sA at f1 g1 ⊢
  have f2 := gone_fin (cl := cl) (s := sA) (h := 4 * c + 2)
  have g2 := G1 sA (4 * c + 2)
  generalize s_gone cl sA (4 * c + 2) = sB at f2 g2 ⊢
  have f3 := gone_fin (cl := cl) (s := sB) (h := 4 * c + 3)
  have g3 := G1 sB (4 * c + 3)
  generalize s_gone cl sB (4 * c + 3) = sC at f3 g3 ⊢
  have g4 := e_ownAll (c := c) hcl sC.qs.length sC
  generalize s_ownAll cl c sC.qs.length sC = sD at g4 ⊢
  have k1 := (g4.1 _).emp ((g3.1 _).emp ((g2.1 _).emp f1))
  have k2 := (g4.1 _).emp ((g3.1 _).emp f2)
  have k3 := (g4.1 _).emp f3
  refine ⟨e_st (Or.inl rfl) (e_st (Or.inl rfl) (e_st (Or.inl rfl) (((g1.trans g2).trans g3).trans g4) k3) k2) k1, fun k h1 h3 => ?_⟩
  have hk : k = 1 ∨ k = 2 ∨ k = 3 := by omega
  rcases hk with e | e | e <;> subst e
  · exact k1
  · exact k2
  · exact k3
theorem e_end (hcl : ∀ s c, sE s (cl s c)) : sE s (s_end cl s c) := (e_endF hcl).1
theorem e_closeF : ∀ (n : Nat) (s : sSt) (c : Nat), sE s (s_closeF n s c)
  | 0, s, c => sE.refl s
  | n + 1, s, c => by
    rw [s_closeF]
    dsimp only
    exact e_if (fun _ => sE.refl s) fun _ => e_if (fun _ => (e_cnUp fun _ => Nat.zero_le _).trans (e_end (e_closeF n))) fun _ => e_cnUp fun _ => Nat.zero_le _
theorem e_close : sE s (s_close s c) := e_closeF 5 s c
theorem e_send : sE s (s_send s c b) := e_go fun _ _ => e_close
theorem e_simple {ch k1 me : Int32} : sE s (s_simple s c ch k1 me) := e_send
theorem e_ans {k1 me : Int32} : sE s (s_ans s h k1 me b) := e_send
theorem e_hard {code c1 m1 : Int32} : sE s (s_hard s c code c1 m1) := by
  unfold s_hard
  dsimp only
  exact e_if (fun _ => e_send) fun _ => (e_send.trans e_cnSt).trans (e_end fun _ _ => e_close)
theorem e_goneS {v : Int32} (hv : v = 0 ∨ v = 2) : sE s (s_gone s_close (s_ch s h (fun k => k.w_state v)) h) := e_st hv (e_gone fun _ _ => e_close) gone_fin
theorem e_soft {code c1 m1 : Int32} : sE s (s_soft s h code c1 m1) := by
  unfold s_soft
  dsimp only
  exact e_if (fun _ => e_send) fun _ => e_send.trans (e_goneS (Or.inr rfl))
theorem close_fin (h5 : (s.cn c).state = 5) {k : Nat} (h1 : 1 ≤ k) (h3 : k ≤ 3) : ((s_close s c).ch (4 * c + k)).kept = [] ∧ ((s_close s c).ch (4 * c + k)).junk = false := by
  unfold s_close
  rw [s_closeF, if_neg (by rw [h5]; decide)]
  dsimp only
  rw [if_pos h5]
  exact (e_endF (e_closeF 4)).2 k h1 h3
theorem send_cases (h5 : (s.cn c).state = 5) : s_send s c b = s_close s c ∨ ((s_send s c b).cn c).state = 5 := by
  unfold s_send s_go
  rw [if_neg (by rw [h5]; decide)]
  split
  · exact Or.inl rfl
  · refine Or.inr ?_
    show (sUp s.cn c _ c).state = 5
    rw [sUp_self]
    exact h5
theorem hard_fin (h5 : (s.cn c).state = 5) {code c1 m1 : Int32} {k : Nat} (h1 : 1 ≤ k) (h3 : k ≤ 3) : ((s_hard s c code c1 m1).ch (4 * c + k)).kept = [] ∧ ((s_hard s c code c1 m1).ch (4 * c + k)).junk = false := by
  unfold s_hard
  dsimp only
  have hs := send_cases (b := s_closing 0 10 50 code c1 m1) h5
  by_cases h0 : ((s_send s c (s_closing 0 10 50 code c1 m1)).cn c).state = 0
  · rw [if_pos h0]
    rcases hs with e | e
    · rw [e]
      exact close_fin h5 h1 h3
    · rw [e] at h0
      exact absurd h0 (by decide)
  · rw [if_neg h0]
    exact (e_endF fun _ _ => e_close).2 k h1 h3
theorem soft_fin (hh : isH h) (h5 : (s.cn (h / 4)).state = 5) {code c1 m1 : Int32} : ((s_soft s h code c1 m1).ch h).kept = [] ∧ ((s_soft s h code c1 m1).ch h).junk = false := by
  unfold s_soft
  dsimp only
  have hs := send_cases (b := s_closing (Int32.ofNat (h % 4)) 20 40 code c1 m1) h5
  by_cases h0 : ((s_send s (h / 4) (s_closing (Int32.ofNat (h % 4)) 20 40 code c1 m1)).cn (h / 4)).state = 0
  · rw [if_pos h0]
    rcases hs with e | e
    · rw [e]
      obtain ⟨e1, h1, h3⟩ := hh.eq
      have := close_fin h5 h1 h3
      rwa [e1] at this
    · rw [e] at h0
      exact absurd h0 (by decide)
  · rw [if_neg h0]
    exact gone_fin
theorem e_told {x : sRc} : sE x.1 (s_told c h x) := by
  unfold s_told
  split
  · exact sE.refl _
  · exact e_hard
  · exact e_soft
end NT
