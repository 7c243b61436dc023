/-! ===== the twin: acknowledgements, in transactions and without ===== -/
set_option maxRecDepth 100000
def s_dones (s : sSt) (l : List Nat) (v : Bool) : sSt := s.w_se (fun x => if x ∈ l then (s.se x).w_done v else s.se x)
def s_ackK (s : sSt) (j : Nat) (what : Int32) (l : List Nat) : sSt := s_dones (s_ch s j (fun k => k.w_kept (k.kept ++ [(none, what, l)]))) l true
section MX
variable {s0 : zE} {F : Nat → Option zC} {b : Nat} {s s' s1 s2 : sSt} {w w' w1 w2 : tW} {g g' g0 : sG} {h h' : zH} {d x0 x1 x2 x3 x5 x7 i j q m p n a e x y : Nat} {Q : Value → zH → Prop} {E : Nat → zH → Prop} {dr nm key frm : sBy} {sz cl me code k bits tag what c4 c5 c6 : Int32} {rd : sRd} {u : Int32 × List Nat × (Nat → Nat)} {all v : Bool} {l : List Nat}
theorem w_se_se {X Y : Nat → sSe} : (s.w_se X).w_se Y = s.w_se Y := rfl
theorem dones_nil : s_dones s [] v = s := by
  have : (fun x => if x ∈ ([] : List Nat) then (s.se x).w_done v else s.se x) = s.se := funext fun x => if_neg (fun h => nomatch h)
  unfold s_dones
  rw [this]
  rfl
theorem dones_cons {r : List Nat} : s_dones s (x :: r) v = s_dones (s.w_se (sUp s.se x ((s.se x).w_done v))) r v := by
  unfold s_dones
  rw [w_se_se]
  refine congrArg (fun z => s.w_se z) (funext fun y => ?_)
  show _ = if y ∈ r then (sUp s.se x ((s.se x).w_done v) y).w_done v else sUp s.se x ((s.se x).w_done v) y
  by_cases e : y = x
  · subst e
    rw [sUp_self, if_pos List.mem_cons_self]
    split <;> rfl
  · rw [sUp_ne e]
    by_cases hr : y ∈ r
    · rw [if_pos hr, if_pos (List.mem_cons_of_mem _ hr)]
    · rw [if_neg hr, if_neg (fun hh => (List.mem_cons.mp hh).elim e hr)]
theorem dones_snoc {r : List Nat} : (s_dones s l v).w_se (sUp (s_dones s l v).se x (((s_dones s l v).se x).w_done v)) = s_dones s (l ++ [x]) v := by
  unfold s_dones
  rw [w_se_se]
  refine congrArg (fun z => s.w_se z) (funext fun y => ?_)
  show sUp (fun x => if x ∈ l then (s.se x).w_done v else s.se x) x ((if x ∈ l then (s.se x).w_done v else s.se x).w_done v) y = _
  by_cases e : y = x
  · subst e
    rw [sUp_self, if_pos (List.mem_append.mpr (Or.inr (List.mem_singleton.mpr rfl)))]
    split <;> rfl
  · rw [sUp_ne e]
    by_cases hr : y ∈ l
    · rw [if_pos hr, if_pos (List.mem_append.mpr (Or.inl hr))]
    · rw [if_neg hr, if_neg (fun hh => (List.mem_append.mp hh).elim hr fun h2 => e (List.mem_singleton.mp h2))]
/-- what is read of a thing that was sent, where its mark is another -/
theorem se_done (f : Nat → Bool) : ∀ x, ((s.w_se (fun x => (s.se x).w_done (f x))).se x).entry = (s.se x).entry ∧ ((s.w_se (fun x => (s.se x).w_done (f x))).se x).cons = (s.se x).cons := fun _ => ⟨rfl, rfl⟩
/-- marks change, and what a channel keeps -/
theorem sI.marks (I : sI s) (hj : isH j) {K : List sKe} {S : Nat → sSe} (hS : ∀ x, (S x).entry = (s.se x).entry ∧ (S x).cons = (s.se x).cons) (h32 : K.length ≤ 32) (hc : ∀ z ∈ K, ∀ c, z.cont = some c → sContOk c) (hk37 : ∀ z ∈ K, ∀ x ∈ z.those, s.knd x = 37)
    (hd : (s.ch j).state = 1 → ∀ z ∈ K, ∀ x ∈ z.those, x ∈ (s.ch j).sent ∧ (S x).done = true) (hd2 : ∀ h, isH h → h ≠ j → (s.ch h).state = 1 → ∀ z ∈ (s.ch h).kept, ∀ x ∈ z.those, (S x).done = true) :
    sI ((s_ch s j (fun k => k.w_kept K)).w_se S) := by
  obtain ⟨⟨a1, a2, a3, a4, a5, a6, a7, a8, a9, a10, a11, a12, a13, a14, a15, a16, a17⟩, ⟨t1, t2, t3, t4, t5, t6, t7⟩, M, ⟨n1, n2, n3⟩, ⟨c1, c2, c3, c4, c5, c6, c7, c8, c9, c10, c11, c12, c13⟩, H⟩ := I
  have hch : ∀ h, h ≠ j → ((s_ch s j (fun k => k.w_kept K)).w_se S).ch h = s.ch h := fun h hh => sUp_ne hh
  have hchj : ((s_ch s j (fun k => k.w_kept K)).w_se S).ch j = (s.ch j).w_kept K := sUp_self
  have hse : ∀ x, ((s_ch s j (fun k => k.w_kept K)).w_se S).se x = S x := fun x => rfl
  have hsent : ∀ h, (((s_ch s j (fun k => k.w_kept K)).w_se S).ch h).sent = (s.ch h).sent := fun h => by
    by_cases e : h = j
    · subst e
      rw [hchj]
      rfl
    · rw [hch h e]
  refine ⟨⟨a1, a2, a3, a4, a5, a6, a7, a8, a9, a10, a11, a12, a13, fun i hi => ?_, fun h hh => ?_, a16, a17⟩, ⟨t1, t2, t3, t4, t5, t6, fun h hh => ?_⟩, M, ⟨fun h hh => ?_, fun h k hh hk x hx y hy => ?_, fun h hh h1 => ?_⟩, ⟨c1, c2, c3, c4, c5, c6, c7, c8, c9, c10, c11, fun h hh => ?_, c13⟩, H⟩
  · rw [hse, (hS i).1, (hS i).2]
    exact a14 i hi
  · rw [hsent]
    refine ⟨(a15 h hh).1, ?_⟩
    by_cases e : h = j
    · subst e
      rw [hchj]
      exact hk37
    · rw [hch h e]
      exact (a15 h hh).2
  · by_cases e : h = j
    · subst e
      rw [hchj]
      have := t7 h hh
      exact ⟨this.1, this.2.1, this.2.2.1, hc, this.2.2.2.2⟩
    · rw [hch h e]
      exact t7 h hh
  · rw [hsent]
    refine ⟨(n1 h hh).1, fun x hx => ?_⟩
    rw [hse, (hS x).1]
    exact (n1 h hh).2 x hx
  · rw [hsent] at hx hy
    rw [hse, hse, (hS x).1, (hS y).1]
    exact n2 h k hh hk x hx y hy
  · by_cases e : h = j
    · subst e
      rw [hchj] at h1 ⊢
      exact hd h1
    · rw [hch h e] at h1 ⊢
      intro z hz x hx
      exact ⟨(n3 h hh h1 z hz x hx).1, hd2 h hh e h1 z hz x hx⟩
  · by_cases e : h = j
    · subst e
      rw [hchj]
      exact h32
    · rw [hch h e]
      exact c12 h hh
theorem dones_ok : ∀ x, ((fun x => if x ∈ l then (s.se x).w_done v else s.se x) x).entry = (s.se x).entry ∧ ((fun x => if x ∈ l then (s.se x).w_done v else s.se x) x).cons = (s.se x).cons := fun x => by
  show (if x ∈ l then (s.se x).w_done v else s.se x).entry = _ ∧ (if x ∈ l then (s.se x).w_done v else s.se x).cons = _
  split <;> exact ⟨rfl, rfl⟩
theorem done_true (hx : (s.se x).done = true ∨ x ∈ l) : ((fun x => if x ∈ l then (s.se x).w_done true else s.se x) x).done = true := by
  show (if x ∈ l then (s.se x).w_done true else s.se x).done = true
  split
  · rfl
  · rename_i hn
    exact hx.resolve_right hn
theorem se_p {X : Nat → sSe} : tP (s.w_se X) = tP s := by
  unfold tP sEnts
  rw [wr_lastNum_se, wr_qs_se, wr_qu_se, wr_dead_se, wr_es_se]
theorem se_y {X : Nat → sSe} : tY (s.w_se X) = tY s := by
  unfold tY sRdy s_ready sLive
  rw [wr_lastNum_se, wr_qs_se, wr_qu_se, wr_en_se, wr_cn_se]
theorem se_w {X : Nat → sSe} : sWt (s.w_se X) = sWt s := by
  unfold sWt
  rw [wr_facts_se, wr_ch_se]
theorem wk_sent {k : sCh} {K : List sKe} : (k.w_kept K).sent = k.sent := rfl
theorem wk_confs {k : sCh} {K : List sKe} : (k.w_kept K).confs = k.confs := rfl
theorem ackK_eq : s_ackK s j what l = (s.w_ch (sUp s.ch j ((s.ch j).w_kept ((s.ch j).kept ++ [(none, what, l)])))).w_se (fun x => if x ∈ l then (s.se x).w_done true else s.se x) := by
  unfold s_ackK s_dones s_ch
  rw [wr_se_ch]
theorem ackK_w : tP (s_ackK s j what l) = tP s ∧ tY (s_ackK s j what l) = tY s := by
  rw [ackK_eq, se_p, se_y, tP_ch, tY_ch]
  exact ⟨rfl, rfl⟩
theorem ackK_wt (hj : isH j) : sWt (s_ackK s j what l) = sWt s := by
  rw [ackK_eq, se_w, sWt_chUp (u := 0) hj (by rw [wk_sent, wk_confs]; rfl), Nat.add_zero]
theorem p_ackK (I : sI s) (hj : isH j) (hl : ∀ x ∈ l, x ∈ (s.ch j).sent) (h32 : (s.ch j).kept.length < 32) : sI (s_ackK s j what l) := by
  have e : s_ackK s j what l = (s_ch s j (fun k => k.w_kept ((s.ch j).kept ++ [(none, what, l)]))).w_se (fun x => if x ∈ l then (s.se x).w_done true else s.se x) := by
    rw [ackK_eq]
    unfold s_ch
    dsimp only
  rw [e]
  have hmem : ∀ z ∈ (s.ch j).kept ++ [((none, what, l) : sKe)], z ∈ (s.ch j).kept ∨ z = (none, what, l) := fun z hz => (List.mem_append.mp hz).imp id List.mem_singleton.mp
  refine I.marks hj dones_ok ?_ (fun z hz c hc => ?_) (fun z hz x hx => ?_) (fun h1 z hz x hx => ?_) (fun h hh _ h1 z hz x hx => done_true (Or.inl (I.sn.2.2 h hh h1 z hz x hx).2))
  · rw [List.length_append, List.length_singleton]
    omega
  · rcases hmem z hz with e | e
    · exact (I.tx.ch j hj).2.2.2.1 z e c hc
    · subst e
      cases hc
  · rcases hmem z hz with e | e
    · exact (I.sc.ch j hj).2 z e x hx
    · subst e
      exact (I.sc.ch j hj).1 x (hl x hx)
  · rcases hmem z hz with e | e
    · obtain ⟨p1, p2⟩ := I.sn.2.2 j hj h1 z e x hx
      exact ⟨p1, done_true (Or.inl p2)⟩
    · subst e
      exact ⟨hl x hx, done_true (Or.inr hx)⟩
end MX
