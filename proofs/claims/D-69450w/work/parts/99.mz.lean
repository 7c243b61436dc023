/-! ===== the twin: transactions ===== -/
set_option maxRecDepth 100000
/-- a commit from its place on -/
def s_comS (j : Nat) (cl me : Int32) (r : List sKe) (s : sSt) : sSt := s_tld j cl me (s_bind (s_commits j r s) (fun s1 => s_ok (if s_speaks s1 j then s_ans s1 j 90 21 [] else s1)))
/-- an array of what is kept -/
def gKs (g : sG) (n : Nat) (l : List sKe) : Prop := ∃ rs : List Nat, gF g n (1021, rs.map zr) ∧ rs.length = l.length ∧ ∀ (i : Nat) k, l[i]? = some k → ∃ r, rs[i]? = some r ∧ gKe g r k
section MZ
variable {s0 : zE} {F : Nat → Option zC} {b : Nat} {s s' s1 s2 sS : sSt} {w w' w1 w2 : tW} {g g' g0 : sG} {h h' : zH} {d x0 x1 x2 x3 x5 x7 i j q m p n a e x y c : Nat} {Q : Value → zH → Prop} {E : Nat → zH → Prop} {dr nm key frm bb : sBy} {sz cl me code k bits tag what c4 c5 c6 : Int32} {rd : sRd} {u : Int32 × List Nat × (Nat → Nat)} {all v : Bool} {l : List Nat} {ct : sCont} {kk : sKe} {L0 r : List sKe} {o : Option sTab}
theorem comS_nil : s_comS j cl me [] s = if s_speaks s j then s_ans s j 90 21 [] else s := rfl
theorem comS_stop (hs : s_speaks s j = false) : s_comS j cl me r s = s := by
  cases r with
  | nil =>
    rw [comS_nil, hs]
    rfl
  | cons k r =>
    unfold s_comS
    rw [s_commits, hs, if_pos (by decide), bind_n rfl]
    show s_tld j cl me (s_ok (if s_speaks s j = true then _ else s)) = s
    rw [hs]
    rfl
theorem comS_set (hs : s_speaks s j = true) (hc : kk.cont = none) : s_comS j cl me (kk :: r) s = s_comS j cl me r (s_settleAll s j kk.those kk.what) := by
  unfold s_comS
  rw [s_commits, hs, if_neg (by decide), hc]
theorem comS_pub (hs : s_speaks s j = true) (hc : kk.cont = some ct) (hf : s_full s = false) : s_comS j cl me (kk :: r) s = s_comS j cl me r (s_publish s j ct).1 := by
  have h2 : (s_publish s j ct).2 = none := by
    unfold s_publish
    rw [hf]
    rfl
  unfold s_comS
  rw [s_commits, hs, if_neg (by decide), hc]
  show s_tld j cl me (s_bind (s_bind (s_publish s j ct) (fun s1 => s_commits j r s1)) _) = _
  rw [bind_n h2]
theorem comS_full (hs : s_speaks s j = true) (hc : kk.cont = some ct) (hf : s_full s = true) : s_comS j cl me (kk :: r) s = s_hard s (j / 4) 506 cl me := by
  have h2 : s_publish s j ct = s_hardF s 506 := by
    unfold s_publish
    rw [hf]
    rfl
  unfold s_comS
  rw [s_commits, hs, if_neg (by decide), hc]
  show s_tld j cl me (s_bind (s_bind (s_publish s j ct) (fun s1 => s_commits j r s1)) _) = _
  rw [h2]
  rfl
theorem come4_ch {c : sCont} {ex ky : sBy} {xp : Int64} {dt : Int32} : (s_come4 s q c ex ky xp dt).ch = s.ch := by
  unfold s_come4
  split
  · rw [wt_ch]
    unfold s_come3
    rw [in_ch, b36_ch, wr_ch_lastNum]
  · unfold s_come3
    rw [in_ch, b36_ch, wr_ch_lastNum]
theorem shorten_ch : ∀ (n : Nat) (s : sSt), (s_shorten q n s).ch = s.ch
  | 0, _ => rfl
  | n + 1, s => by
    rw [s_shorten]
    split
    · split
      · rfl
      · rw [shorten_ch n, lf_dies.1.2.2.1]
    · rfl
theorem comes_ch {c : sCont} {ex ky : sBy} {xp : Int64} {dt : Int32} : (s_comes s q c ex ky xp dt).ch = s.ch := by
  rw [s_comes_eq]
  unfold s_trim
  rw [shorten_ch, come4_ch]
theorem comesAll_ch {c : sCont} {ex ky : sBy} {xp : Int64} {dt : Int32} : ∀ (l : List Nat) (s : sSt), (s_comesAll c ex ky xp dt l s).ch = s.ch
  | [], _ => rfl
  | q :: r, s => by
    rw [s_comesAll, comesAll_ch r]
    split
    · rfl
    · exact comes_ch
/-- what is kept and was sent stays, where a channel that published still speaks -/
def sStay (j : Nat) (s s' : sSt) : Prop := (s'.ch j).state = 1 → (s.ch j).state = 1 ∧ (s'.ch j).sent = (s.ch j).sent ∧ (s'.ch j).kept = (s.ch j).kept
theorem sStay.trans (A : sStay j s s1) (B : sStay j s1 s2) : sStay j s s2 := fun h => by
  obtain ⟨b1, b2, b3⟩ := B h
  obtain ⟨a1, a2, a3⟩ := A b1
  exact ⟨a1, b2.trans a2, b3.trans a3⟩
theorem sStay.of_ch (e : s'.ch = s.ch) : sStay j s s' := fun h => by
  rw [e] at h ⊢
  exact ⟨h, rfl, rfl⟩
theorem stay_send (I : sI s) (hj : isH j) : sStay j s (s_send s (j / 4) bb) := fun h => by
  have e := send_ch I hj h
  rw [e] at h ⊢
  exact ⟨h, rfl, rfl⟩
theorem stay_confirm (I : sI s) (hj : isH j) {rc : Bool} : sStay j s (s_confirm s j rc) := by
  have I1 : sI (s_ch s j (fun k => k.w_confirm (k.confirm + 1))) := I.chSame hj rfl rfl (fun hx => hx) rfl
  have A : sStay j s (s_ch s j (fun k => k.w_confirm (k.confirm + 1))) := fun h => by
    rw [s_ch_ch] at h ⊢
    exact ⟨h, rfl, rfl⟩
  cases rc with
  | true =>
    have e : s_confirm s j true = s_ch (s_ch s j (fun k => k.w_confirm (k.confirm + 1))) j (fun k => k.w_confs (k.confs ++ [k.confirm])) := rfl
    rw [e]
    revert A
    generalize s_ch s j (fun k => k.w_confirm (k.confirm + 1)) = t
    intro A
    refine A.trans fun h => ?_
    rw [s_ch_ch] at h ⊢
    exact ⟨h, rfl, rfl⟩
  | false =>
    have e : s_confirm s j false = s_send (s_ch s j (fun k => k.w_confirm (k.confirm + 1))) (j / 4) (w_method (Int32.ofNat (j % 4)) 60 80 (w_32 ((s_ch s j (fun k => k.w_confirm (k.confirm + 1))).ch j).confirm ++ w_8 0)) := rfl
    rw [e]
    exact A.trans (stay_send I1 hj)
theorem comes_I (ok : sContOk ct) (he : nm.length ≤ 40) (hk : key.length ≤ 40) {xp : Int64} {dt : Int32} (hx : xp = -1 ∨ (0 ≤ xp ∧ xp ≤ 4294967295)) : ∀ (l : List Nat) (s : sSt), sI s → (∀ q ∈ l, q ∈ s.qs) → sI (s_comesAll ct nm key xp dt l s)
  | [], s, I, _ => I
  | q :: r, s, I, hq => by
    rw [s_comesAll]
    cases hf : s_full s with
    | true => exact comes_I ok he hk hx r s I fun p hp => hq p (List.mem_cons_of_mem _ hp)
    | false => exact comes_I ok he hk hx r _ (p_comes I (hq q List.mem_cons_self) ok he hk hx hf).1 fun p hp => by rw [if_neg (by decide), comes_qs]; exact hq p (List.mem_cons_of_mem _ hp)
theorem route_mem : ∀ q ∈ s_route s nm key o, q ∈ s.qs := by
  unfold s_route
  split
  · exact queue_qs.1
  · exact (route_qs (e := s_exch s nm) (heads := o) (seen := []) 13 [] (s_exch s nm)).1
theorem pub_stay (I : sI s) (hj : isH j) (ok : sContOk ct) (hf : s_full s = false) : sStay j s (s_publish s j ct).1 := by
  rw [s_publish_1 hf]
  dsimp only
  have hr : ∀ q ∈ s_route s ct.exch ct.key ct.heads, q ∈ s.qs := route_mem
  generalize s_route s ct.exch ct.key ct.heads = to at hr
  have I1 := comes_I (dt := 0) ok ok.1.1 ok.1.2.1 ok.1.2.2.2.2.2 to s I hr
  have A1 : sStay j s (s_comesAll ct ct.exch ct.key ct.expi 0 to s) := sStay.of_ch (comesAll_ch to s)
  generalize s_recs ct ct.exch ct.key ct.expi 0 to s = rc
  generalize s_comesAll ct ct.exch ct.key ct.expi 0 to s = s1 at I1 A1
  have A2 : sStay j s1 (if to = [] ∧ ct.mand = true then s_send s1 (j / 4) (w_method (Int32.ofNat (j % 4)) 60 50 (w_16 312 ++ w_8 0 ++ w_short ct.exch ++ w_short ct.key) ++ w_content (Int32.ofNat (j % 4)) ct ct.expi) else s1) ∧ sI (if to = [] ∧ ct.mand = true then s_send s1 (j / 4) (w_method (Int32.ofNat (j % 4)) 60 50 (w_16 312 ++ w_8 0 ++ w_short ct.exch ++ w_short ct.key) ++ w_content (Int32.ofNat (j % 4)) ct ct.expi) else s1) := by
    split
    · exact ⟨stay_send I1 hj, (d_send I1 hj.div).1 I1⟩
    · exact ⟨fun h => ⟨h, rfl, rfl⟩, I1⟩
  generalize (if to = [] ∧ ct.mand = true then s_send s1 (j / 4) (w_method (Int32.ofNat (j % 4)) 60 50 (w_16 312 ++ w_8 0 ++ w_short ct.exch ++ w_short ct.key) ++ w_content (Int32.ofNat (j % 4)) ct ct.expi) else s1) = s2 at A2
  refine (A1.trans A2.1).trans ?_
  split
  · exact stay_confirm A2.2 hj
  · exact fun h => ⟨h, rfl, rfl⟩
end MZ
