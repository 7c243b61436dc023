/-! ===== what a frame does to channels, messages and what was sent (pure) ===== -/
set_option maxRecDepth 100000
set_option maxHeartbeats 200000
section NW
variable {s s' s1 s2 s3 : sSt} {h c q e i m x n n' j k B : Nat} {kk k' : sCh} {b ex ky bs left : sBy} {ct : sCont} {xp : Int64} {dt : Int32} {r rd : sRd} {f : sRs} {me cl what tag ty chan : Int32} {on all : Bool}
theorem M_opens (V : sVV n s) (h0 : (s.ch j).state = 0) (hb : n ≤ 50000) (hB : (s.ch j).kept.length ≤ B) : sMV n j B s (s_opens s j) := by
  unfold s_opens
  dsimp only
  refine sMV.eE ?_ e_ans
  have V2 : sVV n (s_ch s j (fun k => ((((((((k.w_state 1).w_mode 0).w_active true).w_limit 0).w_coming 0).w_tag 0).w_confirm 0).w_tags 0).w_lastq none)) :=
    V_ch V rfl (fun C => ⟨⟨Int32.le_refl _, i_nn' (by omega)⟩, Or.inr (Or.inl rfl), C.2.2.1, fun hn => absurd rfl hn, C.2.2.2.2⟩) (Nat.le_refl _) hb
  refine ⟨V2, fun p hp => ?_, ?_, fun c => ⟨Nat.le_refl _, rfl⟩⟩
  · show (sUp s.ch j _ p).kept.length ≤ _
    rw [sUp_ne hp]
    exact Nat.le_refl _
  · show (sUp s.ch j _ j).kept.length ≤ _
    rw [sUp_self]
    exact hB
theorem M_onChan (V : sVV n s) (hb : n ≤ 50000) (hB : (s.ch j).kept.length ≤ B) (h0 : me = 10 → (s.ch j).state = 0) : sMV n j B s (s_onChan s j me r).1 := by
  by_cases h10 : me = 10
  · unfold s_onChan
    rw [if_pos h10]
    exact M_then V hB fun _ => M_opens V (h0 h10) hb hB
  · exact sMV.ofE V hB (E_onChan h10)
theorem E_deal (h20 : me ≠ 20) : sE s (s_deal s h me r).1 := by
  unfold s_deal
  dsimp only
  have F : ∀ v : Int32, sE s (s_ch s h (fun k => k.w_mode v)) := fun v => e_chF (fun _ => rfl) (fun _ => rfl) (fun _ => rfl) (fun _ => rfl) (fun _ => rfl)
  have K : sE s (s_ch s h (fun k => k.w_kept [])) := e_chUp ⟨Or.inr rfl, Or.inl rfl, Or.inl rfl, rfl, fun x hx => hx⟩
  refine E_then (E_if (E_if (sE.refl s) ((F _).trans e_ans)) (E_if (sE.refl s) ?_))
  rw [if_neg h20]
  refine K.trans (sE.trans (e_se fun m => ?_) e_ans)
  split <;> rfl
theorem M_commit (V : sVV n s) (hm : ¬ (s.ch j).mode ≠ 1) (hw : r_whole r = true) : sMV n j 0 s (s_deal s j 20 r).1 := by
  unfold s_deal s_then
  dsimp only
  rw [if_pos hw, if_neg (by decide), if_neg hm, if_pos rfl]
  have K : sE s (s_ch s j (fun k => k.w_kept [])) := e_chUp ⟨Or.inr rfl, Or.inl rfl, Or.inl rfl, rfl, fun x hx => hx⟩
  have A : sMV n j 0 s (s_ch s j (fun k => k.w_kept [])) := by
    refine ⟨V.eE K, fun p hp => (K.1 p).kl, ?_, fun c => ⟨Nat.le_refl _, rfl⟩⟩
    show (sUp s.ch j _ j).kept.length ≤ 0
    rw [sUp_self]
    exact Nat.le_refl _
  have C := M_commits (h := j) (s.ch j).kept _ A
  unfold s_bind
  split
  · exact C.eE (e_if (fun _ => e_ans) fun _ => sE.refl _)
  · exact C
/-- what is kept behind a frame: k0 -/
def oK0 (cl me : Int32) (k : Nat) : Nat := if cl = 90 ∧ me = 20 then 0 else k + 1
theorem tld_e {x : sRs} : sE x.1 (s_tld j cl me x) := e_told
theorem M_told {x : sRs} (A : sMV n j B s x.1) : sMV n j B s (s_tld j cl me x) := A.eE tld_e
theorem M_onMethod (V : sVV n s) (I : sI s) (hj : isH j) (hn : n < 50000) (hs : (s.ch j).state = 1 ∨ (cl = 20 ∧ me = 10 ∧ (s.ch j).state = 0)) (h10 : cl = 20 → me = 10 → (s.ch j).state = 0) (hc : ¬ (cl = 90 ∧ me = 20)) :
    sMV (n + 1) j ((s.ch j).kept.length + 1) s (s_onMethod s j cl me r).1 := by
  have V' := V.mono (Nat.le_succ n) (by omega)
  have hB : (s.ch j).kept.length ≤ (s.ch j).kept.length + 1 := Nat.le_succ _
  have ofE : ∀ {s1 : sSt}, sE s s1 → sMV (n + 1) j ((s.ch j).kept.length + 1) s s1 := fun E => sMV.ofE V' hB E
  unfold s_onMethod
  by_cases c20 : cl = 20
  · rw [if_pos c20]
    exact M_onChan V' (by omega) hB (h10 c20)
  rw [if_neg c20]
  have hs1 : (s.ch j).state = 1 := hs.resolve_right fun q => c20 q.1
  by_cases c40 : cl = 40
  · rw [if_pos c40]
    exact ofE (E_if E_declE E_removeE)
  rw [if_neg c40]
  by_cases c50 : cl = 50
  · rw [if_pos c50]
    by_cases m10 : me = 10
    · rw [if_pos m10]
      exact M_declQ V I.sc hn hB
    rw [if_neg m10]
    exact ofE (E_if E_binds (E_if E_purge (E_if E_removeQ E_binds)))
  rw [if_neg c50]
  by_cases c60 : cl = 60
  · rw [if_pos c60]
    by_cases m10 : me = 10
    · rw [if_pos m10]; exact ofE E_qos
    rw [if_neg m10]
    by_cases m20 : me = 20
    · rw [if_pos m20]; exact M_consume V hn hB
    rw [if_neg m20]
    by_cases m30 : me = 30
    · rw [if_pos m30]; exact ofE E_cancels
    rw [if_neg m30]
    by_cases m40 : me = 40
    · rw [if_pos m40]; exact ofE E_publishes
    rw [if_neg m40]
    by_cases m70 : me = 70
    · rw [if_pos m70]; exact M_get V' I hB
    rw [if_neg m70]
    by_cases m110 : me = 110
    · rw [if_pos m110]; exact ofE E_recovers
    rw [if_neg m110]
    exact M_onTag V' I hj hs1 (by omega)
  rw [if_neg c60]
  by_cases c85 : cl = 85
  · rw [if_pos c85]
    exact ofE E_confirms
  rw [if_neg c85]
  by_cases m20 : me = 20
  · -- a class that is not told of
    by_cases c90 : cl = 90
    · exact absurd ⟨c90, m20⟩ hc
    · subst m20
      unfold s_deal
      dsimp only
      refine M_then V' hB fun _ => ?_
      rw [if_neg (by decide)]
      split
      · exact sMV.of V' hB
      · rw [if_pos rfl]
        have K : sE s (s_ch s j (fun k => k.w_kept [])) := e_chUp ⟨Or.inr rfl, Or.inl rfl, Or.inl rfl, rfl, fun x hx => hx⟩
        have C := M_commits (h := j) (s.ch j).kept _ (ofE K)
        unfold s_bind
        split
        · exact C.eE (e_if (fun _ => e_ans) fun _ => sE.refl _)
        · exact C
  · exact ofE (E_deal m20)
theorem M_hardT (V : sVV n s) (hB : (s.ch j).kept.length ≤ B) {code c1 m1 : Int32} : sMV n j B s (s_hard s c code c1 m1) := sMV.ofE V hB e_hard
theorem M_hard0 (V : sVV n s) (hj : isH j) (h5 : (s.cn (j / 4)).state = 5) {code c1 m1 : Int32} : sMV n j 0 s (s_hard s (j / 4) code c1 m1) := by
  have A := M_hardT (j := j) (c := j / 4) (code := code) (c1 := c1) (m1 := m1) V (Nat.le_refl _)
  refine ⟨A.1, A.2.1, ?_, A.2.2.2⟩
  obtain ⟨e1, h1, h3⟩ := hj.eq
  have := (hard_fin (code := code) (c1 := c1) (m1 := m1) h5 h1 h3).1
  rw [e1] at this
  rw [this]
  exact Nat.le_refl _
theorem M_soft0 (V : sVV n s) (hj : isH j) (h5 : (s.cn (j / 4)).state = 5) {code c1 m1 : Int32} : sMV n j 0 s (s_soft s j code c1 m1) := by
  have A := sMV.ofE (j := j) V (Nat.le_refl _) (e_soft (h := j) (code := code) (c1 := c1) (m1 := m1))
  refine ⟨A.1, A.2.1, ?_, A.2.2.2⟩
  rw [(soft_fin hj h5).1]
  exact Nat.le_refl _
theorem sMV.up {B' : Nat} (A : sMV n j B s s') (h : B ≤ B') : sMV n j B' s s' := ⟨A.1, A.2.1, Nat.le_trans A.2.2.1 h, A.2.2.2⟩
theorem M_onChannel (V : sVV n s) (I : sI s) (hj : isH j) (hn : n < 50000) (h5 : (s.cn (j / 4)).state = 5) (hs : (s.ch j).state = 0 ∨ (s.ch j).state = 1) :
    sMV (n + 1) j (oK0 cl me (s.ch j).kept.length) s (s_tld j cl me (s_onChannel s j cl me r)) := by
  have V' := V.mono (Nat.le_succ n) (by omega)
  have hard : ∀ code : Int32, sMV (n + 1) j (oK0 cl me (s.ch j).kept.length) s (s_tld j cl me (s_hardF s code)) := fun code => by
    rw [tld_hard]
    exact (M_hard0 V' hj h5).up (Nat.zero_le _)
  unfold s_onChannel
  dsimp only
  by_cases c10 : cl = 10
  · rw [if_pos c10]; exact hard _
  rw [if_neg c10]
  by_cases ho : decide (cl = 20 ∧ me = 10) ≠ decide ((s.ch j).state = 0)
  · rw [if_pos ho]; exact hard _
  rw [if_neg ho]
  have ho : (cl = 20 ∧ me = 10) ↔ (s.ch j).state = 0 := decide_eq_decide.mp (Decidable.not_not.mp ho)
  by_cases hd : (s.ch j).due ≠ 0
  · rw [if_pos hd]; exact hard _
  rw [if_neg hd]
  by_cases ht : ¬ s_isTold cl me = true
  · rw [if_pos ht]; exact hard _
  rw [if_neg ht]
  by_cases hc : cl = 90 ∧ me = 20
  · have eB : oK0 cl me (s.ch j).kept.length = 0 := if_pos hc
    rw [eB]
    have em : s_onMethod s j cl me r = s_deal s j 20 r := by
      rw [hc.1, hc.2]
      unfold s_onMethod
      rw [if_neg (by decide), if_neg (by decide), if_neg (by decide), if_neg (by decide), if_neg (by decide)]
    rw [em]
    by_cases hw : r_whole r = true
    · by_cases hm : (s.ch j).mode ≠ 1
      · have e : s_deal s j 20 r = s_softF s 406 := by
          unfold s_deal s_then
          dsimp only
          rw [if_pos hw, if_neg (by decide), if_pos hm]
        rw [e, tld_soft]
        exact M_soft0 V' hj h5
      · exact M_told (M_commit V' hm hw)
    · have e : s_deal s j 20 r = s_hardF s 502 := by
        unfold s_deal s_then
        exact if_neg hw
      rw [e, tld_hard]
      exact M_hard0 V' hj h5
  · have eB : oK0 cl me (s.ch j).kept.length = (s.ch j).kept.length + 1 := if_neg hc
    rw [eB]
    refine M_told (M_onMethod V I hj hn ?_ (fun a1 a2 => ho.mp ⟨a1, a2⟩) hc)
    rcases hs with q | q
    · have := ho.mpr q
      exact Or.inr ⟨this.1, this.2, q⟩
    · exact Or.inl q
/-- junk, that a fault clears -/
theorem e_jk (Bk : sE (s_junk s h) s2) (hf : (s2.ch h).junk = false) : sE s s2 := by
  obtain ⟨b1, b2, b3, b4, b5, b6, b7, b8, b9⟩ := Bk
  refine ⟨fun j => ?_, b2, b3, b4, b5, b6, b7, b8, b9⟩
  have hj := b1 j
  by_cases e : j = h
  · subst e
    have e1 : (s_junk s j).ch j = (s.ch j).w_junk true := by unfold s_junk; rw [s_ch_ch]
    rw [e1] at hj
    obtain ⟨a1, a2, a3, a4, a5⟩ := hj
    exact ⟨a1, Or.inr hf, a3, a4, a5⟩
  · have e1 : (s_junk s h).ch j = s.ch j := sUp_ne e
    rw [e1] at hj
    exact hj
theorem sMV.trans {B' : Nat} (A : sMV n j B s s1) (C : sMV n j B' s1 s2) : sMV n j B' s s2 := ⟨C.1, fun h hh => Nat.le_trans (C.2.1 h hh) (A.2.1 h hh), C.2.2.1, fun c => ⟨Nat.le_trans (C.2.2.2 c).1 (A.2.2.2 c).1, (C.2.2.2 c).2.trans (A.2.2.2 c).2⟩⟩
theorem M_arrived (V : sVV n s) (hj : isH j) (h1 : (s.ch j).state = 1) (hb : n ≤ 50000) : sMV n j ((s.ch j).kept.length + 1) s (s_arrived s j ct).1 := by
  unfold s_arrived
  dsimp only
  have ha := (V.2.2.1 j hj).2.2.2.2
  have F : sE s (s_ch s j (fun k => (k.w_cont none).w_due 0)) := e_chF (fun _ => rfl) (fun _ => rfl) (fun _ => rfl) (fun _ => rfl) (fun _ => rfl)
  have A := sMV.ofE (j := j) V (Nat.le_succ _) F
  have k1 : ((s_ch s j (fun k => (k.w_cont none).w_due 0)).ch j).kept = (s.ch j).kept := by rw [s_ch_ch]; rfl
  have k2 : ((s_ch s j (fun k => (k.w_cont none).w_due 0)).ch j).state = 1 := by rw [s_ch_ch]; exact h1
  split
  · rename_i hm
    have hk : sApt ((s_ch s j (fun k => (k.w_cont none).w_due 0)).ch j).kept := by rw [k1]; exact ha
    generalize s_ch s j (fun k => (k.w_cont none).w_due 0) = s1 at A k1 k2 hk ⊢
    have hA : sApt ((s1.ch j).kept ++ [((some ct : Option sCont), (0 : Int32), ([] : List Nat))]) := by
      refine ⟨List.pairwise_append.mpr ⟨hk.1, List.pairwise_singleton _ _, fun a ha b hb x hx => ?_⟩, fun k hk2 => ?_⟩
      · rw [List.mem_singleton.mp hb] at hx
        exact absurd (show x ∈ [] from hx) List.not_mem_nil
      · rcases List.mem_append.mp hk2 with q | q
        · exact hk.2 k q
        · rw [List.mem_singleton.mp q]
          exact List.nodup_nil
    have K := V_keep A.1 k2 hA hb
    rw [k1] at K
    exact A.trans K
  · exact M_publish A
theorem told_if {P : Prop} [Decidable P] {x y : sRc} {B : Nat} (A : P → sMV n j B s (s_told c h x)) (A2 : ¬ P → sMV n j B s (s_told c h y)) : sMV n j B s (s_told c h (if P then x else y)) := by
  by_cases q : P
  · rw [if_pos q]
    exact A q
  · rw [if_neg q]
    exact A2 q
theorem told_at {x : sRs} {B : Nat} {a1 a2 : Int32} (A : sMV n j B s x.1) : sMV n j B s (s_told c h (s_at x a1 a2)) := sMV.eE A (e_told (x := s_at x a1 a2))
theorem e_cwd {o : Option sCont} {dd : Int32} {N : Nat} : sE s (s_ch s h (fun k => ((k.w_cont o).w_due dd).w_want N)) := e_chF (fun _ => rfl) (fun _ => rfl) (fun _ => rfl) (fun _ => rfl) (fun _ => rfl)
theorem e_cnState {z : Int32} : sE s (s_cn s c (fun k => k.w_state z)) := e_cnUp fun _ => Nat.le_refl _
theorem e_cnBS {z y : Int32} : sE s (s_cn s c (fun k => (k.w_beat y).w_state z)) := e_cnUp fun _ => Nat.le_refl _
theorem e_cnDeaf : sE s (s_cn s c (fun k => k.w_deaf true)) := e_cnUp fun _ => Nat.le_refl _
theorem M_header (V : sVV n s) (hj : isH j) (h5 : (s.cn (j / 4)).state = 5) (h1 : (s.ch j).state = 1) (hb : n ≤ 50000) : sMV n j ((s.ch j).kept.length + 1) s (s_told (j / 4) j (s_header s j r)) := by
  have hz : 0 ≤ (s.ch j).kept.length + 1 := Nat.zero_le _
  have hard : sMV n j ((s.ch j).kept.length + 1) s (s_told (j / 4) j (s_at (s_hardF (s_junk s j) 502) 0 0)) := by
    have e : s_told (j / 4) j (s_at (s_hardF (s_junk s j) 502) 0 0) = s_hard (s_junk s j) (j / 4) 502 0 0 := rfl
    rw [e]
    obtain ⟨e1, h1, h3⟩ := hj.eq
    have hf := hard_fin (s := s_junk s j) (code := 502) (c1 := 0) (m1 := 0) h5 h1 h3
    rw [e1] at hf
    exact sMV.ofE V (Nat.le_succ _) (e_jk e_hard hf.2)
  have soft : sMV n j ((s.ch j).kept.length + 1) s (s_told (j / 4) j (s_at (s_softF (s_junk s j) 311) 60 40)) := by
    have e : s_told (j / 4) j (s_at (s_softF (s_junk s j) 311) 60 40) = s_soft (s_junk s j) j 311 60 40 := rfl
    rw [e]
    have hf := soft_fin (s := s_junk s j) (code := 311) (c1 := 60) (m1 := 40) hj h5
    exact sMV.ofE V (Nat.le_succ _) (e_jk e_soft hf.2)
  unfold s_header
  dsimp only
  refine told_if (fun _ => hard) fun _ => told_if (fun _ => hard) fun _ => told_if (fun _ => soft) fun _ => ?_
  generalize (s.ch j).cont = o
  cases o with
  | none => exact told_at (sMV.of V (Nat.le_succ _))
  | some ct => exact told_if (fun _ => told_at (M_arrived V hj h1 hb)) fun _ => told_at (sMV.ofE V (Nat.le_succ _) e_cwd)
theorem M_body (V : sVV n s) (hj : isH j) (h1 : (s.ch j).state = 1) (hb : n ≤ 50000) : sMV n j ((s.ch j).kept.length + 1) s (s_told c j (s_body s j bs)) := by
  unfold s_body
  split
  · exact sMV.of V (Nat.le_succ _)
  · split
    · exact sMV.ofE V (Nat.le_succ _) e_hard
    · dsimp only
      split
      · exact (M_arrived V hj h1 hb).eE e_told
      · exact sMV.ofE V (Nat.le_succ _) (e_chF (by intro _; rfl) (by intro _; rfl) (by intro _; rfl) (by intro _; rfl) (by intro _; rfl))
theorem M_onConn (V : sVV n s) (hB : (s.ch j).kept.length ≤ B) : sMV n j B s (s_told c h (s_at (s_onConn s c cl me r) cl me)) := by
  refine sMV.ofE V hB ?_
  have E : sE s (s_onConn s c cl me r).1 := by
    rw [s_onConn_eq]
    exact E_if (sE.refl s) (E_if (sE.refl s) (E_if (sE.refl s) (E_then (e_simple.trans e_close))))
  exact E.trans e_told
/-- what a frame leaves: the channel that it is for, or any -/
theorem M_onOpen (V : sVV n s) (I : sI s) (hc : c < 4) (h5 : (s.cn c).state = 5) (hn : n < 50000) (h0 : 0 ≤ chan) (hty : ty = 1 ∨ ty = 2 ∨ ty = 3 ∨ ty = 8) :
    (chan = 0 ∨ 3 < chan → ∀ j, sMV (n + 1) j (s.ch j).kept.length s (s_onOpen s c ty chan bs)) ∧
    (¬ (chan = 0 ∨ 3 < chan) → sMV (n + 1) (4 * c + chan.toNatClampNeg) (if ty = 1 ∧ (r_head ty bs).1 = 90 ∧ (r_head ty bs).2.1 = 20 then 1 else (s.ch (4 * c + chan.toNatClampNeg)).kept.length + 1) s (s_onOpen s c ty chan bs)) := by
  have V' := V.mono (Nat.le_succ n) (by omega)
  constructor
  · intro hch j
    have ofE : ∀ {s1 : sSt}, sE s s1 → sMV (n + 1) j (s.ch j).kept.length s s1 := fun E => sMV.ofE V' (Nat.le_refl _) E
    unfold s_onOpen
    dsimp only
    by_cases h3 : 3 < chan
    · rw [if_pos h3]
      exact ofE e_hard
    rw [if_neg h3]
    have hc0 : chan = 0 := hch.resolve_right h3
    rw [if_neg (fun hh => hh.1 hc0)]
    split
    · exact ofE (e_if (fun _ => e_hard) fun _ => sE.refl s)
    split
    · split
      · exact ofE e_hard
      · exact M_onConn V' (Nat.le_refl _)
    · split
      · exact ofE e_hard
      · rename_i hh
        exact absurd (Or.inl hc0) hh
  · intro hch
    have hn0 : ¬ chan = 0 := fun hh => hch (Or.inl hh)
    have hn3 : ¬ 3 < chan := fun hh => hch (Or.inr hh)
    have hj : isH (4 * c + chan.toNatClampNeg) := by
      refine isH.of hc (Nat.pos_of_ne_zero fun e => hn0 ?_) (i_clamp (k := 3) (by decide) (Int32.not_lt.mp hn3))
      have := i_of h0
      rw [e] at this
      exact this.symm
    have hk3 : chan.toNatClampNeg ≤ 3 := i_clamp (k := 3) (by decide) (Int32.not_lt.mp hn3)
    have hjd : (4 * c + chan.toNatClampNeg) / 4 = c := by omega
    unfold s_onOpen
    dsimp only
    rw [if_neg hn3]
    generalize 4 * c + chan.toNatClampNeg = j at *
    generalize hBB : (if ty = 1 ∧ (r_head ty bs).1 = 90 ∧ (r_head ty bs).2.1 = 20 then 1 else (s.ch j).kept.length + 1) = BB
    have hB1 : (¬ (ty = 1 ∧ (r_head ty bs).1 = 90 ∧ (r_head ty bs).2.1 = 20)) → BB = (s.ch j).kept.length + 1 := fun hh => by rw [← hBB, if_neg hh]
    have hB2 : (ty = 1 ∧ (r_head ty bs).1 = 90 ∧ (r_head ty bs).2.1 = 20) → BB = 1 := fun hh => by rw [← hBB, if_pos hh]
    have hjst := (V.2.2.1 j hj)
    have hard : ∀ code c1 m1 : Int32, sMV (n + 1) j BB s (s_hard s c code c1 m1) := fun code c1 m1 => by
      rw [← hjd] at h5 ⊢
      exact (M_hard0 V' hj h5).up (Nat.zero_le _)
    by_cases h2 : (s.ch j).state = 2
    · rw [if_pos ⟨hn0, h2⟩]
      have hk0 : (s.ch j).kept = [] := hjst.2.2.2.1 (by rw [h2]; decide)
      have hB0 : (s.ch j).kept.length ≤ BB := by rw [hk0]; exact Nat.zero_le _
      split
      · exact sMV.of V' hB0
      · have E : sE s (if (r_head ty bs).2.1 = 40 then s_simple s c chan 20 41 else s) := e_if (fun _ => e_simple) fun _ => sE.refl s
        generalize (if (r_head ty bs).2.1 = 40 then s_simple s c chan 20 41 else s) = s1 at E ⊢
        have A := sMV.ofE (j := j) V' hB0 E
        have hs1 : (s1.ch j).state ≠ 1 := by
          rcases (E.1 j).2.2.1 with q | q
          · rw [q, h2]; decide
          · rcases q.1 with p | p <;> rw [p] <;> decide
        have V2 : sVV (n + 1) (s_ch s1 j (fun k => k.w_state 0)) := V_ch A.1 rfl (fun C => ⟨C.1, Or.inl rfl, C.2.2.1, fun _ => C.2.2.2.1 hs1, C.2.2.2.2⟩) (Nat.le_refl _) (by omega)
        refine A.trans ⟨V2, fun p hp => ?_, ?_, fun c => ⟨Nat.le_refl _, rfl⟩⟩
        · show (sUp s1.ch j _ p).kept.length ≤ _
          rw [sUp_ne hp]
          exact Nat.le_refl _
        · show (sUp s1.ch j _ j).kept.length ≤ _
          rw [sUp_self]
          exact A.2.2.1
    rw [if_neg (fun hh => h2 hh.2)]
    by_cases t8 : ty = 8
    · rw [if_pos t8, if_pos (Or.inl hn0)]
      exact hard _ _ _
    rw [if_neg t8]
    by_cases t1 : ty = 1
    · rw [if_pos t1]
      split
      · exact hard _ _ _
      have hs : (s.ch j).state = 0 ∨ (s.ch j).state = 1 := hjst.2.1.elim Or.inl fun q => q.elim Or.inr fun q => absurd q h2
      have A := M_onChannel (cl := (r_head ty bs).1) (me := (r_head ty bs).2.1) (r := (r_head ty bs).2.2) V I hj hn (by rw [hjd]; exact h5) hs
      have e : s_tld j (r_head ty bs).1 (r_head ty bs).2.1 (s_onChannel s j (r_head ty bs).1 (r_head ty bs).2.1 (r_head ty bs).2.2) = s_told c j (s_at (s_onChannel s j (r_head ty bs).1 (r_head ty bs).2.1 (r_head ty bs).2.2) (r_head ty bs).1 (r_head ty bs).2.1) := by unfold s_tld; rw [hjd]
      rw [e] at A
      refine A.up ?_
      unfold oK0
      by_cases hcm : (r_head ty bs).1 = 90 ∧ (r_head ty bs).2.1 = 20
      · rw [if_pos hcm]
        exact Nat.zero_le _
      · rw [if_neg hcm, hB1 (fun hh => hcm hh.2)]
        exact Nat.le_refl _
    rw [if_neg t1]
    have hBn := hB1 (fun hh => t1 hh.1)
    split
    · exact hard _ _ _
    split
    · exact hard _ _ _
    rename_i hs0 hdue
    have hs1 : (s.ch j).state = 1 := hjst.2.1.elim (fun q => absurd (Or.inr q) hs0) fun q => q.elim id fun q => absurd q h2
    rw [hBn]
    split
    · have A := M_header (r := (r_head ty bs).2.2) V' hj (by rw [hjd]; exact h5) hs1 (by omega)
      rw [hjd] at A
      exact A
    · exact M_body V' hj hs1 (by omega)
/-- the sum over the channels of what is kept -/
theorem kept_sum {f g : Nat → Nat} {k0 : Nat} (hj : isH j) (h1 : ∀ h, h ≠ j → g h ≤ f h) (h2 : g j ≤ k0) : (s_hs.map g).sum + f j ≤ (s_hs.map f).sum + k0 := by
  have H : ∀ l : List Nat, l.Nodup → j ∈ l → (l.map g).sum + f j ≤ (l.map f).sum + k0 := fun l hl hjl => by
    induction l with
    | nil => exact absurd hjl List.not_mem_nil
    | cons x l ih =>
      rw [List.map_cons, List.sum_cons, List.map_cons, List.sum_cons]
      have hx := List.nodup_cons.mp hl
      by_cases e : x = j
      · subst e
        have : (l.map g).sum ≤ (l.map f).sum := by
          have hh : ∀ y ∈ l, g y ≤ f y := fun y hy => h1 y fun e => hx.1 (e ▸ hy)
          clear ih hl hjl hx
          induction l with
          | nil => exact Nat.le_refl _
          | cons y l ih =>
            rw [List.map_cons, List.sum_cons, List.map_cons, List.sum_cons]
            have a := hh y List.mem_cons_self
            have c := ih fun z hz => hh z (List.mem_cons_of_mem _ hz)
            omega
        omega
      · have a := ih hx.2 ((List.mem_cons.mp hjl).resolve_left fun q => e q.symm)
        have c := h1 x e
        omega
  exact H s_hs (by decide) hj.hs
theorem kept_all {f g : Nat → Nat} (h1 : ∀ h, g h ≤ f h) : (s_hs.map g).sum ≤ (s_hs.map f).sum := by
  have := kept_sum (f := f) (g := g) (j := 1) (k0 := f 1) (by unfold isH; omega) (fun h _ => h1 h) (h1 1)
  omega
theorem tK_e (E : sE s s') : tK s' ≤ tK s := Nat.mul_le_mul_left _ (kept_all (f := fun h => (s.ch h).kept.length) (g := fun h => (s'.ch h).kept.length) fun h => (E.1 h).kl)
theorem tK_onOpen (V : sVV n s) (I : sI s) (hc : c < 4) (h5 : (s.cn c).state = 5) (hn : n < 50000) (h0 : 0 ≤ chan) (hty : ty = 1 ∨ ty = 2 ∨ ty = 3 ∨ ty = 8) :
    sVV (n + 1) (s_onOpen s c ty chan bs) ∧ tK (s_onOpen s c ty chan bs) + s_kj s c chan ≤ tK s + 950 + s_k0 s c ty chan bs ∧ ∀ p, ((s_onOpen s c ty chan bs).cn p).inp.length ≤ (s.cn p).inp.length ∧ (s_onOpen s c ty chan bs).tape = s.tape := by
  obtain ⟨A1, A2⟩ := M_onOpen (bs := bs) V I hc h5 hn h0 hty
  by_cases hch : chan = 0 ∨ 3 < chan
  · have A := fun j => A1 hch j
    refine ⟨(A 0).1, ?_, (A 0).2.2.2⟩
    have hk : tK (s_onOpen s c ty chan bs) ≤ tK s := Nat.mul_le_mul_left _ (kept_all (f := fun h => (s.ch h).kept.length) (g := fun h => ((s_onOpen s c ty chan bs).ch h).kept.length) fun h => (A h).2.2.1)
    have e : s_kj s c chan = 0 := if_pos hch
    omega
  · have A := A2 hch
    refine ⟨A.1, ?_, A.2.2.2⟩
    have hj : isH (4 * c + chan.toNatClampNeg) := by
      refine isH.of hc (Nat.pos_of_ne_zero fun e => hch (Or.inl ?_)) (i_clamp (k := 3) (by decide) (Int32.not_lt.mp fun hh => hch (Or.inr hh)))
      have := i_of h0
      rw [e] at this
      exact this.symm
    have hs := kept_sum (f := fun h => (s.ch h).kept.length) (g := fun h => ((s_onOpen s c ty chan bs).ch h).kept.length) hj (fun h hh => A.2.1 h hh) A.2.2.1
    have ekj : s_kj s c chan = 950 * (s.ch (4 * c + chan.toNatClampNeg)).kept.length := if_neg hch
    unfold tK
    rw [ekj]
    unfold s_k0
    by_cases hcm : ty = 1 ∧ (r_head ty bs).1 = 90 ∧ (r_head ty bs).2.1 = 20
    · rw [if_pos hcm] at hs
      rw [if_pos (Or.inr (Or.inr hcm))]
      omega
    · rw [if_neg hcm] at hs
      rw [if_neg (fun hh => hh.elim (fun q => hch (Or.inl q)) fun q => q.elim (fun q => hch (Or.inr q)) hcm)]
      omega
theorem E_onClosing : sE s (s_onClosing s c ty chan bs) := by
  unfold s_onClosing
  dsimp only
  exact e_if (fun _ => sE.refl s) fun _ => (e_if (fun _ => e_simple) fun _ => sE.refl s).trans e_close
theorem E_onGreeted : sE s (s_onGreeted s c ty chan bs) := by
  unfold s_onGreeted
  dsimp only
  refine e_if (fun _ => sE.refl s) fun _ => e_if (fun _ => e_close) fun _ => e_if (fun _ => e_if (fun _ => e_cnBS) fun _ => e_close) fun _ => e_if (fun _ => e_close) fun _ => ?_
  exact sE.trans (s1 := s_cn s c (fun k => k.w_state ((s.cn c).state + 1))) e_cnState (e_if (fun _ => e_send) fun _ => e_simple)
theorem E_noFrame : sE s (s_noFrame s c) := by
  unfold s_noFrame
  dsimp only
  refine e_if (fun _ => e_close) fun _ => ?_
  have E1 : sE s (if (s.cn c).state = 5 then s_hard s c 501 0 0 else s) := e_if (fun _ => e_hard) fun _ => sE.refl s
  generalize (if (s.cn c).state = 5 then s_hard s c 501 0 0 else s) = s1 at E1 ⊢
  exact E1.trans (e_if (fun _ => e_cnDeaf) fun _ => sE.refl _)
theorem E_greet : sE s (s_greet s c) ∧ ((s_greet s c).cn c).inp.length ≤ (s.cn c).inp.length - 8 := by
  have A : sE s (s_cn s c (fun k => k.w_inp (k.inp.drop 8))) := e_cnUp fun k => by show (k.inp.drop 8).length ≤ _; rw [List.length_drop]; omega
  have hl : ((s_cn s c (fun k => k.w_inp (k.inp.drop 8))).cn c).inp.length ≤ (s.cn c).inp.length - 8 := by
    show (sUp s.cn c _ c).inp.length ≤ _
    rw [sUp_self]
    show ((s.cn c).inp.drop 8).length ≤ _
    rw [List.length_drop]
    exact Nat.le_refl _
  have E : sE (s_cn s c (fun k => k.w_inp (k.inp.drop 8))) (s_greet s c) := by
    unfold s_greet
    dsimp only
    generalize s_cn s c (fun k => k.w_inp (k.inp.drop 8)) = s1
    exact e_if (fun _ => sE.trans (s1 := s_cn s1 c (fun k => k.w_state 2)) e_cnState e_send) fun _ => sE.trans (s1 := s_send s1 c s_greets) e_send e_close
  exact ⟨A.trans E, Nat.le_trans (E.2.2.2.2.2.2.2.2 c) hl⟩
end NW
