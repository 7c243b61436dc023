/-! ===== what a method does to channels, messages and what was sent (pure) ===== -/
set_option maxRecDepth 100000
/-- a step for channel j: n frames so far; so many are kept at most -/
def sMV (n j B : Nat) (s s' : sSt) : Prop := sVV n s' ∧ (∀ h, h ≠ j → (s'.ch h).kept.length ≤ (s.ch h).kept.length) ∧ (s'.ch j).kept.length ≤ B ∧ ∀ c, (s'.cn c).inp.length ≤ (s.cn c).inp.length ∧ s'.tape = s.tape
section NV
variable {s s' s1 s2 s3 : sSt} {h c q e i m x n n' j k B : Nat} {kk k' : sCh} {b ex ky : sBy} {ct : sCont} {xp : Int64} {dt : Int32} {r rd : sRd} {f : sRs} {me cl what tag : Int32} {on all : Bool}
theorem sEc.kl (A : sEc kk k') : k'.kept.length ≤ kk.kept.length := by
  rcases A.1 with e | e
  · rw [e]; exact Nat.le_refl _
  · rw [e]; exact Nat.zero_le _
theorem sMV.eE (A : sMV n j B s s1) (E : sE s1 s2) : sMV n j B s s2 :=
  ⟨A.1.eE E, fun h hh => Nat.le_trans (E.1 h).kl (A.2.1 h hh), Nat.le_trans (E.1 j).kl A.2.2.1, fun c => ⟨Nat.le_trans (E.2.2.2.2.2.2.2.2 c) (A.2.2.2 c).1, E.2.2.1.2.trans (A.2.2.2 c).2⟩⟩
theorem sMV.of (V : sVV n s) (hB : (s.ch j).kept.length ≤ B) : sMV n j B s s := ⟨V, fun _ _ => Nat.le_refl _, hB, fun _ => ⟨Nat.le_refl _, rfl⟩⟩
theorem sMV.ch (A : sMV n j B s s1) (V : sVV n s2) (h1 : s2.ch = s1.ch) (h2 : s2.cn = s1.cn) (h3 : s2.tape = s1.tape) : sMV n j B s s2 := ⟨V, by rw [h1]; exact A.2.1, by rw [h1]; exact A.2.2.1, by rw [h2, h3]; exact A.2.2.2⟩
theorem sMV.ofE (V : sVV n s) (hB : (s.ch j).kept.length ≤ B) (E : sE s s1) : sMV n j B s s1 := (sMV.of V hB).eE E
theorem E_if {p : Prop} [Decidable p] {x y : sRs} (A : sE s x.1) (C : sE s y.1) : sE s (if p then x else y).1 := by
  split
  · exact A
  · exact C
theorem E_then (H : sE s f.1) : sE s (s_then r s f).1 := by
  unfold s_then
  exact E_if H (sE.refl s)
theorem E_withQ {name : sBy} {g : Nat → sRs} (H : ∀ q, sE s (g q).1) : sE s (s_withQ s h name g).1 := by
  unfold s_withQ
  split
  · exact H _
  · exact sE.refl s
theorem E_bind {x : sRs} {g : sSt → sRs} (A : sE s x.1) (H : ∀ s1, sE s1 (g s1).1) : sE s (s_bind x g).1 := by
  unfold s_bind
  split
  · exact A.trans (H _)
  · exact A
theorem e_chF {f : sCh → sCh} (h1 : ∀ k, (f k).kept = k.kept) (h2 : ∀ k, (f k).junk = k.junk) (h3 : ∀ k, (f k).state = k.state) (h4 : ∀ k, (f k).tags = k.tags) (h5 : ∀ k, (f k).sent = k.sent) : sE s (s_ch s h f) := e_chN fun k => ⟨h1 k, h2 k, h3 k, h4 k, h5 k⟩
theorem E_onChan (hm : me ≠ 10) : sE s (s_onChan s h me r).1 := by
  unfold s_onChan
  rw [if_neg hm]
  refine E_if (E_then ?_) (E_if (E_then ?_) (E_if (sE.refl s) (sE.refl s)))
  · exact (e_chF (by intro _; rfl) (by intro _; rfl) (by intro _; rfl) (by intro _; rfl) (by intro _; rfl)).trans e_ans
  · exact e_ans.trans (e_if (fun _ => e_goneS (Or.inl rfl)) fun _ => sE.refl _)
theorem E_madeE {name kind : sBy} {bits : Int32} {t : sTab} : sE s (s_madeE s name kind bits t).1 := by
  unfold s_madeE
  dsimp only
  refine E_if (sE.refl s) (E_if (sE.refl s) ?_)
  split
  · exact E_if (sE.refl s) (sE.refl s)
  · exact E_if (sE.refl s) ((e_ex.trans (e_new.trans e_es)).trans (e_if (fun _ => e_tell) fun _ => sE.refl _))
theorem E_declE : sE s (s_declE s h r).1 := by
  unfold s_declE
  dsimp only
  exact E_then (E_bind (E_if (E_if (sE.refl s) (sE.refl s)) E_madeE) fun s1 => e_if (fun _ => sE.refl s1) fun _ => e_ans)
theorem E_removeE : sE s (s_removeE s h r).1 := by
  unfold s_removeE
  dsimp only
  refine E_then ?_
  split
  · exact sE.refl s
  · exact E_if (sE.refl s) (e_if (fun _ => e_delE) fun _ => e_delE.trans e_ans)
theorem E_addB {t : sTab} : sE s (s_addB s q e ky t) := by
  unfold s_addB
  dsimp only
  exact e_if (fun _ => (e_bi.trans (e_new.trans e_bs)).trans e_tell) fun _ => e_bi.trans (e_new.trans e_bs)
theorem E_dropB : sE s (s_dropB s i) := by
  unfold s_dropB
  dsimp only
  refine sE.trans (e_bs.trans (e_if (fun _ => e_tell) fun _ => sE.refl _)) (e_if (fun _ => e_delE) fun _ => sE.refl _)
theorem E_binds : sE s (s_binds s h on r).1 := by
  unfold s_binds
  dsimp only
  refine E_then (E_withQ fun q => ?_)
  split
  · exact sE.refl s
  · split
    · exact E_if (E_if (sE.refl s) (e_if (fun _ => E_addB.trans e_ans) fun _ => E_addB)) e_ans
    · exact E_if (e_if (fun _ => e_ans) fun _ => sE.refl s) (E_dropB.trans e_ans)
theorem e_purgeN : ∀ (n : Nat) (s : sSt), sE s (s_purgeN q n s)
  | 0, s => sE.refl s
  | n + 1, s => by
    rw [s_purgeN]
    split
    · exact sE.refl s
    · exact e_leaves.trans (e_purgeN n _)
theorem E_purge : sE s (s_purge s h r).1 := by
  unfold s_purge
  dsimp only
  exact E_then (E_withQ fun q => (e_purgeN _ s).trans (e_if (fun _ => e_ans) fun _ => sE.refl _))
theorem E_removeQ : sE s (s_removeQ s h r).1 := by
  unfold s_removeQ
  dsimp only
  exact E_then (E_withQ fun q => E_if (sE.refl s) ((e_delQ fun _ _ => e_close).trans (e_if (fun _ => sE.refl _) fun _ => e_ans)))
theorem E_qos : sE s (s_qos s h r).1 := by
  unfold s_qos
  dsimp only
  refine E_then (sE.trans (e_chN fun k => ?_) e_ans)
  split <;> exact ⟨rfl, rfl, rfl, rfl, rfl⟩
theorem E_cancels : sE s (s_cancels s h r).1 := by
  unfold s_cancels
  dsimp only
  refine E_then ?_
  split
  · exact e_if (fun _ => e_ans) fun _ => sE.refl s
  · exact (e_cancel fun _ _ => e_close).trans (e_if (fun _ => e_ans) fun _ => sE.refl _)
theorem E_publishes : sE s (s_publishes s h r).1 := by
  unfold s_publishes
  dsimp only
  have F : ∀ o : Option sCont, sE s (s_ch s h (fun k => (k.w_cont o).w_due 2)) := fun o => e_chF (fun _ => rfl) (fun _ => rfl) (fun _ => rfl) (fun _ => rfl) (fun _ => rfl)
  refine E_then ?_
  split
  · exact E_if (F _) (sE.refl s)
  · exact E_if (sE.refl s) (F _)
theorem e_settle1 : sE s (s_settle1 what s m) := by
  unfold s_settle1
  exact e_if (fun _ => sE.refl s) fun _ => e_if (fun _ => e_leaves) fun _ => e_if (fun _ => e_requeue) fun _ => e_dies
theorem e_settleAll {l : List Nat} : sE s (s_settleAll s h l what) := by
  unfold s_settleAll
  dsimp only
  exact (e_sent fun x hx => (List.mem_filter.mp hx).1).trans (e_fold (fun _ _ => e_settle1) _ _)
theorem e_backFree : ∀ (r l : List Nat) (s : sSt), (∀ x ∈ l ++ r, x ∈ (s.ch h).sent) → sE s (s_backFree h l r s)
  | [], l, s, _ => by
    cases l <;> exact sE.refl s
  | x :: r, l, s, H => by
    rw [s_backFree]
    refine e_if (fun _ => ?_) fun _ => ?_
    · exact e_backFree r (l ++ [x]) s fun y hy => H y (by rwa [List.append_assoc] at hy)
    · have A := e_sent (s := s) (h := h) (l := l ++ r) fun y hy => H y (by
        rcases List.mem_append.mp hy with a | a
        · exact List.mem_append_left _ a
        · exact List.mem_append_right _ (List.mem_cons_of_mem _ a))
      refine (A.trans e_requeue).trans (e_backFree r l _ fun y hy => ?_)
      rw [s_requeue_ch]
      show y ∈ (sUp s.ch h ((s.ch h).w_sent (l ++ r)) h).sent
      rw [sUp_self]
      exact hy
theorem E_recovers : sE s (s_recovers s h r).1 := by
  unfold s_recovers
  exact E_then (E_if (sE.refl s) ((e_backFree _ [] s fun x hx => hx).trans e_ans))
theorem E_confirms : sE s (s_confirms s h r).1 := by
  unfold s_confirms
  dsimp only
  exact E_then (E_if (sE.refl s) ((e_chF (by intro _; rfl) (by intro _; rfl) (by intro _; rfl) (by intro _; rfl) (by intro _; rfl)).trans (e_if (fun _ => e_ans) fun _ => sE.refl _)))
theorem e_confirm {rc : Bool} : sE s (s_confirm s h rc) := by
  unfold s_confirm
  dsimp only
  have A : sE s (s_ch s h (fun k => k.w_confirm (k.confirm + 1))) := e_chF (fun _ => rfl) (fun _ => rfl) (fun _ => rfl) (fun _ => rfl) (fun _ => rfl)
  refine A.trans (e_if (fun _ => ?_) fun _ => e_ans)
  exact e_chF (fun _ => rfl) (fun _ => rfl) (fun _ => rfl) (fun _ => rfl) (fun _ => rfl)
theorem comesAll_cn : ∀ (l : List Nat) (s : sSt), (s_comesAll ct ex ky xp dt l s).cn = s.cn
  | [], s => rfl
  | q :: r, s => by
    rw [s_comesAll, comesAll_cn r]
    split
    · rfl
    · rw [s_comes_eq]
      refine (s_shorten_di _ _).2.1.trans ?_
      unfold s_come4
      have h3 : (s_come3 s q ct ex ky xp dt).cn = s.cn := by
        unfold s_come3
        rw [in_cn, b36_cn, wr_cn_lastNum]
      split
      · rw [wt_cn]
        exact h3
      · exact h3
theorem comesAll_tape : ∀ (l : List Nat) (s : sSt), (s_comesAll ct ex ky xp dt l s).tape = s.tape
  | [], s => rfl
  | q :: r, s => by
    rw [s_comesAll, comesAll_tape r]
    split
    · rfl
    · rw [s_comes_eq]
      refine e_trim.2.2.1.2.trans ?_
      unfold s_come4
      have h3 : (s_come3 s q ct ex ky xp dt).tape = s.tape := by
        unfold s_come3
        rw [in_tape, b36_tape, wr_tape_lastNum]
      split
      · rw [wt_tape]
        exact h3
      · exact h3
theorem M_pubEnd {P : Prop} [Decidable P] {c : Nat} {b : sBy} {rc : Bool} (A2 : sMV n j B s s2) : sMV n j B s (s_ok (if ((if P then s_send s2 c b else s2).ch h).mode = 2 ∧ s_speaks (if P then s_send s2 c b else s2) h then s_confirm (if P then s_send s2 c b else s2) h rc else (if P then s_send s2 c b else s2))).1 := by
  have E1 : sE s2 (if P then s_send s2 c b else s2) := e_if (fun _ => e_send) fun _ => sE.refl _
  generalize (if P then s_send s2 c b else s2) = s3 at E1 ⊢
  refine A2.eE (sE.trans E1 ?_)
  exact e_if (fun _ => e_confirm) fun _ => sE.refl _
theorem M_publish (A : sMV n j B s s1) : sMV n j B s (s_publish s1 h ct).1 := by
  unfold s_publish
  split
  · exact A
  · have A2 : sMV n j B s (s_comesAll ct ct.exch ct.key ct.expi 0 (s_route s1 ct.exch ct.key ct.heads) s1) := A.ch (V_comesAll _ _ A.1) (comesAll_ch _ _) (comesAll_cn _ _) (comesAll_tape _ _)
    dsimp only
    generalize s_comesAll ct ct.exch ct.key ct.expi 0 (s_route s1 ct.exch ct.key ct.heads) s1 = s2 at A2 ⊢
    generalize s_recs ct ct.exch ct.key ct.expi 0 (s_route s1 ct.exch ct.key ct.heads) s1 = rc
    exact M_pubEnd A2
theorem M_commits : ∀ (l : List sKe) (s1 : sSt), sMV n j B s s1 → sMV n j B s (s_commits h l s1).1
  | [], s1, A => A
  | k :: l, s1, A => by
    rw [s_commits]
    split
    · exact A
    · split
      · unfold s_bind
        have P := fun ct => M_publish (h := h) (ct := ct) A
        split
        · exact M_commits l _ (P _)
        · exact P _
      · exact M_commits l _ (A.eE e_settleAll)
theorem V_keep {x : sKe} (V : sVV n s) (h1 : (s.ch j).state = 1) (ha : sApt ((s.ch j).kept ++ [x])) (hb : n ≤ 50000) : sMV n j ((s.ch j).kept.length + 1) s (s_keep s j x).1 := by
  unfold s_keep
  split
  · exact sMV.of V (Nat.le_succ _)
  · have V2 : sVV n (s_ch s j (fun y => y.w_kept (y.kept ++ [x]))) := V_ch V rfl (fun C => ⟨C.1, C.2.1, C.2.2.1, fun hn => absurd h1 hn, ha⟩) (Nat.le_refl _) hb
    refine ⟨V2, fun h hh => ?_, ?_, fun c => ⟨Nat.le_refl _, rfl⟩⟩
    · show (sUp s.ch j _ h).kept.length ≤ _
      rw [sUp_ne hh]
      exact Nat.le_refl _
    · show (sUp s.ch j _ j).kept.length ≤ _
      rw [sUp_self]
      show ((s.ch j).kept ++ [x]).length ≤ _
      rw [List.length_append]
      exact Nat.le_refl _
theorem M_then (V : sVV n s) (hB : (s.ch j).kept.length ≤ B) (H : r_whole r = true → sMV n j B s f.1) : sMV n j B s (s_then r s f).1 := by
  unfold s_then
  split
  · exact H (by assumption)
  · exact sMV.of V hB
theorem M_acks (V : sVV n s) (I : sI s) (hj : isH j) (h1 : (s.ch j).state = 1) (hb : n ≤ 50000) : sMV n j ((s.ch j).kept.length + 1) s (s_acks s j tag all what r).1 := by
  unfold s_acks
  dsimp only
  refine M_then V (Nat.le_succ _) fun _ => ?_
  split
  · exact sMV.of V (Nat.le_succ _)
  split
  · exact sMV.ofE V (Nat.le_succ _) e_settleAll
  have hA : sApt ((s.ch j).kept ++ [((none : Option sCont), what, (s.ch j).sent.filter (fun x => s_meant s tag all x))]) := by
    obtain ⟨a1, a2⟩ := (V.2.2.1 j hj).2.2.2.2
    refine ⟨List.pairwise_append.mpr ⟨a1, List.pairwise_singleton _ _, fun a ha b hb x hx hxa => ?_⟩, fun k hk => ?_⟩
    · rw [List.mem_singleton.mp hb] at hx
      have hm := (List.mem_filter.mp (show x ∈ (s.ch j).sent.filter (fun x => s_meant s tag all x) from hx)).2
      have hd := (I.sn.2.2 j hj h1 a ha x hxa).2
      unfold s_meant at hm
      rw [hd] at hm
      cases hm
    · rcases List.mem_append.mp hk with q | q
      · exact a2 k q
      · rw [List.mem_singleton.mp q]
        exact (I.sn.1 j hj).1.filter _
  have K := V_keep V h1 hA hb
  unfold s_bind
  split
  · refine K.eE (e_se fun m => ?_)
    split <;> rfl
  · exact K
theorem M_onTag (V : sVV n s) (I : sI s) (hj : isH j) (h1 : (s.ch j).state = 1) (hb : n ≤ 50000) : sMV n j ((s.ch j).kept.length + 1) s (s_onTag s j me r).1 := by
  unfold s_onTag
  dsimp only
  split
  · exact M_acks V I hj h1 hb
  · split
    · exact M_acks V I hj h1 hb
    · exact M_acks V I hj h1 hb
/-- names that are counted -/
theorem gen_rng : ∀ (k a : Nat), a + k < 2147483648 → ∃ b, a ≤ b ∧ b ≤ a + k ∧ s_gen s k (Int32.ofNat a) = Int32.ofNat b
  | 0, a, _ => ⟨a, Nat.le_refl _, Nat.le_refl _, rfl⟩
  | k + 1, a, h => by
    rw [s_gen]
    split
    · exact ⟨a, Nat.le_refl _, by omega, rfl⟩
    · rw [i_succ]
      obtain ⟨b, h1, h2, h3⟩ := gen_rng k (a + 1) (by omega)
      exact ⟨b, by omega, by omega, h3⟩
theorem ctag_rng : ∀ (k a : Nat), a + k < 2147483648 → ∃ b, a ≤ b ∧ b ≤ a + k ∧ s_ctag s h k (Int32.ofNat a) = Int32.ofNat b
  | 0, a, _ => ⟨a, Nat.le_refl _, Nat.le_refl _, rfl⟩
  | k + 1, a, h => by
    rw [s_ctag]
    split
    · exact ⟨a, Nat.le_refl _, by omega, rfl⟩
    · rw [i_succ]
      obtain ⟨b, h1, h2, h3⟩ := ctag_rng k (a + 1) (by omega)
      exact ⟨b, by omega, by omega, h3⟩
theorem cnt_up {x : Int32} {F : Int32 → Int32} (h0 : 0 ≤ x) (hx : x ≤ Int32.ofNat (20 * n)) (hn : n < 50000) (H : ∀ a : Nat, a + 17 < 2147483648 → ∃ b, a ≤ b ∧ b ≤ a + 17 ∧ F (Int32.ofNat a) = Int32.ofNat b) : 0 ≤ F (x + 1) ∧ F (x + 1) ≤ Int32.ofNat (20 * (n + 1)) := by
  have e := i_of h0
  have hc : x.toNatClampNeg ≤ 20 * n := i_clamp (by omega) hx
  generalize x.toNatClampNeg = a at e hc
  subst e
  rw [i_succ]
  obtain ⟨b, h1, h2, h3⟩ := H (a + 1) (by omega)
  rw [h3]
  exact ⟨i_nn' (by omega), (i_le (by omega) (by omega)).mpr (by omega)⟩
theorem M_declared {name : sBy} {bits : Int32} {a : Int32 × Int32 × Int32 × Option sBy × Option sBy} (V : sVV n s) (I : sScope s) (hn : n < 50000) (hB : (s.ch j).kept.length ≤ B) : sMV (n + 1) j B s (s_declared s h name bits a).1 := by
  have V' := V.mono (Nat.le_succ n) (by omega)
  unfold s_declared
  dsimp only
  split
  · split
    · exact sMV.of V' hB
    · split
      · exact sMV.of V' hB
      · exact sMV.of V' hB
  · split
    · exact sMV.of V' hB
    · have hq : s.next ∉ s.qs := fun hh => by
        have h1 := I.qs _ hh
        have h2 := I.2.2.2.2.2.2.2.2.2.2.2.2.2.2.2.2 s.next (Nat.le_refl _)
        rw [h1] at h2
        cases h2
      have hg : 0 ≤ (if name = [] then s_gen s 13 (s.gener + 1) else s.gener) ∧ (if name = [] then s_gen s 13 (s.gener + 1) else s.gener) ≤ Int32.ofNat (20 * (n + 1)) := by
        split
        · exact cnt_up V.2.1.1 V.2.1.2 hn fun a ha => by
            obtain ⟨b, h1, h2, h3⟩ := gen_rng (s := s) 13 a (by omega)
            exact ⟨b, h1, by omega, h3⟩
        · exact V'.2.1
      generalize (if name = [] then s_gen s 13 (s.gener + 1) else s.gener) = num at hg ⊢
      have hx := fun x h1 h2 => e_newQ (s := s) (x := x) hq h1 h2
      have A : sMV (n + 1) j B s ((((s_new (s.w_qu (sUp s.qu s.next ((if name = [] then s_numbered "gen-" num else name), s_bit bits 2, s_bit bits 4, s_bit bits 8, true, (if s_bit bits 4 then some (h / 4) else none), a.1, a.2.1, a.2.2.1, a.2.2.2.1, a.2.2.2.2, [], none))) 33).w_qs (s.qs ++ [s.next])).w_gener num)) := by
        have V2 := V_gener (V.eE (hx ((if name = [] then s_numbered "gen-" num else name), s_bit bits 2, s_bit bits 4, s_bit bits 8, true, (if s_bit bits 4 then some (h / 4) else none), a.1, a.2.1, a.2.2.1, a.2.2.2.1, a.2.2.2.2, [], none) rfl rfl)) hg.1 hg.2 (Nat.le_succ n) (by omega)
        exact ⟨V2, fun h hh => Nat.le_refl _, hB, fun c => ⟨Nat.le_refl _, rfl⟩⟩
      exact A.eE (e_if (fun _ => e_tell) fun _ => sE.refl _)
theorem M_declQ (V : sVV n s) (I : sScope s) (hn : n < 50000) (hB : (s.ch j).kept.length ≤ B) : sMV (n + 1) j B s (s_declQ s h r).1 := by
  have V' := V.mono (Nat.le_succ n) (by omega)
  unfold s_declQ
  dsimp only
  have F : ∀ (s1 : sSt) (o : Option sBy), sE s1 (s_ch s1 h (fun k => k.w_lastq o)) := fun s1 o => e_chF (fun _ => rfl) (fun _ => rfl) (fun _ => rfl) (fun _ => rfl) (fun _ => rfl)
  refine M_then V' hB fun _ => ?_
  split
  · split
    · exact sMV.of V' hB
    · split
      · exact sMV.of V' hB
      · exact (sMV.of V' hB).eE ((F _ _).trans (e_if (fun _ => sE.refl _) fun _ => e_ans))
  · split
    · exact sMV.of V' hB
    · rename_i a ha
      have D := M_declared (h := h) (name := (r_short r).1) (bits := (r_u8 (r_short r).2).1) (a := a) V I hn hB
      split
      · rename_i s1 q hd
        rw [hd] at D
        exact D.eE ((F _ _).trans (e_if (fun _ => sE.refl _) fun _ => e_ans))
      · rename_i s1 f hd
        rw [hd] at D
        exact D
theorem M_consume (V : sVV n s) (hn : n < 50000) (hB : (s.ch j).kept.length ≤ B) : sMV (n + 1) j B s (s_consume s h r).1 := by
  have V' := V.mono (Nat.le_succ n) (by omega)
  unfold s_consume
  dsimp only
  refine M_then V' hB fun _ => ?_
  unfold s_withQ
  have hx : sCh1 n (s.ch h) → (0 ≤ s_ctag s h 17 ((s.ch h).tags + 1) ∧ s_ctag s h 17 ((s.ch h).tags + 1) ≤ Int32.ofNat (20 * (n + 1))) := fun C => cnt_up C.1.1 C.1.2 hn fun a ha => ctag_rng 17 a ha
  generalize s_ctag s h 17 ((s.ch h).tags + 1) = X at hx ⊢
  split
  · dsimp only
    split
    · exact sMV.of V' hB
    split
    · exact sMV.of V' hB
    split
    · exact sMV.of V' hB
    have A : sMV (n + 1) j B s (if (r_short (r_short r).2).1 = [] then s_ch s h (fun k => k.w_tags X) else s) := by
      split
      · have V2 : sVV (n + 1) (s_ch s h (fun k => k.w_tags (X))) := by
          refine V_ch V rfl (fun C => ⟨hx C, C.2⟩) (Nat.le_succ n) (by omega)
        refine ⟨V2, fun p hp => ?_, ?_, fun c => ⟨Nat.le_refl _, rfl⟩⟩
        · show (sUp s.ch h _ p).kept.length ≤ _
          by_cases e : p = h
          · subst e; rw [sUp_self]; exact Nat.le_refl _
          · rw [sUp_ne e]; exact Nat.le_refl _
        · show (sUp s.ch h _ j).kept.length ≤ _
          by_cases e : j = h
          · subst e; rw [sUp_self]; exact hB
          · rw [sUp_ne e]; exact hB
      · exact sMV.of V' hB
    generalize (if (r_short (r_short r).2).1 = [] then s_ch s h (fun k => k.w_tags X) else s) = s1 at A ⊢
    have E2 : ∀ (v : Nat → sCo) (l : List Nat), sE s1 ((s_new (s1.w_co v) 35).w_cs l) := fun v l => e_co.trans (e_new.trans e_cs)
    exact A.eE ((E2 _ _).trans (e_if (fun _ => sE.refl _) fun _ => e_ans))
  · exact sMV.of V' hB
theorem V_first (V : sVV n s) (I : sI s) (hf : s_first s q = some m) (hq : s.knd q = 33) : (∃ q, m ∈ (s.qu q).ents) ∧ ∀ k, isH k → ∀ x ∈ (s.ch k).sent, (s.se x).entry ≠ m := by
  obtain ⟨hmem, hst⟩ := s_best_mem (f := fun m => (s.en m).state == 0) hf
  have h0 : (s.en m).state = 0 := eq_of_beq hst
  exact ⟨⟨q, hmem⟩, fun k hk x hx e => (I.sn.1 k hk).2 x hx |>.1 (by rw [e]; exact h0)⟩
theorem asked_in {name : sBy} (ha : s_asked s h name = .inl q) : q ∈ s.qs := by
  unfold s_asked at ha
  split at ha
  · cases ha
  · rename_i q' hq
    split at ha
    · cases ha
    · injection ha with e
      subst e
      split at hq
      · exact List.mem_of_find?_eq_some hq
      · split at hq
        · cases hq
        · exact List.mem_of_find?_eq_some hq
theorem sHandCh {o : Option Nat} {fr : Bool} : (∀ p, ((s_hand s h m o fr).ch p).kept = (s.ch p).kept) ∧ (s_hand s h m o fr).cn = s.cn ∧ (s_hand s h m o fr).tape = s.tape := by
  cases fr with
  | true =>
    rw [s_hand_t]
    refine ⟨fun p => ?_, ?_, e_leaves.2.2.1.2⟩
    · rw [s_leaves_lv.2.2.2.1]
      show (sUp s.ch h _ p).kept = _
      by_cases e : p = h
      · subst e; rw [sUp_self]; rfl
      · rw [sUp_ne e]
    · rw [s_leaves_lv.2.2.1]
      rfl
  | false =>
    rw [s_hand_f]
    refine ⟨fun p => ?_, rfl, rfl⟩
    show (sUp (sUp s.ch h ((s.ch h).w_tag ((s.ch h).tag + 1))) h ((sUp s.ch h ((s.ch h).w_tag ((s.ch h).tag + 1)) h).w_sent _) p).kept = _
    by_cases e : p = h
    · subst e; rw [sUp_self, sUp_self]; rfl
    · rw [sUp_ne e, sUp_ne e]
theorem M_get (V : sVV n s) (I : sI s) (hB : (s.ch j).kept.length ≤ B) : sMV n j B s (s_get s h r).1 := by
  unfold s_get
  dsimp only
  refine M_then V hB fun _ => ?_
  unfold s_withQ
  split
  · rename_i q hq
    dsimp only
    split
    · exact sMV.ofE V hB e_ans
    · rename_i m hm
      obtain ⟨f1, f2⟩ := V_first V I hm (I.sc.qs q (asked_in hq))
      have V2 := V_hand (h := h) (o := none) (fr := !((r_u8 (r_short r).2).1 == 0)) V f1 f2
      obtain ⟨g1, g2, g3⟩ := sHandCh (s := s) (h := h) (m := m) (o := none) (fr := !((r_u8 (r_short r).2).1 == 0))
      have A : sMV n j B s (s_hand s h m none (!((r_u8 (r_short r).2).1 == 0))) := ⟨V2, fun p _ => by rw [g1]; exact Nat.le_refl _, by rw [g1]; exact hB, fun c => ⟨by rw [g2]; exact Nat.le_refl _, g3⟩⟩
      exact A.eE e_send
  · exact sMV.of V hB
end NV
