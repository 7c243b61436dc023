/-! ===== numbers tell messages apart; each that was sent is its own (pure) ===== -/
set_option maxRecDepth 100000
/-- a message that counts: in a queue, or given away -/
def sLv2 (s : sSt) (m : Nat) : Prop := (∃ q, m ∈ (s.qu q).ents) ∨ (∃ h, isH h ∧ ∃ x ∈ (s.ch h).sent, (s.se x).entry = m)
def sUU (s : sSt) : Prop := (∀ m m', sLv2 s m → sLv2 s m' → (s.en m).number = (s.en m').number → m = m') ∧ (∀ m, sLv2 s m → m < s.next ∧ 0 < (s.en m).number ∧ (s.en m).number ≤ s.lastNum) ∧ (∀ h, isH h → ∀ x ∈ (s.ch h).sent, x < s.next) ∧
  (∀ h k, isH h → isH k → ∀ x ∈ (s.ch h).sent, ∀ y ∈ (s.ch k).sent, (s.se x).entry = (s.se y).entry → h = k ∧ x = y) ∧ 0 ≤ s.lastNum ∧ s.lastNum ≤ 12000
def sCh1 (n : Nat) (k : sCh) : Prop := (0 ≤ k.tags ∧ k.tags ≤ Int32.ofNat (20 * n)) ∧ (k.state = 0 ∨ k.state = 1 ∨ k.state = 2) ∧ k.junk = false ∧ (k.state ≠ 1 → k.kept = []) ∧ sApt k.kept
/-- what holds between frames, n of which came -/
def sVV (n : Nat) (s : sSt) : Prop := sTh s ∧ (0 ≤ s.gener ∧ s.gener ≤ Int32.ofNat (20 * n)) ∧ (∀ h, isH h → sCh1 n (s.ch h)) ∧ sUU s
section NU
variable {s s' s1 s2 s3 : sSt} {h c q e i m x n n' j k : Nat} {kk k' : sCh} {b ex ky : sBy} {ct : sCont} {xp : Int64} {dt : Int32}
theorem sLv2.eE (A : sE s s') (U : sUU s) (hm : sLv2 s' m) : sLv2 s m := by
  obtain ⟨a1, a2, a3, a4, a5, a6, a7, a8, a9⟩ := A
  rcases hm with ⟨q, hq⟩ | ⟨h, hh, x, hx, e⟩
  · exact Or.inl ⟨q, a2 q m hq⟩
  · have hx' := (a1 h).2.2.2.2 x hx
    exact Or.inr ⟨h, hh, x, hx', by rw [← a4 x (U.2.2.1 h hh x hx')]; exact e⟩
theorem sUU.eE (A : sE s s') (U : sUU s) : sUU s' := by
  have L : ∀ m, sLv2 s' m → sLv2 s m := fun m hm => hm.eE A U
  obtain ⟨a1, a2, a3, a4, a5, a6, a7, a8, a9⟩ := A
  obtain ⟨u1, u2, u3, u4, u5, u6⟩ := U
  have N : ∀ m, sLv2 s' m → (s'.en m).number = (s.en m).number := fun m hm => a5 m (u2 m (L m hm)).1
  refine ⟨fun m m' hm hm' e => u1 m m' (L m hm) (L m' hm') (by rw [← N m hm, ← N m' hm']; exact e), fun m hm => ?_, fun h hh x hx => Nat.lt_of_lt_of_le (u3 h hh x ((a1 h).2.2.2.2 x hx)) a8, fun h k hh hk x hx y hy e => ?_, by rw [a6]; exact u5, by rw [a6]; exact u6⟩
  · obtain ⟨p1, p2, p3⟩ := u2 m (L m hm)
    rw [N m hm, a6]
    exact ⟨Nat.lt_of_lt_of_le p1 a8, p2, p3⟩
  · have hx' := (a1 h).2.2.2.2 x hx
    have hy' := (a1 k).2.2.2.2 y hy
    exact u4 h k hh hk x hx' y hy' (by rw [← a4 x (u3 h hh x hx'), ← a4 y (u3 k hk y hy')]; exact e)
theorem sCh1.eE (A : sEc kk k') (C : sCh1 n kk) : sCh1 n k' := by
  obtain ⟨a1, a2, a3, a4, a5⟩ := A
  obtain ⟨c1, c2, c3, c4, c5⟩ := C
  refine ⟨by rw [a4]; exact c1, ?_, a2.elim (fun q => q.trans c3) id, fun hn => ?_, ?_⟩
  · rcases a3 with q | q
    · rw [q]; exact c2
    · exact q.1.elim Or.inl fun p => Or.inr (Or.inr p)
  · rcases a3 with q | q
    · exact a1.elim (fun p => p.trans (c4 (by rw [← q]; exact hn))) id
    · exact q.2.1
  · rcases a1 with q | q
    · rw [q]; exact c5
    · rw [q]; exact ⟨List.Pairwise.nil, fun _ h => absurd h List.not_mem_nil⟩
theorem sVV.eE (A : sE s s') (V : sVV n s) : sVV n s' :=
  ⟨A.2.2.2.2.2.2.1 V.1, by rw [A.2.2.1.1]; exact V.2.1, fun h hh => (V.2.2.1 h hh).eE (A.1 h), V.2.2.2.eE A⟩
theorem ofNat_mono {a b : Nat} (h : a ≤ b) (hb : b < 2147483648) {x : Int32} (hx : x ≤ Int32.ofNat a) : x ≤ Int32.ofNat b := Int32.le_trans hx ((i_le (by omega) hb).mpr h)
theorem sVV.mono (V : sVV n s) (h : n ≤ n') (hb : n' ≤ 50000) : sVV n' s :=
  ⟨V.1, ⟨V.2.1.1, ofNat_mono (by omega) (by omega) V.2.1.2⟩, fun k hk => ⟨⟨(V.2.2.1 k hk).1.1, ofNat_mono (by omega) (by omega) (V.2.2.1 k hk).1.2⟩, (V.2.2.1 k hk).2⟩, V.2.2.2⟩
theorem i_lt_succ {x : Int32} (h0 : 0 ≤ x) (h1 : x < 12000) : 0 < x + 1 ∧ 0 ≤ x + 1 ∧ x + 1 ≤ 12000 ∧ ∀ y, 0 < y → y ≤ x → y ≤ x + 1 ∧ y ≠ x + 1 := by
  have ha31 := Int32.toNatClampNeg_lt x
  have ex := i_of h0
  generalize x.toNatClampNeg = a at ex ha31
  subst ex
  rw [show (12000 : Int32) = Int32.ofNat 12000 from rfl] at h1 ⊢
  have ha : a < 12000 := (i_lt (by omega) (by decide)).mp h1
  rw [i_succ, show (0 : Int32) = Int32.ofNat 0 from rfl]
  refine ⟨(i_lt (by omega) (by omega)).mpr (by omega), (i_le (by omega) (by omega)).mpr (by omega), (i_le (by omega) (by omega)).mpr (by omega), fun y hy0 hy => ?_⟩
  have ey := i_of (Int32.le_of_lt hy0)
  have hy2 : y.toNatClampNeg ≤ a := i_clamp (by omega) hy
  generalize y.toNatClampNeg = b' at ey hy2
  subst ey
  refine ⟨(i_le (by omega) (by omega)).mpr (by omega), fun e => ?_⟩
  have := (i_inj (by omega) (by omega)).mp e
  omega
/-- a message is new -/
theorem UU_add (U : sUU s) (hl : s.lastNum < 12000) (h1 : s'.ch = s.ch) (h2 : s'.se = s.se) (h3 : s'.next = s.next + 1) (h4 : s'.lastNum = s.lastNum + 1) (h5 : ∀ m, m ≠ s.next → s'.en m = s.en m) (h6 : (s'.en s.next).number = s.lastNum + 1) (h7 : ∀ p, ∀ m ∈ (s'.qu p).ents, m ∈ (s.qu p).ents ∨ m = s.next) : sUU s' := by
  obtain ⟨u1, u2, u3, u4, u5, u6⟩ := U
  obtain ⟨l1, l2, l3, l4⟩ := i_lt_succ u5 hl
  have L : ∀ m, sLv2 s' m → sLv2 s m ∨ m = s.next := fun m hm => by
    rcases hm with ⟨p, hp⟩ | ⟨h, hh, x, hx, e⟩
    · exact (h7 p m hp).imp (fun q => Or.inl ⟨p, q⟩) id
    · rw [h1] at hx
      rw [h2] at e
      exact Or.inl (Or.inr ⟨h, hh, x, hx, e⟩)
  have N : ∀ m, sLv2 s m → (s'.en m).number = (s.en m).number ∧ (s.en m).number ≠ s.lastNum + 1 := fun m hm => by
    obtain ⟨p1, p2, p3⟩ := u2 m hm
    rw [h5 m (by omega)]
    exact ⟨rfl, (l4 _ p2 p3).2⟩
  refine ⟨fun m m' hm hm' e => ?_, fun m hm => ?_, fun h hh x hx => ?_, fun h k hh hk x hx y hy e => ?_, by rw [h4]; exact l2, by rw [h4]; exact l3⟩
  · rcases L m hm with a | a <;> rcases L m' hm' with c | c
    · rw [(N m a).1, (N m' c).1] at e
      exact u1 m m' a c e
    · rw [(N m a).1, c, h6] at e
      exact absurd e (N m a).2
    · rw [(N m' c).1, a, h6] at e
      exact absurd e.symm (N m' c).2
    · rw [a, c]
  · rw [h3, h4]
    rcases L m hm with a | a
    · obtain ⟨p1, p2, p3⟩ := u2 m a
      rw [(N m a).1]
      exact ⟨by omega, p2, (l4 _ p2 p3).1⟩
    · rw [a, h6]
      exact ⟨by omega, l1, Int32.le_refl _⟩
  · rw [h1] at hx
    rw [h3]
    have := u3 h hh x hx
    omega
  · rw [h1] at hx hy
    rw [h2] at e
    exact u4 h k hh hk x hx y hy e
theorem come3_rows : (s_come3 s q ct ex ky xp dt).ch = s.ch ∧ (s_come3 s q ct ex ky xp dt).se = s.se ∧ (s_come3 s q ct ex ky xp dt).next = s.next + 1 ∧ (s_come3 s q ct ex ky xp dt).lastNum = s.lastNum + 1 ∧ (∀ m, m ≠ s.next → (s_come3 s q ct ex ky xp dt).en m = s.en m) ∧ ((s_come3 s q ct ex ky xp dt).en s.next).number = s.lastNum + 1 ∧
    (∀ p, ((s_come3 s q ct ex ky xp dt).qu p).there = (s.qu p).there ∧ ∀ m ∈ ((s_come3 s q ct ex ky xp dt).qu p).ents, m ∈ (s.qu p).ents ∨ m = s.next) ∧ (s_come3 s q ct ex ky xp dt).qs = s.qs ∧ (s_come3 s q ct ex ky xp dt).gener = s.gener := by
  unfold s_come3
  refine ⟨by rw [in_ch, b36_ch, wr_ch_lastNum], by rw [in_se, b36_se, wr_se_lastNum], by rw [in_next, b36_next, wr_next_lastNum], by rw [in_lastNum, b36_lastNum, wr_lastNum], fun m hm => ?_, ?_, fun p => ?_, by rw [in_qs, b36_qs, wr_qs_lastNum], by rw [in_gener, b36_gener, wr_gener_lastNum]⟩
  · rw [in_en, b36_en, wr_en_lastNum, wr_next_lastNum, sUp_ne hm]
  · rw [in_en, b36_en, wr_en_lastNum, wr_next_lastNum, sUp_self]
    rfl
  · rw [in_qu, b36_qu, wr_qu_lastNum]
    by_cases e : p = q
    · subst e
      rw [sUp_self]
      refine ⟨rfl, fun m hm => ?_⟩
      rcases List.mem_append.mp hm with a | a
      · exact Or.inl a
      · exact Or.inr (List.mem_singleton.mp a)
    · rw [sUp_ne e]
      exact ⟨rfl, fun m hm => Or.inl hm⟩
theorem V_come3 (V : sVV n s) (hl : s.lastNum < 12000) : sVV n (s_come3 s q ct ex ky xp dt) := by
  obtain ⟨r1, r2, r3, r4, r5, r6, r7, r8, r9⟩ := come3_rows (s := s) (q := q) (ct := ct) (ex := ex) (ky := ky) (xp := xp) (dt := dt)
  refine ⟨⟨by rw [r8]; exact V.1.1, fun p hp => ?_⟩, by rw [r9]; exact V.2.1, fun h hh => by rw [r1]; exact V.2.2.1 h hh, UU_add V.2.2.2 hl r1 r2 r3 r4 r5 r6 fun p m hm => (r7 p).2 m hm⟩
  rw [r8] at hp
  rw [(r7 p).1]
  exact V.1.2 p hp
theorem V_comes (V : sVV n s) (hl : s.lastNum < 12000) : sVV n (s_comes s q ct ex ky xp dt) := by
  rw [s_comes_eq]
  refine sVV.eE e_trim ?_
  unfold s_come4
  split
  · exact (V_come3 V hl).eE e_tell
  · exact V_come3 V hl
theorem full_lt (hf : ¬ s_full s = true) : s.lastNum < 12000 := by
  unfold s_full at hf
  rw [Bool.or_eq_true, decide_eq_true_eq, decide_eq_true_eq] at hf
  exact Int32.not_le.mp fun hh => hf (Or.inr hh)
theorem V_comesAll : ∀ (r : List Nat) (s : sSt), sVV n s → sVV n (s_comesAll ct ex ky xp dt r s)
  | [], s, V => V
  | q :: r, s, V => by
    rw [s_comesAll]
    refine V_comesAll r _ ?_
    split
    · exact V
    · rename_i hf
      exact V_comes V (full_lt hf)
/-- one more is sent -/
theorem UU_sent (U : sUU s) (hm : sLv2 s m) (hf : ∀ k, isH k → ∀ x ∈ (s.ch k).sent, (s.se x).entry ≠ m) {v : sSe} (hv : v.entry = m) : sUU (s_ch (s_b37 s v) h (fun k => k.w_sent (k.sent ++ [s.next]))) := by
  have r1 : (s_ch (s_b37 s v) h (fun k => k.w_sent (k.sent ++ [s.next]))).qu = s.qu := rfl
  have r2 : (s_ch (s_b37 s v) h (fun k => k.w_sent (k.sent ++ [s.next]))).en = s.en := rfl
  have r3 : (s_ch (s_b37 s v) h (fun k => k.w_sent (k.sent ++ [s.next]))).lastNum = s.lastNum := rfl
  have r4 : (s_ch (s_b37 s v) h (fun k => k.w_sent (k.sent ++ [s.next]))).next = s.next + 1 := rfl
  have r5 : (s_ch (s_b37 s v) h (fun k => k.w_sent (k.sent ++ [s.next]))).se = sUp s.se s.next v := rfl
  have r6 : ∀ j, ∀ x ∈ ((s_ch (s_b37 s v) h (fun k => k.w_sent (k.sent ++ [s.next]))).ch j).sent, x ∈ (s.ch j).sent ∨ (j = h ∧ x = s.next) := fun j x hx => by
    have hx : x ∈ (sUp s.ch h ((s.ch h).w_sent ((s.ch h).sent ++ [s.next])) j).sent := hx
    by_cases e : j = h
    · subst e
      rw [sUp_self] at hx
      rcases List.mem_append.mp hx with a | a
      · exact Or.inl a
      · exact Or.inr ⟨rfl, List.mem_singleton.mp a⟩
    · rw [sUp_ne e] at hx
      exact Or.inl hx
  generalize s_ch (s_b37 s v) h (fun k => k.w_sent (k.sent ++ [s.next])) = s' at r1 r2 r3 r4 r5 r6
  obtain ⟨u1, u2, u3, u4, u5, u6⟩ := U
  have S : ∀ j, isH j → ∀ x ∈ (s'.ch j).sent, (x ∈ (s.ch j).sent ∧ (s'.se x).entry = (s.se x).entry) ∨ (j = h ∧ x = s.next ∧ (s'.se x).entry = m) := fun j hj x hx => by
    rw [r5]
    rcases r6 j x hx with a | ⟨a1, a2⟩
    · have := u3 j hj x a
      rw [sUp_ne (by omega)]
      exact Or.inl ⟨a, rfl⟩
    · rw [a2, sUp_self]
      exact Or.inr ⟨a1, rfl, hv⟩
  have L : ∀ m', sLv2 s' m' → sLv2 s m' := fun m' hm' => by
    rcases hm' with ⟨p, hp⟩ | ⟨j, hj, x, hx, e⟩
    · rw [r1] at hp
      exact Or.inl ⟨p, hp⟩
    · rcases S j hj x hx with ⟨a1, a2⟩ | ⟨a1, a2, a3⟩
      · exact Or.inr ⟨j, hj, x, a1, by rw [← a2]; exact e⟩
      · rw [← e, a3]
        exact hm
  refine ⟨fun p p' hp hp' e => u1 p p' (L p hp) (L p' hp') (by rw [r2] at e; exact e), fun p hp => ?_, fun j hj x hx => ?_, fun j k hj hk x hx y hy e => ?_, by rw [r3]; exact u5, by rw [r3]; exact u6⟩
  · obtain ⟨p1, p2⟩ := u2 p (L p hp)
    rw [r2, r3, r4]
    exact ⟨by omega, p2⟩
  · rw [r4]
    rcases r6 j x hx with a | ⟨-, a2⟩
    · have := u3 j hj x a
      omega
    · omega
  · rcases S j hj x hx with ⟨a1, a2⟩ | ⟨a1, a2, a3⟩ <;> rcases S k hk y hy with ⟨c1, c2⟩ | ⟨c1, c2, c3⟩
    · exact u4 j k hj hk x a1 y c1 (by rw [← a2, ← c2]; exact e)
    · rw [a2, c3] at e
      exact absurd e (hf j hj x a1)
    · rw [a3, c2] at e
      exact absurd e.symm (hf k hk y c1)
    · exact ⟨a1.trans c1.symm, a2.trans c2.symm⟩
theorem sCh1.sent {l : List Nat} (C : sCh1 n kk) : sCh1 n (kk.w_sent l) := by
  obtain ⟨c1, c2, c3, c4, c5⟩ := C
  exact ⟨c1, c2, c3, c4, c5⟩
theorem V_sent1 {v : sSe} (V : sVV n s) (U : sUU (s_ch (s_b37 s v) h (fun k => k.w_sent (k.sent ++ [s.next])))) : sVV n (s_ch (s_b37 s v) h (fun k => k.w_sent (k.sent ++ [s.next]))) := by
  refine ⟨?_, ?_, fun j hj => ?_, U⟩
  · unfold sTh s_ch
    rw [wr_qs_ch, wr_qu_ch, b37_qs, b37_qu]
    exact V.1
  · unfold s_ch
    rw [wr_gener_ch, b37_gener]
    exact V.2.1
  · have := V.2.2.1 j hj
    unfold s_ch
    rw [wr_ch, b37_ch]
    by_cases e : j = h
    · subst e
      rw [sUp_self]
      exact this.sent
    · rw [sUp_ne e]
      exact this
theorem hand_A {f : sCh → sCh} {gg : sEn → sEn} (H : ∀ k, (f k).kept = k.kept ∧ (f k).junk = k.junk ∧ (f k).state = k.state ∧ (f k).tags = k.tags ∧ (f k).sent = k.sent) (G : ∀ k, (gg k).number = k.number) :
    sE s (s_en (s_ch s h f) m gg) ∧ (s_en (s_ch s h f) m gg).qu = s.qu ∧ (s_en (s_ch s h f) m gg).se = s.se ∧ ∀ j, ((s_en (s_ch s h f) m gg).ch j).sent = (s.ch j).sent := by
  refine ⟨sE.trans (e_chN H) (e_enUp G), ?_, ?_, fun j => ?_⟩
  · unfold s_en s_ch
    rw [wr_qu_en, wr_qu_ch]
  · unfold s_en s_ch
    rw [wr_se_en, wr_se_ch]
  · unfold s_en s_ch
    rw [wr_ch_en, wr_ch]
    by_cases e : j = h
    · subst e
      rw [sUp_self]
      exact (H _).2.2.2.2
    · rw [sUp_ne e]
theorem V_hand (V : sVV n s) (hm : ∃ q, m ∈ (s.qu q).ents) (hf : ∀ k, isH k → ∀ x ∈ (s.ch k).sent, (s.se x).entry ≠ m) {o : Option Nat} {fr : Bool} : sVV n (s_hand s h m o fr) := by
  have hF : ∀ k : sCh, (k.w_tag (k.tag + 1)).kept = k.kept ∧ (k.w_tag (k.tag + 1)).junk = k.junk ∧ (k.w_tag (k.tag + 1)).state = k.state ∧ (k.w_tag (k.tag + 1)).tags = k.tags ∧ (k.w_tag (k.tag + 1)).sent = k.sent := fun k => by
    generalize k.tag + 1 = z
    exact ⟨rfl, rfl, rfl, rfl, rfl⟩
  cases fr with
  | true =>
    rw [s_hand_t]
    have A := e_chN (s := s) (h := h) (f := fun k => k.w_tag (k.tag + 1)) hF
    generalize s_ch s h (fun k => k.w_tag (k.tag + 1)) = s2 at A ⊢
    exact sVV.eE (sE.trans A e_leaves) V
  | false =>
    rw [s_hand_f]
    obtain ⟨A, h1, h2, h3⟩ := hand_A (s := s) (h := h) (m := m) (f := fun k => k.w_tag (k.tag + 1)) (gg := fun e => e.w_state 1) hF (fun _ => rfl)
    generalize ((s_ch s h (fun k => k.w_tag (k.tag + 1))).ch h).tag = tg
    generalize s_en (s_ch s h (fun k => k.w_tag (k.tag + 1))) m (fun e => e.w_state 1) = s2 at A h1 h2 h3 ⊢
    have V2 := sVV.eE A V
    exact V_sent1 V2 (UU_sent (h := h) (v := (tg, m, o, false)) V2.2.2.2 (Or.inl (by rw [h1]; exact hm)) (fun k hk x hx => by rw [h2]; rw [h3] at hx; exact hf k hk x hx) rfl)
/-- channels change, what was sent stays -/
theorem UU_ch (U : sUU s) {v : Nat → sCh} (H : ∀ j, (v j).sent = (s.ch j).sent) : sUU (s.w_ch v) := by
  have L : ∀ m, sLv2 (s.w_ch v) m → sLv2 s m := fun m hm => hm.imp id fun ⟨j, hj, x, hx, e⟩ => ⟨j, hj, x, by
    have hx : x ∈ (v j).sent := hx
    rw [H] at hx
    exact hx, e⟩
  obtain ⟨u1, u2, u3, u4, u5, u6⟩ := U
  refine ⟨fun m m' hm hm' e => u1 m m' (L m hm) (L m' hm') e, fun m hm => u2 m (L m hm), fun j hj x hx => ?_, fun j k hj hk x hx y hy e => ?_, u5, u6⟩
  · have hx : x ∈ (v j).sent := hx
    rw [H] at hx
    exact u3 j hj x hx
  · have hx : x ∈ (v j).sent := hx
    have hy : y ∈ (v k).sent := hy
    rw [H] at hx hy
    exact u4 j k hj hk x hx y hy e
theorem V_ch {f : sCh → sCh} (V : sVV n s) (H : (f (s.ch h)).sent = (s.ch h).sent) (C : sCh1 n (s.ch h) → sCh1 n' (f (s.ch h))) (hn : n ≤ n') (hb : n' ≤ 50000) : sVV n' (s_ch s h f) := by
  have V' := V.mono hn hb
  refine ⟨V'.1, V'.2.1, fun j hj => ?_, UU_ch V.2.2.2 fun j => ?_⟩
  · show sCh1 n' (sUp s.ch h (f (s.ch h)) j)
    by_cases e : j = h
    · subst e
      rw [sUp_self]
      exact C (V.2.2.1 _ hj)
    · rw [sUp_ne e]
      exact V'.2.2.1 j hj
  · show (sUp s.ch h (f (s.ch h)) j).sent = _
    by_cases e : j = h
    · subst e
      rw [sUp_self]
      exact H
    · rw [sUp_ne e]
theorem e_newQ {x : sQu} (hq : s.next ∉ s.qs) (h1 : x.there = true) (h2 : x.ents = []) : sE s ((s_new (s.w_qu (sUp s.qu s.next x)) 33).w_qs (s.qs ++ [s.next])) := by
  refine ⟨fun _ => sEc.refl _, fun j m hm => ?_, ⟨rfl, rfl⟩, fun _ _ => rfl, fun _ _ => rfl, rfl, fun t => ⟨?_, fun j hj => ?_⟩, Nat.le_succ _, fun _ => Nat.le_refl _⟩
  · have hm : m ∈ (sUp s.qu s.next x j).ents := hm
    by_cases e : j = s.next
    · subst e
      rw [sUp_self, h2] at hm
      exact absurd hm List.not_mem_nil
    · rw [sUp_ne e] at hm
      exact hm
  · show (s.qs ++ [s.next]).Nodup
    refine List.nodup_append.mpr ⟨t.1, List.nodup_cons.mpr ⟨List.not_mem_nil, List.nodup_nil⟩, fun a ha b hb => ?_⟩
    rw [List.mem_singleton.mp hb]
    exact fun e => hq (e ▸ ha)
  · have hj : j ∈ s.qs ++ [s.next] := hj
    show (sUp s.qu s.next x j).there = true
    rcases List.mem_append.mp hj with a | a
    · rw [sUp_ne (fun e => hq (by rw [← e]; exact a))]
      exact t.2 j a
    · rw [List.mem_singleton.mp a, sUp_self]
      exact h1
theorem V_gener (V : sVV n s) {v : Int32} (h0 : 0 ≤ v) (h1 : v ≤ Int32.ofNat (20 * n')) (hn : n ≤ n') (hb : n' ≤ 50000) : sVV n' (s.w_gener v) :=
  ⟨(V.mono hn hb).1, ⟨h0, h1⟩, (V.mono hn hb).2.2.1, V.2.2.2⟩
/-- numbers below k, each once: k of them at most -/
theorem nat_pigeon : ∀ (k : Nat) (l : List Nat), l.Nodup → (∀ x ∈ l, x < k) → l.length ≤ k
  | 0, l, _, h => by
    cases l with
    | nil => exact Nat.le_refl _
    | cons x l => exact absurd (h x List.mem_cons_self) (Nat.not_lt_zero _)
  | k + 1, l, hn, h => by
    have ih := nat_pigeon k (l.erase k) (hn.erase k) fun x hx => by
      have := (hn.mem_erase_iff).mp hx
      have := h x this.2
      omega
    have := List.length_erase (a := k) (l := l)
    split at this <;> omega
theorem VV_sent (V : sVV n s) (hh : isH h) (hnd : (s.ch h).sent.Nodup) : (s.ch h).sent.length ≤ 12000 := by
  obtain ⟨u1, u2, u3, u4, u5, u6⟩ := V.2.2.2
  have key : ∀ x ∈ (s.ch h).sent, 1 ≤ (s.en (s.se x).entry).number.toNatClampNeg ∧ (s.en (s.se x).entry).number.toNatClampNeg ≤ 12000 ∧ Int32.ofNat (s.en (s.se x).entry).number.toNatClampNeg = (s.en (s.se x).entry).number := fun x hx => by
    obtain ⟨-, p2, p3⟩ := u2 (s.se x).entry (Or.inr ⟨h, hh, x, hx, rfl⟩)
    have e := i_of (Int32.le_of_lt p2)
    refine ⟨Nat.pos_of_ne_zero fun e0 => ?_, i_clamp (k := 12000) (by decide) (Int32.le_trans p3 u6), e⟩
    rw [e0] at e
    rw [← e] at p2
    exact absurd p2 (by decide)
  have H := nat_pigeon 12000 ((s.ch h).sent.map (fun x => (s.en (s.se x).entry).number.toNatClampNeg - 1)) (List.pairwise_map.mpr (hnd.imp_of_mem fun {a b} ha hb hne e => hne ?_)) fun y hy => ?_
  · obtain ⟨a1, a2, a3⟩ := key a ha
    obtain ⟨b1, b2, b3⟩ := key b hb
    have e : (s.en (s.se a).entry).number.toNatClampNeg - 1 = (s.en (s.se b).entry).number.toNatClampNeg - 1 := e
    have e2 : (s.en (s.se a).entry).number.toNatClampNeg = (s.en (s.se b).entry).number.toNatClampNeg := by omega
    have e3 : (s.en (s.se a).entry).number = (s.en (s.se b).entry).number := by rw [← a3, e2, b3]
    exact (u4 h h hh hh a ha b hb (u1 _ _ (Or.inr ⟨h, hh, a, ha, rfl⟩) (Or.inr ⟨h, hh, b, hb, rfl⟩) e3)).2
  · obtain ⟨x, hx, e⟩ := List.mem_map.mp hy
    obtain ⟨a1, a2, -⟩ := key x hx
    omega
  · rwa [List.length_map] at H
/-- what a frame may lean on -/
theorem VV_frm (V : sVV n s) (I : sI s) (hn : n ≤ 50000) : sFrm s := fun j hj => by
  obtain ⟨c1, c2, c3, c4, c5⟩ := V.2.2.1 j hj
  have h1 : ∀ {x : Int32}, x ≤ Int32.ofNat (20 * n) → x ≤ 1000000 := fun {x} hx => by
    rw [show (1000000 : Int32) = Int32.ofNat 1000000 from rfl]
    exact ofNat_mono (by omega) (by decide) hx
  refine ⟨⟨⟨V.1.2, V.2.1.1, h1 V.2.1.2⟩, ⟨c1.1, h1 c1.2⟩, VV_sent V hj (I.sn.1 j hj).1, fun h0 => c4 (by rw [h0]; decide), fun _ _ => c3, c5, fun h hh hne x hx hxj => ?_⟩, c2, fun _ => c3⟩
  exact hne (V.2.2.2.2.2.2.1 h j hh hj x hx x hxj rfl).1
end NU
