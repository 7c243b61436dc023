/-! ===== steps down: ends and what they are made of ===== -/
set_option maxRecDepth 100000
section DN
variable {s s' s1 s2 : sSt} {m q e i h c : Nat} {b : sBy} {cl : sSt → Nat → sSt}
theorem s_ch_ch {f : sCh → sCh} : (s_ch s h f).ch h = f (s.ch h) := sUp_self
theorem d_shorten (hq : s.knd q = 33) : ∀ (n : Nat) (s : sSt), sI s → s.knd q = 33 → sDn s (s_shorten q n s) ∧ tP (s_shorten q n s) + 4 * s_shortN q n s ≤ tP s
  | 0, s, I, hk => ⟨sDn.refl s, Nat.le_refl _⟩
  | n + 1, s, I, hk => by
    by_cases hc : 0 ≤ (s.qu q).max ∧ (s.qu q).max < Int32.ofNat (s_ready s q).length
    · cases hf : s_first s q with
      | none =>
        have e1 : s_shorten q (n + 1) s = s := by rw [s_shorten, if_pos hc, hf]
        have e2 : s_shortN q (n + 1) s = 0 := by rw [s_shortN, if_pos hc, hf]
        rw [e1, e2]
        exact ⟨sDn.refl s, Nat.le_refl _⟩
      | some m =>
        obtain ⟨e1, e2⟩ := s_shorten_go (n := n) hc hf
        obtain ⟨hmem, -⟩ := s_best_mem hf
        obtain ⟨hkm, hmq⟩ := (I.1.qu q hk).1 m hmem
        obtain ⟨D, hp⟩ := d_dies I hkm (by rw [hmq]; exact hmem)
        obtain ⟨D2, hp2⟩ := d_shorten hq n (s_dies s m) (D.1 I) (by rw [(s_dies_di (s := s) (m := m)).1]; exact hk)
        rw [e1, e2]
        exact ⟨D.trans D2, by omega⟩
    · have e1 : s_shorten q (n + 1) s = s := s_shorten_no hc
      have e2 : s_shortN q (n + 1) s = 0 := by rw [s_shortN, if_neg hc]
      rw [e1, e2]
      exact ⟨sDn.refl s, Nat.le_refl _⟩
theorem d_trim (I : sI s) (hq : s.knd q = 33) : sDn s (s_trim s q) ∧ tP (s_trim s q) + 4 * s_shortN q (s.qu q).ents.length s ≤ tP s := d_shorten hq _ s I hq
theorem d_requeue (I : sI s) (hk : s.knd m = 36) (hf : sFree s m) : sDn s (s_requeue s m) ∧ tP (s_requeue s m) + 4 * s_reqN s m ≤ tP s := by
  by_cases hs : (s.en m).state = 1
  · have D := d_again I hk hf hs
    have h1 := d_trim (q := (s.en m).queue) (D.1 I) (by
      show s.knd _ = 33
      exact I.1.en m hk)
    rw [s_requeue_go hs]
    have e : s_reqN s m = s_shortN (s.en m).queue ((s_again s m).qu (s.en m).queue).ents.length (s_again s m) := if_pos hs
    rw [e]
    refine ⟨D.trans h1.1, ?_⟩
    have h2 := D.2.1 I
    omega
  · have e : s_reqN s m = 0 := if_neg hs
    rw [s_requeue_no hs, e]
    exact ⟨sDn.refl s, Nat.le_refl _⟩
theorem s_shorten_di : ∀ (n : Nat) (s : sSt), sDi s (s_shorten q n s)
  | 0, s => ⟨rfl, rfl, rfl, rfl, rfl, rfl, rfl, rfl, rfl, rfl, rfl, fun _ => rfl, fun _ => rfl⟩
  | n + 1, s => by
    rw [s_shorten]
    split
    · split
      · exact ⟨rfl, rfl, rfl, rfl, rfl, rfl, rfl, rfl, rfl, rfl, rfl, fun _ => rfl, fun _ => rfl⟩
      · rename_i m hm
        obtain ⟨a1, a2, a3, a4, a5, a6, a7, a8, a9, a10, a11, a12, a13⟩ := s_dies_di (s := s) (m := m)
        obtain ⟨b1, b2, b3, b4, b5, b6, b7, b8, b9, b10, b11, b12, b13⟩ := s_shorten_di n (s_dies s m)
        exact ⟨b1.trans a1, b2.trans a2, b3.trans a3, b4.trans a4, b5.trans a5, b6.trans a6, b7.trans a7, b8.trans a8, b9.trans a9, b10.trans a10, b11.trans a11, fun j => by rw [b12 j, a12 j]; rfl, fun j => by rw [b13 j, a13 j]; rfl⟩
    · exact ⟨rfl, rfl, rfl, rfl, rfl, rfl, rfl, rfl, rfl, rfl, rfl, fun _ => rfl, fun _ => rfl⟩
theorem s_requeue_ch : (s_requeue s m).ch = s.ch := by
  by_cases hs : (s.en m).state = 1
  · rw [s_requeue_go hs]
    exact (s_shorten_di _ (s_again s m)).2.2.1
  · rw [s_requeue_no hs]
section CL
theorem d_go (I : sI s) (hcl : ∀ s c, c < 4 → sI s → sDn s (cl s c)) (hc : c < 4) : sDn s (s_go cl s c b) := by
  unfold s_go
  split
  · exact sDn.refl s
  · split
    · exact hcl s c hc I
    · exact d_out I (by omega)
theorem isH.div (hj : isH h) : h / 4 < 4 := by
  have := hj.1
  omega
theorem d_sendCancel (I : sI s) (hcl : ∀ s c, c < 4 → sI s → sDn s (cl s c)) (hi : s.knd i = 35) : sDn s (s_sendCancel cl s i) := d_go I hcl (I.1.co i hi).2.div
theorem d_dropQ (hcl : ∀ s c, c < 4 → sI s → sDn s (cl s c)) : ∀ (n : Nat) (s : sSt), sI s → sDn s (s_dropQ cl q n s)
  | 0, s, _ => sDn.refl s
  | n + 1, s, I => by
    rw [s_dropQ]
    split
    · exact sDn.refl s
    · rename_i i r hi
      have hmem : i ∈ s_consQ s q := by rw [hi]; exact List.mem_cons_self
      have hk := I.1.cs i (List.mem_filter.mp hmem).1
      have D := d_takeOut (i := i) I
      have I1 := D.1 I
      split
      · have D2 := d_sendCancel (i := i) I1 hcl hk
        exact (D.trans D2).trans (d_dropQ hcl n _ (D2.1 I1))
      · exact D.trans (d_dropQ hcl n _ I1)
theorem d_delQ (I : sI s) (hcl : ∀ s c, c < 4 → sI s → sDn s (cl s c)) (hq : q ∈ s.qs) : sDn s (s_delQ cl s q) :=
  have D := d_delQ1 I hq
  D.trans (d_dropQ hcl _ _ (D.1 I))
/-- a deleted queue is no more in the list -/
theorem delQ_qs (I : sI s) (hcl : ∀ s c, c < 4 → sI s → sDn s (cl s c)) (hq : q ∈ s.qs) : (s_delQ cl s q).qs.length < s.qs.length := by
  have D := d_delQ1 I hq
  have D2 := d_dropQ (q := q) hcl s.cs.length _ (D.1 I)
  have h1 : (s_delQ1 s q).qs.length < s.qs.length := by
    have := delQ1_qs hq I
    omega
  exact Nat.lt_of_le_of_lt D2.2.2.2.2.1.length_le h1
theorem d_cancel (I : sI s) (hcl : ∀ s c, c < 4 → sI s → sDn s (cl s c)) (hi : i ∈ s.cs) : sDn s (s_cancel cl s i) := by
  have D := d_takeOut (i := i) I
  unfold s_cancel
  dsimp only
  split
  · rename_i hc
    exact D.trans (d_delQ (D.1 I) hcl ((I.cp.2.2.2.2.2.2.2.2.2.2.1 i hi).mp hc.1))
  · exact D
theorem d_cancelAll (hcl : ∀ s c, c < 4 → sI s → sDn s (cl s c)) : ∀ (n : Nat) (s : sSt), sI s → sDn s (s_cancelAll cl h n s)
  | 0, s, _ => sDn.refl s
  | n + 1, s, I => by
    rw [s_cancelAll]
    split
    · exact sDn.refl s
    · rename_i i hi
      have D := d_cancel I hcl (List.mem_of_find?_eq_some hi)
      exact D.trans (d_cancelAll hcl n _ (D.1 I))
/-- what was sent first may be put back, once it is taken out -/
theorem pop_free (I : sI s) (hj : isH h) {x : Nat} {r : List Nat} (hs : (s.ch h).sent = x :: r) : sFree (s_ch s h (fun k => k.w_sent r)) (s.se x).entry := by
  have hx : x ∈ (s.ch h).sent := by rw [hs]; exact List.mem_cons_self
  have hnd := (I.sn.1 h hj).1
  rw [hs] at hnd
  intro h1
  refine ⟨((I.sn.1 h hj).2 x hx).2 h1, fun k hk y hy e => ?_⟩
  by_cases ek : k = h
  · subst ek
    rw [s_ch_ch] at hy
    have hy : y ∈ r := hy
    have := (I.sn.2.1 k k hk hk x hx y (by rw [hs]; exact List.mem_cons_of_mem _ hy) h1 e.symm).2
    rw [← this] at hy
    exact (List.nodup_cons.mp hnd).1 hy
  · have e2 : (s_ch s h (fun k => k.w_sent r)).ch k = s.ch k := sUp_ne ek
    rw [e2] at hy
    exact ek (I.sn.2.1 h k hj hk x hx y hy h1 e.symm).1.symm
theorem d_backAll (hj : isH h) : ∀ (l : List Nat) (s : sSt), sI s → (s.ch h).state ≠ 1 → (s.ch h).sent = l → sDn s (s_backAll h l s) ∧ ((s_backAll h l s).ch h).sent = []
  | [], s, _, _, hl => ⟨sDn.refl s, hl⟩
  | x :: r, s, I, h1, hl => by
    have D := d_pop I hj hl h1
    have I1 := D.1 I
    have hx : x ∈ (s.ch h).sent := by rw [hl]; exact List.mem_cons_self
    have hkx := (I.1.ch h hj).1 x hx
    have D2 := (d_requeue (m := (s.se x).entry) I1 (I.1.se x hkx).1 (pop_free I hj hl)).1
    have e : ((s_requeue (s_ch s h (fun k => k.w_sent r)) (s.se x).entry).ch h).sent = r := by
      rw [s_requeue_ch, s_ch_ch]
      rfl
    obtain ⟨D3, e3⟩ := d_backAll hj r (s_requeue (s_ch s h (fun k => k.w_sent r)) (s.se x).entry) (D2.1 I1) (by
      rw [s_requeue_ch, s_ch_ch]
      exact h1) e
    rw [s_backAll]
    exact ⟨(D.trans D2).trans D3, e3⟩
theorem d_gone (I : sI s) (hcl : ∀ s c, c < 4 → sI s → sDn s (cl s c)) (hj : isH h) (h1 : (s.ch h).state ≠ 1) : sDn s (s_gone cl s h) := by
  have D := d_cancelAll (h := h) hcl s.cs.length s I
  have I1 := D.1 I
  have h2 := D.2.2.2.2.2.2.2.2.2.1 h h1
  obtain ⟨D2, e2⟩ := d_backAll hj _ _ I1 h2 rfl
  have h3 := D2.2.2.2.2.2.2.2.2.2.1 h h2
  exact (D.trans D2).trans (d_fin (D2.1 I1) hj e2 h3)
theorem d_ownAll (hcl : ∀ s c, c < 4 → sI s → sDn s (cl s c)) : ∀ (n : Nat) (s : sSt), sI s → sDn s (s_ownAll cl c n s)
  | 0, s, _ => sDn.refl s
  | n + 1, s, I => by
    rw [s_ownAll]
    split
    · exact sDn.refl s
    · rename_i i hi
      have D := d_delQ I hcl (List.mem_of_find?_eq_some hi)
      exact D.trans (d_ownAll hcl n _ (D.1 I))
theorem isH.of (hc : c < 4) {k : Nat} (h1 : 1 ≤ k) (h2 : k ≤ 3) : isH (4 * c + k) := ⟨by omega, by omega⟩
/-- the channels of a connection are closed, as yet with all that they have -/
def s_end0 (s : sSt) (c : Nat) : sSt := s_ch (s_ch (s_ch s (4 * c + 1) (fun k => k.w_state 0)) (4 * c + 2) (fun k => k.w_state 0)) (4 * c + 3) (fun k => k.w_state 0)
def s_end3 (cl : sSt → Nat → sSt) (s : sSt) (c : Nat) : sSt := s_gone cl (s_gone cl (s_gone cl (s_end0 s c) (4 * c + 1)) (4 * c + 2)) (4 * c + 3)
theorem s_end_eq : s_end cl s c = s_ownAll cl c (s_end3 cl s c).qs.length (s_end3 cl s c) := rfl
theorem d_end0 (I : sI s) (hc : c < 4) : sDn s (s_end0 s c) := by
  have D1 := d_cs (h := 4 * c + 1) I (isH.of hc (k := 1) (by decide) (by decide)) (v := 0) (by decide)
  have D2 := d_cs (h := 4 * c + 2) (D1.1 I) (isH.of hc (k := 2) (by decide) (by decide)) (v := 0) (by decide)
  exact (D1.trans D2).trans (d_cs (h := 4 * c + 3) (D2.1 (D1.1 I)) (isH.of hc (k := 3) (by decide) (by decide)) (v := 0) (by decide))
theorem end0_state {k : Nat} (h1 : 1 ≤ k) (h2 : k ≤ 3) : ((s_end0 s c).ch (4 * c + k)).state ≠ 1 := by
  show (sUp (sUp (sUp s.ch (4 * c + 1) ((s.ch (4 * c + 1)).w_state 0)) (4 * c + 2) _) (4 * c + 3) _ (4 * c + k)).state ≠ 1
  have hk : k = 1 ∨ k = 2 ∨ k = 3 := by omega
  rcases hk with rfl | rfl | rfl
  · rw [sUp_ne (by omega), sUp_ne (by omega), sUp_self]
    exact (by decide : (0 : Int32) ≠ 1)
  · rw [sUp_ne (by omega), sUp_self]
    exact (by decide : (0 : Int32) ≠ 1)
  · rw [sUp_self]
    exact (by decide : (0 : Int32) ≠ 1)
theorem d_end3 (I : sI s) (hcl : ∀ s c, c < 4 → sI s → sDn s (cl s c)) (hc : c < 4) : sDn s (s_end3 cl s c) := by
  have D0 := d_end0 (c := c) I hc
  have I0 := D0.1 I
  have D1 := d_gone I0 hcl (isH.of hc (k := 1) (by decide) (by decide)) (end0_state (by decide) (by decide))
  have I1 := D1.1 I0
  have D2 := d_gone I1 hcl (isH.of hc (k := 2) (by decide) (by decide)) (D1.2.2.2.2.2.2.2.2.2.1 _ (end0_state (by decide) (by decide)))
  have I2 := D2.1 I1
  have D3 := d_gone I2 hcl (isH.of hc (k := 3) (by decide) (by decide)) (D2.2.2.2.2.2.2.2.2.2.1 _ (D1.2.2.2.2.2.2.2.2.2.1 _ (end0_state (by decide) (by decide))))
  exact ((D0.trans D1).trans D2).trans D3
theorem d_end (I : sI s) (hcl : ∀ s c, c < 4 → sI s → sDn s (cl s c)) (hc : c < 4) : sDn s (s_end cl s c) := by
  have D := d_end3 I hcl hc
  rw [s_end_eq]
  exact D.trans (d_ownAll hcl _ _ (D.1 I))
end CL
theorem d_closeF : ∀ (n : Nat) (s : sSt) (c : Nat), c < 4 → sI s → sDn s (s_closeF n s c)
  | 0, s, c, _, _ => sDn.refl s
  | n + 1, s, c, hc, I => by
    rw [s_closeF]
    split
    · exact sDn.refl s
    · have D := d_cl0 (c := c) I
      dsimp only
      split
      · exact D.trans (d_end (D.1 I) (d_closeF n) hc)
      · exact D
theorem d_close (I : sI s) (hc : c < 4) : sDn s (s_close s c) := d_closeF 5 s c hc I
theorem d_send (I : sI s) (hc : c < 4) : sDn s (s_send s c b) := d_go I (d_closeF 5) hc
theorem d_hard (I : sI s) (hc : c < 4) {code c1 m1 : Int32} : sDn s (s_hard s c code c1 m1) := by
  have D := d_send (b := s_closing 0 10 50 code c1 m1) I hc
  unfold s_hard
  dsimp only
  split
  · exact D
  · rename_i h0
    have D2 := d_cl6 (c := c) (v := (s_send s c (s_closing 0 10 50 code c1 m1)).clock) (D.1 I) h0
    exact (D.trans D2).trans (d_end (D2.1 (D.1 I)) (d_closeF 5) hc)
theorem d_soft (I : sI s) (hj : isH h) {code c1 m1 : Int32} : sDn s (s_soft s h code c1 m1) := by
  have D := d_send (c := h / 4) (b := s_closing (Int32.ofNat (h % 4)) 20 40 code c1 m1) I hj.div
  unfold s_soft
  dsimp only
  split
  · exact D
  · have D2 := d_cs (h := h) (v := 2) (D.1 I) hj (by decide)
    exact (D.trans D2).trans (d_gone (D2.1 (D.1 I)) (d_closeF 5) hj (by rw [s_ch_ch]; exact (by decide : (2 : Int32) ≠ 1)))
theorem d_simple (I : sI s) (hc : c < 4) {chan k1 me : Int32} : sDn s (s_simple s c chan k1 me) := d_send I hc
theorem d_ans (I : sI s) (hj : isH h) {k1 me : Int32} : sDn s (s_ans s h k1 me b) := d_send I hj.div
end DN
