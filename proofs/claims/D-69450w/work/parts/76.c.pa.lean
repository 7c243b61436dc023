/-! ===== what holds at all times, where messages are put back and exchanges go ===== -/
set_option maxRecDepth 100000
section PA
variable {s s' : sSt} {m q e i h c : Nat} {b : sBy}
/-- messages' states and marks change, no more -/
def sEs (v u : Nat → sEn) : Prop := ∀ j, (u j).queue = (v j).queue ∧ (u j).cont = (v j).cont ∧ (u j).number = (v j).number ∧ (u j).exch = (v j).exch ∧ (u j).key = (v j).key ∧ (u j).expi = (v j).expi
theorem sTx.w_en (I : sTx s) {v : Nat → sEn} (hv : sEs s.en v) : sTx (s.w_en v) := by
  obtain ⟨a1, a2, a3, a4, a5, a6, a7⟩ := I
  refine ⟨a1, a2, a3, a4, fun i hi => ?_, a6, a7⟩
  obtain ⟨-, h2, -, h4, h5, h6⟩ := hv i
  show sContOk (v i).cont ∧ (v i).exch.length ≤ 40 ∧ (v i).key.length ≤ 40 ∧ ((v i).expi = -1 ∨ (0 ≤ (v i).expi ∧ (v i).expi ≤ 4294967295))
  rw [h2, h4, h5, h6]
  exact a5 i hi
theorem sMs.w_en (I : sMs s) {v : Nat → sEn} (hv : ∀ j, (v j).state = (s.en j).state ∨ (v j).state = 0 ∨ (v j).state = 1) : sMs (s.w_en v) := by
  obtain ⟨a1, a2, a3, a4⟩ := I
  refine ⟨a1, fun q hq => ?_, a3, a4⟩
  obtain ⟨b1, b2, b3⟩ := a2 q hq
  refine ⟨b1, b2, fun x hx => ?_⟩
  show (v x).state = 0 ∨ (v x).state = 1
  rcases hv x with h | h | h
  · rw [h]
    exact b3 x hx
  · exact Or.inl h
  · exact Or.inr h
theorem sCp.w_en (I : sCp s) {v : Nat → sEn} : sCp (s.w_en v) := I
theorem safe_en {v : Nat → sEn} (hv : sEs s.en v) (n : Nat) : sSafe (s.w_en v) n = sSafe s n := by
  unfold sSafe
  rw [wr_en, wr_facts_en, wr_bi_en, wr_ses_en, wr_sqs_en, wr_sbs_en, wr_sen_en, show (fun m => (v m).queue) = (fun m => (s.en m).queue) from funext fun m => (hv m).1]
theorem rec_en {v : Nat → sEn} (hv : sEs s.en v) (j : Nat) : sRecM (s.w_en v) j = sRecM s j := by
  unfold sRecM
  rw [wr_en, wr_qu_en, (hv j).1, (hv j).2.1]
theorem sHi.w_en (I : sHi s) {v : Nat → sEn} (hv : sEs s.en v) : sHi (s.w_en v) := by
  have hn : (fun m => (v m).number) = (fun m => (s.en m).number) := funext fun m => (hv m).2.2.1
  obtain ⟨a1, a2, a3, a4, a5, a6, a7⟩ := I
  refine ⟨fun n => ?_, ?_, ?_, ?_, fun x => ?_, fun q hq => ?_, fun q hq x hx => ?_⟩
  · rw [safe_en hv]
    obtain ⟨b1, b2, b3, b4, b5, b6, b7, b8, b9, b10, b11, b12, b13, b14⟩ := a1 n
    refine ⟨b1, b2, b3, b4, b5, b6, b7, b8, b9, b10, fun x hx => ?_, b12, b13, ?_⟩
    · rw [rec_en hv]
      show s.knd x = 36 ∧ (v x).queue ∈ _ ∧ _ ∧ 0 < (v x).number ∧ (v x).number ≤ s.lastNum
      rw [(hv x).1, (hv x).2.2.1]
      exact b11 x hx
    · show (List.map (fun m => (v m).number) _).Pairwise (· < ·)
      rw [hn]
      exact b14
  · rw [wr_facts_en, safe_en hv]
    exact a2
  · rw [wr_facts_en, safe_en hv]
    exact a3
  · rw [wr_facts_en, safe_en hv]
    exact a4
  · rw [wr_facts_en, safe_en hv, rec_en hv]
    show _ ↔ x ∈ (s.qu (v x).queue).ents ∧ (v x).queue ∈ s.qs ∧ _
    rw [(hv x).1]
    exact a5 x
  · show (List.map (fun m => (v m).number) (s.qu q).ents).Pairwise (· < ·)
    rw [hn]
    exact a6 q hq
  · show 0 < (v x).number ∧ (v x).number ≤ s.lastNum
    rw [(hv x).2.2.1]
    exact a7 q hq x hx
theorem sEs.up {x : sEn} (hx : x.queue = (s.en m).queue ∧ x.cont = (s.en m).cont ∧ x.number = (s.en m).number ∧ x.exch = (s.en m).exch ∧ x.key = (s.en m).key ∧ x.expi = (s.en m).expi) : sEs s.en (sUp s.en m x) := fun j => by
  by_cases ej : j = m
  · subst ej
    rw [sUp_self]
    exact hx
  · rw [sUp_ne ej]
    exact ⟨rfl, rfl, rfl, rfl, rfl, rfl⟩
theorem d_again (I : sI s) (hk : s.knd m = 36) (hf : sFree s m) (hs : (s.en m).state = 1) : sDn s (s_again s m) := by
  obtain ⟨hmem, hfree⟩ := hf hs
  have hE : sEs s.en (sUp s.en m (((s.en m).w_state 0).w_redel true)) := sEs.up ⟨rfl, rfl, rfl, rfl, rfl, rfl⟩
  have hst : ∀ j, (sUp s.en m (((s.en m).w_state 0).w_redel true) j).state = if j = m then 0 else (s.en j).state := fun j => by
    by_cases ej : j = m
    · subst ej
      rw [sUp_self, if_pos rfl]
      rfl
    · rw [sUp_ne ej, if_neg ej]
  unfold s_again
  have hI : sI (s.w_en (sUp s.en m (((s.en m).w_state 0).w_redel true))) := by
    refine ⟨I.sc.enw rfl, I.tx.w_en hE, I.ms.w_en fun j => ?_, ?_, I.cp.w_en, I.hi.w_en hE⟩
    · rw [hst]
      split
      · exact Or.inr (Or.inl rfl)
      · exact Or.inl rfl
    · obtain ⟨a1, a2, a3⟩ := I.sn
      refine ⟨fun h hh => ⟨(a1 h hh).1, fun x hx => ?_⟩, fun h k hh hk2 x hx y hy h1 he => ?_, a3⟩
      · have hne : (s.se x).entry ≠ m := hfree h hh x hx
        show (sUp s.en m _ (s.se x).entry).state ≠ 0 ∧ ((sUp s.en m _ (s.se x).entry).state = 1 → (s.se x).entry ∈ (s.qu (sUp s.en m _ (s.se x).entry).queue).ents)
        rw [sUp_ne hne]
        exact (a1 h hh).2 x hx
      · have hne : (s.se x).entry ≠ m := hfree h hh x hx
        have h1' : (sUp s.en m (((s.en m).w_state 0).w_redel true) (s.se x).entry).state = 1 := h1
        rw [sUp_ne hne] at h1'
        exact a2 h k hh hk2 x hx y hy h1' he
  refine ⟨fun _ => hI, fun _ => Nat.le_refl _, fun _ => Nat.le_refl _, List.Sublist.refl _, List.Sublist.refl _, List.Sublist.refl _, List.Sublist.refl _, fun _ h => h, fun _ h => h, fun _ h => h, rfl, rfl, rfl, rfl, rfl, rfl, rfl, fun j => ⟨_, _, _, rfl⟩, fun j => ⟨_, rfl⟩, fun j => ?_, fun _ => rfl⟩
  show ∃ t r, sUp s.en m (((s.en m).w_state 0).w_redel true) j = _
  by_cases ej : j = m
  · subst ej
    rw [sUp_self]
    exact ⟨_, _, rfl⟩
  · rw [sUp_ne ej]
    exact ⟨(s.en j).state, (s.en j).redel, rfl⟩
end PA
