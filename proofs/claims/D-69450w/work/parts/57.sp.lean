/-! ===== the twin: deaths ===== -/
set_option maxRecDepth 100000
section SO
variable {s0 : zE} {F : Nat → Option zC} {b : Nat} {s s' : sSt} {w w' : tW} {g g' : sG} {h h' : zH} {d x0 x1 x2 i q m : Nat} {Q : Value → zH → Prop} {E : Nat → zH → Prop}
/-- what a death leaves as it was -/
theorem s_dies_cases : ∃ v : Int32, s_dies s m = (s_leaves s m).w_deadOnes v ∨ ∃ x, (s.qu (s.en m).queue).dlx = some x ∧ s.dead.length ≠ 300 ∧ s_dies s m = ((s_leaves s m).w_deadOnes v).w_dead ((s_leaves s m).dead ++ [(m, x, (s.qu (s.en m).queue).dlk)]) := by
  refine ⟨(s_leaves s m).deadOnes + 1, ?_⟩
  unfold s_dies
  dsimp only
  cases (s.qu (s.en m).queue).dlx with
  | none => exact Or.inl rfl
  | some x =>
    dsimp only
    split
    · exact Or.inl rfl
    · rename_i hn
      exact Or.inr ⟨x, rfl, fun e => hn (Or.inr e), rfl⟩
theorem sScope.w_deadOnes (I : sScope s) {v : Int32} : sScope (s.w_deadOnes v) := I
theorem sScope.w_dead (I : sScope s) {l : List sDe} (h : ∀ y ∈ l, s.knd y.entry = 36) : sScope (s.w_dead l) := by
  obtain ⟨a1, a2, a3, a4, a5, a6, a7, a8, a9, a10⟩ := I
  exact ⟨a1, a2, a3, a4, a5, a6, a7, a8, h, a10⟩
theorem sScope.dead (I : sScope s) : ∀ x ∈ s.dead, s.knd x.entry = 36 := I.2.2.2.2.2.2.2.2.1
theorem sScope.dies (I : sScope s) (hm : s.knd m = 36) : sScope (s_dies s m) := by
  have I1 := I.lv hm
  have Y := s_leaves_lv (s := s) (m := m)
  obtain ⟨v, e | ⟨x, -, -, e⟩⟩ := s_dies_cases (s := s) (m := m)
  · rw [e]
    exact I1.w_deadOnes
  · rw [e]
    refine (I1.w_deadOnes (v := v)).w_dead fun y hy => ?_
    rw [wr_knd_deadOnes]
    rcases List.mem_append.mp hy with e1 | e1
    · exact I1.dead y e1
    · rw [List.mem_singleton.mp e1, Y.1]
      exact hm
theorem sLv.refl (s : sSt) : sLv s s := ⟨rfl, rfl, rfl, rfl, rfl, rfl, rfl, rfl, rfl, rfl, rfl, rfl, fun _ => rfl, fun _ => rfl⟩
/-- as sLv, but for the dead -/
def sDi (s s' : sSt) : Prop := s'.knd = s.knd ∧ s'.cn = s.cn ∧ s'.ch = s.ch ∧ s'.qs = s.qs ∧ s'.es = s.es ∧ s'.bs = s.bs ∧ s'.cs = s.cs ∧ s'.ex = s.ex ∧ s'.bi = s.bi ∧ s'.co = s.co ∧ s'.se = s.se ∧
  (∀ j, s'.qu j = (s.qu j).w_ents (s'.qu j).ents) ∧ (∀ j, s'.en j = (s.en j).w_state (s'.en j).state)
theorem sLv.di (Y : sLv s s') {v : Int32} : sDi s (s'.w_deadOnes v) := ⟨Y.1, Y.2.2⟩
theorem sLv.di2 (Y : sLv s s') {v : Int32} {l : List sDe} : sDi s ((s'.w_deadOnes v).w_dead l) := ⟨Y.1, Y.2.2⟩
theorem s_dies_di : sDi s (s_dies s m) := by
  have Y := s_leaves_lv (s := s) (m := m)
  obtain ⟨v, e | ⟨x, -, -, e⟩⟩ := s_dies_cases (s := s) (m := m)
  · rw [e]; exact Y.di
  · rw [e]; exact Y.di2
theorem s_lv_ents : ((s_lv s m).qu (s.en m).queue).ents = (s.qu (s.en m).queue).ents.erase m := by
  rw [s_lv_eq, wr_qu_messages, wr_qu, sUp_self]
  rfl
theorem s_leaves_ents : ((s_leaves s m).qu (s.en m).queue).ents = (s.qu (s.en m).queue).ents.erase m := by
  rcases s_leaves_cases (s := s) (m := m) with e | e
  · rw [e]; exact s_lv_ents
  · rw [e, wt_qu]; exact s_lv_ents
theorem w_deadOnes_qu {v : Int32} : (s.w_deadOnes v).qu = s.qu := rfl
theorem w_dead_qu {v : List sDe} : (s.w_dead v).qu = s.qu := rfl
theorem w_deadOnes_facts {v : Int32} : (s.w_deadOnes v).facts = s.facts := rfl
theorem w_dead_facts {v : List sDe} : (s.w_dead v).facts = s.facts := rfl
theorem w_deadOnes_dead {v : Int32} : (s.w_deadOnes v).dead = s.dead := rfl
theorem w_dead_dead {v : List sDe} : (s.w_dead v).dead = v := rfl
theorem s_dies_ents : ((s_dies s m).qu (s.en m).queue).ents = (s.qu (s.en m).queue).ents.erase m := by
  obtain ⟨v, e | ⟨x, -, -, e⟩⟩ := s_dies_cases (s := s) (m := m)
  · rw [e, w_deadOnes_qu]; exact s_leaves_ents
  · rw [e, w_dead_qu, w_deadOnes_qu]; exact s_leaves_ents
theorem s_dies_facts : (s_dies s m).facts.length ≤ s.facts.length + 1 := by
  obtain ⟨v, e | ⟨x, -, -, e⟩⟩ := s_dies_cases (s := s) (m := m)
  · rw [e, w_deadOnes_facts]; exact s_leaves_facts
  · rw [e, w_dead_facts, w_deadOnes_facts]; exact s_leaves_facts
theorem s_dies_dead (hd : s.dead.length ≤ 300) : (s_dies s m).dead.length ≤ 300 := by
  have Y := s_leaves_lv (s := s) (m := m)
  obtain ⟨v, e | ⟨x, -, hn, e⟩⟩ := s_dies_cases (s := s) (m := m)
  · rw [e, w_deadOnes_dead, Y.2.1]; exact hd
  · rw [e, w_dead_dead, List.length_append, Y.2.1]
    simp only [List.length_singleton]
    omega
end SO
