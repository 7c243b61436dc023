/-! ===== the twin: queues are shortened, messages put back ===== -/
set_option maxRecDepth 100000
theorem best_some {s : sSt} {q m : Nat} {f : Nat → Bool} : ∀ (l : List Nat) (best : Option Nat), l.foldl (s_bstep s q f) best = some m → best = some m ∨ (m ∈ l ∧ f m = true)
  | [], best, e => Or.inl e
  | x :: l, best, e => by
    rw [List.foldl_cons] at e
    rcases best_some l _ e with e1 | e1
    · cases hf : f x
      · rw [s_bstep_f hf] at e1
        exact Or.inl e1
      · cases best with
        | none =>
          rw [s_bstep_n hf] at e1
          cases e1
          exact Or.inr ⟨List.mem_cons_self, hf⟩
        | some y =>
          rw [s_bstep_s hf] at e1
          split at e1
          · cases e1
            exact Or.inr ⟨List.mem_cons_self, hf⟩
          · exact Or.inl e1
    · exact Or.inr ⟨List.mem_cons_of_mem _ e1.1, e1.2⟩
theorem best_none {s : sSt} {q : Nat} {f : Nat → Bool} : ∀ (l : List Nat) (best : Option Nat), l.foldl (s_bstep s q f) best = none → best = none ∧ ∀ x ∈ l, f x = false
  | [], best, e => ⟨e, fun x hx => nomatch hx⟩
  | x :: l, best, e => by
    rw [List.foldl_cons] at e
    obtain ⟨e1, e2⟩ := best_none l _ e
    cases hf : f x
    · rw [s_bstep_f hf] at e1
      exact ⟨e1, fun y hy => by
        rcases List.mem_cons.mp hy with e3 | e3
        · rw [e3]; exact hf
        · exact e2 y e3⟩
    · cases best with
      | none => rw [s_bstep_n hf] at e1; cases e1
      | some y =>
        rw [s_bstep_s hf] at e1
        split at e1 <;> cases e1
theorem s_best_eq {s : sSt} {q : Nat} {f : Nat → Bool} : s_best s q f = (s.qu q).ents.foldl (s_bstep s q f) none := rfl
theorem s_best_mem {s : sSt} {q m : Nat} {f : Nat → Bool} (h : s_best s q f = some m) : m ∈ (s.qu q).ents ∧ f m = true := by
  rcases best_some _ _ (s_best_eq.symm.trans h) with e | e
  · cases e
  · exact e
theorem s_first_none {s : sSt} {q : Nat} (h : s_first s q = none) : s_ready s q = [] := by
  have := (best_none _ _ (s_best_eq.symm.trans h)).2
  unfold s_ready
  rw [List.filter_eq_nil_iff]
  intro x hx
  rw [this x hx]
  decide
/-- how many die when a queue is shortened -/
def s_shortN (q : Nat) : Nat → sSt → Nat
  | 0, _ => 0
  | n + 1, s => if 0 ≤ (s.qu q).max ∧ (s.qu q).max < Int32.ofNat (s_ready s q).length then (match s_first s q with
    | none => 0
    | some m => 1 + s_shortN q n (s_dies s m)) else 0
section SO
variable {s0 : zE} {F : Nat → Option zC} {b : Nat} {s s' : sSt} {w w' : tW} {g g' : sG} {h h' : zH} {d x0 x1 x2 i q m : Nat} {Q : Value → zH → Prop} {E : Nat → zH → Prop}
theorem sScope.tell (I : sScope s) {k : Int32} {i : Nat} (h0 : 0 ≤ k) (h7 : k ≤ 7) (hk : s.knd i = (if k = 0 ∨ k = 1 then 32 else if k = 2 ∨ k = 3 then 33 else if k = 4 ∨ k = 5 then 34 else 36)) : sScope (s_tell s k i) := by
  obtain ⟨a1, a2, a3, a4, a5, a6, a7, a8, a9, a10, a11, a12, a13, a14, a15, a16, a17⟩ := I
  refine ⟨a1, a2, a3, a4, a5, a6, a7, a8, a9, a10, a11, a12, a13, a14, a15, fun f hf => ?_, a17⟩
  rw [wt_facts] at hf
  rw [wt_knd]
  rcases List.mem_append.mp hf with e1 | e1
  · exact a16 f e1
  · rw [List.mem_singleton.mp e1]
    exact ⟨h0, h7, hk⟩
theorem sScope.w_messages (I : sScope s) {v : Int32} : sScope (s.w_messages v) := I
theorem s_lv_eq : s_lv s m = ((s.w_en (sUp s.en m ((s.en m).w_state 2))).w_qu (sUp s.qu (s.en m).queue ((s.qu (s.en m).queue).w_ents ((s.qu (s.en m).queue).ents.erase m)))).w_messages (s.messages - 1) := rfl
theorem sScope.lv1 (I : sScope s) : sScope ((s.w_en (sUp s.en m ((s.en m).w_state 2))).w_qu (sUp s.qu (s.en m).queue ((s.qu (s.en m).queue).w_ents ((s.qu (s.en m).queue).ents.erase m)))) := by
  have I1 := I.enw (m := m) (x := (s.en m).w_state 2) rfl
  have I2 := I1.quw (q := (s.en m).queue) (x := (s.qu (s.en m).queue).w_ents ((s.qu (s.en m).queue).ents.erase m)) (fun y hy => List.mem_of_mem_erase hy) rfl rfl
  rw [wr_qu_en] at I2
  exact I2
theorem sScope.lv (I : sScope s) (hm : s.knd m = 36) : sScope (s_leaves s m) := by
  have I2 : sScope (s_lv s m) := by
    rw [s_lv_eq]
    exact I.lv1.w_messages
  rcases s_leaves_cases (s := s) (m := m) with e | e
  · rw [e]; exact I2
  · rw [e]
    refine I2.tell (by decide) (by decide) ?_
    rw [s_lv_eq, wr_knd_messages, wr_knd_qu, wr_knd_en]
    exact hm
end SO
