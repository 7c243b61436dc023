/-! ===== the hall at its start (pure) ===== -/
set_option maxRecDepth 100000
set_option maxHeartbeats 200000
theorem s_initSafe : ∀ n, sSafe s_init n = ([], [], [], []) := fun n => by
  unfold sSafe
  rw [show s_init.facts = [] from rfl, List.take_nil]
  rfl
theorem s_initI : sI s_init := by
  have hn : ∀ {α : Type} {x : α} {P : Prop}, x ∈ ([] : List α) → P := fun hh => absurd hh List.not_mem_nil
  have k0 : ∀ {i c : Nat} {P : Prop}, s_init.knd i = c → c ≠ 0 → P := fun e hc => absurd e.symm hc
  have i0 : (0 : Int32) ≤ 0 := by decide
  refine ⟨?_, ?_, ?_, ?_, ?_, ?_⟩
  · exact ⟨fun _ hh => hn hh, fun _ hh => hn hh, fun _ hh => hn hh, fun _ hh => hn hh, fun _ hh => hn hh, fun _ hh => hn hh, fun _ hh => hn hh, fun _ hh => hn hh, fun _ hh => hn hh, fun i e => k0 e (by decide), fun i e => k0 e (by decide), fun i e => k0 e (by decide), fun i e => k0 e (by decide), fun i e => k0 e (by decide), fun h hh => ⟨fun _ z => hn z, fun _ z => hn z⟩, fun _ z => hn z, fun _ _ => rfl⟩
  · refine ⟨fun i e => k0 e (by decide), fun i e => k0 e (by decide), fun i e => k0 e (by decide), fun i e => k0 e (by decide), fun i e => k0 e (by decide), fun _ z => hn z, fun h _ => ⟨fun b e => absurd e (fun z => Option.noConfusion z), Nat.zero_le _, fun _ c e => absurd e (fun z => Option.noConfusion z), fun _ z => hn z, Or.inl rfl, ⟨fun _ => rfl, fun _ => rfl⟩, i0, (by decide : (0 : Int32) ≤ 2)⟩⟩
  · exact ⟨List.nodup_nil, fun i e => k0 e (by decide), rfl, Nat.zero_le _⟩
  · exact ⟨fun h _ => ⟨List.nodup_nil, fun _ z => hn z⟩, fun h k _ _ x z => hn z, fun h _ e k z => hn z⟩
  · exact ⟨List.nodup_nil, List.nodup_nil, List.nodup_nil, Nat.zero_le _, Nat.zero_le _, Nat.zero_le _, Nat.zero_le _, Nat.zero_le _, fun _ z => hn z, fun i e => k0 e (by decide), fun _ z => hn z, fun h _ => Nat.zero_le _, fun c _ => ⟨Nat.zero_le _, Nat.zero_le _, i0, (by decide : (0 : Int32) ≤ 6)⟩, i0, (by decide : (0 : Int32) ≤ 12000), Nat.zero_le _, fun _ z => hn z, fun _ z => hn z⟩
  · refine ⟨fun n => ?_, ?_, ?_, ?_, fun m => ?_, fun i e => k0 e (by decide), fun i e => k0 e (by decide)⟩
    · rw [s_initSafe]
      exact ⟨Nat.zero_le _, Nat.zero_le _, Nat.zero_le _, Nat.zero_le _, List.nodup_nil, List.nodup_nil, List.nodup_nil, fun _ z => hn z, fun _ z => hn z, fun _ z => hn z, fun _ z => hn z, fun _ z => hn z, fun _ z => hn z, List.Pairwise.nil⟩
    · rw [s_initSafe]
      rfl
    · rw [s_initSafe]
      rfl
    · rw [s_initSafe]
      rfl
    · rw [s_initSafe]
      exact ⟨fun z => hn z, fun z => hn z.1⟩
theorem s_initV : sVV 0 s_init := by
  have hn : ∀ {α : Type} {x : α} {P : Prop}, x ∈ ([] : List α) → P := fun hh => absurd hh List.not_mem_nil
  have i0 : (0 : Int32) ≤ 0 := by decide
  have hl : ∀ m, ¬ sLv2 s_init m := fun m hm => by
    rcases hm with ⟨q, z⟩ | ⟨h, hh, x, z, e⟩
    · exact hn z
    · exact hn z
  exact ⟨⟨List.nodup_nil, fun _ z => hn z⟩, ⟨i0, i0⟩, fun h _ => ⟨⟨i0, i0⟩, Or.inl rfl, rfl, fun _ => rfl, ⟨List.Pairwise.nil, fun _ z => hn z⟩⟩, fun m m' z => absurd z (hl m), fun m z => absurd z (hl m), fun h _ x z => hn z, fun h k _ _ x z => hn z, i0, (by decide : (0 : Int32) ≤ 12000)⟩
theorem s_initP : tP s_init = 192000 := by decide +kernel
theorem s_initY : tY s_init = 36000 := by decide +kernel
theorem s_initW : sWt s_init = 0 := by decide +kernel
theorem s_initT : tV s_init = 0 := by decide +kernel
theorem s_initPend : sPend s_init = 0 := by decide +kernel
