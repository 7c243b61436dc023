/-! ===== the twin: queues are shortened ===== -/
set_option maxRecDepth 100000
section SO
variable {s0 : zE} {F : Nat → Option zC} {b : Nat} {s s' : sSt} {w w' : tW} {g g' : sG} {h h' : zH} {d x0 x1 x2 i q m : Nat} {Q : Value → zH → Prop} {E : Nat → zH → Prop}
/-- one round of the loop -/
theorem t_shorten_0 {n : Nat} (R : tR s0 F (b + 4 * s_shortN q n s) s w g h) (I : sScope s) (hm : g.kind x0 = (1, 0)) (hx : g.kind x1 = (33, q)) (hn : (s.qu q).ents.length ≤ n) (hf : s.facts.length + n < 1000000) (hd : s.dead.length ≤ 300)
    (K0 : (¬ (0 ≤ (s.qu q).max ∧ (s.qu q).max < Int32.ofNat (s_ready s q).length)) → Q .null h)
    (K1 : ∀ m, (0 ≤ (s.qu q).max ∧ (s.qu q).max < Int32.ofNat (s_ready s q).length) → s_first s q = some m → zX s0 m_X8_dies (d + 4) [zr x0, zr (g.ref 36 m)] h (fun _ h3 => zP s0 m_X8_shorten (d + 5) 0 [some (zr x0), some (zr x1)] [] h3 Q E) E) : zP s0 m_X8_shorten (d + 5) 0 [some (zr x0), some (zr x1)] [] h Q E := by
  have e := R.1.cell hx (by decide)
  refine b_X8_shorten_0 (e_I e fun (z1 : gI h x1 6 = (s.qu q).max) => ?_)
  rw [z1]
  refine ⟨fun h0 => K0 fun hc => absurd h0 (Int32.not_lt.mpr hc.1), fun h0 => ⟨⟨_, R.main hm⟩, t_ready R I hx ⟨_, rfl, e_I e fun (z2 : gI h x1 6 = (s.qu q).max) => ?_⟩⟩⟩
  rw [z2]
  refine ⟨fun h1 => K0 fun hc => absurd h1 (Int32.not_le.mpr hc.2), fun h1 => ?_⟩
  have hc : 0 ≤ (s.qu q).max ∧ (s.qu q).max < Int32.ofNat (s_ready s q).length := ⟨Int32.not_lt.mp h0, Int32.not_le.mp h1⟩
  refine ⟨⟨_, R.main hm⟩, t_first R I hx ⟨_, rfl, ⟨_, R.main hm⟩, ?_⟩⟩
  cases hfi : s_first s q with
  | none =>
    have := s_first_none hfi
    rw [this] at hc
    exact absurd hc.1 (Int32.not_le.mpr hc.2)
  | some m => exact K1 m hc hfi
theorem s_shorten_no {n : Nat} (hc : ¬ (0 ≤ (s.qu q).max ∧ (s.qu q).max < Int32.ofNat (s_ready s q).length)) : s_shorten q n s = s := by
  cases n with
  | zero => rfl
  | succ n => rw [s_shorten, if_neg hc]
theorem s_shorten_go {n : Nat} (hc : 0 ≤ (s.qu q).max ∧ (s.qu q).max < Int32.ofNat (s_ready s q).length) (hf : s_first s q = some m) : s_shorten q (n + 1) s = s_shorten q n (s_dies s m) ∧ s_shortN q (n + 1) s = 1 + s_shortN q n (s_dies s m) := by
  constructor
  · rw [s_shorten, if_pos hc, hf]
  · rw [s_shortN, if_pos hc, hf]
theorem t_shorten_l (n : Nat) : ∀ {s : sSt} {g : sG} {h : zH}, (s.qu q).ents.length ≤ n → tR s0 F (b + 4 * s_shortN q n s) s w g h → sScope s → g.kind x0 = (1, 0) → g.kind x1 = (33, q) → s.facts.length + n < 1000000 → s.dead.length ≤ 300 →
    (∀ g1 h1, tR s0 F b (s_shorten q n s) w g1 h1 → gL g g1 → Q .null h1) → zP s0 m_X8_shorten (d + 5) 0 [some (zr x0), some (zr x1)] [] h Q E := by
  induction n with
  | zero =>
    intro s g h hn R I hm hx hf hd K
    refine t_shorten_0 R I hm hx hn hf hd (fun hc => K g h (R.less (Nat.le_add_right _ _)) (gL.refl g)) fun m hc hfi => ?_
    have := List.length_pos_of_mem (s_best_mem hfi).1
    omega
  | succ n ih =>
    intro s g h hn R I hm hx hf hd K
    refine t_shorten_0 R I hm hx hn hf hd (fun hc => ?_) fun m hc hfi => ?_
    · rw [s_shorten_no hc] at K
      exact K g h (R.less (Nat.le_add_right _ _)) (gL.refl g)
    · have hq := R.ak (by decide) (by decide) hx
      obtain ⟨hmem, -⟩ := s_best_mem hfi
      obtain ⟨hkm, hmq⟩ := (I.qu q hq).1 m hmem
      have hpos : 1 ≤ (s.qu q).ents.length := List.length_pos_of_mem hmem
      obtain ⟨g1, g2⟩ := s_shorten_go (n := n) hc hfi
      rw [g2, show b + 4 * (1 + s_shortN q n (s_dies s m)) = b + 4 * s_shortN q n (s_dies s m) + 4 by omega] at R
      rw [g1] at K
      have he := s_dies_ents (s := s) (m := m)
      rw [hmq] at he
      have hfa := s_dies_facts (s := s) (m := m)
      have hda := s_dies_dead (m := m) hd
      have Id := I.dies hkm
      refine t_dies R I hm (R.al (by decide) (by decide) hkm) (by rw [hmq]; exact hmem) (by omega) hd ?_
      revert K he hfa hda Id
      generalize s_dies s m = s2
      intro K he hfa hda Id g2 h2 R2 L2
      refine ih ?_ R2 Id (L2.m hm) (L2.k hx (Or.inr (Or.inr (Or.inr (Or.inl (by decide)))))) (by omega) hda fun g3 h3 R3 L3 => K g3 h3 R3 (L2.trans L3)
      rw [he, List.length_erase_of_mem hmem]
      omega
theorem t_shorten (R : tR s0 F (b + 4 * s_shortN q (s.qu q).ents.length s) s w g h) (I : sScope s) (hm : g.kind x0 = (1, 0)) (hx : g.kind x1 = (33, q)) (hf : s.facts.length < 980000) (hd : s.dead.length ≤ 300)
    (K : ∀ g1 h1, tR s0 F b (s_trim s q) w g1 h1 → gL g g1 → Q .null h1) : zX s0 m_X8_shorten (d + 5) [zr x0, zr x1] h Q E := by
  have hle := (R.ents (R.ak (by decide) (by decide) hx)).le
  rw [List.length_map] at hle
  exact c_X8_shorten (t_shorten_l _ (Nat.le_refl _) R I hm hx (by omega) hd K)
end SO
