/-! ===== the twin: what a channel has not acknowledged ===== -/
set_option maxRecDepth 100000
section UA
variable {s0 : zE} {F : Nat → Option zC} {b : Nat} {s s' : sSt} {w w' : tW} {g g' : sG} {h h' : zH} {d x0 x1 x2 i q m j : Nat} {Q : Value → zH → Prop} {E : Nat → zH → Prop}
theorem tG.pch (G : tG s w g) : tGch s w g := G.2.2.2.2.2.1
/-- whether what was sent counts for a consumer, or for any -/
def s_for (s : sSt) : Option Nat → Nat → Bool
  | some c, x => (s.se x).cons == some c
  | none, x => (s.se x).cons.isSome
theorem t_unackedOf_l {oc : Option Nat} (R : tR s0 F b s w g h) (I : sScope s) (hj : isH j) (hx : g.kind x1 = (3, j)) (hy : isO g 35 x2 oc) (K : Q (.int (Int32.ofNat ((s.ch j).sent.filter (s_for s oc)).length)) h) :
    ∀ (k n : Nat), (s.ch j).sent.length = n + k → zP s0 m_X8_unackedOf d 5 [none, some (zr x1), some (zr x2), some (.int (Int32.ofNat (cnt (s.ch j).sent (s_for s oc) n))), some (.int (Int32.ofNat n))] [] h Q E
  | k, n, hn => by
    obtain ⟨-, -, ⟨N, ⟨-, hN⟩, -, A⟩, -⟩ := R.2.pch j hj
    have hle := A.le
    rw [List.length_map] at hle
    have e := R.1.cell hx (by decide)
    refine b_X8_unackedOf_5 (e_I e fun (z1 : gI h x1 10 = Int32.ofNat (s.ch j).sent.length) => ?_)
    rw [z1, i_le (by omega) (by omega)]
    refine ⟨fun hl => ?_, fun hl => ?_⟩
    · rw [cnt_all hl]
      exact K
    · obtain ⟨k', rfl⟩ : ∃ k', k = k' + 1 := ⟨k - 1, by omega⟩
      obtain ⟨x, hx5⟩ : ∃ x, (s.ch j).sent[n]? = some x := ⟨_, List.getElem?_eq_getElem (by omega)⟩
      have hkx := (I.ch j hj).1 x (List.mem_of_getElem? hx5)
      have ax := R.al (by decide) (by decide) hkx
      have hc := cnt_succ (f := s_for s oc) hx5
      have IH := t_unackedOf_l R I hj hx hy K k' (n + 1) (by omega)
      rw [hc] at IH
      rw [i_succ, i_succ]
      refine ⟨fun h0 => e_R e fun z2 => ?_, fun h0 => e_R e fun z2 => ?_⟩
      · rw [z2]
        refine g_El R A rfl (by decide) hx5 (by omega) fun z3 => ?_
        rw [z3]
        refine e_R (R.1.cell ax (by decide)) fun (z4 : gR h (g.ref 37 x) 2 = gO g 35 (s.se x).cons) => ?_
        rw [z4]
        cases oc with
        | none => exact absurd hy h0
        | some c =>
          have hiff : gO g 35 (s.se x).cons = x2 ↔ s_for s (some c) x = true := by
            show _ ↔ ((s.se x).cons == some c) = true
            rw [beq_iff_eq]
            cases hco : (s.se x).cons with
            | none => exact ⟨fun e5 => absurd e5.symm h0, fun e5 => nomatch e5⟩
            | some y =>
              rw [show gO g 35 (some y) = g.ref 35 y from rfl, R.inj (R.al (by decide) (by decide) ((I.se x hkx).2 y hco)) hy (by decide)]
              exact ⟨fun e5 => by rw [e5], fun e5 => by cases e5; rfl⟩
          rw [hiff]
          refine ⟨fun e5 => ?_, fun e5 => ?_⟩
          · rw [Bool.not_eq_true] at e5
            simp only [e5] at IH
            exact IH
          · simp only [e5] at IH
            exact IH
      · rw [z2]
        refine g_El R A rfl (by decide) hx5 (by omega) fun z3 => ?_
        rw [z3]
        refine e_R (R.1.cell ax (by decide)) fun (z4 : gR h (g.ref 37 x) 2 = gO g 35 (s.se x).cons) => ?_
        rw [z4]
        cases oc with
        | some c => exact absurd h0 (R.1.pos hy (by decide))
        | none =>
          have hiff : gO g 35 (s.se x).cons = 0 ↔ s_for s none x = false := by
            show _ ↔ (s.se x).cons.isSome = false
            cases hco : (s.se x).cons with
            | none => exact ⟨fun _ => rfl, fun _ => rfl⟩
            | some y => exact ⟨fun e5 => absurd e5 (R.1.pos (R.al (by decide) (by decide) ((I.se x hkx).2 y hco)) (by decide)), fun e5 => nomatch e5⟩
          rw [hiff]
          refine ⟨fun e5 => ?_, fun e5 => ?_⟩
          · simp only [e5] at IH
            exact IH
          · rw [Bool.not_eq_false] at e5
            simp only [e5] at IH
            exact IH
theorem t_unackedOf {oc : Option Nat} (R : tR s0 F b s w g h) (I : sScope s) (hj : isH j) (hx : g.kind x1 = (3, j)) (hy : isO g 35 x2 oc) (K : Q (.int (Int32.ofNat ((s.ch j).sent.filter (s_for s oc)).length)) h) : zX s0 m_X8_unackedOf d [zr x0, zr x1, zr x2] h Q E :=
  c_X8_unackedOf (t_unackedOf_l R I hj hx hy K (s.ch j).sent.length 0 (by omega))
end UA
