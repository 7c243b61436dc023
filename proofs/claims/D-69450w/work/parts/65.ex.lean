/-! ===== the twin: consumers looked up ===== -/
set_option maxRecDepth 100000
section EX
variable {s0 : zE} {F : Nat → Option zC} {b : Nat} {s s' : sSt} {w w' : tW} {g g' : sG} {h h' : zH} {d x0 x1 x2 i q m j : Nat} {Q : Value → zH → Prop} {E : Nat → zH → Prop}
theorem t_exclusively_l (R : tR s0 F b s w g h) (I : sScope s) (hm : g.kind x0 = (1, 0)) (hx : g.kind x1 = (33, q)) (K : Q (.int (sB (s.cs.any (fun i => (s.co i).queue == q && (s.co i).excl)))) h) :
    ∀ (rest pre : List Nat), s.cs = pre ++ rest → (s.cs.any (fun i => (s.co i).queue == q && (s.co i).excl) = rest.any (fun i => (s.co i).queue == q && (s.co i).excl)) → zP s0 m_X8_exclusively d 2 [some (zr x0), some (zr x1), some (.int (Int32.ofNat pre.length))] [] h Q E
  | [], pre, hp, hf => by
    have hle := R.2.ar8.le
    rw [List.length_map] at hle
    have hl : s.cs.length = pre.length := by rw [hp, List.append_nil]
    refine b_X8_exclusively_2 (e_I (R.main hm) fun (z1 : gI h x0 8 = Int32.ofNat s.cs.length) => ?_)
    rw [z1, i_le (by omega) (by omega)]
    refine ⟨fun _ => ?_, fun hn => absurd (Nat.le_of_eq hl) hn⟩
    rw [hf] at K
    exact K
  | x :: rest, pre, hp, hf => by
    have A := R.2.ar8
    have hle := A.le
    rw [List.length_map] at hle
    have hl : s.cs.length = pre.length + rest.length + 1 := by rw [hp]; simp; omega
    have hx5 : s.cs[pre.length]? = some x := by rw [hp]; simp
    have hkx := I.cs x (List.mem_of_getElem? hx5)
    have ax := R.al (by decide) (by decide) hkx
    have IH := fun e => t_exclusively_l R I hm hx K rest (pre ++ [x]) (by rw [hp, List.append_assoc]; rfl) e
    rw [show (pre ++ [x]).length = pre.length + 1 by simp] at IH
    rw [List.any_cons] at hf
    refine b_X8_exclusively_2 (e_I (R.main hm) fun (z1 : gI h x0 8 = Int32.ofNat s.cs.length) => ?_)
    rw [z1, i_le (by omega) (by omega)]
    refine ⟨fun hn => absurd hn (by omega), fun _ => e_R (R.main hm) fun z2 => ?_⟩
    rw [z2]
    refine g_El R A rfl (by decide) hx5 (by decide) fun z3 => ?_
    rw [z3]
    refine e_R (R.1.cell ax (by decide)) fun (z4 : gR h (g.ref 35 x) 1 = g.ref 33 (s.co x).queue) => ?_
    rw [z4, R.inj (R.al (by decide) (by decide) (I.co x hkx).1) hx (by decide), i_succ]
    constructor
    · intro e
      rw [beq_false_of_ne e] at hf
      exact IH hf
    · intro e
      rw [beq_iff_eq.mpr e] at hf
      refine e_R (R.main hm) fun _ => ⟨R.el (t := 15) A rfl (by decide) hx5 (by decide), e_I (R.1.cell ax (by decide)) fun (z5 : gI h (g.ref 35 x) 4 = sB (s.co x).excl) => ?_⟩
      rw [z5, sB_0]
      constructor
      · intro e2
        rw [e2] at hf
        exact IH hf
      · intro e2
        rw [Bool.not_eq_false] at e2
        rw [e2] at hf
        rw [hf] at K
        exact K
theorem t_exclusively (R : tR s0 F b s w g h) (I : sScope s) (hm : g.kind x0 = (1, 0)) (hx : g.kind x1 = (33, q)) (K : Q (.int (sB (s.cs.any (fun i => (s.co i).queue == q && (s.co i).excl)))) h) : zX s0 m_X8_exclusively d [zr x0, zr x1] h Q E :=
  c_X8_exclusively (t_exclusively_l R I hm hx K s.cs [] rfl rfl)
end EX
