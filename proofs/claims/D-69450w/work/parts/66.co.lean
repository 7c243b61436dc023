/-! ===== the twin: consumers by their tags ===== -/
set_option maxRecDepth 100000
section CO
variable {s0 : zE} {F : Nat → Option zC} {b : Nat} {s s' : sSt} {w w' : tW} {g g' : sG} {h h' : zH} {d x0 x1 x2 i q m j : Nat} {Q : Value → zH → Prop} {E : Nat → zH → Prop}
theorem tG.pco (G : tG s w g) : tGco s g := G.2.2.2.2.2.2.2.2.2.1
theorem t_consumer_l {nm : sBy} (R : tR s0 F b s w g h) (I : sScope s) (hm : g.kind x0 = (1, 0)) (hx : g.kind x1 = (3, j)) (hB : gB g x2 nm) (hs : nm.length < 2147483648) (hs2 : ∀ q ∈ s.cs, (s.co q).tag.length < 2147483648) (K : Q (zr (gO g 35 (s_cons s j nm))) h) :
    ∀ (rest pre : List Nat), s.cs = pre ++ rest → s_cons s j nm = rest.find? (fun i => (s.co i).chan == j && (s.co i).tag == nm) → zP s0 m_X8_consumer (d + 1) 2 [some (zr x0), some (zr x1), some (zr x2), some (.int (Int32.ofNat pre.length))] [] h Q E
  | [], pre, hp, hf => by
    have hle := R.2.ar8.le
    rw [List.length_map] at hle
    have hl : s.cs.length = pre.length := by rw [hp, List.append_nil]
    refine b_X8_consumer_2 (e_I (R.main hm) fun (z1 : gI h x0 8 = Int32.ofNat s.cs.length) => ?_)
    rw [z1, i_le (by omega) (by omega)]
    refine ⟨fun _ => ?_, fun hn => absurd (Nat.le_of_eq hl) hn⟩
    rw [hf] at K
    exact K
  | x :: rest, pre, hp, hf => by
    have A := R.2.ar8
    have hle := A.le
    rw [List.length_map] at hle
    have hl : s.cs.length = pre.length + rest.length + 1 := by rw [hp]; simp; omega
    have hx5 : s.cs[pre.length]? = some x := by rw [hp]; simp
    have hmem := List.mem_of_getElem? hx5
    have hkx := I.cs x hmem
    have ax := R.al (by decide) (by decide) hkx
    have IH := fun e => t_consumer_l R I hm hx hB hs hs2 K rest (pre ++ [x]) (by rw [hp, List.append_assoc]; rfl) e
    rw [show (pre ++ [x]).length = pre.length + 1 by simp] at IH
    rw [List.find?_cons] at hf
    refine b_X8_consumer_2 (e_I (R.main hm) fun (z1 : gI h x0 8 = Int32.ofNat s.cs.length) => ?_)
    rw [z1, i_le (by omega) (by omega)]
    refine ⟨fun hn => absurd hn (by omega), fun _ => e_R (R.main hm) fun z2 => ?_⟩
    rw [z2]
    refine g_El R A rfl (by decide) hx5 (by decide) fun z3 => ?_
    rw [z3]
    refine e_R (R.1.cell ax (by decide)) fun (z4 : gR h (g.ref 35 x) 2 = g.ref 3 (s.co x).chan) => ?_
    rw [z4, R.inj (R.ch (I.co x hkx).2) hx (by decide), i_succ]
    constructor
    · intro e
      rw [beq_false_of_ne e] at hf
      exact IH hf
    · intro e
      rw [beq_iff_eq.mpr e] at hf
      refine e_R (R.main hm) fun _ => ⟨R.el (t := 15) A rfl (by decide) hx5 (by decide), e_R (R.1.cell ax (by decide)) fun (z5 : gR h (g.ref 35 x) 0 = g.rf 35 x 0) => ?_⟩
      rw [z5]
      refine t_same (a := some (s.co x).tag) (c := some nm) R (R.2.pco x hkx) hB (fun y hy => by cases hy; exact hs2 x hmem) (fun y hy => by cases hy; exact hs) ⟨_, rfl, ?_⟩
      rw [sB_0, show (some (s.co x).tag == some nm) = ((s.co x).tag == nm) from rfl]
      constructor
      · intro e2
        rw [e2] at hf
        exact IH hf
      · intro e2
        rw [Bool.not_eq_false] at e2
        rw [e2] at hf
        refine e_R (R.main hm) fun z6 => ?_
        rw [z6]
        refine g_El R A rfl (by decide) hx5 (by decide) fun z7 => ?_
        rw [z7]
        rw [hf] at K
        exact K
theorem t_consumer {nm : sBy} (R : tR s0 F b s w g h) (I : sScope s) (hm : g.kind x0 = (1, 0)) (hx : g.kind x1 = (3, j)) (hB : gB g x2 nm) (hs : nm.length < 2147483648) (hs2 : ∀ q ∈ s.cs, (s.co q).tag.length < 2147483648) (K : Q (zr (gO g 35 (s_cons s j nm))) h) : zX s0 m_X8_consumer (d + 1) [zr x0, zr x1, zr x2] h Q E :=
  c_X8_consumer (t_consumer_l R I hm hx hB hs hs2 K s.cs [] rfl rfl)
end CO
