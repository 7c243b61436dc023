/-! ===== the twin: methods drafted ===== -/
set_option maxRecDepth 100000
section T2
variable {s0 : zE} {F : Nat → Option zC} {b : Nat} {s s' : sSt} {w w' : tW} {dr : sBy} {sz : Int32} {rd : sRd} {u : Int32 × Int32 × Int32 × List Nat × (Nat → Nat)} {g g' : sG} {h h' : zH} {d x0 x1 : Nat} {Q : Value → zH → Prop} {E : Nat → zH → Prop}
theorem tG.drw (G : tG s w g) {x : sBy} (hx : vB x <+: g.ar 17 0) : tG s (w.w_dr x) g := by
  obtain ⟨a1, ⟨b4, b5, b6, b7, b8, b11, b12, b13, b14, b15, b16, b17, b24, bz⟩, a3⟩ := G
  exact ⟨a1, ⟨b4, b5, b6, b7, b8, b11, b12, b13, b14, b15, b16, ⟨b17.1, b17.2.1, hx⟩, b24, bz⟩, a3⟩
theorem t_beginMethod {ch cl me : Int32} (R : tR s0 F b s (dr, sz, rd, u) g h) (hm : g.kind x0 = (1, 0)) (K : ∀ g1 h1, tR s0 F b s (w_head 1 ch ++ (w_16 cl ++ w_16 me), Int32.ofNat 3, rd, u) g1 h1 → gL g g1 → Q .null h1) : zX s0 m_X8_beginMethod (d + 4) [zr x0, .int ch, .int cl, .int me] h Q E := by
  refine c_X8_beginMethod (g_PM R hm s ([], sz, rd, u) rfl (R.2.drw ⟨_, rfl⟩) ⟨rfl, rfl, rfl, rfl, rfl, rfl, rfl, rfl, rfl⟩ fun h1 R1 _ => ⟨⟨_, R1.main hm⟩, t_beginFrame R1 hm (by simp [w_head, w_8, w_16]) fun g2 h2 R2 L2 => ⟨⟨_, R2.main (L2.m hm)⟩, t_put16 R2 (L2.m hm) (by simp [w_head, w_8, w_16]) fun g3 h3 R3 L3 => ⟨⟨_, R3.main (L3.m (L2.m hm))⟩, t_put16 R3 (L3.m (L2.m hm)) (by simp [w_head, w_8, w_16]) fun g4 h4 R4 L4 => K g4 h4 ?_ ((L2.trans L3).trans L4)⟩⟩⟩)
  simp only [List.nil_append, List.length_nil, Nat.zero_add, List.append_assoc] at R4
  exact R4
theorem t_putClose {ch cl me co c1 m1 : Int32} (R : tR s0 F b s (dr, sz, rd, u) g h) (hm : g.kind x0 = (1, 0)) (K : ∀ g1 h1, tR s0 F b s (s_closing ch cl me co c1 m1, Int32.ofNat 3, rd, u) g1 h1 → gL g g1 → Q .null h1) : zX s0 m_X8_putClose (d + 5) [zr x0, .int ch, .int cl, .int me, .int co, .int c1, .int m1] h Q E := by
  refine c_X8_putClose ⟨⟨_, R.main hm⟩, t_beginMethod R hm fun g1 h1 R1 L1 => ⟨⟨_, R1.main (L1.m hm)⟩, t_put16 R1 (L1.m hm) (by simp [w_head, w_8, w_16]) fun g2 h2 R2 L2 => ?_⟩⟩
  have hm2 := L2.m (L1.m hm)
  refine ⟨⟨_, R2.main hm2⟩, t_put R2 hm2 (by simp [w_head, w_8, w_16]) fun g3 h3 R3 L3 => ⟨⟨_, R3.main (L3.m hm2)⟩, t_put16 R3 (L3.m hm2) (by simp [w_head, w_8, w_16]) fun g4 h4 R4 L4 => ?_⟩⟩
  have hm4 := L4.m (L3.m hm2)
  refine ⟨⟨_, R4.main hm4⟩, t_put16 R4 hm4 (by simp [w_head, w_8, w_16]) fun g5 h5 R5 L5 => ?_⟩
  refine ⟨⟨_, R5.main (L5.m hm4)⟩, t_endFrame (p := []) (body := w_16 cl ++ w_16 me ++ (w_16 co ++ w_8 0 ++ w_16 c1 ++ w_16 m1)) (ty := 1) (ch := ch) R5 (L5.m hm4) ?_ rfl (by simp [w_head, w_8, w_16]) fun g6 h6 R6 L6 => K g6 h6 R6 (((((L1.trans L2).trans L3).trans L4).trans L5).trans L6)⟩
  rw [show w_8 0 = [lo8 0] from rfl, List.nil_append]
  repeat rw [List.append_assoc]
end T2
