/-! ===== the twin: what is no frame ===== -/
set_option maxRecDepth 100000
section NL
variable {s0 : zE} {F : Nat → Option zC} {b : Nat} {s : sSt} {w : tW} {g : sG} {h : zH} {d x0 x1 c : Nat} {Q : Value → zH → Prop} {E : Nat → zH → Prop}
theorem d_deaf (hc : c < 4) : sDn s (s_cn s c (fun k => k.w_deaf true)) := by
  unfold s_cn
  exact sDn.cnUp (fun I => I.cp.cn c hc) fun e => e
theorem t_noF_34 (J : tJs s0 F) (Z : tZ s0 F (b + 900 + tY s) s w g h) (hm : g.kind x0 = (1, 0)) (hx : g.kind x1 = (2, c)) (hc : c < 4)
    (K : ∀ w1 g1 h1, tZ s0 F (b + tY (s_disp (if (s.cn c).state = 6 then s_cn s c (fun k => k.w_deaf true) else s))) (s_disp (if (s.cn c).state = 6 then s_cn s c (fun k => k.w_deaf true) else s)) w1 g1 h1 → tWm w w1 → gL g g1 → Q .null h1) :
    zP s0 m_X8_noFrame (d + 77) 34 [some (zr x0), some (zr x1)] [] h Q E := by
  have ex := Z.r.1.cell hx (by decide)
  refine b_X8_noFrame_34 (e_I ex fun (z1 : gI h x1 1 = (s.cn c).state) => ?_)
  rw [z1]
  refine ⟨fun h6 => ?_, fun h6 => ?_⟩
  · rw [if_neg h6] at K
    exact ⟨⟨_, Z.r.main hm⟩, t_dispatch (d := d + 4) J (Z.le (by omega)) hm fun w1 g1 h1 Z1 W1 L1 => K w1 g1 h1 Z1 W1.tom L1⟩
  · rw [if_pos h6] at K
    refine g_Pcn Z.r hx ((s.cn c).w_deaf true) rfl (Z.r.2.cn fun hc4 => ⟨(Z.r.2.2.2.2.2.1 c hc4).1, (Z.r.2.2.2.2.2.1 c hc4).2.1.2⟩) fun h4 R4 _ => ?_
    have R4 : tR s0 F (b + 900 + tY s + tP s) (s_cn s c (fun k => k.w_deaf true)) w g h4 := R4
    have Z4 := Z.dn' (d_deaf (s := s) hc) R4
    have hy := tY_any (d_deaf (s := s) hc) Z.i
    generalize s_cn s c (fun k => k.w_deaf true) = s4 at Z4 K hy
    exact ⟨⟨_, Z4.r.main hm⟩, t_dispatch (d := d + 4) J (Z4.le (by omega)) hm fun w1 g1 h1 Z1 W1 L1 => K w1 g1 h1 Z1 W1.tom L1⟩
theorem t_noFrame (J : tJs s0 F) (Z : tZ s0 F (b + 1800 + tY s) s w g h) (hm : g.kind x0 = (1, 0)) (hx : g.kind x1 = (2, c)) (hc : c < 4)
    (K : ∀ w1 g1 h1, tZ s0 F (b + tY (s_disp (s_noFrame s c))) (s_disp (s_noFrame s c)) w1 g1 h1 → tWm w w1 → gL g g1 → Q .null h1) : zX s0 m_X8_noFrame (d + 77) [zr x0, zr x1] h Q E := by
  have ex := Z.r.1.cell hx (by decide)
  have em := Z.r.main hm
  unfold s_noFrame at K
  dsimp only at K
  refine c_X8_noFrame (e_I ex fun (z1 : gI h x1 1 = (s.cn c).state) => ?_)
  rw [z1]
  refine ⟨fun h5 => e_I ex fun _ => ?_, fun h5 => ?_⟩
  · rw [if_neg (Int32.not_lt.mpr h5)] at K
    refine ⟨fun e5 => ?_, fun e5 => ⟨⟨_, em⟩, ?_⟩⟩
    · rw [if_neg e5] at K
      exact t_noF_34 (d := d) J (Z.le (by omega)) hm hx hc K
    · rw [if_pos e5] at K
      have Zh : tZ s0 F (b + 900 + 900 + tY s) s w g h := Z.le (by omega)
      refine t_hardZ (d := d) Zh hm hx hc fun w3 g3 h3 Z3 W3 L3 => ?_
      generalize s_hard s c 501 0 0 = s3 at Z3 K
      exact t_noF_34 (d := d) J Z3 (L3.m hm) (L3.k hx gSt2) hc fun w1 g1 h1 Z1 W1 L1 => K w1 g1 h1 Z1 (W3.tom.trans W1) (L3.trans L1)
  · rw [if_pos (Int32.not_le.mp h5)] at K
    have hy := tY_close Z.i hc
    refine ⟨⟨_, em⟩, t_close (d := d + 8) Z hm hx hc fun w3 g3 h3 Z3 W3 L3 => ?_⟩
    generalize s_close s c = s3 at Z3 K hy
    exact ⟨⟨_, Z3.r.main (L3.m hm)⟩, t_dispatch (d := d + 4) J (Z3.le (by omega)) (L3.m hm) fun w1 g1 h1 Z1 W1 L1 => K w1 g1 h1 Z1 (W3.tom.trans W1.tom) (L3.trans L1)⟩
end NL
