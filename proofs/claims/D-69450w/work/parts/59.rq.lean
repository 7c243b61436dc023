/-! ===== the twin: messages put back ===== -/
set_option maxRecDepth 100000
section RQ
variable {s0 : zE} {F : Nat → Option zC} {b : Nat} {s s' : sSt} {w w' : tW} {g g' : sG} {h h' : zH} {d x0 x1 x2 i q m : Nat} {Q : Value → zH → Prop} {E : Nat → zH → Prop}
theorem sUp_sUp {α : Type} {f : Nat → α} {i : Nat} {u v : α} : sUp (sUp f i u) i v = sUp f i v := funext fun j => by
  by_cases e : j = i
  · subst e
    rw [sUp_self, sUp_self]
  · rw [sUp_ne e, sUp_ne e, sUp_ne e]
theorem w_en_en {x y : Nat → sEn} : (s.w_en x).w_en y = s.w_en y := rfl
/-- a message that is ready again -/
def s_again (s : sSt) (m : Nat) : sSt := s.w_en (sUp s.en m (((s.en m).w_state 0).w_redel true))
theorem s_requeue_no (hs : ¬ (s.en m).state = 1) : s_requeue s m = s := by
  unfold s_requeue
  rw [if_pos hs]
theorem s_requeue_go (hs : (s.en m).state = 1) : s_requeue s m = s_trim (s_again s m) (s.en m).queue := by
  unfold s_requeue
  rw [if_neg (fun hn => hn hs)]
  rfl
/-- how many die when a message is put back -/
def s_reqN (s : sSt) (m : Nat) : Nat := if (s.en m).state = 1 then s_shortN (s.en m).queue ((s_again s m).qu (s.en m).queue).ents.length (s_again s m) else 0
theorem t_requeue (R : tR s0 F (b + 4 * s_reqN s m) s w g h) (I : sScope s) (hm : g.kind x0 = (1, 0)) (hx : g.kind x1 = (36, m)) (hf : s.facts.length < 980000) (hd : s.dead.length ≤ 300)
    (K : ∀ g1 h1, tR s0 F b (s_requeue s m) w g1 h1 → gL g g1 → Q .null h1) : zX s0 m_X8_requeue (d + 6) [zr x0, zr x1] h Q E := by
  have ex := R.1.cell hx (by decide)
  have hkm := R.ak (by decide) (by decide) hx
  have hkq := I.en m hkm
  have aq := R.al (by decide) (by decide) hkq
  refine c_X8_requeue (e_I ex fun (z1 : gI h x1 8 = (s.en m).state) => ?_)
  rw [z1]
  refine ⟨fun hs => ?_, fun hs => ?_⟩
  · have hN : s_reqN s m = s_shortN (s.en m).queue ((s_again s m).qu (s.en m).queue).ents.length (s_again s m) := if_pos hs
    rw [hN] at R
    rw [s_requeue_go hs] at K
    refine g_Pen R hx ((s.en m).w_state 0) rfl (R.2.en fun _ => R.2.2.2.2.2.2.2.2.2.2.2.1 m hkm) fun h1 R1 _ => ?_
    refine g_Pen R1 hx (((s.en m).w_state 0).w_redel true) (by rw [wr_en, sUp_self]; rfl) (R1.2.en fun _ => R.2.2.2.2.2.2.2.2.2.2.2.1 m hkm) fun h2 R2 _ => ?_
    rw [w_en_en, wr_en, sUp_sUp] at R2
    have ex2 := R2.1.cell hx (by decide)
    have hq2 : ((s_again s m).en m).queue = (s.en m).queue := by
      unfold s_again
      rw [wr_en, sUp_self]
      rfl
    have I2 : sScope (s_again s m) := I.enw rfl
    have R2 : tR s0 F (b + 4 * s_shortN (s.en m).queue ((s_again s m).qu (s.en m).queue).ents.length (s_again s m)) (s_again s m) w g h2 := R2
    refine e_R ex2 fun (z2 : gR h2 x1 4 = g.ref 33 ((s_again s m).en m).queue) => ?_
    rw [z2, hq2]
    refine ⟨⟨_, R2.main hm⟩, t_shorten R2 I2 hm aq ?_ ?_ K⟩
    · unfold s_again
      rw [wr_facts_en]
      exact hf
    · unfold s_again
      rw [wr_dead_en]
      exact hd
  · rw [s_requeue_no hs] at K
    exact K g h (R.less (Nat.le_add_right _ _)) (gL.refl g)
end RQ
