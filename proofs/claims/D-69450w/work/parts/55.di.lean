/-! ===== the twin: messages die, queues are shortened ===== -/
set_option maxRecDepth 100000
section DI
variable {s0 : zE} {F : Nat → Option zC} {b : Nat} {s s' : sSt} {w w' : tW} {g g' : sG} {h h' : zH} {d x0 x1 x2 i q m : Nat} {Q : Value → zH → Prop} {E : Nat → zH → Prop}
theorem zcl_32 : zcl[32]? = some (RX35, TX35, 3) := rfl
/-- what has changed nothing but messages, queues' entries, records -/
def sLv (s s' : sSt) : Prop := s'.knd = s.knd ∧ s'.dead = s.dead ∧ s'.cn = s.cn ∧ s'.ch = s.ch ∧ s'.qs = s.qs ∧ s'.es = s.es ∧ s'.bs = s.bs ∧ s'.cs = s.cs ∧ s'.ex = s.ex ∧ s'.bi = s.bi ∧ s'.co = s.co ∧ s'.se = s.se ∧
  (∀ j, s'.qu j = (s.qu j).w_ents (s'.qu j).ents) ∧ (∀ j, s'.en j = (s.en j).w_state (s'.en j).state)
theorem s_leaves_cases : s_leaves s m = s_lv s m ∨ s_leaves s m = s_tell (s_lv s m) 7 m := by
  cases hr : s_rec (s.qu (s.en m).queue) (s.en m).cont
  · exact Or.inl (s_leaves_f hr)
  · exact Or.inr (s_leaves_t hr)
theorem s_lv_lv : sLv s (s_lv s m) := by
  refine ⟨rfl, rfl, rfl, rfl, rfl, rfl, rfl, rfl, rfl, rfl, rfl, rfl, fun j => ?_, fun j => ?_⟩
  · show sUp s.qu (s.en m).queue _ j = (s.qu j).w_ents (sUp s.qu (s.en m).queue _ j).ents
    by_cases e : j = (s.en m).queue
    · subst e
      rw [sUp_self]
      rfl
    · rw [sUp_ne e]
      rfl
  · show sUp s.en m _ j = (s.en j).w_state (sUp s.en m _ j).state
    by_cases e : j = m
    · subst e
      rw [sUp_self]
      rfl
    · rw [sUp_ne e]
      rfl
theorem sLv.tell {t : sSt} {k : Int32} {i : Nat} (H : sLv s t) : sLv s (s_tell t k i) := H
theorem s_leaves_lv : sLv s (s_leaves s m) := by
  rcases s_leaves_cases (s := s) (m := m) with e | e
  · rw [e]; exact s_lv_lv
  · rw [e]; exact s_lv_lv.tell
theorem s_leaves_facts : (s_leaves s m).facts.length ≤ s.facts.length + 1 := by
  rcases s_leaves_cases (s := s) (m := m) with e | e
  · rw [e]
    exact Nat.le_succ _
  · rw [e]
    show (s.facts ++ [_]).length ≤ _
    simp
/-- a dead message is laid by -/
theorem t_deadPush {n1 e k : Nat} {x : sDe} {P : zH → Prop} (R : tR s0 F b s w g h) (hm : g.kind x0 = (1, 0)) (U : zUn s0 F g h n1 32 [zr (g.ref 36 x.entry), zr e, zr k]) (he : gB g e x.exch) (hk : gBo g k x.key) (hn : s.dead.length < 300)
    (K : ∀ g1 h1, tR s0 F b (s.w_dead (s.dead ++ [x])) w g1 h1 → gL g g1 → P h1) :
    fR h x0 [7] 14 ∧ (fI h x0 [7] 15 ∧ (fS s0 h (gR h x0 14) 16 (gI h x0 15) ∧ ((n1 = 0 ∨ zAsg h n1 (.object "RelayHallModel$Dead")) ∧ (∀ h8, h8 = zput h (gR h x0 14) (gI h x0 15).toNatClampNeg (zr n1) → (fI h8 x0 [7] 15 ∧ (fC h8 x0 7 ∧ (∀ h9, h9 = zput h8 x0 15 (.int (gI h8 x0 15 + 1)) → P h9))))))) := by
  refine e_R (R.main hm) (fun z1 => e_I (R.main hm) fun z2 => ?_)
  rw [z1, z2]
  have A := R.2.2.2.2.1.1
  have R8 := R.freeze U
  have hm8 : (gFz g n1 (32, [zr (g.ref 36 x.entry), zr e, zr k])).kind x0 = (1, 0) := (gL.frz U.1).m hm
  have hf8 := gFz_F (g := g) (n := n1) (q := (32, [zr (g.ref 36 x.entry), zr e, zr k]))
  have A8 : gArF (gFz g n1 (32, [zr (g.ref 36 x.entry), zr e, zr k])) 9 0 300 gDe s.dead := (gFz.x U.1).AF (by omega) (fun r x => (gFz.x U.1).De (by decide)) A
  have eA : h.1 (g.ref 9 0) = some (1000 + 16, g.ar 9 0) := R8.1.cell A8.1 (by decide)
  have hA : s0.1.heap.size < g.ref 9 0 := R8.1.new A8.1 (by decide) (by decide)
  have hne : x0 ≠ g.ref 9 0 := kne hm A.1 (by decide)
  refine g_S (t := 16) eA hA (zin_of (by rw [A.2.1]; exact hn) (by omega)) ⟨Or.inr (zAsg_own U.2.2.1 zcl_32 rfl), ?_⟩
  rintro h8 rfl
  rw [i_nat (by omega)]
  have e1 : (zput h (g.ref 9 0) s.dead.length (zr n1)).1 x0 = some (7, tMain s w g) := by rw [zput_ne hne]; exact R.main hm
  refine e_I e1 (fun z3 => g_C e1 ?_)
  rw [z3, i_succ]
  rintro h9 rfl
  refine K (gSet (gFz g n1 (32, [zr (g.ref 36 x.entry), zr e, zr k])) 9 0 ((g.ar 9 0).set s.dead.length (zr n1))) _ (R8.arM hm8 A8.1 (by decide) rfl ?_ rfl (fun m9 (q1 : m9 ≠ x0) (q2 : m9 ≠ g.ref 9 0) => by rw [zput_ne q1, zput_ne q2]) ?_ ?_ ⟨rfl, rfl, rfl, rfl, rfl, rfl, rfl, rfl, rfl⟩ ?_) ((gL.frz U.1).trans gL.set)
  · show (1000 + tarT 9, (gSet _ 9 0 _).ar 9 0) = _
    rw [gSet_self]
  · rw [zput_self e1]
    have e9 : s.dead.length + 1 = (s.dead ++ [x]).length := by simp
    rw [e9]
    rfl
  · show (zput _ _ _ _).1 (g.ref 9 0) = _
    rw [zput_ne hne.symm]
    exact zput_self eA
  · obtain ⟨b1, b2, b3, ⟨b4, n4, c4, d4, e4⟩, b5, b6, b7, b8, b9, b10, b11, b12⟩ := R8.2
    refine ⟨b1, ?_, b3.ne (by decide), ⟨A8.snoc hn (r := n1) ⟨e, k, hf8, (gL.frz U.1).B he, (gL.frz U.1).Bo hk⟩ (fun r x hx => hx), n4, c4, d4, e4.ne1 (fun r x hx => hx) (by decide)⟩, b5.ne (by decide), b6.ne (by decide), b7, b8.ne (by decide), b9, b10, b11, b12⟩
    obtain ⟨c1, c2, c3, c4, c5, c6, c7, c8, c9, c10, c11, c12, c13, c14⟩ := b2
    exact ⟨c1.ne1 (by decide), c2.ne1 (by decide), c3.ne1 (by decide), c4.ne1 (by decide), c5.ne1 (by decide), c6.ne1 (by decide), c7.ne1 (by decide), c8.ne1 (by decide), c9.ne1 (by decide), c10.ne1 (by decide), c11.ne1 (by decide), c12.ne1 (by decide), c13.ne1 (by decide), c14⟩
theorem t_dies (R : tR s0 F (b + 4) s w g h) (I : sScope s) (hm : g.kind x0 = (1, 0)) (hx : g.kind x1 = (36, m)) (hi : m ∈ (s.qu (s.en m).queue).ents) (hcap : s.facts.length < 1000000) (hdd : s.dead.length ≤ 300) (K : ∀ g1 h1, tR s0 F b (s_dies s m) w g1 h1 → gL g g1 → Q .null h1) : zX s0 m_X8_dies (d + 4) [zr x0, zr x1] h Q E := by
  have ex := R.1.cell hx (by decide)
  have hkm := R.ak (by decide) (by decide) hx
  have hkq := I.en m hkm
  have aq := R.al (by decide) (by decide) hkq
  refine c_X8_dies (e_R ex fun (z1 : gR h x1 4 = g.ref 33 (s.en m).queue) => ?_)
  rw [z1]
  refine ⟨⟨_, R.main hm⟩, t_leaves (b := b + 1) R I hm hx hi hcap fun g1 h1 R1 L1 => ?_⟩
  have hm1 := L1.m hm
  have Y := s_leaves_lv (s := s) (m := m)
  unfold s_dies at K
  dsimp only at K
  revert R1 K Y
  generalize s_leaves s m = s1
  intro K R1 Y
  refine e_I (R1.main hm1) fun (z2 : gI h1 x0 13 = s1.deadOnes) => ?_
  rw [z2]
  refine g_MdeadOnes R1 hm1 (s1.deadOnes + 1) fun h2 R2 _ => ?_
  have aq2 := L1.k aq (Or.inr (Or.inr (Or.inr (Or.inl (by decide)))))
  have hx2 := L1.k hx (Or.inr (Or.inr (Or.inr (Or.inl (by decide)))))
  have eq2 := R2.1.cell aq2 (by decide)
  have ex2 := R2.1.cell hx2 (by decide)
  have hd1 : (s1.qu (s.en m).queue).dlx = (s.qu (s.en m).queue).dlx := by rw [Y.2.2.2.2.2.2.2.2.2.2.2.2.1]; rfl
  have hd2 : (s1.qu (s.en m).queue).dlk = (s.qu (s.en m).queue).dlk := by rw [Y.2.2.2.2.2.2.2.2.2.2.2.2.1]; rfl
  have hd3 : (s1.en m).deaths = (s.en m).deaths := by rw [Y.2.2.2.2.2.2.2.2.2.2.2.2.2]; rfl
  have hk1 : s1.knd (s.en m).queue = 33 := by rw [Y.1]; exact hkq
  obtain ⟨-, q2, q3, -⟩ := R1.2.2.2.2.2.2.2.2.1 _ hk1
  rw [hd1] at q2
  rw [hd2] at q3
  refine e_R eq2 fun (z3 : gR h2 (g.ref 33 (s.en m).queue) 9 = g1.rf 33 (s.en m).queue 9) => ?_
  rw [z3]
  revert K q2
  cases hdl : (s.qu (s.en m).queue).dlx with
  | none =>
    intro K q2
    exact ⟨fun _ => K g1 h2 (R2.less (b' := b) (by omega)) L1, fun hn => absurd q2 hn⟩
  | some x =>
    intro K q2
    refine ⟨fun hn => absurd hn (R1.1.pos q2.1 (by decide)), fun _ => e_I ex2 fun (z4 : gI h2 x1 7 = (s1.en m).deaths) => ?_⟩
    rw [z4, hd3]
    have hdx : s1.dead = s.dead := Y.2.1
    refine ⟨fun hn => ?_, fun hn => e_I (R2.main hm1) fun (z5 : gI h2 x0 15 = Int32.ofNat s1.dead.length) => ?_⟩
    · have K := K g1 h2
      simp only [hn, true_or, if_true] at K
      exact K (R2.less (b' := b) (by omega)) L1
    · rw [z5, hdx, show (300 : Int32) = Int32.ofNat 300 from rfl, i_inj (by omega) (by decide)]
      refine ⟨fun h3 => ?_, fun h3 => ?_⟩
      · simp only [hn, h3, or_self, if_false] at K
        refine g_N (u := 1) (b := b) R2 (Nat.le_refl 1) (zle rfl) R2.big fun n1 h3 R3 U3 => ⟨⟨_, _, U3.2.2.1⟩, c_X35_init ⟨⟨_, _, U3.2.2.1⟩, ?_⟩⟩
        refine g_PF R3 U3 fun h5 R5 U5 _ => ?_
        have eq5 := R5.1.cell aq2 (by decide)
        refine e_R eq5 fun (z6 : gR h5 (g.ref 33 (s.en m).queue) 9 = g1.rf 33 (s.en m).queue 9) => ?_
        rw [z6]
        refine g_PF R5 U5 fun h6 R6 U6 _ => ?_
        have eq6 := R6.1.cell aq2 (by decide)
        refine e_R eq6 fun (z7 : gR h6 (g.ref 33 (s.en m).queue) 10 = g1.rf 33 (s.en m).queue 10) => ?_
        rw [z7]
        refine g_PF R6 U6 fun h7 R7 U7 _ => ?_
        have U8 : zUn s0 F g1 h7 n1 32 [zr (g1.ref 36 m), zr (g1.rf 33 (s.en m).queue 9), zr (g1.rf 33 (s.en m).queue 10)] := by
          rw [R1.1.at hx2 (by decide)]
          exact U7
        exact t_deadPush (x := (m, x, (s.qu (s.en m).queue).dlk)) R7 hm1 U8 q2 q3 (by show s1.dead.length < 300; rw [hdx]; omega) fun g9 h9 R9 L9 => K g9 h9 R9 (L1.trans L9)
      · have K := K g1 h2
        simp only [h3, or_true, if_true] at K
        exact K (R2.less (b' := b) (by omega)) L1
end DI
