/-! ===== the twin: records told ===== -/
set_option maxRecDepth 100000
/-- u more is laid by for an array that grows -/
def gCr (g : sG) (c i u : Nat) : sG := (g.w_cr (g.cr + u)).w_cf (fun c' i' => if c' = c ∧ i' = i then g.cf c i + u else g.cf c' i')
section TL
variable {s0 : zE} {F : Nat → Option zC} {b : Nat} {s s' : sSt} {w w' : tW} {g g' : sG} {h h' : zH} {d x0 c0 i0 : Nat} {Q : Value → zH → Prop} {E : Nat → zH → Prop}
theorem gCr_le {c i u c' i' : Nat} : g.cf c' i' ≤ (gCr g c i u).cf c' i' := by
  show _ ≤ if c' = c ∧ i' = i then _ else _
  split
  · rename_i e
    rw [e.1, e.2]
    omega
  · exact Nat.le_refl _
theorem gCr_self {c i u : Nat} : (gCr g c i u).cf c i = g.cf c i + u := if_pos ⟨rfl, rfl⟩
theorem sum_one {u i : Nat} {f : Nat → Nat} : ∀ {l : List Nat}, l.Nodup → (l.map (fun h => f h + if h = i then u else 0)).sum ≤ (l.map f).sum + u
  | [], _ => Nat.zero_le _
  | x :: l, hn => by
    have hn' := List.nodup_cons.mp hn
    simp only [List.map_cons, List.sum_cons]
    by_cases e : x = i
    · subst e
      have : (l.map (fun h => f h + if h = x then u else 0)) = l.map f := List.map_congr_left fun y hy => by rw [if_neg (fun e => hn'.1 (by rw [← e]; exact hy)), Nat.add_zero]
      rw [this, if_pos rfl]
      omega
    · have := sum_one (u := u) (i := i) (f := f) hn'.2
      rw [if_neg e]
      omega
theorem tGcr.add {c i u : Nat} (hc : (c = 10 ∧ i = 0) ∨ ((c = 28 ∨ c = 30) ∧ i ∈ s_hs)) (G : tGcr g) : tGcr (gCr g c i u) := by
  unfold tGcr at G ⊢
  rw [show (gCr g c i u).cr = g.cr + u from rfl]
  have e : ∀ a j, (gCr g c i u).cf a j = g.cf a j + if a = c ∧ j = i then u else 0 := fun a j => by
    show (if a = c ∧ j = i then _ else _) = _
    split
    · rename_i e
      rw [e.1, e.2]
    · rfl
  rcases hc with ⟨rfl, rfl⟩ | ⟨hc, hi⟩
  · have e2 : (fun h => (gCr g 10 0 u).cf 28 h + (gCr g 10 0 u).cf 30 h) = (fun h => g.cf 28 h + g.cf 30 h) := funext fun h => by
      rw [e, e, if_neg (by omega), if_neg (by omega), Nat.add_zero, Nat.add_zero]
    rw [e2, e, if_pos ⟨rfl, rfl⟩]
    omega
  · have e2 : (fun h => (gCr g c i u).cf 28 h + (gCr g c i u).cf 30 h) = (fun h => (g.cf 28 h + g.cf 30 h) + if h = i then u else 0) := funext fun h => by
      rw [e, e]
      rcases hc with rfl | rfl
      · simp only [true_and, show ¬ (30 = 28) by decide, false_and, if_false]
        omega
      · simp only [true_and, show ¬ (28 = 30) by decide, false_and, if_false]
        omega
    rw [e2, e, if_neg (by omega)]
    have := sum_one (u := u) (i := i) (f := fun h => g.cf 28 h + g.cf 30 h) (l := s_hs) (by decide)
    omega
theorem tG.cred {c i u : Nat} (hc : (c = 10 ∧ i = 0) ∨ ((c = 28 ∨ c = 30) ∧ i ∈ s_hs)) (G : tG s w g) : tG s w (gCr g c i u) := by
  obtain ⟨b1, b2, b3, ⟨b4, n4, c4, d4, e4⟩, b5, b6, b7, b8, b9, b10, b11, b12⟩ := G
  refine ⟨b1, b2, b3, ⟨b4, n4, c4, Nat.le_trans d4 (Nat.add_le_add_left gCr_le _), e4⟩, b5, fun j hj => ?_, b7, b8, b9, b10, b11, b12.add hc⟩
  obtain ⟨f1, f2, ⟨n5, f3, f4, f5⟩, f6, n6, pre, f7, f8, f9, f10⟩ := b6 j hj
  exact ⟨f1, f2, ⟨n5, f3, Nat.le_trans f4 (Nat.add_le_add_left gCr_le _), f5⟩, f6, n6, pre, f7, Nat.le_trans f8 (Nat.add_le_add_left gCr_le _), f9, f10⟩
theorem tcell_cr {c' i' u c i : Nat} : tcell s w (gCr g c' i' u) c i = tcell s w g c i := by
  unfold tcell
  split <;> rfl
theorem tR.cred {c i u : Nat} (hc : (c = 10 ∧ i = 0) ∨ ((c = 28 ∨ c = 30) ∧ i ∈ s_hs)) (R : tR s0 F (b + u) s w g h) : tR s0 F b s w (gCr g c i u) h := by
  obtain ⟨⟨a1, a2, a3⟩, G⟩ := R
  refine ⟨⟨fun n hn => ?_, a2, ?_⟩, G.cred hc⟩
  · rw [tcell_cr]
    exact a1 n hn
  · rw [show b + (gCr g c i u).cr = b + u + g.cr by show b + (g.cr + u) = _; omega]
    exact a3
theorem tR.less (R : tR s0 F b s w g h) {b' : Nat} (hb : b' ≤ b) : tR s0 F b' s w g h := ⟨R.1.less (by omega), R.2⟩
theorem gL.cr {c i u : Nat} : gL g (gCr g c i u) := fun n _ => ⟨rfl, rfl⟩
theorem gArF.snoc {α : Type} {P : sG → Nat → α → Prop} {c i n r : Nat} {xs : List α} {x : α} (A : gArF g c i n P xs) (hl : xs.length < n) (hx : P g r x) (hP2 : ∀ r' x', P g r' x' → P (gSet g c i ((g.ar c i).set xs.length (zr r))) r' x') : gArF (gSet g c i ((g.ar c i).set xs.length (zr r))) c i n P (xs ++ [x]) := by
  obtain ⟨a1, a2, a3, a4⟩ := A
  refine ⟨a1, by rw [gSet_self, List.length_set]; exact a2, by rw [List.length_append]; exact hl, fun j y hy => ?_⟩
  rw [gSet_self]
  by_cases e : j < xs.length
  · rw [List.getElem?_append_left e] at hy
    obtain ⟨r', h1, h2⟩ := a4 j y hy
    exact ⟨r', by rw [List.getElem?_set_ne (by omega)]; exact h1, hP2 _ _ h2⟩
  · have hj := (List.getElem?_eq_some_iff.mp hy).1
    rw [List.length_append, List.length_singleton] at hj
    have ej : j = xs.length := by omega
    subst ej
    rw [List.getElem?_append_right (Nat.le_refl _), Nat.sub_self] at hy
    cases hy
    exact ⟨r, List.getElem?_set_self (by omega), hP2 _ _ hx⟩
theorem zcl_31 : zcl[31]? = some (RX34, TX34, 5) := rfl
/-- a record is told, where there is a place for it -/
theorem t_tell59 {kd : Int32} {e q bb m id n : Nat} (R : tR s0 F (b + 1) s w g h) (hm : g.kind x0 = (1, 0)) (A : gArF g 10 0 n gFa s.facts) (hn : s.facts.length < n) (hcf : 2 * (s.facts.length + 1) ≤ n + g.cf 10 0) (h64 : 64 ≤ n ∧ n < 2000000)
    (hf : (kd = 0 ∨ kd = 1 → e = g.ref 32 id) ∧ (kd = 2 ∨ kd = 3 → q = g.ref 33 id) ∧ (kd = 4 ∨ kd = 5 → bb = g.ref 34 id) ∧ (kd = 6 ∨ kd = 7 → m = g.ref 36 id) ∧ 0 ≤ kd ∧ kd ≤ 7)
    (K : ∀ g1 h1, tR s0 F b (s_tell s kd id) w g1 h1 → gL g g1 → Q .null h1) : zP s0 m_X8_tell (d + 2) 59 [some (zr x0), some (.int kd), some (zr e), some (zr q), some (zr bb), some (zr m), none, none] [] h Q E := by
  refine b_X8_tell_59 (g_N (u := 1) R (Nat.le_refl 1) (zle rfl) R.big fun n1 h1 R1 U1 => ⟨⟨_, _, U1.2.2.1⟩, c_X34_init ⟨⟨_, _, U1.2.2.1⟩, ?_⟩⟩)
  refine g_PF R1 U1 fun h3 R3 U3 _ => g_PF R3 U3 fun h4 R4 U4 _ => g_PF R4 U4 fun h5 R5 U5 _ => g_PF R5 U5 fun h6 R6 U6 _ => g_PF R6 U6 fun h7 R7 U7 _ => ?_
  refine e_R (R7.main hm) (fun z1 => e_I (R7.main hm) fun z2 => ?_)
  rw [z1, z2]
  have U8 : zUn s0 F g h7 n1 31 [.int kd, zr e, zr q, zr bb, zr m] := U7
  have R8 := R7.freeze U8
  have hm8 : (gFz g n1 (31, [.int kd, zr e, zr q, zr bb, zr m])).kind x0 = (1, 0) := (gL.frz U7.1).m hm
  have hf8 := gFz_F (g := g) (n := n1) (q := (31, [.int kd, zr e, zr q, zr bb, zr m]))
  have A8 : gArF (gFz g n1 (31, [.int kd, zr e, zr q, zr bb, zr m])) 10 0 n gFa s.facts := (gFz.x U7.1).AF (by omega) (fun r x => (gFz.x U7.1).Fa (by decide)) A
  have eA : h7.1 (g.ref 10 0) = some (1000 + 17, g.ar 10 0) := R8.1.cell A8.1 (by decide)
  have hA : s0.1.heap.size < g.ref 10 0 := R8.1.new A8.1 (by decide) (by decide)
  have hne : x0 ≠ g.ref 10 0 := kne hm A.1 (by decide)
  refine g_S (t := 17) eA hA (zin_of (by rw [A.2.1]; exact hn) (by omega)) ⟨Or.inr (zAsg_own U7.2.2.1 zcl_31 rfl), ?_⟩
  rintro h8 rfl
  rw [i_nat (by omega)]
  have e1 : (zput h7 (g.ref 10 0) s.facts.length (zr n1)).1 x0 = some (7, tMain s w g) := by rw [zput_ne hne]; exact R7.main hm
  refine e_I e1 (fun z3 => g_C e1 ?_)
  rw [z3, i_succ]
  rintro h9 rfl
  refine K (gSet (gFz g n1 (31, [.int kd, zr e, zr q, zr bb, zr m])) 10 0 ((g.ar 10 0).set s.facts.length (zr n1))) _ (R8.arM hm8 A8.1 (by decide) rfl ?_ rfl (fun m9 (q1 : m9 ≠ x0) (q2 : m9 ≠ g.ref 10 0) => by rw [zput_ne q1, zput_ne q2]) ?_ ?_ ⟨rfl, rfl, rfl, rfl, rfl, rfl, rfl, rfl, rfl⟩ ?_) ((gL.frz U7.1).trans gL.set)
  · show (1000 + tarT 10, (gSet _ 10 0 _).ar 10 0) = _
    rw [gSet_self]
  · rw [zput_self e1]
    have e9 : s.facts.length + 1 = (s.facts ++ [(kd, id)]).length := by simp
    rw [e9]
    rfl
  · show (zput _ _ _ _).1 (g.ref 10 0) = _
    rw [zput_ne hne.symm]
    exact zput_self eA
  · obtain ⟨b1, b2, b3, ⟨b4, n4, c4, d4, e4⟩, b5, b6, b7, b8, b9, b10, b11, b12⟩ := R8.2
    refine ⟨b1, ?_, b3.ne (by decide), ⟨b4.ne1 (fun r x hx => hx) (by decide), n, h64, ?_, A8.snoc hn (r := n1) ⟨e, q, bb, m, hf8, hf⟩ (fun r x hx => hx)⟩, b5.ne (by decide), b6.ne (by decide), b7, b8.ne (by decide), b9, b10, b11, b12⟩
    · obtain ⟨c1, c2, c3, c4, c5, c6, c7, c8, c9, c10, c11, c12, c13, c14⟩ := b2
      exact ⟨c1.ne1 (by decide), c2.ne1 (by decide), c3.ne1 (by decide), c4.ne1 (by decide), c5.ne1 (by decide), c6.ne1 (by decide), c7.ne1 (by decide), c8.ne1 (by decide), c9.ne1 (by decide), c10.ne1 (by decide), c11.ne1 (by decide), c12.ne1 (by decide), c13.ne1 (by decide), c14⟩
    · show 2 * (s.facts ++ [(kd, id)]).length ≤ n + g.cf 10 0
      rw [List.length_append]
      exact hcf
end TL
