/-! ===== the twin: one more at the end of a list ===== -/
set_option maxRecDepth 100000
section AP
variable {s0 : zE} {F : Nat → Option zC} {b : Nat} {s s' : sSt} {w w' : tW} {g g' : sG} {h h' : zH} {d x0 x1 x2 n c i j q m : Nat} {Q : Value → zH → Prop} {E : Nat → zH → Prop}
theorem zcl_36 : zcl[36]? = some (RX39, TX39, 7) := rfl
theorem zcl_37 : zcl[37]? = some (RX40, TX40, 14) := rfl
theorem g_App5 {x n1 : Nat} {P : zH → Prop} (R : tR s0 F b s w g h) (hm : g.kind x0 = (1, 0)) (hx : gA1 g 32 x) (hn1 : n1 = g.ref 32 x) (hl : s.es.length < 12) (K : ∀ g1 h1, tR s0 F b (s.w_es (s.es ++ [x])) w g1 h1 → gL g g1 → P h1) :
    (fR h x0 [7] 1) ∧ ((fI h x0 [7] 5) ∧ ((fS s0 h (gR h x0 1) 12 (gI h x0 5)) ∧ ((n1 = 0 ∨ zAsg h n1 (.object "RelayHallModel$Exchange")) ∧ (∀ h7, h7 = zput h (gR h x0 1) ((gI h x0 5)).toNatClampNeg (zr n1) → ((fI h7 x0 [7] 5) ∧ ((fC h7 x0 7) ∧ (∀ h8, h8 = zput h7 x0 5 (.int ((gI h7 x0 5) + 1)) → P h8))))))) := by
  have A := R.2.ar5
  obtain ⟨eA, hA⟩ := R.arr A rfl (by decide) (by decide)
  have hne : x0 ≠ g.ref 5 0 := kne hm A.1 (by decide)
  have ec := R.1.cell hx (by decide)
  subst hn1
  refine e_R (R.main hm) fun z1 => e_I (R.main hm) fun (z2 : gI h x0 5 = Int32.ofNat s.es.length) => ?_
  rw [z1, z2]
  refine g_S (t := 12) eA hA (zin_of (by rw [A.2.1]; exact hl) (by omega)) ⟨Or.inr (zAsg_own ec zcl_36 rfl), ?_⟩
  rintro h7 rfl
  rw [i_nat (by omega)]
  have e1 : (zput h (g.ref 5 0) s.es.length (zr (g.ref 32 x))).1 x0 = some (7, tMain s w g) := by rw [zput_ne hne]; exact R.main hm
  refine e_I e1 fun (z3 : gI _ x0 5 = Int32.ofNat s.es.length) => g_C e1 ?_
  rw [z3, i_succ]
  rintro h8 rfl
  refine K (gSet g 5 0 ((g.ar 5 0).set s.es.length (zr (g.ref 32 x)))) _ (R.arM hm A.1 (by decide) (t := 12) rfl ?_ rfl (fun m (q1 : m ≠ x0) (q2 : m ≠ g.ref 5 0) => by rw [zput_ne q1, zput_ne q2]) ?_ ?_ ⟨rfl, rfl, rfl, rfl, rfl, rfl, rfl, rfl, rfl⟩ (R.2.set5 (by rw [List.length_set]; exact A.2.1) ?_)) gL.set
  · show (1000 + tarT 5, (gSet _ 5 0 _).ar 5 0) = _
    rw [gSet_self]
    rfl
  · rw [zput_self e1]
    have e9 : s.es.length + 1 = (s.es ++ [x]).length := by simp
    rw [e9]
    rfl
  · show (zput _ _ _ _).1 (g.ref 5 0) = _
    rw [zput_ne hne.symm]
    exact zput_self eA
  · have := pre_snoc A.2.2 (v := zr (g.ref 32 x)) (by rw [List.length_map, A.2.1]; exact hl)
    rw [List.length_map] at this
    rw [List.map_append]
    exact this
theorem g_App6 {x n1 : Nat} {P : zH → Prop} (R : tR s0 F b s w g h) (hm : g.kind x0 = (1, 0)) (hx : gA1 g 33 x) (hn1 : n1 = g.ref 33 x) (hl : s.qs.length < 12) (K : ∀ g1 h1, tR s0 F b (s.w_qs (s.qs ++ [x])) w g1 h1 → gL g g1 → P h1) :
    (fR h x0 [7] 2) ∧ ((fI h x0 [7] 6) ∧ ((fS s0 h (gR h x0 2) 13 (gI h x0 6)) ∧ ((n1 = 0 ∨ zAsg h n1 (.object "RelayHallModel$Queue")) ∧ (∀ h7, h7 = zput h (gR h x0 2) ((gI h x0 6)).toNatClampNeg (zr n1) → ((fI h7 x0 [7] 6) ∧ ((fC h7 x0 7) ∧ (∀ h8, h8 = zput h7 x0 6 (.int ((gI h7 x0 6) + 1)) → P h8))))))) := by
  have A := R.2.ar6
  obtain ⟨eA, hA⟩ := R.arr A rfl (by decide) (by decide)
  have hne : x0 ≠ g.ref 6 0 := kne hm A.1 (by decide)
  have ec := R.1.cell hx (by decide)
  subst hn1
  refine e_R (R.main hm) fun z1 => e_I (R.main hm) fun (z2 : gI h x0 6 = Int32.ofNat s.qs.length) => ?_
  rw [z1, z2]
  refine g_S (t := 13) eA hA (zin_of (by rw [A.2.1]; exact hl) (by omega)) ⟨Or.inr (zAsg_own ec zcl_37 rfl), ?_⟩
  rintro h7 rfl
  rw [i_nat (by omega)]
  have e1 : (zput h (g.ref 6 0) s.qs.length (zr (g.ref 33 x))).1 x0 = some (7, tMain s w g) := by rw [zput_ne hne]; exact R.main hm
  refine e_I e1 fun (z3 : gI _ x0 6 = Int32.ofNat s.qs.length) => g_C e1 ?_
  rw [z3, i_succ]
  rintro h8 rfl
  refine K (gSet g 6 0 ((g.ar 6 0).set s.qs.length (zr (g.ref 33 x)))) _ (R.arM hm A.1 (by decide) (t := 13) rfl ?_ rfl (fun m (q1 : m ≠ x0) (q2 : m ≠ g.ref 6 0) => by rw [zput_ne q1, zput_ne q2]) ?_ ?_ ⟨rfl, rfl, rfl, rfl, rfl, rfl, rfl, rfl, rfl⟩ (R.2.set6 (by rw [List.length_set]; exact A.2.1) ?_)) gL.set
  · show (1000 + tarT 6, (gSet _ 6 0 _).ar 6 0) = _
    rw [gSet_self]
    rfl
  · rw [zput_self e1]
    have e9 : s.qs.length + 1 = (s.qs ++ [x]).length := by simp
    rw [e9]
    rfl
  · show (zput _ _ _ _).1 (g.ref 6 0) = _
    rw [zput_ne hne.symm]
    exact zput_self eA
  · have := pre_snoc A.2.2 (v := zr (g.ref 33 x)) (by rw [List.length_map, A.2.1]; exact hl)
    rw [List.length_map] at this
    rw [List.map_append]
    exact this
theorem g_App7 {x n1 : Nat} {P : zH → Prop} (R : tR s0 F b s w g h) (hm : g.kind x0 = (1, 0)) (hx : gA1 g 34 x) (hn1 : n1 = g.ref 34 x) (hl : s.bs.length < 40) (K : ∀ g1 h1, tR s0 F b (s.w_bs (s.bs ++ [x])) w g1 h1 → gL g g1 → P h1) :
    (fR h x0 [7] 3) ∧ ((fI h x0 [7] 7) ∧ ((fS s0 h (gR h x0 3) 14 (gI h x0 7)) ∧ ((n1 = 0 ∨ zAsg h n1 (.object "RelayHallModel$Binding")) ∧ (∀ h7, h7 = zput h (gR h x0 3) ((gI h x0 7)).toNatClampNeg (zr n1) → ((fI h7 x0 [7] 7) ∧ ((fC h7 x0 7) ∧ (∀ h8, h8 = zput h7 x0 7 (.int ((gI h7 x0 7) + 1)) → P h8))))))) := by
  have A := R.2.ar7
  obtain ⟨eA, hA⟩ := R.arr A rfl (by decide) (by decide)
  have hne : x0 ≠ g.ref 7 0 := kne hm A.1 (by decide)
  have ec := R.1.cell hx (by decide)
  subst hn1
  refine e_R (R.main hm) fun z1 => e_I (R.main hm) fun (z2 : gI h x0 7 = Int32.ofNat s.bs.length) => ?_
  rw [z1, z2]
  refine g_S (t := 14) eA hA (zin_of (by rw [A.2.1]; exact hl) (by omega)) ⟨Or.inr (zAsg_own ec zcl_38 rfl), ?_⟩
  rintro h7 rfl
  rw [i_nat (by omega)]
  have e1 : (zput h (g.ref 7 0) s.bs.length (zr (g.ref 34 x))).1 x0 = some (7, tMain s w g) := by rw [zput_ne hne]; exact R.main hm
  refine e_I e1 fun (z3 : gI _ x0 7 = Int32.ofNat s.bs.length) => g_C e1 ?_
  rw [z3, i_succ]
  rintro h8 rfl
  refine K (gSet g 7 0 ((g.ar 7 0).set s.bs.length (zr (g.ref 34 x)))) _ (R.arM hm A.1 (by decide) (t := 14) rfl ?_ rfl (fun m (q1 : m ≠ x0) (q2 : m ≠ g.ref 7 0) => by rw [zput_ne q1, zput_ne q2]) ?_ ?_ ⟨rfl, rfl, rfl, rfl, rfl, rfl, rfl, rfl, rfl⟩ (R.2.set7 (by rw [List.length_set]; exact A.2.1) ?_)) gL.set
  · show (1000 + tarT 7, (gSet _ 7 0 _).ar 7 0) = _
    rw [gSet_self]
    rfl
  · rw [zput_self e1]
    have e9 : s.bs.length + 1 = (s.bs ++ [x]).length := by simp
    rw [e9]
    rfl
  · show (zput _ _ _ _).1 (g.ref 7 0) = _
    rw [zput_ne hne.symm]
    exact zput_self eA
  · have := pre_snoc A.2.2 (v := zr (g.ref 34 x)) (by rw [List.length_map, A.2.1]; exact hl)
    rw [List.length_map] at this
    rw [List.map_append]
    exact this
theorem g_App8 {x n1 : Nat} {P : zH → Prop} (R : tR s0 F b s w g h) (hm : g.kind x0 = (1, 0)) (hx : gA1 g 35 x) (hn1 : n1 = g.ref 35 x) (hl : s.cs.length < 16) (K : ∀ g1 h1, tR s0 F b (s.w_cs (s.cs ++ [x])) w g1 h1 → gL g g1 → P h1) :
    (fR h x0 [7] 4) ∧ ((fI h x0 [7] 8) ∧ ((fS s0 h (gR h x0 4) 15 (gI h x0 8)) ∧ ((n1 = 0 ∨ zAsg h n1 (.object "RelayHallModel$Consumer")) ∧ (∀ h7, h7 = zput h (gR h x0 4) ((gI h x0 8)).toNatClampNeg (zr n1) → ((fI h7 x0 [7] 8) ∧ ((fC h7 x0 7) ∧ (∀ h8, h8 = zput h7 x0 8 (.int ((gI h7 x0 8) + 1)) → P h8))))))) := by
  have A := R.2.ar8
  obtain ⟨eA, hA⟩ := R.arr A rfl (by decide) (by decide)
  have hne : x0 ≠ g.ref 8 0 := kne hm A.1 (by decide)
  have ec := R.1.cell hx (by decide)
  subst hn1
  refine e_R (R.main hm) fun z1 => e_I (R.main hm) fun (z2 : gI h x0 8 = Int32.ofNat s.cs.length) => ?_
  rw [z1, z2]
  refine g_S (t := 15) eA hA (zin_of (by rw [A.2.1]; exact hl) (by omega)) ⟨Or.inr (zAsg_own ec zcl_39 rfl), ?_⟩
  rintro h7 rfl
  rw [i_nat (by omega)]
  have e1 : (zput h (g.ref 8 0) s.cs.length (zr (g.ref 35 x))).1 x0 = some (7, tMain s w g) := by rw [zput_ne hne]; exact R.main hm
  refine e_I e1 fun (z3 : gI _ x0 8 = Int32.ofNat s.cs.length) => g_C e1 ?_
  rw [z3, i_succ]
  rintro h8 rfl
  refine K (gSet g 8 0 ((g.ar 8 0).set s.cs.length (zr (g.ref 35 x)))) _ (R.arM hm A.1 (by decide) (t := 15) rfl ?_ rfl (fun m (q1 : m ≠ x0) (q2 : m ≠ g.ref 8 0) => by rw [zput_ne q1, zput_ne q2]) ?_ ?_ ⟨rfl, rfl, rfl, rfl, rfl, rfl, rfl, rfl, rfl⟩ (R.2.set8 (by rw [List.length_set]; exact A.2.1) ?_)) gL.set
  · show (1000 + tarT 8, (gSet _ 8 0 _).ar 8 0) = _
    rw [gSet_self]
    rfl
  · rw [zput_self e1]
    have e9 : s.cs.length + 1 = (s.cs ++ [x]).length := by simp
    rw [e9]
    rfl
  · show (zput _ _ _ _).1 (g.ref 8 0) = _
    rw [zput_ne hne.symm]
    exact zput_self eA
  · have := pre_snoc A.2.2 (v := zr (g.ref 35 x)) (by rw [List.length_map, A.2.1]; exact hl)
    rw [List.length_map] at this
    rw [List.map_append]
    exact this
theorem g_App11 {x n1 : Nat} {P : zH → Prop} (R : tR s0 F b s w g h) (hm : g.kind x0 = (1, 0)) (hx : gA1 g 32 x) (hn1 : n1 = g.ref 32 x) (hl : s.ses.length < 12) (K : ∀ g1 h1, tR s0 F b (s.w_ses (s.ses ++ [x])) w g1 h1 → gL g g1 → P h1) :
    (fR h x0 [7] 18) ∧ ((fI h x0 [7] 22) ∧ ((fS s0 h (gR h x0 18) 12 (gI h x0 22)) ∧ ((n1 = 0 ∨ zAsg h n1 (.object "RelayHallModel$Exchange")) ∧ (∀ h7, h7 = zput h (gR h x0 18) ((gI h x0 22)).toNatClampNeg (zr n1) → ((fI h7 x0 [7] 22) ∧ ((fC h7 x0 7) ∧ (∀ h8, h8 = zput h7 x0 22 (.int ((gI h7 x0 22) + 1)) → P h8))))))) := by
  have A := R.2.ar11
  obtain ⟨eA, hA⟩ := R.arr A rfl (by decide) (by decide)
  have hne : x0 ≠ g.ref 11 0 := kne hm A.1 (by decide)
  have ec := R.1.cell hx (by decide)
  subst hn1
  refine e_R (R.main hm) fun z1 => e_I (R.main hm) fun (z2 : gI h x0 22 = Int32.ofNat s.ses.length) => ?_
  rw [z1, z2]
  refine g_S (t := 12) eA hA (zin_of (by rw [A.2.1]; exact hl) (by omega)) ⟨Or.inr (zAsg_own ec zcl_36 rfl), ?_⟩
  rintro h7 rfl
  rw [i_nat (by omega)]
  have e1 : (zput h (g.ref 11 0) s.ses.length (zr (g.ref 32 x))).1 x0 = some (7, tMain s w g) := by rw [zput_ne hne]; exact R.main hm
  refine e_I e1 fun (z3 : gI _ x0 22 = Int32.ofNat s.ses.length) => g_C e1 ?_
  rw [z3, i_succ]
  rintro h8 rfl
  refine K (gSet g 11 0 ((g.ar 11 0).set s.ses.length (zr (g.ref 32 x)))) _ (R.arM hm A.1 (by decide) (t := 12) rfl ?_ rfl (fun m (q1 : m ≠ x0) (q2 : m ≠ g.ref 11 0) => by rw [zput_ne q1, zput_ne q2]) ?_ ?_ ⟨rfl, rfl, rfl, rfl, rfl, rfl, rfl, rfl, rfl⟩ (R.2.set11 (by rw [List.length_set]; exact A.2.1) ?_)) gL.set
  · show (1000 + tarT 11, (gSet _ 11 0 _).ar 11 0) = _
    rw [gSet_self]
    rfl
  · rw [zput_self e1]
    have e9 : s.ses.length + 1 = (s.ses ++ [x]).length := by simp
    rw [e9]
    rfl
  · show (zput _ _ _ _).1 (g.ref 11 0) = _
    rw [zput_ne hne.symm]
    exact zput_self eA
  · have := pre_snoc A.2.2 (v := zr (g.ref 32 x)) (by rw [List.length_map, A.2.1]; exact hl)
    rw [List.length_map] at this
    rw [List.map_append]
    exact this
theorem g_App12 {x n1 : Nat} {P : zH → Prop} (R : tR s0 F b s w g h) (hm : g.kind x0 = (1, 0)) (hx : gA1 g 33 x) (hn1 : n1 = g.ref 33 x) (hl : s.sqs.length < 12) (K : ∀ g1 h1, tR s0 F b (s.w_sqs (s.sqs ++ [x])) w g1 h1 → gL g g1 → P h1) :
    (fR h x0 [7] 19) ∧ ((fI h x0 [7] 23) ∧ ((fS s0 h (gR h x0 19) 13 (gI h x0 23)) ∧ ((n1 = 0 ∨ zAsg h n1 (.object "RelayHallModel$Queue")) ∧ (∀ h7, h7 = zput h (gR h x0 19) ((gI h x0 23)).toNatClampNeg (zr n1) → ((fI h7 x0 [7] 23) ∧ ((fC h7 x0 7) ∧ (∀ h8, h8 = zput h7 x0 23 (.int ((gI h7 x0 23) + 1)) → P h8))))))) := by
  have A := R.2.ar12
  obtain ⟨eA, hA⟩ := R.arr A rfl (by decide) (by decide)
  have hne : x0 ≠ g.ref 12 0 := kne hm A.1 (by decide)
  have ec := R.1.cell hx (by decide)
  subst hn1
  refine e_R (R.main hm) fun z1 => e_I (R.main hm) fun (z2 : gI h x0 23 = Int32.ofNat s.sqs.length) => ?_
  rw [z1, z2]
  refine g_S (t := 13) eA hA (zin_of (by rw [A.2.1]; exact hl) (by omega)) ⟨Or.inr (zAsg_own ec zcl_37 rfl), ?_⟩
  rintro h7 rfl
  rw [i_nat (by omega)]
  have e1 : (zput h (g.ref 12 0) s.sqs.length (zr (g.ref 33 x))).1 x0 = some (7, tMain s w g) := by rw [zput_ne hne]; exact R.main hm
  refine e_I e1 fun (z3 : gI _ x0 23 = Int32.ofNat s.sqs.length) => g_C e1 ?_
  rw [z3, i_succ]
  rintro h8 rfl
  refine K (gSet g 12 0 ((g.ar 12 0).set s.sqs.length (zr (g.ref 33 x)))) _ (R.arM hm A.1 (by decide) (t := 13) rfl ?_ rfl (fun m (q1 : m ≠ x0) (q2 : m ≠ g.ref 12 0) => by rw [zput_ne q1, zput_ne q2]) ?_ ?_ ⟨rfl, rfl, rfl, rfl, rfl, rfl, rfl, rfl, rfl⟩ (R.2.set12 (by rw [List.length_set]; exact A.2.1) ?_)) gL.set
  · show (1000 + tarT 12, (gSet _ 12 0 _).ar 12 0) = _
    rw [gSet_self]
    rfl
  · rw [zput_self e1]
    have e9 : s.sqs.length + 1 = (s.sqs ++ [x]).length := by simp
    rw [e9]
    rfl
  · show (zput _ _ _ _).1 (g.ref 12 0) = _
    rw [zput_ne hne.symm]
    exact zput_self eA
  · have := pre_snoc A.2.2 (v := zr (g.ref 33 x)) (by rw [List.length_map, A.2.1]; exact hl)
    rw [List.length_map] at this
    rw [List.map_append]
    exact this
theorem g_App13 {x n1 : Nat} {P : zH → Prop} (R : tR s0 F b s w g h) (hm : g.kind x0 = (1, 0)) (hx : gA1 g 34 x) (hn1 : n1 = g.ref 34 x) (hl : s.sbs.length < 40) (K : ∀ g1 h1, tR s0 F b (s.w_sbs (s.sbs ++ [x])) w g1 h1 → gL g g1 → P h1) :
    (fR h x0 [7] 20) ∧ ((fI h x0 [7] 24) ∧ ((fS s0 h (gR h x0 20) 14 (gI h x0 24)) ∧ ((n1 = 0 ∨ zAsg h n1 (.object "RelayHallModel$Binding")) ∧ (∀ h7, h7 = zput h (gR h x0 20) ((gI h x0 24)).toNatClampNeg (zr n1) → ((fI h7 x0 [7] 24) ∧ ((fC h7 x0 7) ∧ (∀ h8, h8 = zput h7 x0 24 (.int ((gI h7 x0 24) + 1)) → P h8))))))) := by
  have A := R.2.ar13
  obtain ⟨eA, hA⟩ := R.arr A rfl (by decide) (by decide)
  have hne : x0 ≠ g.ref 13 0 := kne hm A.1 (by decide)
  have ec := R.1.cell hx (by decide)
  subst hn1
  refine e_R (R.main hm) fun z1 => e_I (R.main hm) fun (z2 : gI h x0 24 = Int32.ofNat s.sbs.length) => ?_
  rw [z1, z2]
  refine g_S (t := 14) eA hA (zin_of (by rw [A.2.1]; exact hl) (by omega)) ⟨Or.inr (zAsg_own ec zcl_38 rfl), ?_⟩
  rintro h7 rfl
  rw [i_nat (by omega)]
  have e1 : (zput h (g.ref 13 0) s.sbs.length (zr (g.ref 34 x))).1 x0 = some (7, tMain s w g) := by rw [zput_ne hne]; exact R.main hm
  refine e_I e1 fun (z3 : gI _ x0 24 = Int32.ofNat s.sbs.length) => g_C e1 ?_
  rw [z3, i_succ]
  rintro h8 rfl
  refine K (gSet g 13 0 ((g.ar 13 0).set s.sbs.length (zr (g.ref 34 x)))) _ (R.arM hm A.1 (by decide) (t := 14) rfl ?_ rfl (fun m (q1 : m ≠ x0) (q2 : m ≠ g.ref 13 0) => by rw [zput_ne q1, zput_ne q2]) ?_ ?_ ⟨rfl, rfl, rfl, rfl, rfl, rfl, rfl, rfl, rfl⟩ (R.2.set13 (by rw [List.length_set]; exact A.2.1) ?_)) gL.set
  · show (1000 + tarT 13, (gSet _ 13 0 _).ar 13 0) = _
    rw [gSet_self]
    rfl
  · rw [zput_self e1]
    have e9 : s.sbs.length + 1 = (s.sbs ++ [x]).length := by simp
    rw [e9]
    rfl
  · show (zput _ _ _ _).1 (g.ref 13 0) = _
    rw [zput_ne hne.symm]
    exact zput_self eA
  · have := pre_snoc A.2.2 (v := zr (g.ref 34 x)) (by rw [List.length_map, A.2.1]; exact hl)
    rw [List.length_map] at this
    rw [List.map_append]
    exact this
theorem g_App14 {x n1 : Nat} {P : zH → Prop} (R : tR s0 F b s w g h) (hm : g.kind x0 = (1, 0)) (hx : gA1 g 36 x) (hn1 : n1 = g.ref 36 x) (hl : s.sen.length < 301) (K : ∀ g1 h1, tR s0 F b (s.w_sen (s.sen ++ [x])) w g1 h1 → gL g g1 → P h1) :
    (fR h x0 [7] 21) ∧ ((fI h x0 [7] 25) ∧ ((fS s0 h (gR h x0 21) 18 (gI h x0 25)) ∧ ((n1 = 0 ∨ zAsg h n1 (.object "RelayHallModel$Entry")) ∧ (∀ h7, h7 = zput h (gR h x0 21) ((gI h x0 25)).toNatClampNeg (zr n1) → ((fI h7 x0 [7] 25) ∧ ((fC h7 x0 7) ∧ (∀ h8, h8 = zput h7 x0 25 (.int ((gI h7 x0 25) + 1)) → P h8))))))) := by
  have A := R.2.ar14
  obtain ⟨eA, hA⟩ := R.arr A rfl (by decide) (by decide)
  have hne : x0 ≠ g.ref 14 0 := kne hm A.1 (by decide)
  have ec := R.1.cell hx (by decide)
  subst hn1
  refine e_R (R.main hm) fun z1 => e_I (R.main hm) fun (z2 : gI h x0 25 = Int32.ofNat s.sen.length) => ?_
  rw [z1, z2]
  refine g_S (t := 18) eA hA (zin_of (by rw [A.2.1]; exact hl) (by omega)) ⟨Or.inr (zAsg_own ec zcl_33 rfl), ?_⟩
  rintro h7 rfl
  rw [i_nat (by omega)]
  have e1 : (zput h (g.ref 14 0) s.sen.length (zr (g.ref 36 x))).1 x0 = some (7, tMain s w g) := by rw [zput_ne hne]; exact R.main hm
  refine e_I e1 fun (z3 : gI _ x0 25 = Int32.ofNat s.sen.length) => g_C e1 ?_
  rw [z3, i_succ]
  rintro h8 rfl
  refine K (gSet g 14 0 ((g.ar 14 0).set s.sen.length (zr (g.ref 36 x)))) _ (R.arM hm A.1 (by decide) (t := 18) rfl ?_ rfl (fun m (q1 : m ≠ x0) (q2 : m ≠ g.ref 14 0) => by rw [zput_ne q1, zput_ne q2]) ?_ ?_ ⟨rfl, rfl, rfl, rfl, rfl, rfl, rfl, rfl, rfl⟩ (R.2.set14 (by rw [List.length_set]; exact A.2.1) ?_)) gL.set
  · show (1000 + tarT 14, (gSet _ 14 0 _).ar 14 0) = _
    rw [gSet_self]
    rfl
  · rw [zput_self e1]
    have e9 : s.sen.length + 1 = (s.sen ++ [x]).length := by simp
    rw [e9]
    rfl
  · show (zput _ _ _ _).1 (g.ref 14 0) = _
    rw [zput_ne hne.symm]
    exact zput_self eA
  · have := pre_snoc A.2.2 (v := zr (g.ref 36 x)) (by rw [List.length_map, A.2.1]; exact hl)
    rw [List.length_map] at this
    rw [List.map_append]
    exact this
theorem g_AppQ {n1 : Nat} {P : zH → Prop} (R : tR s0 F b s w g h) (hx : g.kind x1 = (33, q)) (ha : gA1 g 36 m) (hn1 : n1 = g.ref 36 m) (hl : (s.qu q).ents.length < 301) (K : ∀ g1 h1, tR s0 F b (s.w_qu (sUp s.qu q ((s.qu q).w_ents ((s.qu q).ents ++ [m])))) w g1 h1 → gL g g1 → P h1) :
    (fR h x1 [37] 11) ∧ ((fI h x1 [37] 12) ∧ ((fS s0 h (gR h x1 11) 18 (gI h x1 12)) ∧ ((n1 = 0 ∨ zAsg h n1 (.object "RelayHallModel$Entry")) ∧ (∀ h7, h7 = zput h (gR h x1 11) ((gI h x1 12)).toNatClampNeg (zr n1) → ((fI h7 x1 [37] 12) ∧ ((fC h7 x1 37) ∧ (∀ h8, h8 = zput h7 x1 12 (.int ((gI h7 x1 12) + 1)) → P h8))))))) := by
  have hq := R.ak (by decide) (by decide) hx
  have A := R.ents hq
  obtain ⟨eA, hA⟩ := R.arr (t := 18) A rfl (by decide) (by decide)
  have hne : x1 ≠ g.ref 31 q := kne hx A.1 fun e => absurd (congrArg Prod.fst e) (by show ¬ (33 : Nat) = 31; decide)
  have ec := R.1.cell ha (by decide)
  have ex := R.1.cell hx (by decide)
  subst hn1
  refine e_R ex fun (z1 : gR h x1 11 = g.ref 31 q) => e_I ex fun (z2 : gI h x1 12 = Int32.ofNat (s.qu q).ents.length) => ?_
  rw [z1, z2]
  refine g_S (t := 18) eA hA (zin_of (by rw [A.2.1]; exact hl) (by omega)) ⟨Or.inr (zAsg_own ec zcl_33 rfl), ?_⟩
  rintro h7 rfl
  rw [i_nat (by omega)]
  have e1 : (zput h (g.ref 31 q) (s.qu q).ents.length (zr (g.ref 36 m))).1 x1 = some (37, tQu (s.qu q) g q) := by rw [zput_ne hne]; exact ex
  refine e_I e1 fun (z3 : gI _ x1 12 = Int32.ofNat (s.qu q).ents.length) => g_C e1 ?_
  rw [z3, i_succ]
  rintro h8 rfl
  refine K (gSet g 31 q ((g.ar 31 q).set (s.qu q).ents.length (zr (g.ref 36 m)))) _ (R.arQ (x := (s.qu q).w_ents ((s.qu q).ents ++ [m])) hx rfl (fun k q1 q2 => by rw [zput_ne q1, zput_ne q2]) ?_ ?_ (by rw [List.length_set]; exact A.2.1) ?_ ⟨rfl, rfl, rfl⟩) gL.set
  · rw [zput_self e1]
    have e9 : (s.qu q).ents.length + 1 = ((s.qu q).ents ++ [m]).length := by simp
    rw [e9]
    rfl
  · show (zput _ _ _ _).1 (g.ref 31 q) = _
    rw [zput_ne hne.symm]
    exact zput_self eA
  · have := pre_snoc A.2.2 (v := zr (g.ref 36 m)) (by rw [List.length_map, A.2.1]; exact hl)
    rw [List.length_map] at this
    show ((s.qu q).ents ++ [m]).map _ <+: _
    rw [List.map_append]
    exact this
theorem gL.Tab (a : gL g g') {n : Nat} {x : sTab} (hk : gTab g n x) : gTab g' n x := by
  obtain ⟨a1, a2, a3, a4, r, l1, l2, l3, l4, e1, e2, e3, e4, e5, e6, e7, e8, e9, e10, e11, e12⟩ := hk
  refine ⟨a1, a2, a3, a4, r, l1, l2, l3, l4, a.fz e1, a.fz e2, a.fz e3, a.fz e4, a.fz e5, a.B e6, e7, e8, e9, e10, e11, fun j x hx => ?_⟩
  obtain ⟨n1, n4, f1, f2, f3, f4, f5, f6⟩ := e12 j x hx
  exact ⟨n1, n4, f1, a.B f2, f3, f4, f5, fun e => a.B (f6 e)⟩
theorem gL.To (a : gL g g') {n : Nat} {x : Option sTab} (hk : gTo g n x) : gTo g' n x := by
  cases x with
  | none => exact hk
  | some y => exact a.Tab hk
theorem gL.Cont (a : gL g g') {n : Nat} {x : sCont} (hk : gCont g n x) : gCont g' n x := by
  obtain ⟨e, k, hd, bd, got, f1, f2, f3, f4, f5⟩ := hk
  exact ⟨e, k, hd, bd, got, a.fz f1, a.B f2, a.B f3, a.To f4, a.B f5⟩
theorem gL.th (a : gL g g') {n c i : Nat} (h1 : 32 ≤ c) (h2 : c ≤ 37) (hk : g.kind n = (c, i)) : g'.kind n = (c, i) := a.k hk (Or.inr (Or.inr (Or.inr (Or.inl ⟨h1, h2⟩))))
end AP
