/-! ===== the twin: a table is read, whole ===== -/
set_option maxRecDepth 100000
section MF
variable {s0 : zE} {F F0 F1 : Nat → Option zC} {b : Nat} {s s' s1 : sSt} {w w' w1 w2 : tW} {g g' g0 : sG} {h h' : zH} {d x0 x1 x2 x3 x4 i j q m n e k c a a1 a2 a3 a4 : Nat} {Q : Value → zH → Prop} {E : Nat → zH → Prop} {fs l l1 l2 l3 l4 : List Value} {v : Value} {dr : sBy} {sz : Int32} {rd : sRd} {u : Int32 × Int32 × Int32 × List Nat × (Nat → Nat)} {rows : List sRow}
theorem zF1_lk {p : zC} (U : zUn s0 F1 g h a c l) (hm : F1 m = some p) : zF1 F1 a (c, l) m = some p := by
  rw [zF1_ne (fun e => by rw [e, U.2.1] at hm; cases hm)]
  exact hm
theorem zUn.ne1 {p : zC} (U : zUn s0 F1 g h a c l) (hm : F1 m = some p) : m ≠ a := fun e => by rw [e, U.2.1] at hm; cases hm
theorem t_X38 (R : tR s0 F1 (b + 36) s w g h) (hn : F1 n = some (35, [.int 0, zr 0, zr 0, zr 0, zr 0, zr 0])) (hns : s0.1.heap.size < n) (hF : ∀ m q, F m = some q → F1 m = some q) (hFn : F n = none)
    (K : ∀ F2 a1 a2 a3 a4 h1, tR s0 F2 b s w g h1 → tLs s0 F n a1 a2 a3 a4 → tLd F F2 n a1 a2 a3 a4 [vI 0, zr a1, zr a2, zr a3, zr a4, zr 0] (List.replicate 54 (zr 0)) (List.replicate 54 (.int 0)) (List.replicate 54 (.int 0)) (List.replicate 54 (zr 0)) → Q .null h1) : zX s0 m_X38_init (d + 1) [zr n] h Q E := by
  have h54 : (54 : Int32).toNatClampNeg = 54 := rfl
  have hno : ∀ {m : Nat} {F' : Nat → Option zC}, (∀ m q, F m = some q → F' m = some q) → F' m = none → F m = none := fun {m F'} hs hm => by
    cases hh : F m with
    | none => rfl
    | some q => rw [hs m q hh] at hm; cases hm
  refine c_X38_init ⟨⟨_, _, R.fc hn⟩, by decide, ?_⟩
  rw [h54]
  refine g_N (u := 9) (b := b + 27) (R.less (by omega)) (by decide) (by decide) R.big fun a1 h1 R1 U1 => ?_
  have N1 := U1.ne1 hn
  have Z1 := hno hF U1.2.1
  have hn1 := zF1_lk U1 hn
  have hF1 : ∀ m q, F m = some q → zF1 F1 a1 (1022, List.replicate 54 (zr 0)) m = some q := fun m q hq => zF1_lk U1 (hF m q hq)
  have A1 : zF1 F1 a1 (1022, List.replicate 54 (zr 0)) a1 = some (1022, List.replicate 54 (zr 0)) := zF1_at
  have y1 := U1.2.2.2.2.2
  have R1 := R1.lend U1
  clear U1
  generalize zF1 F1 a1 (1022, List.replicate 54 (zr 0)) = F2 at R1 hn1 hF1 A1
  refine g_C (R1.fc hn1) ?_
  rintro h2 rfl
  have R2 := R1.putL (k := 1) (v := zr a1) hn1
  have hn2 : zF1 F2 n (35, [.int 0, zr a1, zr 0, zr 0, zr 0, zr 0]) n = some (35, [.int 0, zr a1, zr 0, zr 0, zr 0, zr 0]) := zF1_at
  have B1 : zF1 F2 n (35, [.int 0, zr a1, zr 0, zr 0, zr 0, zr 0]) a1 = some (1022, List.replicate 54 (zr 0)) := by rw [zF1_ne N1.symm]; exact A1
  have hF2 : ∀ m q, F m = some q → zF1 F2 n (35, [.int 0, zr a1, zr 0, zr 0, zr 0, zr 0]) m = some q := fun m q hq => by rw [zF1_ne (fun e => by rw [e, hFn] at hq; cases hq)]; exact hF1 m q hq
  have R2 : tR s0 (zF1 F2 n (35, [.int 0, zr a1, zr 0, zr 0, zr 0, zr 0])) (b + 27) s w g (zput h1 n 1 (zr a1)) := R2
  generalize zF1 F2 n (35, [.int 0, zr a1, zr 0, zr 0, zr 0, zr 0]) = F3 at R2 hn2 B1 hF2
  generalize zput h1 n 1 (zr a1) = h2 at R2 ⊢
  clear R1 hn1 hF1 A1
  refine ⟨by decide, ?_⟩
  refine g_N (u := 9) (b := b + 18) (R2.less (by omega)) (by decide) (by decide) R2.big fun a2 h3 R3 U3 => ?_
  have N2 := U3.ne1 hn2
  have N12 := U3.ne1 B1
  have Z2 := hno hF2 U3.2.1
  have hn3 := zF1_lk U3 hn2
  have B3 := zF1_lk U3 B1
  have hF3 : ∀ m q, F m = some q → zF1 F3 a2 (1001, List.replicate 54 (.int 0)) m = some q := fun m q hq => zF1_lk U3 (hF2 m q hq)
  have A2 : zF1 F3 a2 (1001, List.replicate 54 (.int 0)) a2 = some (1001, List.replicate 54 (.int 0)) := zF1_at
  have y2 := U3.2.2.2.2.2
  have R3 := R3.lend U3
  clear U3 R2 hn2 B1 hF2
  generalize zF1 F3 a2 (1001, List.replicate 54 (.int 0)) = F4 at R3 hn3 hF3 B3 A2
  refine g_C (R3.fc hn3) ?_
  rintro h4 rfl
  have R4 := R3.putL (k := 2) (v := zr a2) hn3
  have hn4 : zF1 F4 n (35, [.int 0, zr a1, zr a2, zr 0, zr 0, zr 0]) n = some (35, [.int 0, zr a1, zr a2, zr 0, zr 0, zr 0]) := zF1_at
  have C1 : zF1 F4 n (35, [.int 0, zr a1, zr a2, zr 0, zr 0, zr 0]) a1 = some (1022, List.replicate 54 (zr 0)) := by rw [zF1_ne N1.symm]; exact B3
  have C2 : zF1 F4 n (35, [.int 0, zr a1, zr a2, zr 0, zr 0, zr 0]) a2 = some (1001, List.replicate 54 (.int 0)) := by rw [zF1_ne N2.symm]; exact A2
  have hF4 : ∀ m q, F m = some q → zF1 F4 n (35, [.int 0, zr a1, zr a2, zr 0, zr 0, zr 0]) m = some q := fun m q hq => by rw [zF1_ne (fun e => by rw [e, hFn] at hq; cases hq)]; exact hF3 m q hq
  have R4 : tR s0 (zF1 F4 n (35, [.int 0, zr a1, zr a2, zr 0, zr 0, zr 0])) (b + 18) s w g (zput h3 n 2 (zr a2)) := R4
  generalize zF1 F4 n (35, [.int 0, zr a1, zr a2, zr 0, zr 0, zr 0]) = F5 at R4 hn4 C1 C2 hF4
  generalize zput h3 n 2 (zr a2) = h4 at R4 ⊢
  clear R3 hn3 B3 A2 hF3
  refine ⟨by decide, ?_⟩
  refine g_N (u := 9) (b := b + 9) (R4.less (by omega)) (by decide) (by decide) R4.big fun a3 h5 R5 U5 => ?_
  have N3 := U5.ne1 hn4
  have N13 := U5.ne1 C1
  have N23 := U5.ne1 C2
  have Z3 := hno hF4 U5.2.1
  have hn5 := zF1_lk U5 hn4
  have D1 := zF1_lk U5 C1
  have D2 := zF1_lk U5 C2
  have hF5 : ∀ m q, F m = some q → zF1 F5 a3 (1001, List.replicate 54 (.int 0)) m = some q := fun m q hq => zF1_lk U5 (hF4 m q hq)
  have A3 : zF1 F5 a3 (1001, List.replicate 54 (.int 0)) a3 = some (1001, List.replicate 54 (.int 0)) := zF1_at
  have y3 := U5.2.2.2.2.2
  have R5 := R5.lend U5
  clear U5 R4 hn4 C1 C2 hF4
  generalize zF1 F5 a3 (1001, List.replicate 54 (.int 0)) = F6 at R5 hn5 hF5 D1 D2 A3
  refine g_C (R5.fc hn5) ?_
  rintro h6 rfl
  have R6 := R5.putL (k := 3) (v := zr a3) hn5
  have hn6 : zF1 F6 n (35, [.int 0, zr a1, zr a2, zr a3, zr 0, zr 0]) n = some (35, [.int 0, zr a1, zr a2, zr a3, zr 0, zr 0]) := zF1_at
  have E1 : zF1 F6 n (35, [.int 0, zr a1, zr a2, zr a3, zr 0, zr 0]) a1 = some (1022, List.replicate 54 (zr 0)) := by rw [zF1_ne N1.symm]; exact D1
  have E2 : zF1 F6 n (35, [.int 0, zr a1, zr a2, zr a3, zr 0, zr 0]) a2 = some (1001, List.replicate 54 (.int 0)) := by rw [zF1_ne N2.symm]; exact D2
  have E3 : zF1 F6 n (35, [.int 0, zr a1, zr a2, zr a3, zr 0, zr 0]) a3 = some (1001, List.replicate 54 (.int 0)) := by rw [zF1_ne N3.symm]; exact A3
  have hF6 : ∀ m q, F m = some q → zF1 F6 n (35, [.int 0, zr a1, zr a2, zr a3, zr 0, zr 0]) m = some q := fun m q hq => by rw [zF1_ne (fun e => by rw [e, hFn] at hq; cases hq)]; exact hF5 m q hq
  have R6 : tR s0 (zF1 F6 n (35, [.int 0, zr a1, zr a2, zr a3, zr 0, zr 0])) (b + 9) s w g (zput h5 n 3 (zr a3)) := R6
  generalize zF1 F6 n (35, [.int 0, zr a1, zr a2, zr a3, zr 0, zr 0]) = F7 at R6 hn6 E1 E2 E3 hF6
  generalize zput h5 n 3 (zr a3) = h6 at R6 ⊢
  clear R5 hn5 D1 D2 A3 hF5
  refine ⟨by decide, ?_⟩
  refine g_N (u := 9) (b := b) R6 (by decide) (by decide) R6.big fun a4 h7 R7 U7 => ?_
  have N4 := U7.ne1 hn6
  have N14 := U7.ne1 E1
  have N24 := U7.ne1 E2
  have N34 := U7.ne1 E3
  have Z4 := hno hF6 U7.2.1
  have hn7 := zF1_lk U7 hn6
  have G1 := zF1_lk U7 E1
  have G2 := zF1_lk U7 E2
  have G3 := zF1_lk U7 E3
  have hF7 : ∀ m q, F m = some q → zF1 F7 a4 (1022, List.replicate 54 (zr 0)) m = some q := fun m q hq => zF1_lk U7 (hF6 m q hq)
  have A4 : zF1 F7 a4 (1022, List.replicate 54 (zr 0)) a4 = some (1022, List.replicate 54 (zr 0)) := zF1_at
  have y4 := U7.2.2.2.2.2
  have R7 := R7.lend U7
  clear U7 R6 hn6 E1 E2 E3 hF6
  generalize zF1 F7 a4 (1022, List.replicate 54 (zr 0)) = F8 at R7 hn7 hF7 G1 G2 G3 A4
  refine g_C (R7.fc hn7) ?_
  rintro h8 rfl
  have R8 := R7.putL (k := 4) (v := zr a4) hn7
  have S : tLs s0 F n a1 a2 a3 a4 := ⟨⟨N1, N2, N3, N4, N12, N13, N14, N23, N24, N34⟩, ⟨hFn, Z1, Z2, Z3, Z4⟩, hns, y1, y2, y3, y4⟩
  have D8 : tLd F F8 n a1 a2 a3 a4 [.int 0, zr a1, zr a2, zr a3, zr 0, zr 0] (List.replicate 54 (zr 0)) (List.replicate 54 (.int 0)) (List.replicate 54 (.int 0)) (List.replicate 54 (zr 0)) := ⟨hF7, hn7, G1, G2, G3, A4⟩
  exact K _ a1 a2 a3 a4 _ R8 S (D8.v0 S)
theorem table_bad (hb : (r_u32 rd).2.2.2 = true ∨ (r_u32 rd).1 < 0 ∨ 160 < (r_u32 rd).1 ∨ (r_u32 rd).2.1.length < (r_u32 rd).2.2.1 + (r_u32 rd).1.toNatClampNeg) : r_table rd = (([], []), r_bad (r_u32 rd).2) := by
  unfold r_table
  dsimp only
  rw [if_pos hb]
theorem table_go (hb : ¬ ((r_u32 rd).2.2.2 = true ∨ (r_u32 rd).1 < 0 ∨ 160 < (r_u32 rd).1 ∨ (r_u32 rd).2.1.length < (r_u32 rd).2.2.1 + (r_u32 rd).1.toNatClampNeg)) {QF : List sRow × sRd} (hQ : QF = r_rows ((r_u32 rd).2.2.1 + (r_u32 rd).1.toNatClampNeg) 54 (r_u32 rd).2) :
    (r_table rd).2 = (if QF.2.2.1 = (r_u32 rd).2.2.1 + (r_u32 rd).1.toNatClampNeg then QF.2 else r_bad QF.2) ∧ ((r_table rd).2.2.2 = false → (r_table rd).1 = (QF.1, ((r_u32 rd).2.1.drop (r_u32 rd).2.2.1).take (r_u32 rd).1.toNatClampNeg)) := by
  unfold r_table
  dsimp only
  rw [if_neg hb, ← hQ]
  generalize (if QF.2.2.1 = (r_u32 rd).2.2.1 + (r_u32 rd).1.toNatClampNeg then QF.2 else r_bad QF.2) = r2
  by_cases hr : r2.2.2 = true
  · rw [if_pos hr]
    exact ⟨rfl, fun hf => absurd hf (by show ¬ r2.2.2 = false; rw [hr]; decide)⟩
  · rw [if_neg hr]
    exact ⟨rfl, fun _ => rfl⟩
theorem t_table (R : tR s0 F (b + 12 * rRem rd + 200) s (dr, sz, rd, u) g h) (hm : g.kind x0 = (1, 0)) (hE : gB g (zst s0 "RelayHallModel" "EMPTY" "[B") [])
    (K : ∀ n g1 h1, tR s0 F (b + 12 * rRem (r_table rd).2) s (dr, sz, (r_table rd).2, u) g1 h1 → gL g g1 → ((r_table rd).2.2.2 = false → gTab g1 n (r_table rd).1 ∧ sTabOk (r_table rd).1) → Q (zr n) h1) : zX s0 m_X8_table (d + 4) [zr x0] h Q E := by
  refine c_X8_table (g_N (u := 1) (b := b + 12 * rRem rd + 199) (R.less (by omega)) (by decide) (by decide) R.big fun n h1 R1 U1 => ⟨⟨_, _, U1.2.2.1⟩, ?_⟩)
  have hFn := U1.2.1
  have hns := U1.2.2.2.2.2
  have R1' := R1.lend U1
  refine t_X38 (d := d + 2) (F := F) (b := b + 12 * rRem rd + 163) (R1'.less (by omega)) zF1_at hns (fun m q hq => zF1_lk U1 hq) hFn fun F2 a1 a2 a3 a4 h2 R2 S D => ⟨⟨_, R2.main hm⟩, t_u32 (d := d + 1) R2 hm fun h3 R3 => ⟨_, rfl, ?_⟩⟩
  have em := R3.main hm
  have hru := rd_u32 (r := rd)
  obtain ⟨A, hat⟩ : gAr g 16 0 400 (vB (r_u32 rd).2.1) ∧ (r_u32 rd).2.2.1 ≤ (r_u32 rd).2.1.length := R3.2.frame
  have hl : (r_u32 rd).2.1.length ≤ 400 := by have := A.le; rwa [vB_len] at this
  have hrem : rRem (r_u32 rd).2 ≤ rRem rd := by
    unfold rRem
    rw [hru.1.1]
    have := hru.1.2.1
    omega
  have htb := table_bad (rd := rd)
  have htg := fun hb => table_go (rd := rd) hb rfl
  revert R3 em hat hl hrem htb htg hru
  generalize r_u32 rd = q
  intro R3 em hru hat hl hrem htb htg
  have hbad : (q.2.2.2 = true ∨ q.1 < 0 ∨ 160 < q.1 ∨ q.2.1.length < q.2.2.1 + q.1.toNatClampNeg) → (fC h3 x0 7 ∧ ∀ h4, h4 = zput h3 x0 34 (.int 1) → Q (zr n) h4) := fun hb => by
    have ht := htb hb
    refine g_Bad R3 hm fun h4 R4 => ?_
    refine K n g h4 ?_ (gL.refl g) fun hf => ?_
    · rw [ht]
      have : rRem (r_bad q.2) = rRem q.2 := rfl
      exact (R4.sub D.1).less (by rw [this]; omega)
    · rw [ht] at hf
      exact nomatch (show true = false from hf)
  refine e_I em fun (z1 : gI h3 x0 34 = sB q.2.2.2) => ?_
  rw [z1, sB_0]
  refine ⟨fun hb => hbad (Or.inl (by rw [Bool.not_eq_false] at hb; exact hb)), fun hb => ⟨fun hneg => hbad (Or.inr (Or.inl hneg)), fun hneg => ⟨fun hbig => hbad (Or.inr (Or.inr (Or.inl hbig))), fun hbig => ?_⟩⟩⟩
  have h0 : 0 ≤ q.1 := Int32.not_lt.mp hneg
  have hq1 : q.1 = Int32.ofNat q.1.toNatClampNeg := (i_of h0).symm
  have hle : q.1.toNatClampNeg ≤ 160 := clamp_le (k := 160) (by decide) hbig
  refine e_I em fun (z2 : gI h3 x0 30 = Int32.ofNat q.2.1.length) => e_I em fun (z3 : gI h3 x0 31 = Int32.ofNat q.2.2.1) => ?_
  rw [z2, z3, i_sub hat]
  refine ⟨fun hfit => e_I em fun _ => e_I em fun _ => ?_, fun hfit => hbad (Or.inr (Or.inr (Or.inr ?_)))⟩
  · rw [hq1, i_le (by omega) (by omega)] at hfit
    have hno : ¬ (q.2.2.2 = true ∨ q.1 < 0 ∨ 160 < q.1 ∨ q.2.1.length < q.2.2.1 + q.1.toNatClampNeg) := by
      rintro (h | h | h | h)
      · rw [hb] at h; cases h
      · exact hneg h
      · exact hbig h
      · omega
    obtain ⟨t1, t2⟩ := htg hno
    have hfin : zP s0 m_X8_table (d + 4) 64 [some (zr x0), some (zr n), some (.int (Int32.ofNat q.1.toNatClampNeg)), some (.int (Int32.ofNat q.2.2.1)), some (.int (Int32.ofNat (q.2.2.1 + q.1.toNatClampNeg))), none] [] h3 Q E := by
      refine t_table_64 (b := b) (bs := q.2.1) (QF := r_rows (q.2.2.1 + q.1.toNatClampNeg) 54 q.2) hm S hE hle (by omega) (fun g4 h4 R4 L4 T4 => ?_) 54 [] q.2 F2 _ _ _ _ _ g h3 rfl rfl (fun _ => by simp) R3 (by omega) (fun _ => by omega) D (fun _ => ⟨⟨⟨List.length_replicate, List.length_replicate, List.length_replicate, List.length_replicate⟩, fun j w hw => by cases hw⟩, (by intro w hw; cases hw), fun j _ hj => ⟨by rw [List.getElem?_replicate, if_pos hj], by rw [List.getElem?_replicate, if_pos hj]⟩⟩) (gL.refl g) rfl
      refine K n g4 h4 ?_ L4 fun hf => ?_
      · rw [t1]
        refine R4.less (Nat.add_le_add_left (Nat.mul_le_mul_left _ (Nat.le_of_eq ?_)) _)
        split <;> rfl
      · have t3 := t2 hf
        rw [t1] at hf
        obtain ⟨p1, p2, p3⟩ := T4 hf
        rw [t3]
        exact ⟨p1, Nat.le_trans (List.length_take_le _ _) hle, p2, p3⟩
    have e1 : Int32.ofNat q.2.2.1 + q.1 = Int32.ofNat (q.2.2.1 + q.1.toNatClampNeg) := by
      conv => lhs; rw [hq1]
      rw [i_add]
    rw [e1]
    rw [show (Value.int q.1) = Value.int (Int32.ofNat q.1.toNatClampNeg) from congrArg Value.int hq1]
    exact hfin
  · rw [hq1, i_le (by omega) (by omega)] at hfit
    omega
end MF
