/-! ===== the twin: a table is read, row by row ===== -/
set_option maxRecDepth 100000
/-- how many bytes are not read -/
def rRem (r : sRd) : Nat := r.1.length - r.2.1
section ME
variable {s0 : zE} {F F0 : Nat → Option zC} {b : Nat} {s s' s1 : sSt} {w w' w1 w2 : tW} {g g' g0 : sG} {h h' : zH} {d x0 x1 x2 x3 x4 i j q m n e k c a1 a2 a3 a4 : Nat} {Q : Value → zH → Prop} {E : Nat → zH → Prop} {fs l1 l2 l3 l4 : List Value} {v : Value} {dr : sBy} {sz : Int32} {rd : sRd} {u : Int32 × Int32 × Int32 × List Nat × (Nat → Nat)} {rows : List sRow}
theorem t_table_218 {st nn : Nat} {rd : sRd} (hm : g.kind x0 = (1, 0)) (R : tR s0 F (b + 36) s (dr, sz, rd, u) g h) (S : tLs s0 F0 n a1 a2 a3 a4) (D : tLd F0 F n a1 a2 a3 a4 [vI rows.length, zr a1, zr a2, zr a3, zr a4, zr 0] l1 l2 l3 l4) (T : rd.2.2 = false → tRws g rows l1 l2 l3 l4) (hE : gB g (zst s0 "RelayHallModel" "EMPTY" "[B") []) (h54 : rows.length ≤ 54) (hnn : nn ≤ 160) (hst : st + nn ≤ rd.1.length) (hpos : rd.2.2 = false → rd.2.1 = st + nn)
    (K : ∀ g1 h1, tR s0 F0 b s (dr, sz, rd, u) g1 h1 → gL g g1 → (rd.2.2 = false → gTab g1 n (rows, (rd.1.drop st).take nn)) → Q (zr n) h1) :
    zP s0 m_X8_table (d + 1) 218 [some (zr x0), some (zr n), some (.int (Int32.ofNat nn)), some (.int (Int32.ofNat st)), none, none] [] h Q E := by
  have em := R.main hm
  refine b_X8_table_218 (e_I em fun (z1 : gI h x0 34 = sB rd.2.2) => ?_)
  rw [z1, sB_0]
  refine ⟨fun hb => ?_, fun hb => ?_⟩
  · refine g_PM R hm s (dr, sz, (rd.1, st, rd.2.2), u) rfl (R.2.rdw rfl (by show st ≤ rd.1.length; omega)) ⟨rfl, rfl, rfl, rfl, rfl, rfl, rfl, rfl, rfl⟩ fun h1 R1 _ => ⟨⟨_, R1.main hm⟩, ?_⟩
    have hr : r_bytes (Int32.ofNat nn) (rd.1, st, rd.2.2) = ((rd.1.drop st).take nn, (rd.1, st + nn, rd.2.2)) := by
      unfold r_bytes
      rw [i_nat (by omega), if_neg]
      rintro (h | h)
      · exact i_nn (by omega) h
      · have h : rd.1.length < st + nn := h
        omega
    refine t_bytes (x := Int32.ofNat nn) R1 hm hE (by rw [i_nat (by omega)]; omega) fun r g2 h2 R2 L2 B2 => ⟨_, rfl, ?_⟩
    rw [hr] at R2 B2
    have hrd : (rd.1, st + nn, rd.2.2) = rd := by
      rw [← hpos hb]
    have R2 : tR s0 F b s (dr, sz, (rd.1, st + nn, rd.2.2), u) g2 h2 := R2
    rw [hrd] at R2
    have B2 : gB g2 r ((rd.1.drop st).take nn) := B2
    refine g_C (R2.fc D.2.1) ?_
    rintro h3 rfl
    have R3 := R2.putL (k := 5) (v := zr r) D.2.1
    have D3 : tLd F0 (zF1 F n (35, [vI rows.length, zr a1, zr a2, zr a3, zr a4, zr r])) n a1 a2 a3 a4 [vI rows.length, zr a1, zr a2, zr a3, zr a4, zr r] l1 l2 l3 l4 := D.v0 S
    obtain ⟨g4, R4, L4, T4⟩ := tab_fz R3 S D3 ((T hb).l L2) B2 h54
    exact K g4 _ R4 (L2.trans L4) fun _ => T4
  · exact K g h (((R.less (by omega)).sub D.1)) (gL.refl g) fun hf => absurd hf hb
theorem t_table_204 {st nn : Nat} {rd : sRd} (hm : g.kind x0 = (1, 0)) (R : tR s0 F (b + 36) s (dr, sz, rd, u) g h) (S : tLs s0 F0 n a1 a2 a3 a4) (D : tLd F0 F n a1 a2 a3 a4 [vI rows.length, zr a1, zr a2, zr a3, zr a4, zr 0] l1 l2 l3 l4) (T : rd.2.2 = false → tRws g rows l1 l2 l3 l4) (hE : gB g (zst s0 "RelayHallModel" "EMPTY" "[B") []) (h54 : rows.length ≤ 54) (hnn : nn ≤ 160) (hst : st + nn ≤ rd.1.length)
    (K : ∀ g1 h1, tR s0 F0 b s (dr, sz, (if rd.2.1 = st + nn then rd else r_bad rd), u) g1 h1 → gL g g1 → ((if rd.2.1 = st + nn then rd else r_bad rd).2.2 = false → gTab g1 n (rows, (rd.1.drop st).take nn)) → Q (zr n) h1) :
    zP s0 m_X8_table (d + 1) 204 [some (zr x0), some (zr n), some (.int (Int32.ofNat nn)), some (.int (Int32.ofNat st)), some (.int (Int32.ofNat (st + nn))), none] [] h Q E := by
  have em := R.main hm
  obtain ⟨A, hat⟩ : gAr g 16 0 400 (vB rd.1) ∧ rd.2.1 ≤ rd.1.length := R.2.frame
  have hl : rd.1.length ≤ 400 := by have := A.le; rwa [vB_len] at this
  refine b_X8_table_204 (e_I em fun (z1 : gI h x0 31 = Int32.ofNat rd.2.1) => ?_)
  rw [z1, i_inj (by omega) (by omega)]
  refine ⟨fun he => ?_, fun hne => ?_⟩
  · rw [if_pos he] at K
    exact t_table_218 hm R S D T hE h54 hnn hst (fun _ => he) K
  · rw [if_neg hne] at K
    exact g_Bad R hm fun h1 R1 => t_table_218 (rd := r_bad rd) hm R1 S D (fun hf => nomatch (show true = false from hf)) hE h54 hnn hst (fun hf => nomatch (show true = false from hf)) K
theorem rows_bad {fin f : Nat} (hb : rd.2.2 = true ∨ fin ≤ rd.2.1) : r_rows fin f rd = ([], rd) := by
  cases f with
  | zero => rfl
  | succ f =>
    rw [r_rows, if_pos]
    exact hb
theorem rows_go {fin f : Nat} (h1 : rd.2.2 = false) (h2 : ¬ fin ≤ rd.2.1) : r_rows fin (f + 1) rd = ((r_row rd).1 :: (r_rows fin f (r_row rd).2).1, (r_rows fin f (r_row rd).2).2) := by
  rw [r_rows, if_neg]
  rintro (h | h)
  · rw [h1] at h
    cases h
  · exact h2 h
/-- the rows that are read are as told -/
def rOk (rows : List sRow) : Prop := ∀ w ∈ rows, w.1.length ≤ 40 ∧ w.2.2.2.length ≤ 40 ∧ (w.2.1 = 73 ∧ w.2.2.2 = [] ∨ w.2.1 = 116 ∧ w.2.2.2 = [] ∨ w.2.1 = 83 ∧ w.2.2.1 = 0)
/-- one row more is read -/
theorem t_table_row {st nn B : Nat} (hb : rd.2.2 = false) (hle : ¬ st + nn ≤ rd.2.1) (hm1 : g.kind x0 = (1, 0)) (S : tLs s0 F0 n a1 a2 a3 a4) (hE1 : gB g (zst s0 "RelayHallModel" "EMPTY" "[B") []) (hk : rows.length < 54) (R : tR s0 F B s (dr, sz, rd, u) g h) (hB3 : b + 12 * rRem rd + 150 ≤ B) (hfin : st + nn ≤ 400)
    (D : tLd F0 F n a1 a2 a3 a4 [vI rows.length, zr a1, zr a2, zr a3, zr a4, zr 0] l1 l2 l3 l4) (T1 : tRws g rows l1 l2 l3 l4) (T3 : ∀ (j : Nat), rows.length ≤ j → j < 54 → l3[j]? = some (Value.int 0) ∧ l4[j]? = some (zr 0))
    (hnext : ∀ (F' : Nat → Option zC) (B' : Nat) (l1' l2' l3' l4' : List Value) (g' : sG) (h' : zH), tR s0 F' B' s (dr, sz, (r_row rd).2, u) g' h' → gL g g' → (b + 12 * rRem (r_row rd).2 + 36 ≤ B') → ((r_row rd).2.2.2 = false → b + 12 * rRem (r_row rd).2 + 150 ≤ B') →
        tLd F0 F' n a1 a2 a3 a4 [vI (rows.length + 1), zr a1, zr a2, zr a3, zr a4, zr 0] l1' l2' l3' l4' → ((r_row rd).2.2.2 = false → tRws g' (rows ++ [(r_row rd).1]) l1' l2' l3' l4' ∧ ∀ (j : Nat), rows.length + 1 ≤ j → j < 54 → l3'[j]? = some (Value.int 0) ∧ l4'[j]? = some (zr 0)) →
        zP s0 m_X8_table (d + 4) 64 [some (zr x0), some (zr n), some (.int (Int32.ofNat nn)), some (.int (Int32.ofNat st)), some (.int (Int32.ofNat (st + nn))), none] [] h' Q E) :
    zP s0 m_X8_table (d + 4) 64 [some (zr x0), some (zr n), some (.int (Int32.ofNat nn)), some (.int (Int32.ofNat st)), some (.int (Int32.ofNat (st + nn))), none] [] h Q E := by
    have em := R.main hm1
    obtain ⟨A, hat⟩ : gAr g 16 0 400 (vB rd.1) ∧ rd.2.1 ≤ rd.1.length := R.2.frame
    have hl : rd.1.length ≤ 400 := by have := A.le; rwa [vB_len] at this
    obtain ⟨⟨y1, y2, y3, y4⟩, -⟩ := id T1
    have hrow := rd_row (rd := rd)
    have hrem : ∀ r : sRd, rdOk rd r → rRem r = rRem rd - (r.2.1 - rd.2.1) := fun r hr => by
      unfold rRem
      rw [hr.1]
      have := hr.2.1
      omega
    refine b_X8_table_64 (e_I em fun (z1 : gI h x0 34 = sB rd.2.2) => ?_)
    rw [z1, sB_0]
    refine ⟨fun hb2 => absurd hb hb2, fun _ => e_I em fun (z2 : gI h x0 31 = Int32.ofNat rd.2.1) => ?_⟩
    rw [z2, i_le (by omega) (by omega)]
    refine ⟨fun h2 => absurd h2 hle, fun _ => ?_⟩
    -- counted
    have ex1 := R.fc D.2.1
    refine e_I ex1 fun (z3 : gI h n 0 = Int32.ofNat rows.length) => ?_
    rw [z3]
    refine e_I ex1 fun _ => g_C ex1 ?_
    rw [i_succ, i_nat (by omega)]
    rintro h1 rfl
    have R1 := R.putL (k := 0) (v := .int (Int32.ofNat (rows.length + 1))) D.2.1
    have D1 : tLd F0 (zF1 F n (35, [vI (rows.length + 1), zr a1, zr a2, zr a3, zr a4, zr 0])) n a1 a2 a3 a4 [vI (rows.length + 1), zr a1, zr a2, zr a3, zr a4, zr 0] l1 l2 l3 l4 := D.v0 S
    have R1 : tR s0 (zF1 F n (35, [vI (rows.length + 1), zr a1, zr a2, zr a3, zr a4, zr 0])) B s (dr, sz, rd, u) g (zput h n 0 (.int (Int32.ofNat (rows.length + 1)))) := R1
    generalize zF1 F n (35, [vI (rows.length + 1), zr a1, zr a2, zr a3, zr a4, zr 0]) = F1 at R1 D1
    generalize zput h n 0 (.int (Int32.ofNat (rows.length + 1))) = h1 at R1 ⊢
    refine e_R (R1.fc D1.2.1) fun (z4 : gR h1 n 1 = a1) => ?_
    rw [z4]
    obtain ⟨B1, rfl⟩ : ∃ B1, B = B1 + 72 := ⟨B - 72, by omega⟩
    -- its name
    refine ⟨⟨_, R1.main hm1⟩, t_shortText (d := d + 2) (b := B1 + 36) R1 hm1 hE1 fun n1 g2 h2 R2 L2 B2 => ⟨_, rfl, ?_⟩⟩
    have hm2 := L2.m hm1
    have hE2 := L2.B hE1
    refine g_S (t := 22) (R2.fc D1.2.2.1) S.2.2.2.1 (zin_of (by omega) (by omega)) ⟨B2.asg R2, ?_⟩
    rintro h3 rfl
    have R3 := R2.putL (k := rows.length) (v := zr n1) D1.2.2.1
    have D3 : tLd F0 (zF1 F1 a1 (1022, l1.set rows.length (zr n1))) n a1 a2 a3 a4 [vI (rows.length + 1), zr a1, zr a2, zr a3, zr a4, zr 0] (l1.set rows.length (zr n1)) l2 l3 l4 := D1.v1 S
    generalize zF1 F1 a1 (1022, l1.set rows.length (zr n1)) = F3 at R3 D3
    generalize zput h2 a1 rows.length (zr n1) = h3 at R3 ⊢
    refine e_R (R3.fc D3.2.1) fun (z5 : gR h3 n 2 = a2) => ?_
    rw [z5]
    -- its kind
    refine ⟨⟨_, R3.main hm2⟩, t_u8 R3 hm2 fun h4 R4 => ⟨_, rfl, ?_⟩⟩
    refine g_S (t := 1) (R4.fc D3.2.2.2.1) S.2.2.2.2.1 (zin_of (by omega) (by omega)) ?_
    rintro h5 rfl
    have R5 := R4.putL (k := rows.length) (v := .int (r_u8 (r_short rd).2).1) D3.2.2.2.1
    have D5 : tLd F0 (zF1 F3 a2 (1001, l2.set rows.length (.int (r_u8 (r_short rd).2).1))) n a1 a2 a3 a4 [vI (rows.length + 1), zr a1, zr a2, zr a3, zr a4, zr 0] (l1.set rows.length (zr n1)) (l2.set rows.length (.int (r_u8 (r_short rd).2).1)) l3 l4 := D3.v2 S
    have hreq := row_eq (rd := rd)
    have hrw := hrow.1
    have hrw2 := hrow.2
    generalize (r_u8 (r_short rd).2).1 = kd at *
    generalize (r_u8 (r_short rd).2).2 = r8 at *
    generalize hnm : (r_short rd).1 = nm at *
    generalize zF1 F3 a2 (1001, l2.set rows.length (.int kd)) = F5 at R5 D5
    generalize zput h4 a2 rows.length (.int kd) = h5 at R5 ⊢
    have ex5 := R5.fc D5.2.1
    have ek := R5.fc D5.2.2.2.1
    have hkl : (l2.set rows.length (.int kd))[(Int32.ofNat rows.length).toNatClampNeg]? = some (.int kd) := by
      rw [i_nat (by omega)]
      exact List.getElem?_set_self (by omega)
    have hkz : zin (Int32.ofNat rows.length) (l2.set rows.length (.int kd)).length := zin_of (by rw [List.length_set]; omega) (by omega)
    have T5 := T1.l L2
    refine e_R ex5 fun (z6 : gR h5 n 2 = a2) => ?_
    rw [z6]
    refine g_EI (t := 1) ek hkz hkl fun z7 => ?_
    rw [z7]
    refine ⟨fun h73 => e_R ex5 fun _ => ⟨fE_of (t := 1) ek hkz hkl, ⟨fun h116 => e_R ex5 fun _ => ⟨fE_of (t := 1) ek hkz hkl, ⟨fun h83 => ?_, fun h83 => e_R ex5 fun (z8 : gR h5 n 4 = a4) => ?_⟩⟩, fun h116 => e_R ex5 fun (z8 : gR h5 n 3 = a3) => ?_⟩⟩, fun h73 => e_R ex5 fun (z8 : gR h5 n 3 = a3) => ?_⟩
    · -- none of the kinds
      have hrow2 : r_row rd = ((nm, kd, 0, []), r_bad r8) := by
        rw [hreq]
        unfold r_value
        rw [if_neg h73, if_neg h116, if_neg h83]
      refine g_Bad R5 hm2 fun h6 R6 => ?_
      have hrem2 := hrem _ hrw
      rw [hrow2] at hnext hrem2
      refine hnext _ _ _ _ _ _ g2 h6 R6 L2 (by omega) (fun hf => nomatch (show true = false from hf)) D5 fun hf => nomatch (show true = false from hf)
    · -- a text
      have hrow2 : r_row rd = ((nm, kd, 0, (r_long r8).1), (r_long r8).2) := by
        rw [hreq]
        unfold r_value
        rw [if_neg h73, if_neg h116, if_pos h83]
      rw [z8]
      refine ⟨⟨_, R5.main hm2⟩, t_longText (d := d) (b := B1) R5 hm2 hE2 fun n2 g7 h7 R7 L7 B7 => ⟨_, rfl, ?_⟩⟩
      refine g_S (t := 22) (R7.fc D5.2.2.2.2.2) S.2.2.2.2.2.2 (zin_of (by omega) (by omega)) ⟨B7.asg R7, ?_⟩
      rintro h8 rfl
      have R8 := R7.putL (k := rows.length) (v := zr n2) D5.2.2.2.2.2
      have D8 := D5.v4 S (l := l4.set rows.length (zr n2))
      have hrem2 := hrem _ hrw
      have hrp := hrw.2.1
      rw [hrow2] at hnext hrem2 hrw2 hrp
      refine hnext _ _ _ _ _ _ g7 _ R8 (L2.trans L7) (by omega) (fun hf => ?_) D8 fun hf => ⟨?_, fun j h1 h2 => ⟨(T3 j (by omega) h2).1, by rw [List.getElem?_set_ne (by omega)]; exact (T3 j (by omega) h2).2⟩⟩
      · have := (hrw2 hf).2 h83
        have h9 : rd.2.1 + 6 ≤ (r_long r8).2.2.1 := this
        have h10 : rRem (r_long r8).2 = rRem rd - ((r_long r8).2.2.1 - rd.2.1) := hrem2
        have h11 : (r_long r8).2.2.1 ≤ rd.1.length := by
          have := R7.2.frame.2
          have e1 : (r_long r8).2.1 = rd.1 := by
            have := hrw.1
            rw [hrow2] at this
            exact this
          have h12 : (r_long r8).2.2.1 ≤ (r_long r8).2.1.length := this
          rw [e1] at h12
          exact h12
        have h13 : rRem rd = rd.1.length - rd.2.1 := rfl
        show b + 12 * rRem (r_long r8).2 + 150 ≤ B1
        omega
      · exact (T5.l L7).snoc hk (L7.B B2) (fun _ => B7) rfl rfl ⟨y3, fun _ _ => rfl, (T3 _ (Nat.le_refl _) hk).1⟩ ⟨by rw [List.length_set]; exact y4, fun j hj => List.getElem?_set_ne (by omega), List.getElem?_set_self (by omega)⟩
    · -- a bit
      have hrow2 : r_row rd = ((nm, kd, (r_u8 r8).1, []), (r_u8 r8).2) := by
        rw [hreq]
        unfold r_value
        rw [if_neg h73, if_pos h116]
      rw [z8]
      refine ⟨⟨_, R5.main hm2⟩, t_u8 R5 hm2 fun h7 R7 => ⟨_, rfl, ?_⟩⟩
      refine g_S (t := 1) (R7.fc D5.2.2.2.2.1) S.2.2.2.2.2.1 (zin_of (by omega) (by omega)) ?_
      rintro h8 rfl
      have R8 := R7.putL (k := rows.length) (v := .int (r_u8 r8).1) D5.2.2.2.2.1
      have D8 := D5.v3 S (l := l3.set rows.length (.int (r_u8 r8).1))
      have hrem2 := hrem _ hrw
      have hrp := hrw.2.1
      have hrb := hrw.1
      rw [hrow2] at hnext hrem2 hrw2 hrp hrb
      have hfr := R7.2.frame.2
      clear hrow2
      generalize r_u8 r8 = q8 at hnext hrem2 hrw2 hrp hrb hfr R8 D8 ⊢
      refine hnext _ _ _ _ _ _ g2 _ R8 L2 (by omega) (fun hf => ?_) D8 fun hf => ⟨?_, fun j h1 h2 => ⟨by rw [List.getElem?_set_ne (by omega)]; exact (T3 j (by omega) h2).1, (T3 j (by omega) h2).2⟩⟩
      · have h9 : rd.2.1 + 3 ≤ q8.2.2.1 := (hrw2 hf).1
        have h10 : rRem q8.2 = rRem rd - (q8.2.2.1 - rd.2.1) := hrem2
        have h12 : q8.2.2.1 ≤ q8.2.1.length := hfr
        have e1 : q8.2.1 = rd.1 := hrb
        rw [e1] at h12
        have h13 : rRem rd = rd.1.length - rd.2.1 := rfl
        show b + 12 * rRem q8.2 + 150 ≤ B1 + 36
        omega
      · exact T5.snoc hk B2 (fun e => absurd (show kd = 83 from e) (by rw [h116]; decide)) rfl rfl ⟨by rw [List.length_set]; exact y3, fun j hj => List.getElem?_set_ne (by omega), List.getElem?_set_self (by omega)⟩ ⟨y4, fun _ _ => rfl, (T3 _ (Nat.le_refl _) hk).2⟩
    · -- a number
      have hrow2 : r_row rd = ((nm, kd, (r_u32 r8).1, []), (r_u32 r8).2) := by
        rw [hreq]
        unfold r_value
        rw [if_pos h73]
      rw [z8]
      refine ⟨⟨_, R5.main hm2⟩, t_u32 (d := d + 1) R5 hm2 fun h7 R7 => ⟨_, rfl, ?_⟩⟩
      refine g_S (t := 1) (R7.fc D5.2.2.2.2.1) S.2.2.2.2.2.1 (zin_of (by omega) (by omega)) ?_
      rintro h8 rfl
      have R8 := R7.putL (k := rows.length) (v := .int (r_u32 r8).1) D5.2.2.2.2.1
      have D8 := D5.v3 S (l := l3.set rows.length (.int (r_u32 r8).1))
      have hrem2 := hrem _ hrw
      have hrp := hrw.2.1
      have hrb := hrw.1
      rw [hrow2] at hnext hrem2 hrw2 hrp hrb
      have hfr := R7.2.frame.2
      clear hrow2
      generalize r_u32 r8 = q8 at hnext hrem2 hrw2 hrp hrb hfr R8 D8 ⊢
      refine hnext _ _ _ _ _ _ g2 _ R8 L2 (by omega) (fun hf => ?_) D8 fun hf => ⟨?_, fun j h1 h2 => ⟨by rw [List.getElem?_set_ne (by omega)]; exact (T3 j (by omega) h2).1, (T3 j (by omega) h2).2⟩⟩
      · have h9 : rd.2.1 + 3 ≤ q8.2.2.1 := (hrw2 hf).1
        have h10 : rRem q8.2 = rRem rd - (q8.2.2.1 - rd.2.1) := hrem2
        have h12 : q8.2.2.1 ≤ q8.2.1.length := hfr
        have e1 : q8.2.1 = rd.1 := hrb
        rw [e1] at h12
        have h13 : rRem rd = rd.1.length - rd.2.1 := rfl
        show b + 12 * rRem q8.2 + 150 ≤ B1 + 36
        omega
      · exact T5.snoc hk B2 (fun e => absurd (show kd = 83 from e) (by rw [h73]; decide)) rfl rfl ⟨by rw [List.length_set]; exact y3, fun j hj => List.getElem?_set_ne (by omega), List.getElem?_set_self (by omega)⟩ ⟨y4, fun _ _ => rfl, (T3 _ (Nat.le_refl _) hk).2⟩
theorem t_table_64 {st nn : Nat} {bs : sBy} {QF : List sRow × sRd} {g0 : sG} (hm : g0.kind x0 = (1, 0)) (S : tLs s0 F0 n a1 a2 a3 a4) (hE : gB g0 (zst s0 "RelayHallModel" "EMPTY" "[B") []) (hnn : nn ≤ 160) (hst : st + nn ≤ bs.length)
    (K : ∀ g1 h1, tR s0 F0 (b + 12 * rRem QF.2) s (dr, sz, (if QF.2.2.1 = st + nn then QF.2 else r_bad QF.2), u) g1 h1 → gL g0 g1 → ((if QF.2.2.1 = st + nn then QF.2 else r_bad QF.2).2.2 = false → gTab g1 n (QF.1, (bs.drop st).take nn) ∧ QF.1.length ≤ 54 ∧ rOk QF.1) → Q (zr n) h1) :
    ∀ (f : Nat) (rows : List sRow) (rd : sRd) (F : Nat → Option zC) (B : Nat) (l1 l2 l3 l4 : List Value) (g : sG) (h : zH), rows.length + f = 54 → rd.1 = bs → (rd.2.2 = false → st + 3 * rows.length ≤ rd.2.1) → tR s0 F B s (dr, sz, rd, u) g h → b + 12 * rRem rd + 36 ≤ B → (rd.2.2 = false → b + 12 * rRem rd + 150 ≤ B) →
      tLd F0 F n a1 a2 a3 a4 [vI rows.length, zr a1, zr a2, zr a3, zr a4, zr 0] l1 l2 l3 l4 → (rd.2.2 = false → tRws g rows l1 l2 l3 l4 ∧ rOk rows ∧ ∀ j, rows.length ≤ j → j < 54 → l3[j]? = some (.int 0) ∧ l4[j]? = some (zr 0)) → gL g0 g →
      QF = (rows ++ (r_rows (st + nn) f rd).1, (r_rows (st + nn) f rd).2) →
      zP s0 m_X8_table (d + 4) 64 [some (zr x0), some (zr n), some (.int (Int32.ofNat nn)), some (.int (Int32.ofNat st)), some (.int (Int32.ofNat (st + nn))), none] [] h Q E
  | f, rows, rd, F, B, l1, l2, l3, l4, g, h, hf, hbs, hp3, R, hB, hB2, D, T, L, hQ => by
    have hm1 := L.m hm
    have em := R.main hm1
    have hE1 := L.B hE
    obtain ⟨A, hat⟩ : gAr g 16 0 400 (vB rd.1) ∧ rd.2.1 ≤ rd.1.length := R.2.frame
    have hl : rd.1.length ≤ 400 := by have := A.le; rwa [vB_len] at this
    have hbl : bs.length ≤ 400 := by rw [← hbs]; exact hl
    have hend : (rd.2.2 = true ∨ st + nn ≤ rd.2.1) → zP s0 m_X8_table (d + 4) 204 [some (zr x0), some (zr n), some (.int (Int32.ofNat nn)), some (.int (Int32.ofNat st)), some (.int (Int32.ofNat (st + nn))), none] [] h Q E := fun hb => by
      rw [rows_bad hb, List.append_nil] at hQ
      subst hQ
      refine t_table_204 (d := d + 3) (b := b + 12 * rRem rd) hm1 (R.less (by omega)) S D (fun hf => (T hf).1) hE1 (by omega) hnn (by rw [hbs]; exact hst) fun g1 h1 R1 L1 T1 => K g1 h1 R1 (L.trans L1) fun hf => ?_
      have hrf : rd.2.2 = false := by
        by_cases hq : rd.2.1 = st + nn
        · rw [if_pos hq] at hf
          exact hf
        · rw [if_neg hq] at hf
          exact nomatch (show true = false from hf)
      refine ⟨?_, by show rows.length ≤ 54; omega, (T hrf).2.1⟩
      have := T1 hf
      rw [hbs] at this
      exact this
    by_cases hq : rd.2.2 = true ∨ st + nn ≤ rd.2.1
    · refine b_X8_table_64 (e_I em fun (z1 : gI h x0 34 = sB rd.2.2) => ?_)
      rw [z1, sB_0]
      refine ⟨fun hb => hend hq, fun hb => e_I em fun (z2 : gI h x0 31 = Int32.ofNat rd.2.1) => ?_⟩
      rw [z2, i_le (by omega) (by omega)]
      exact ⟨fun hle => hend hq, fun hle => absurd hq (fun hh => hh.elim (fun e => by rw [hb] at e; cases e) hle)⟩
    have hb : rd.2.2 = false := by
      cases hh : rd.2.2 with
      | false => rfl
      | true => exact absurd (Or.inl hh) hq
    have hle : ¬ st + nn ≤ rd.2.1 := fun h => hq (Or.inr h)
    have h3 := hp3 hb
    have hk : rows.length < 54 := by omega
    obtain ⟨f', rfl⟩ : ∃ f', f = f' + 1 := ⟨f - 1, by omega⟩
    rw [rows_go hb hle] at hQ
    have hQ : QF = ((rows ++ [(r_row rd).1]) ++ (r_rows (st + nn) f' (r_row rd).2).1, (r_rows (st + nn) f' (r_row rd).2).2) := by
      rw [hQ, List.append_assoc]
      rfl
    obtain ⟨T1, T2, T3⟩ := T hb
    have hrow := rd_row (rd := rd)
    have hrok := row_ok (rd := rd)
    exact t_table_row hb hle hm1 S hE1 hk R (hB2 hb) (by omega) D T1 T3 (fun F' B' l1' l2' l3' l4' g' h' R' L' hb1 hb2 D' T' => by
      have hlen : (rows ++ [(r_row rd).1]).length = rows.length + 1 := by rw [List.length_append, List.length_singleton]
      refine t_table_64 hm S hE hnn hst K f' (rows ++ [(r_row rd).1]) (r_row rd).2 F' B' l1' l2' l3' l4' g' h' (by omega) (hrow.1.1.trans hbs) (fun hf => ?_) R' hb1 hb2 (by rw [hlen]; exact D') (fun hf => ⟨(T' hf).1, fun w hw => ?_, by rw [hlen]; exact (T' hf).2⟩) (L.trans L') hQ
      · have := (hrow.2 hf).1
        omega
      · rcases List.mem_append.mp hw with hw | hw
        · exact T2 w hw
        · rw [List.mem_singleton.mp hw]
          exact hrok hf)
end ME
