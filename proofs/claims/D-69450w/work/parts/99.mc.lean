/-! ===== the twin: a table is read ===== -/
set_option maxRecDepth 100000
/-- the table's cell and its arrays, while they are filled: what does not change -/
def tLs (s0 : zE) (F0 : Nat → Option zC) (n a1 a2 a3 a4 : Nat) : Prop := (n ≠ a1 ∧ n ≠ a2 ∧ n ≠ a3 ∧ n ≠ a4 ∧ a1 ≠ a2 ∧ a1 ≠ a3 ∧ a1 ≠ a4 ∧ a2 ≠ a3 ∧ a2 ≠ a4 ∧ a3 ≠ a4) ∧ (F0 n = none ∧ F0 a1 = none ∧ F0 a2 = none ∧ F0 a3 = none ∧ F0 a4 = none) ∧
  (s0.1.heap.size < n ∧ s0.1.heap.size < a1 ∧ s0.1.heap.size < a2 ∧ s0.1.heap.size < a3 ∧ s0.1.heap.size < a4)
/-- .. and what does -/
def tLd (F0 F : Nat → Option zC) (n a1 a2 a3 a4 : Nat) (fs l1 l2 l3 l4 : List Value) : Prop := (∀ m q, F0 m = some q → F m = some q) ∧ F n = some (35, fs) ∧ F a1 = some (1022, l1) ∧ F a2 = some (1001, l2) ∧ F a3 = some (1001, l3) ∧ F a4 = some (1022, l4)
/-- what the arrays tell of rows -/
def tRws (g : sG) (rows : List sRow) (l1 l2 l3 l4 : List Value) : Prop := (l1.length = 54 ∧ l2.length = 54 ∧ l3.length = 54 ∧ l4.length = 54) ∧ ∀ (j : Nat) w, rows[j]? = some w → ∃ n1 n4 : Nat, l1[j]? = some (zr n1) ∧ gB g n1 w.1 ∧ l2[j]? = some (.int w.2.1) ∧ l3[j]? = some (.int w.2.2.1) ∧ l4[j]? = some (zr n4) ∧ (w.2.1 = 83 → gB g n4 w.2.2.2)
section MC
variable {s0 : zE} {F F0 : Nat → Option zC} {b : Nat} {s s' s1 : sSt} {w w' w1 w2 : tW} {g g' g0 : sG} {h h' : zH} {d x0 x1 x2 x3 x4 i j q m n e k c a1 a2 a3 a4 : Nat} {Q : Value → zH → Prop} {E : Nat → zH → Prop} {fs l1 l2 l3 l4 : List Value} {v : Value} {dr : sBy} {sz : Int32} {rd : sRd} {u : Int32 × Int32 × Int32 × List Nat × (Nat → Nat)} {rows : List sRow}
theorem tR.putL (R : tR s0 F b s w g h) (hF : F n = some (c, fs)) : tR s0 (zF1 F n (c, fs.set k v)) b s w g (zput h n k v) := by
  obtain ⟨⟨b1, b2, b3⟩, G⟩ := R
  obtain ⟨f1, f2, f3⟩ := b2 n _ hF
  refine ⟨⟨fun m hm => ?_, fun m q hq => ?_, b3⟩, G⟩
  · have hne : m ≠ n := fun e => hm (by rw [e]; exact f2)
    rw [zput_ne hne]
    exact b1 m hm
  · unfold zF1 at hq
    split at hq
    · rename_i e
      subst e
      rw [← Option.some.inj hq]
      exact ⟨zput_self f1, f2, f3⟩
    · rename_i e
      rw [zput_ne e]
      exact b2 m q hq
theorem tR.sub (R : tR s0 F b s w g h) (hs : ∀ m q, F0 m = some q → F m = some q) : tR s0 F0 b s w g h := ⟨⟨R.1.1, fun m q hq => R.1.2.1 m q (hs m q hq), R.1.2.2⟩, R.2⟩
theorem tR.fc (R : tR s0 F b s w g h) (hF : F n = some (c, fs)) : h.1 n = some (c, fs) := (R.1.2.1 n _ hF).1
theorem tR.un (R : tR s0 F b s w g h) (hF : F n = some (c, fs)) (h0 : F0 n = none) (hs : s0.1.heap.size < n) : zUn s0 F0 g h n c fs := ⟨(R.1.2.1 n _ hF).2.1, h0, (R.1.2.1 n _ hF).1, by omega, (R.1.2.1 n _ hF).2.2, hs⟩
theorem zF1_ne {q : zC} (hne : m ≠ n) : zF1 F n q m = F m := if_neg hne
theorem zF1_at {q : zC} : zF1 F n q n = some q := if_pos rfl
theorem tLd.v0 (S : tLs s0 F0 n a1 a2 a3 a4) (D : tLd F0 F n a1 a2 a3 a4 fs l1 l2 l3 l4) {fs' : List Value} : tLd F0 (zF1 F n (35, fs')) n a1 a2 a3 a4 fs' l1 l2 l3 l4 := by
  obtain ⟨⟨e1, e2, e3, e4, -⟩, ⟨z1, -⟩, -⟩ := S
  obtain ⟨d1, d2, d3, d4, d5, d6⟩ := D
  exact ⟨fun m q hq => by rw [zF1_ne (fun e => by rw [e, z1] at hq; cases hq)]; exact d1 m q hq, zF1_at, by rw [zF1_ne e1.symm]; exact d3, by rw [zF1_ne e2.symm]; exact d4, by rw [zF1_ne e3.symm]; exact d5, by rw [zF1_ne e4.symm]; exact d6⟩
theorem tLd.v1 (S : tLs s0 F0 n a1 a2 a3 a4) (D : tLd F0 F n a1 a2 a3 a4 fs l1 l2 l3 l4) {l : List Value} : tLd F0 (zF1 F a1 (1022, l)) n a1 a2 a3 a4 fs l l2 l3 l4 := by
  obtain ⟨⟨e1, e2, e3, e4, e5, e6, e7, e8, e9, e10⟩, ⟨z0, z1, z2, z3, z4⟩, -⟩ := S
  obtain ⟨d1, d2, d3, d4, d5, d6⟩ := D
  exact ⟨fun m q hq => by rw [zF1_ne (fun e => by rw [e, z1] at hq; cases hq)]; exact d1 m q hq, by rw [zF1_ne e1]; exact d2, zF1_at, by rw [zF1_ne e5.symm]; exact d4, by rw [zF1_ne e6.symm]; exact d5, by rw [zF1_ne e7.symm]; exact d6⟩
theorem tLd.v2 (S : tLs s0 F0 n a1 a2 a3 a4) (D : tLd F0 F n a1 a2 a3 a4 fs l1 l2 l3 l4) {l : List Value} : tLd F0 (zF1 F a2 (1001, l)) n a1 a2 a3 a4 fs l1 l l3 l4 := by
  obtain ⟨⟨e1, e2, e3, e4, e5, e6, e7, e8, e9, e10⟩, ⟨z0, z1, z2, z3, z4⟩, -⟩ := S
  obtain ⟨d1, d2, d3, d4, d5, d6⟩ := D
  exact ⟨fun m q hq => by rw [zF1_ne (fun e => by rw [e, z2] at hq; cases hq)]; exact d1 m q hq, by rw [zF1_ne e2]; exact d2, by rw [zF1_ne e5]; exact d3, zF1_at, by rw [zF1_ne e8.symm]; exact d5, by rw [zF1_ne e9.symm]; exact d6⟩
theorem tLd.v3 (S : tLs s0 F0 n a1 a2 a3 a4) (D : tLd F0 F n a1 a2 a3 a4 fs l1 l2 l3 l4) {l : List Value} : tLd F0 (zF1 F a3 (1001, l)) n a1 a2 a3 a4 fs l1 l2 l l4 := by
  obtain ⟨⟨e1, e2, e3, e4, e5, e6, e7, e8, e9, e10⟩, ⟨z0, z1, z2, z3, z4⟩, -⟩ := S
  obtain ⟨d1, d2, d3, d4, d5, d6⟩ := D
  exact ⟨fun m q hq => by rw [zF1_ne (fun e => by rw [e, z3] at hq; cases hq)]; exact d1 m q hq, by rw [zF1_ne e3]; exact d2, by rw [zF1_ne e6]; exact d3, by rw [zF1_ne e8]; exact d4, zF1_at, by rw [zF1_ne e10.symm]; exact d6⟩
theorem tLd.v4 (S : tLs s0 F0 n a1 a2 a3 a4) (D : tLd F0 F n a1 a2 a3 a4 fs l1 l2 l3 l4) {l : List Value} : tLd F0 (zF1 F a4 (1022, l)) n a1 a2 a3 a4 fs l1 l2 l3 l := by
  obtain ⟨⟨e1, e2, e3, e4, e5, e6, e7, e8, e9, e10⟩, ⟨z0, z1, z2, z3, z4⟩, -⟩ := S
  obtain ⟨d1, d2, d3, d4, d5, d6⟩ := D
  exact ⟨fun m q hq => by rw [zF1_ne (fun e => by rw [e, z4] at hq; cases hq)]; exact d1 m q hq, by rw [zF1_ne e4]; exact d2, by rw [zF1_ne e7]; exact d3, by rw [zF1_ne e9]; exact d4, by rw [zF1_ne e10]; exact d5, zF1_at⟩
/-- a table that is filled is laid by -/
theorem tab_fz {raw : sBy} {r : Nat} (R : tR s0 F b s w g h) (S : tLs s0 F0 n a1 a2 a3 a4) (D : tLd F0 F n a1 a2 a3 a4 [vI rows.length, zr a1, zr a2, zr a3, zr a4, zr r] l1 l2 l3 l4) (T : tRws g rows l1 l2 l3 l4) (hr : gB g r raw) (h54 : rows.length ≤ 54) :
    ∃ g1, tR s0 F0 b s w g1 h ∧ gL g g1 ∧ gTab g1 n (rows, raw) := by
  obtain ⟨⟨e1, e2, e3, e4, e5, e6, e7, e8, e9, e10⟩, ⟨z0, z1, z2, z3, z4⟩, y0, y1, y2, y3, y4⟩ := S
  obtain ⟨d1, d2, d3, d4, d5, d6⟩ := D
  have Rs := R.sub d1
  have U0 := R.un (F0 := F0) d2 z0 y0
  have U1 := R.un (F0 := F0) d3 z1 y1
  have U2 := R.un (F0 := F0) d4 z2 y2
  have U3 := R.un (F0 := F0) d5 z3 y3
  have U4 := R.un (F0 := F0) d6 z4 y4
  have fk : ∀ {gg : sG} {p r c' : Nat} {fs' : List Value} {qq : zC}, zUn s0 F0 gg h p c' fs' → p ≠ r → zUn s0 F0 (gFz gg r qq) h p c' fs' := fun U hne => ⟨by show (if _ = _ then _ else _ : Nat × Nat).1 = 0; rw [if_neg hne]; exact U.1, U.2⟩
  have R1 := Rs.freeze U0
  have R2 := R1.freeze (fk U1 e1.symm)
  have R3 := R2.freeze (fk (fk U2 e2.symm) e5.symm)
  have R4 := R3.freeze (fk (fk (fk U3 e3.symm) e6.symm) e8.symm)
  have R5 := R4.freeze (fk (fk (fk (fk U4 e4.symm) e7.symm) e9.symm) e10.symm)
  have L1 : gL g (gFz g n (35, [vI rows.length, zr a1, zr a2, zr a3, zr a4, zr r])) := gL.frz U0.1
  have L2 := gL.frz (g := gFz g n (35, [vI rows.length, zr a1, zr a2, zr a3, zr a4, zr r])) (q := (1022, l1)) (fk (qq := (35, [vI rows.length, zr a1, zr a2, zr a3, zr a4, zr r])) U1 e1.symm).1
  have L3 := gL.frz (q := (1001, l2)) (fk (qq := (1022, l1)) (fk (qq := (35, [vI rows.length, zr a1, zr a2, zr a3, zr a4, zr r])) U2 e2.symm) e5.symm).1
  have L4 := gL.frz (q := (1001, l3)) (fk (qq := (1001, l2)) (fk (qq := (1022, l1)) (fk (qq := (35, [vI rows.length, zr a1, zr a2, zr a3, zr a4, zr r])) U3 e3.symm) e6.symm) e8.symm).1
  have L5 := gL.frz (q := (1022, l4)) (fk (qq := (1001, l3)) (fk (qq := (1001, l2)) (fk (qq := (1022, l1)) (fk (qq := (35, [vI rows.length, zr a1, zr a2, zr a3, zr a4, zr r])) U4 e4.symm) e7.symm) e9.symm) e10.symm).1
  have L := (((L1.trans L2).trans L3).trans L4).trans L5
  obtain ⟨⟨t1, t2, t3, t4⟩, t5⟩ := T
  refine ⟨_, R5, L, a1, a2, a3, a4, r, l1, l2, l3, l4, L5.fz (L4.fz (L3.fz (L2.fz gFz_F))), L5.fz (L4.fz (L3.fz gFz_F)), L5.fz (L4.fz gFz_F), L5.fz gFz_F, gFz_F, L.B hr, t1, t2, t3, t4, h54, fun j w hw => ?_⟩
  obtain ⟨n1, n4, p1, p2, p3, p4, p5, p6⟩ := t5 j w hw
  exact ⟨n1, n4, p1, L.B p2, p3, p4, p5, fun e => L.B (p6 e)⟩
/-! what reading leaves as it was -/
def rdOk (r r' : sRd) : Prop := r'.1 = r.1 ∧ r.2.1 ≤ r'.2.1 ∧ (r.2.2 = true → r'.2.2 = true)
theorem rdOk.refl {r : sRd} : rdOk r r := ⟨rfl, Nat.le_refl _, fun h => h⟩
theorem rdOk.trans {r r' r'' : sRd} (A : rdOk r r') (B : rdOk r' r'') : rdOk r r'' := ⟨B.1.trans A.1, Nat.le_trans A.2.1 B.2.1, fun h => B.2.2 (A.2.2 h)⟩
theorem rd_bad {r : sRd} : rdOk r (r_bad r) := ⟨rfl, Nat.le_refl _, fun _ => rfl⟩
theorem rd_u8 {r : sRd} : rdOk r (r_u8 r).2 ∧ ((r_u8 r).2.2.2 = false → r.2.1 + 1 ≤ (r_u8 r).2.2.1) := by
  unfold r_u8
  split
  · exact ⟨rd_bad, fun h => nomatch h⟩
  · exact ⟨⟨rfl, Nat.le_succ _, fun h => h⟩, fun _ => Nat.le_refl _⟩
theorem rd_u16 {r : sRd} : rdOk r (r_u16 r).2 ∧ ((r_u16 r).2.2.2 = false → r.2.1 + 2 ≤ (r_u16 r).2.2.1) := by
  unfold r_u16
  obtain ⟨h1, h2⟩ := rd_u8 (r := r)
  obtain ⟨h3, h4⟩ := rd_u8 (r := (r_u8 r).2)
  refine ⟨h1.trans h3, fun hb => ?_⟩
  have h5 := h4 hb
  have h6 : (r_u8 r).2.2.2 = false := by
    cases hh : (r_u8 r).2.2.2 with
    | false => rfl
    | true => rw [h3.2.2 hh] at hb; cases hb
  have h7 := h2 h6
  show _ ≤ (r_u8 (r_u8 r).2).2.2.1
  omega
theorem rd_u32 {r : sRd} : rdOk r (r_u32 r).2 ∧ ((r_u32 r).2.2.2 = false → r.2.1 + 4 ≤ (r_u32 r).2.2.1) := by
  unfold r_u32
  obtain ⟨h1, h2⟩ := rd_u16 (r := r)
  obtain ⟨h3, h4⟩ := rd_u16 (r := (r_u16 r).2)
  refine ⟨h1.trans h3, fun hb => ?_⟩
  have h5 := h4 hb
  have h6 : (r_u16 r).2.2.2 = false := by
    cases hh : (r_u16 r).2.2.2 with
    | false => rfl
    | true => rw [h3.2.2 hh] at hb; cases hb
  have h7 := h2 h6
  show _ ≤ (r_u16 (r_u16 r).2).2.2.1
  omega
theorem rd_bytes {r : sRd} {n : Int32} : rdOk r (r_bytes n r).2 := by
  unfold r_bytes
  split
  · exact rd_bad
  · exact ⟨rfl, Nat.le_add_right _ _, fun h => h⟩
theorem rd_cut {r : sRd} {n : Int32} : rdOk r (r_cut n r).2 := by
  unfold r_cut
  split
  · exact rdOk.refl
  · exact rd_bytes
theorem rd_if {r : sRd} {p : Prop} [Decidable p] : rdOk r (if p then r_bad r else r) := by
  split
  · exact rd_bad
  · exact rdOk.refl
theorem rd_short {r : sRd} : rdOk r (r_short r).2 ∧ ((r_short r).2.2.2 = false → r.2.1 + 1 ≤ (r_short r).2.2.1) := by
  unfold r_short
  obtain ⟨h1, h2⟩ := rd_u8 (r := r)
  have h3 : rdOk (r_u8 r).2 (r_cut (r_u8 r).1 (if 40 < (r_u8 r).1 then r_bad (r_u8 r).2 else (r_u8 r).2)).2 := rd_if.trans rd_cut
  refine ⟨h1.trans h3, fun hb => ?_⟩
  have h6 : (r_u8 r).2.2.2 = false := by
    cases hh : (r_u8 r).2.2.2 with
    | false => rfl
    | true => rw [h3.2.2 hh] at hb; cases hb
  have h7 := h2 h6
  have := h3.2.1
  omega
theorem rd_long {r : sRd} : rdOk r (r_long r).2 ∧ ((r_long r).2.2.2 = false → r.2.1 + 4 ≤ (r_long r).2.2.1) := by
  unfold r_long
  obtain ⟨h1, h2⟩ := rd_u32 (r := r)
  have h3 : rdOk (r_u32 r).2 (r_cut (r_u32 r).1 (if (r_u32 r).1 < 0 ∨ 40 < (r_u32 r).1 then r_bad (r_u32 r).2 else (r_u32 r).2)).2 := rd_if.trans rd_cut
  refine ⟨h1.trans h3, fun hb => ?_⟩
  have h6 : (r_u32 r).2.2.2 = false := by
    cases hh : (r_u32 r).2.2.2 with
    | false => rfl
    | true => rw [h3.2.2 hh] at hb; cases hb
  have h7 := h2 h6
  have := h3.2.1
  omega
end MC
