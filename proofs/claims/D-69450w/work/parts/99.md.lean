/-! ===== the twin: a table is read, its walk ===== -/
set_option maxRecDepth 100000
section MD
variable {s0 : zE} {F F0 : Nat → Option zC} {b : Nat} {s s' s1 : sSt} {w w' w1 w2 : tW} {g g' g0 : sG} {h h' : zH} {d x0 x1 x2 x3 x4 i j q m n e k c a1 a2 a3 a4 : Nat} {Q : Value → zH → Prop} {E : Nat → zH → Prop} {fs l1 l2 l3 l4 : List Value} {v : Value} {dr : sBy} {sz : Int32} {rd : sRd} {u : Int32 × Int32 × Int32 × List Nat × (Nat → Nat)} {rows : List sRow}
theorem r_bytes_len {x : Int32} : (r_bytes x rd).1.length ≤ x.toNatClampNeg := by
  unfold r_bytes
  split
  · exact Nat.zero_le _
  · exact Nat.le_trans (List.length_take_le _ _) (Nat.le_refl _)
theorem clamp_le {x : Int32} {k : Nat} (hk : k < 2147483648) (hx : ¬ Int32.ofNat k < x) : x.toNatClampNeg ≤ k := i_clamp hk (Int32.not_lt.mp hx)
theorem r_short_len : (r_short rd).1.length ≤ 40 := by
  unfold r_short r_cut
  generalize r_u8 rd = q
  by_cases h40 : 40 < q.1
  · rw [if_pos h40, if_pos (show (r_bad q.2).2.2 = true from rfl)]
    exact Nat.zero_le _
  · rw [if_neg h40]
    split
    · exact Nat.zero_le _
    · exact Nat.le_trans r_bytes_len (clamp_le (k := 40) (by decide) h40)
theorem r_long_len : (r_long rd).1.length ≤ 40 := by
  unfold r_long r_cut
  generalize r_u32 rd = q
  by_cases h40 : q.1 < 0 ∨ 40 < q.1
  · rw [if_pos h40, if_pos (show (r_bad q.2).2.2 = true from rfl)]
    exact Nat.zero_le _
  · rw [if_neg h40]
    split
    · exact Nat.zero_le _
    · exact Nat.le_trans r_bytes_len (clamp_le (k := 40) (by decide) fun h => h40 (Or.inr h))
theorem rd_value {nm : sBy} {kd : Int32} : rdOk rd (r_value nm kd rd).2 ∧ ((r_value nm kd rd).2.2.2 = false → rd.2.1 + 1 ≤ (r_value nm kd rd).2.2.1 ∧ (kd = 83 → rd.2.1 + 4 ≤ (r_value nm kd rd).2.2.1)) := by
  have h32 := rd_u32 (r := rd)
  have h8 := rd_u8 (r := rd)
  have hlg := rd_long (r := rd)
  unfold r_value
  revert h32 h8 hlg
  generalize r_u32 rd = q32
  generalize r_u8 rd = q8
  generalize r_long rd = ql
  intro h32 h8 hlg
  by_cases h1 : kd = 73
  · rw [if_pos h1]
    refine ⟨h32.1, fun hb => ⟨?_, fun h => ?_⟩⟩
    · have := h32.2 hb
      show _ ≤ q32.2.2.1
      omega
    · rw [h1] at h
      exact absurd h (by decide)
  · rw [if_neg h1]
    by_cases h2 : kd = 116
    · rw [if_pos h2]
      refine ⟨h8.1, fun hb => ⟨h8.2 hb, fun h => ?_⟩⟩
      rw [h2] at h
      exact absurd h (by decide)
    · rw [if_neg h2]
      by_cases h3 : kd = 83
      · rw [if_pos h3]
        refine ⟨hlg.1, fun hb => ?_⟩
        have := hlg.2 hb
        refine ⟨?_, fun _ => this⟩
        show _ ≤ ql.2.2.1
        omega
      · rw [if_neg h3]
        exact ⟨rd_bad, fun hb => nomatch (show true = false from hb)⟩
theorem bad_mono {r r' : sRd} (H : rdOk r r') (hb : r'.2.2 = false) : r.2.2 = false := by
  cases hh : r.2.2 with
  | false => rfl
  | true => rw [H.2.2 hh] at hb; cases hb
theorem row_eq : r_row rd = r_value (r_short rd).1 (r_u8 (r_short rd).2).1 (r_u8 (r_short rd).2).2 := rfl
theorem rd_row : rdOk rd (r_row rd).2 ∧ ((r_row rd).2.2.2 = false → rd.2.1 + 3 ≤ (r_row rd).2.2.1 ∧ ((r_u8 (r_short rd).2).1 = 83 → rd.2.1 + 6 ≤ (r_row rd).2.2.1)) := by
  have h1 := rd_short (r := rd)
  have h2 := rd_u8 (r := (r_short rd).2)
  have h3 := rd_value (rd := (r_u8 (r_short rd).2).2) (nm := (r_short rd).1) (kd := (r_u8 (r_short rd).2).1)
  rw [← row_eq] at h3
  revert h1 h2 h3
  generalize r_row rd = qr
  generalize r_u8 (r_short rd).2 = q8
  generalize r_short rd = qs
  intro h1 h2 h3
  refine ⟨(h1.1.trans h2.1).trans h3.1, fun hb => ?_⟩
  have b2 := bad_mono h3.1 hb
  have b1 := bad_mono h2.1 b2
  have p1 := h1.2 b1
  have p2 := h2.2 b2
  have p3 := h3.2 hb
  refine ⟨by have := p3.1; omega, fun hk => by have := p3.2 hk; omega⟩
theorem row_ok (hb : (r_row rd).2.2.2 = false) : (r_row rd).1.1.length ≤ 40 ∧ (r_row rd).1.2.2.2.length ≤ 40 ∧ ((r_row rd).1.2.1 = 73 ∧ (r_row rd).1.2.2.2 = [] ∨ (r_row rd).1.2.1 = 116 ∧ (r_row rd).1.2.2.2 = [] ∨ (r_row rd).1.2.1 = 83 ∧ (r_row rd).1.2.2.1 = 0) := by
  rw [row_eq] at hb ⊢
  have hl := r_short_len (rd := rd)
  generalize (r_short rd).1 = nm at *
  generalize (r_u8 (r_short rd).2).1 = kd at *
  generalize (r_u8 (r_short rd).2).2 = r at *
  unfold r_value at hb ⊢
  by_cases h1 : kd = 73
  · rw [if_pos h1] at hb ⊢
    exact ⟨hl, Nat.zero_le _, Or.inl ⟨h1, rfl⟩⟩
  · rw [if_neg h1] at hb ⊢
    by_cases h2 : kd = 116
    · rw [if_pos h2] at hb ⊢
      exact ⟨hl, Nat.zero_le _, Or.inr (Or.inl ⟨h2, rfl⟩)⟩
    · rw [if_neg h2] at hb ⊢
      by_cases h3 : kd = 83
      · rw [if_pos h3] at hb ⊢
        exact ⟨hl, r_long_len, Or.inr (Or.inr ⟨h3, rfl⟩)⟩
      · rw [if_neg h3] at hb
        exact nomatch (show true = false from hb)
/-- an array of bytes may be put into an array of such -/
theorem gB.asg {x : sBy} (R : tR s0 F b s w g h) (hB : gB g n x) : zAsg h n (.array .byte) := ⟨1000, _, R.fz hB, Or.inr ⟨0, .byte, rfl, rfl, rfl⟩⟩
theorem tRws.l (T : tRws g rows l1 l2 l3 l4) (L : gL g g') : tRws g' rows l1 l2 l3 l4 := by
  refine ⟨T.1, fun j w hw => ?_⟩
  obtain ⟨n1, n4, p1, p2, p3, p4, p5, p6⟩ := T.2 j w hw
  exact ⟨n1, n4, p1, L.B p2, p3, p4, p5, fun e => L.B (p6 e)⟩
theorem tRws.snoc {n1 n4 : Nat} {row : sRow} (T : tRws g rows l1 l2 l3 l4) (h54 : rows.length < 54) (hn : gB g n1 row.1) (h4 : row.2.1 = 83 → gB g n4 row.2.2.2)
    {l1' l2' l3' l4' : List Value} (q1 : l1' = l1.set rows.length (zr n1)) (q2 : l2' = l2.set rows.length (.int row.2.1)) (q3 : (l3'.length = 54 ∧ (∀ j, j < rows.length → l3'[j]? = l3[j]?) ∧ l3'[rows.length]? = some (.int row.2.2.1))) (q4 : (l4'.length = 54 ∧ (∀ j, j < rows.length → l4'[j]? = l4[j]?) ∧ l4'[rows.length]? = some (zr n4))) :
    tRws g (rows ++ [row]) l1' l2' l3' l4' := by
  obtain ⟨⟨t1, t2, t3, t4⟩, t5⟩ := T
  subst q1 q2
  refine ⟨⟨by rw [List.length_set]; exact t1, by rw [List.length_set]; exact t2, q3.1, q4.1⟩, fun j w hw => ?_⟩
  by_cases ej : j < rows.length
  · rw [List.getElem?_append_left ej] at hw
    obtain ⟨y1, y4, p1, p2, p3, p4, p5, p6⟩ := t5 j w hw
    exact ⟨y1, y4, by rw [List.getElem?_set_ne (by omega)]; exact p1, p2, by rw [List.getElem?_set_ne (by omega)]; exact p3, by rw [q3.2.1 j ej]; exact p4, by rw [q4.2.1 j ej]; exact p5, p6⟩
  · have hj := (List.getElem?_eq_some_iff.mp hw).1
    rw [List.length_append, List.length_singleton] at hj
    have ej : j = rows.length := by omega
    subst ej
    rw [List.getElem?_append_right (Nat.le_refl _), Nat.sub_self] at hw
    obtain rfl : row = w := Option.some.inj hw
    exact ⟨n1, n4, List.getElem?_set_self (by omega), hn, List.getElem?_set_self (by omega), q3.2.2, q4.2.2, h4⟩
end MD
