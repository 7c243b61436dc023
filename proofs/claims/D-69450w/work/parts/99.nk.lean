/-! ===== reading once more: what of the ghost stays ===== -/
set_option maxRecDepth 100000
/-- things last, where names are stays, nothing but frozen cells is new -/
def gM (g g1 : sG) : Prop := gL g g1 ∧ g1.rf = g.rf ∧ ∀ n, (g1.kind n).1 ≠ 0 → (g1.kind n).1 ≠ 40 → g1.kind n = g.kind n
section GM
variable {g g' g2 : sG} {x0 : Nat}
theorem gM.refl (g : sG) : gM g g := ⟨gL.refl g, rfl, fun n _ _ => rfl⟩
theorem gM.trans (a : gM g g') (c : gM g' g2) : gM g g2 := ⟨a.1.trans c.1, c.2.1.trans a.2.1, fun n h0 h4 => by
  have e := c.2.2 n h0 h4
  rw [e] at h0 h4
  rw [e]
  exact a.2.2 n h0 h4⟩
theorem gM.m (a : gM g g') (hk : g.kind x0 = (1, 0)) : g'.kind x0 = (1, 0) := a.1.m hk
theorem gM.fz (a : gM g g') {n : Nat} {q : zC} (hk : gF g n q) : gF g' n q := a.1.fz hk
theorem gM.B (a : gM g g') {n : Nat} {x : sBy} (hk : gB g n x) : gB g' n x := a.1.B hk
theorem gM.Bo (a : gM g g') {n : Nat} {x : Option sBy} (hk : gBo g n x) : gBo g' n x := a.1.Bo hk
theorem gM.frz {n : Nat} {q : zC} (hk : (g.kind n).1 = 0) : gM g (gFz g n q) := ⟨gL.frz hk, rfl, fun m h0 h4 => by
  have e : (gFz g n q).kind m = if m = n then (40, n) else g.kind m := rfl
  rw [e] at h0 h4 ⊢
  by_cases hm : m = n
  · rw [if_pos hm] at h4
    exact absurd rfl h4
  · rw [if_neg hm]⟩
theorem gM.no (a : gM g g') {c i m : Nat} (h0 : c ≠ 0) (h4 : c ≠ 40) (hn : g.kind m ≠ (c, i)) : g'.kind m ≠ (c, i) := fun e => by
  have := a.2.2 m (by rw [e]; exact h0) (by rw [e]; exact h4)
  rw [this] at e
  exact hn e
end GM
section K60BY
variable {s0 : zE} {F : Nat → Option zC} {b : Nat} {s s' : sSt} {w w' : tW} {dr : sBy} {sz : Int32} {rd : sRd} {u : Int32 × Int32 × Int32 × List Nat × (Nat → Nat)} {g g' : sG} {h h' : zH} {d x0 x1 x2 i q m : Nat} {Q : Value → zH → Prop} {E : Nat → zH → Prop}
theorem t_bytes_lM {n n1 : Nat} (hn : rd.2.1 + n ≤ rd.1.length)
    (K : ∀ g1 h1, tR s0 F b s (dr, sz, (rd.1, rd.2.1 + n, rd.2.2), u) g1 h1 → gM g g1 → gB g1 n1 ((rd.1.drop rd.2.1).take n) → Q (zr n1) h1) :
    ∀ (k j : Nat) {h : zH}, n = j + k → tR s0 F b s (dr, sz, rd, u) g h → g.kind x0 = (1, 0) → zUn s0 F g h n1 1000 (vB ((rd.1.drop rd.2.1).take j) ++ List.replicate k (.int 0)) →
      zP s0 m_X8_bytes d 32 [some (zr x0), some (.int (Int32.ofNat n)), some (zr n1), some (.int (Int32.ofNat j))] [] h Q E
  | k, j, h, hj, R, hm, U => by
    have e := R.main hm
    obtain ⟨A, hat⟩ : gAr g 16 0 400 (vB rd.1) ∧ rd.2.1 ≤ rd.1.length := R.2.frame
    have hl : rd.1.length ≤ 400 := by have := A.le; rwa [vB_len] at this
    refine b_X8_bytes_32 ⟨fun hle => ?_, fun hle => ?_⟩
    · rw [i_le (by omega) (by omega)] at hle
      have ej : j = n := by omega
      subst ej
      have ek : k = 0 := by omega
      subst ek
      rw [List.replicate_zero, List.append_nil] at U
      refine e_I e fun (z1 : gI h x0 31 = Int32.ofNat rd.2.1) => ⟨⟨_, e⟩, ?_⟩
      rw [z1, i_add]
      rintro h1 rfl
      have R1 := R.freeze U
      have hm1 : (gFz g n1 (1000, vB ((rd.1.drop rd.2.1).take j))).kind x0 = (1, 0) := (gM.frz U.1).m hm
      refine K (gFz g n1 (1000, vB ((rd.1.drop rd.2.1).take j))) _ (R1.putM hm1 rfl (R1.2.rdw rfl hn) ⟨rfl, rfl, rfl, rfl, rfl, rfl, rfl, rfl, rfl⟩) (gM.frz U.1) gFz_F
    · rw [i_le (by omega) (by omega)] at hle
      obtain ⟨k', rfl⟩ : ∃ k', k = k' + 1 := ⟨k - 1, by omega⟩
      obtain ⟨eA, hA⟩ := R.arr (t := 0) A rfl (by decide) (by decide)
      obtain ⟨x, hx⟩ : ∃ x, rd.1[rd.2.1 + j]? = some x := ⟨_, List.getElem?_eq_getElem (by omega)⟩
      have hUl : (vB ((rd.1.drop rd.2.1).take j)).length = j := by rw [vB_len, List.length_take, List.length_drop]; omega
      refine e_R e fun z1 => e_I e fun (z2 : gI h x0 31 = Int32.ofNat rd.2.1) => ?_
      rw [z1, z2, i_add]
      refine g_EI (t := 0) eA (zin_of (by rw [A.2.1]; omega) (by omega)) (by rw [i_nat (by omega)]; exact pre_get A.2.2 (vB_get hx)) fun z3 => ?_
      rw [z3]
      refine g_S (t := 0) U.2.2.1 U.2.2.2.2.2 (zin_of (by rw [List.length_append, hUl, List.length_replicate]; omega) (by omega)) ?_
      rintro h2 rfl
      rw [i_nat (by omega), i_succ, sx_lo]
      have hlo : lo8 (sx x) = x := by
        have h : ∀ n : Fin 256, lo8 (sx (UInt8.ofBitVec (BitVec.ofFin n))) = UInt8.ofBitVec (BitVec.ofFin n) := by decide +kernel
        exact h x.toBitVec.toFin
      rw [hlo]
      refine t_bytes_lM hn K k' (j + 1) (by omega) (R.putF U.1 U.2.1) hm ⟨U.1, U.2.1, ?_, U.2.2.2⟩
      rw [zput_self U.2.2.1]
      congr 2
      rw [List.set_append_right _ _ (by omega), hUl, Nat.sub_self, List.replicate_succ, List.set_cons_zero, List.take_add_one, List.getElem?_drop, hx, vB_app, List.append_assoc]
      rfl
theorem t_bytesM {x : Int32} (R : tR s0 F (b + 36) s (dr, sz, rd, u) g h) (hm : g.kind x0 = (1, 0)) (hE : gB g (zst s0 "RelayHallModel" "EMPTY" "[B") []) (hx : x.toNatClampNeg ≤ 200)
    (K : ∀ n g1 h1, tR s0 F b s (dr, sz, (r_bytes x rd).2, u) g1 h1 → gM g g1 → gB g1 n (r_bytes x rd).1 → Q (zr n) h1) : zX s0 m_X8_bytes d [zr x0, .int x] h Q E := by
  have e := R.main hm
  obtain ⟨A, hat⟩ : gAr g 16 0 400 (vB rd.1) ∧ rd.2.1 ≤ rd.1.length := R.2.frame
  have hl : rd.1.length ≤ 400 := by have := A.le; rwa [vB_len] at this
  refine c_X8_bytes ⟨fun h0 => ?_, fun h0 => e_I e fun (z1 : gI h x0 30 = Int32.ofNat rd.1.length) => e_I e fun (z2 : gI h x0 31 = Int32.ofNat rd.2.1) => ?_⟩
  · have er : r_bytes x rd = ([], r_bad rd) := if_pos (Or.inl h0)
    rw [er] at K
    exact g_Bad R hm fun h1 R1 => K _ g h1 (R1.less (Nat.le_add_right _ _)) (gM.refl g) hE
  · rw [z1, z2, i_sub hat]
    have hx0 : 0 ≤ x := Int32.not_lt.mp h0
    have ex : x = Int32.ofNat x.toNatClampNeg := (i_of hx0).symm
    generalize x.toNatClampNeg = n at *
    subst ex
    rw [i_le (by omega) (by omega)]
    refine ⟨fun hle => ⟨h0, ?_⟩, fun hle => ?_⟩
    · have hnn : (Int32.ofNat n).toNatClampNeg = n := i_nat (by omega)
      have er : r_bytes (Int32.ofNat n) rd = ((rd.1.drop rd.2.1).take n, (rd.1, rd.2.1 + n, rd.2.2)) := by
        unfold r_bytes
        rw [hnn, if_neg (by rintro (e1 | e1); exact h0 e1; omega)]
      rw [er] at K
      refine g_N (u := 36) R (by omega) (by omega) R.big fun n1 h1 R1 U1 => ?_
      exact t_bytes_lM (n := n) (by omega) (fun g1 h2 R2 L2 B2 => K n1 g1 h2 R2 L2 B2) n 0 (by omega) R1 hm U1
    · have er : r_bytes (Int32.ofNat n) rd = ([], r_bad rd) := by
        unfold r_bytes
        rw [i_nat (by omega), if_pos (Or.inr (by omega))]
      rw [er] at K
      exact g_Bad R hm fun h1 R1 => K _ g h1 (R1.less (Nat.le_add_right _ _)) (gM.refl g) hE
theorem t_short16M {x : Int32} (R : tR s0 F (b + 36) s (dr, sz, rd, u) g h) (hm : g.kind x0 = (1, 0)) (hE : gB g (zst s0 "RelayHallModel" "EMPTY" "[B") []) (hx : rd.2.2 = false → x.toNatClampNeg ≤ 200)
    (K : ∀ n g1 h1, tR s0 F b s (dr, sz, (r_cut x rd).2, u) g1 h1 → gM g g1 → gB g1 n (r_cut x rd).1 → Q (zr n) h1) : zP s0 m_X8_shortText (d + 1) 16 [some (zr x0), some (.int x)] [] h Q E := by
  have e := R.main hm
  refine b_X8_shortText_16 (e_I e fun (z1 : gI h x0 34 = sB rd.2.2) => ?_)
  rw [z1, sB_0]
  unfold r_cut at K
  constructor
  · intro hb
    rw [hb, if_neg (by decide)] at K
    exact ⟨⟨_, e⟩, t_bytesM R hm hE (hx hb) fun n g1 h1 R1 L1 B1 => ⟨n, rfl, K n g1 h1 R1 L1 B1⟩⟩
  · intro hb
    rw [Bool.not_eq_false] at hb
    rw [hb, if_pos rfl] at K
    exact K _ g h (R.less (Nat.le_add_right _ _)) (gM.refl g) hE
theorem t_shortTextM (R : tR s0 F (b + 36) s (dr, sz, rd, u) g h) (hm : g.kind x0 = (1, 0)) (hE : gB g (zst s0 "RelayHallModel" "EMPTY" "[B") [])
    (K : ∀ n g1 h1, tR s0 F b s (dr, sz, (r_short rd).2, u) g1 h1 → gM g g1 → gB g1 n (r_short rd).1 → Q (zr n) h1) : zX s0 m_X8_shortText (d + 1) [zr x0] h Q E := by
  refine c_X8_shortText ⟨⟨_, R.main hm⟩, t_u8 R hm fun h1 R1 => ⟨_, rfl, ?_⟩⟩
  unfold r_short at K
  revert R1 K
  generalize r_u8 rd = r
  intro K R1
  rw [show (40 : Int32) = Int32.ofNat 40 from rfl] at *
  by_cases hr : r.1 ≤ Int32.ofNat 40
  · rw [if_neg (Int32.not_lt.mpr hr)] at K
    exact ⟨fun _ => t_short16M R1 hm hE (fun _ => Nat.le_trans (i_clamp (by decide) hr) (by decide)) K, fun hn => absurd hr hn⟩
  · rw [if_pos (Int32.not_le.mp hr)] at K
    refine ⟨fun hn => absurd hn hr, fun _ => g_Bad R1 hm fun h2 R2 => t_short16M R2 hm hE (fun hn => ?_) K⟩
    exact nomatch (show true = false from hn)
theorem t_long20M {x : Int32} (R : tR s0 F (b + 36) s (dr, sz, rd, u) g h) (hm : g.kind x0 = (1, 0)) (hE : gB g (zst s0 "RelayHallModel" "EMPTY" "[B") []) (hx : rd.2.2 = false → x.toNatClampNeg ≤ 200)
    (K : ∀ n g1 h1, tR s0 F b s (dr, sz, (r_cut x rd).2, u) g1 h1 → gM g g1 → gB g1 n (r_cut x rd).1 → Q (zr n) h1) : zP s0 m_X8_longText (d + 1) 20 [some (zr x0), some (.int x)] [] h Q E := by
  have e := R.main hm
  refine b_X8_longText_20 (e_I e fun (z1 : gI h x0 34 = sB rd.2.2) => ?_)
  rw [z1, sB_0]
  unfold r_cut at K
  constructor
  · intro hb
    rw [hb, if_neg (by decide)] at K
    exact ⟨⟨_, e⟩, t_bytesM R hm hE (hx hb) fun n g1 h1 R1 L1 B1 => ⟨n, rfl, K n g1 h1 R1 L1 B1⟩⟩
  · intro hb
    rw [Bool.not_eq_false] at hb
    rw [hb, if_pos rfl] at K
    exact K _ g h (R.less (Nat.le_add_right _ _)) (gM.refl g) hE
theorem t_longTextM (R : tR s0 F (b + 36) s (dr, sz, rd, u) g h) (hm : g.kind x0 = (1, 0)) (hE : gB g (zst s0 "RelayHallModel" "EMPTY" "[B") [])
    (K : ∀ n g1 h1, tR s0 F b s (dr, sz, (r_long rd).2, u) g1 h1 → gM g g1 → gB g1 n (r_long rd).1 → Q (zr n) h1) : zX s0 m_X8_longText (d + 3) [zr x0] h Q E := by
  refine c_X8_longText ⟨⟨_, R.main hm⟩, t_u32 R hm fun h1 R1 => ⟨_, rfl, ?_⟩⟩
  unfold r_long at K
  revert R1 K
  generalize r_u32 rd = r
  intro K R1
  have h40 : (40 : Int32) = Int32.ofNat 40 := rfl
  rw [h40] at K ⊢
  by_cases h0 : r.1 < 0
  · rw [if_pos (Or.inl h0)] at K
    exact ⟨fun _ => b_X8_longText_15 (g_Bad R1 hm fun h2 R2 => t_long20M R2 hm hE (fun hn => nomatch (show true = false from hn)) K), fun hn => absurd h0 hn⟩
  · refine ⟨fun hn => absurd hn h0, fun _ => ?_⟩
    by_cases hr : r.1 ≤ Int32.ofNat 40
    · rw [if_neg (by rintro (e1 | e1); exact h0 e1; exact absurd hr (Int32.not_le.mpr e1))] at K
      exact ⟨fun _ => t_long20M R1 hm hE (fun _ => Nat.le_trans (i_clamp (by decide) hr) (by decide)) K, fun hn => absurd hr hn⟩
    · rw [if_pos (Or.inr (Int32.not_le.mp hr))] at K
      exact ⟨fun hn => absurd hn hr, fun _ => b_X8_longText_15 (g_Bad R1 hm fun h2 R2 => t_long20M R2 hm hE (fun hn => nomatch (show true = false from hn)) K)⟩
end K60BY
section K99MC
variable {s0 : zE} {F F0 : Nat → Option zC} {b : Nat} {s s' s1 : sSt} {w w' w1 w2 : tW} {g g' g0 : sG} {h h' : zH} {d x0 x1 x2 x3 x4 i j q m n e k c a1 a2 a3 a4 : Nat} {Q : Value → zH → Prop} {E : Nat → zH → Prop} {fs l1 l2 l3 l4 : List Value} {v : Value} {dr : sBy} {sz : Int32} {rd : sRd} {u : Int32 × Int32 × Int32 × List Nat × (Nat → Nat)} {rows : List sRow}
theorem tab_fzM {raw : sBy} {r : Nat} (R : tR s0 F b s w g h) (S : tLs s0 F0 n a1 a2 a3 a4) (D : tLd F0 F n a1 a2 a3 a4 [vI rows.length, zr a1, zr a2, zr a3, zr a4, zr r] l1 l2 l3 l4) (T : tRws g rows l1 l2 l3 l4) (hr : gB g r raw) (h54 : rows.length ≤ 54) :
    ∃ g1, tR s0 F0 b s w g1 h ∧ gM g g1 ∧ gTab g1 n (rows, raw) := by
  obtain ⟨⟨e1, e2, e3, e4, e5, e6, e7, e8, e9, e10⟩, ⟨z0, z1, z2, z3, z4⟩, y0, y1, y2, y3, y4⟩ := S
  obtain ⟨d1, d2, d3, d4, d5, d6⟩ := D
  have Rs := R.sub d1
  have U0 := R.un (F0 := F0) d2 z0 y0
  have U1 := R.un (F0 := F0) d3 z1 y1
  have U2 := R.un (F0 := F0) d4 z2 y2
  have U3 := R.un (F0 := F0) d5 z3 y3
  have U4 := R.un (F0 := F0) d6 z4 y4
  have fk : ∀ {gg : sG} {p r c' : Nat} {fs' : List Value} {qq : zC}, zUn s0 F0 gg h p c' fs' → p ≠ r → zUn s0 F0 (gFz gg r qq) h p c' fs' := fun U hne => ⟨by show (if _ = _ then _ else _ : Nat × Nat).1 = 0; rw [if_neg hne]; exact U.1, U.2⟩
  have R1 := Rs.freeze U0
  have R2 := R1.freeze (fk U1 e1.symm)
  have R3 := R2.freeze (fk (fk U2 e2.symm) e5.symm)
  have R4 := R3.freeze (fk (fk (fk U3 e3.symm) e6.symm) e8.symm)
  have R5 := R4.freeze (fk (fk (fk (fk U4 e4.symm) e7.symm) e9.symm) e10.symm)
  have L1 : gM g (gFz g n (35, [vI rows.length, zr a1, zr a2, zr a3, zr a4, zr r])) := gM.frz U0.1
  have L2 := gM.frz (g := gFz g n (35, [vI rows.length, zr a1, zr a2, zr a3, zr a4, zr r])) (q := (1022, l1)) (fk (qq := (35, [vI rows.length, zr a1, zr a2, zr a3, zr a4, zr r])) U1 e1.symm).1
  have L3 := gM.frz (q := (1001, l2)) (fk (qq := (1022, l1)) (fk (qq := (35, [vI rows.length, zr a1, zr a2, zr a3, zr a4, zr r])) U2 e2.symm) e5.symm).1
  have L4 := gM.frz (q := (1001, l3)) (fk (qq := (1001, l2)) (fk (qq := (1022, l1)) (fk (qq := (35, [vI rows.length, zr a1, zr a2, zr a3, zr a4, zr r])) U3 e3.symm) e6.symm) e8.symm).1
  have L5 := gM.frz (q := (1022, l4)) (fk (qq := (1001, l3)) (fk (qq := (1001, l2)) (fk (qq := (1022, l1)) (fk (qq := (35, [vI rows.length, zr a1, zr a2, zr a3, zr a4, zr r])) U4 e4.symm) e7.symm) e9.symm) e10.symm).1
  have L := (((L1.trans L2).trans L3).trans L4).trans L5
  obtain ⟨⟨t1, t2, t3, t4⟩, t5⟩ := T
  refine ⟨_, R5, L, a1, a2, a3, a4, r, l1, l2, l3, l4, L5.fz (L4.fz (L3.fz (L2.fz gFz_F))), L5.fz (L4.fz (L3.fz gFz_F)), L5.fz (L4.fz gFz_F), L5.fz gFz_F, gFz_F, L.B hr, t1, t2, t3, t4, h54, fun j w hw => ?_⟩
  obtain ⟨n1, n4, p1, p2, p3, p4, p5, p6⟩ := t5 j w hw
  exact ⟨n1, n4, p1, L.B p2, p3, p4, p5, fun e => L.B (p6 e)⟩
/-! what reading leaves as it was -/
end K99MC
section K99ME
variable {s0 : zE} {F F0 : Nat → Option zC} {b : Nat} {s s' s1 : sSt} {w w' w1 w2 : tW} {g g' g0 : sG} {h h' : zH} {d x0 x1 x2 x3 x4 i j q m n e k c a1 a2 a3 a4 : Nat} {Q : Value → zH → Prop} {E : Nat → zH → Prop} {fs l1 l2 l3 l4 : List Value} {v : Value} {dr : sBy} {sz : Int32} {rd : sRd} {u : Int32 × Int32 × Int32 × List Nat × (Nat → Nat)} {rows : List sRow}
theorem t_table_218M {st nn : Nat} {rd : sRd} (hm : g.kind x0 = (1, 0)) (R : tR s0 F (b + 36) s (dr, sz, rd, u) g h) (S : tLs s0 F0 n a1 a2 a3 a4) (D : tLd F0 F n a1 a2 a3 a4 [vI rows.length, zr a1, zr a2, zr a3, zr a4, zr 0] l1 l2 l3 l4) (T : rd.2.2 = false → tRws g rows l1 l2 l3 l4) (hE : gB g (zst s0 "RelayHallModel" "EMPTY" "[B") []) (h54 : rows.length ≤ 54) (hnn : nn ≤ 160) (hst : st + nn ≤ rd.1.length) (hpos : rd.2.2 = false → rd.2.1 = st + nn)
    (K : ∀ g1 h1, tR s0 F0 b s (dr, sz, rd, u) g1 h1 → gM g g1 → (rd.2.2 = false → gTab g1 n (rows, (rd.1.drop st).take nn)) → Q (zr n) h1) :
    zP s0 m_X8_table (d + 1) 218 [some (zr x0), some (zr n), some (.int (Int32.ofNat nn)), some (.int (Int32.ofNat st)), none, none] [] h Q E := by
  have em := R.main hm
  refine b_X8_table_218 (e_I em fun (z1 : gI h x0 34 = sB rd.2.2) => ?_)
  rw [z1, sB_0]
  refine ⟨fun hb => ?_, fun hb => ?_⟩
  · refine g_PM R hm s (dr, sz, (rd.1, st, rd.2.2), u) rfl (R.2.rdw rfl (by show st ≤ rd.1.length; omega)) ⟨rfl, rfl, rfl, rfl, rfl, rfl, rfl, rfl, rfl⟩ fun h1 R1 _ => ⟨⟨_, R1.main hm⟩, ?_⟩
    have hr : r_bytes (Int32.ofNat nn) (rd.1, st, rd.2.2) = ((rd.1.drop st).take nn, (rd.1, st + nn, rd.2.2)) := by
      unfold r_bytes
      rw [i_nat (by omega), if_neg]
      rintro (h | h)
      · exact i_nn (by omega) h
      · have h : rd.1.length < st + nn := h
        omega
    refine t_bytesM (x := Int32.ofNat nn) R1 hm hE (by rw [i_nat (by omega)]; omega) fun r g2 h2 R2 L2 B2 => ⟨_, rfl, ?_⟩
    rw [hr] at R2 B2
    have hrd : (rd.1, st + nn, rd.2.2) = rd := by
      rw [← hpos hb]
    have R2 : tR s0 F b s (dr, sz, (rd.1, st + nn, rd.2.2), u) g2 h2 := R2
    rw [hrd] at R2
    have B2 : gB g2 r ((rd.1.drop st).take nn) := B2
    refine g_C (R2.fc D.2.1) ?_
    rintro h3 rfl
    have R3 := R2.putL (k := 5) (v := zr r) D.2.1
    have D3 : tLd F0 (zF1 F n (35, [vI rows.length, zr a1, zr a2, zr a3, zr a4, zr r])) n a1 a2 a3 a4 [vI rows.length, zr a1, zr a2, zr a3, zr a4, zr r] l1 l2 l3 l4 := D.v0 S
    obtain ⟨g4, R4, L4, T4⟩ := tab_fzM R3 S D3 ((T hb).l L2.1) B2 h54
    exact K g4 _ R4 (L2.trans L4) fun _ => T4
  · exact K g h (((R.less (by omega)).sub D.1)) (gM.refl g) fun hf => absurd hf hb
theorem t_table_204M {st nn : Nat} {rd : sRd} (hm : g.kind x0 = (1, 0)) (R : tR s0 F (b + 36) s (dr, sz, rd, u) g h) (S : tLs s0 F0 n a1 a2 a3 a4) (D : tLd F0 F n a1 a2 a3 a4 [vI rows.length, zr a1, zr a2, zr a3, zr a4, zr 0] l1 l2 l3 l4) (T : rd.2.2 = false → tRws g rows l1 l2 l3 l4) (hE : gB g (zst s0 "RelayHallModel" "EMPTY" "[B") []) (h54 : rows.length ≤ 54) (hnn : nn ≤ 160) (hst : st + nn ≤ rd.1.length)
    (K : ∀ g1 h1, tR s0 F0 b s (dr, sz, (if rd.2.1 = st + nn then rd else r_bad rd), u) g1 h1 → gM g g1 → ((if rd.2.1 = st + nn then rd else r_bad rd).2.2 = false → gTab g1 n (rows, (rd.1.drop st).take nn)) → Q (zr n) h1) :
    zP s0 m_X8_table (d + 1) 204 [some (zr x0), some (zr n), some (.int (Int32.ofNat nn)), some (.int (Int32.ofNat st)), some (.int (Int32.ofNat (st + nn))), none] [] h Q E := by
  have em := R.main hm
  obtain ⟨A, hat⟩ : gAr g 16 0 400 (vB rd.1) ∧ rd.2.1 ≤ rd.1.length := R.2.frame
  have hl : rd.1.length ≤ 400 := by have := A.le; rwa [vB_len] at this
  refine b_X8_table_204 (e_I em fun (z1 : gI h x0 31 = Int32.ofNat rd.2.1) => ?_)
  rw [z1, i_inj (by omega) (by omega)]
  refine ⟨fun he => ?_, fun hne => ?_⟩
  · rw [if_pos he] at K
    exact t_table_218M hm R S D T hE h54 hnn hst (fun _ => he) K
  · rw [if_neg hne] at K
    exact g_Bad R hm fun h1 R1 => t_table_218M (rd := r_bad rd) hm R1 S D (fun hf => nomatch (show true = false from hf)) hE h54 hnn hst (fun hf => nomatch (show true = false from hf)) K
theorem t_table_rowM {st nn B : Nat} (hb : rd.2.2 = false) (hle : ¬ st + nn ≤ rd.2.1) (hm1 : g.kind x0 = (1, 0)) (S : tLs s0 F0 n a1 a2 a3 a4) (hE1 : gB g (zst s0 "RelayHallModel" "EMPTY" "[B") []) (hk : rows.length < 54) (R : tR s0 F B s (dr, sz, rd, u) g h) (hB3 : b + 12 * rRem rd + 150 ≤ B) (hfin : st + nn ≤ 400)
    (D : tLd F0 F n a1 a2 a3 a4 [vI rows.length, zr a1, zr a2, zr a3, zr a4, zr 0] l1 l2 l3 l4) (T1 : tRws g rows l1 l2 l3 l4) (T3 : ∀ (j : Nat), rows.length ≤ j → j < 54 → l3[j]? = some (Value.int 0) ∧ l4[j]? = some (zr 0))
    (hnext : ∀ (F' : Nat → Option zC) (B' : Nat) (l1' l2' l3' l4' : List Value) (g' : sG) (h' : zH), tR s0 F' B' s (dr, sz, (r_row rd).2, u) g' h' → gM g g' → (b + 12 * rRem (r_row rd).2 + 36 ≤ B') → ((r_row rd).2.2.2 = false → b + 12 * rRem (r_row rd).2 + 150 ≤ B') →
        tLd F0 F' n a1 a2 a3 a4 [vI (rows.length + 1), zr a1, zr a2, zr a3, zr a4, zr 0] l1' l2' l3' l4' → ((r_row rd).2.2.2 = false → tRws g' (rows ++ [(r_row rd).1]) l1' l2' l3' l4' ∧ ∀ (j : Nat), rows.length + 1 ≤ j → j < 54 → l3'[j]? = some (Value.int 0) ∧ l4'[j]? = some (zr 0)) →
        zP s0 m_X8_table (d + 4) 64 [some (zr x0), some (zr n), some (.int (Int32.ofNat nn)), some (.int (Int32.ofNat st)), some (.int (Int32.ofNat (st + nn))), none] [] h' Q E) :
    zP s0 m_X8_table (d + 4) 64 [some (zr x0), some (zr n), some (.int (Int32.ofNat nn)), some (.int (Int32.ofNat st)), some (.int (Int32.ofNat (st + nn))), none] [] h Q E := by
    have em := R.main hm1
    obtain ⟨A, hat⟩ : gAr g 16 0 400 (vB rd.1) ∧ rd.2.1 ≤ rd.1.length := R.2.frame
    have hl : rd.1.length ≤ 400 := by have := A.le; rwa [vB_len] at this
    obtain ⟨⟨y1, y2, y3, y4⟩, -⟩ := id T1
    have hrow := rd_row (rd := rd)
    have hrem : ∀ r : sRd, rdOk rd r → rRem r = rRem rd - (r.2.1 - rd.2.1) := fun r hr => by
      unfold rRem
      rw [hr.1]
      have := hr.2.1
      omega
    refine b_X8_table_64 (e_I em fun (z1 : gI h x0 34 = sB rd.2.2) => ?_)
    rw [z1, sB_0]
    refine ⟨fun hb2 => absurd hb hb2, fun _ => e_I em fun (z2 : gI h x0 31 = Int32.ofNat rd.2.1) => ?_⟩
    rw [z2, i_le (by omega) (by omega)]
    refine ⟨fun h2 => absurd h2 hle, fun _ => ?_⟩
    -- counted
    have ex1 := R.fc D.2.1
    refine e_I ex1 fun (z3 : gI h n 0 = Int32.ofNat rows.length) => ?_
    rw [z3]
    refine e_I ex1 fun _ => g_C ex1 ?_
    rw [i_succ, i_nat (by omega)]
    rintro h1 rfl
    have R1 := R.putL (k := 0) (v := .int (Int32.ofNat (rows.length + 1))) D.2.1
    have D1 : tLd F0 (zF1 F n (35, [vI (rows.length + 1), zr a1, zr a2, zr a3, zr a4, zr 0])) n a1 a2 a3 a4 [vI (rows.length + 1), zr a1, zr a2, zr a3, zr a4, zr 0] l1 l2 l3 l4 := D.v0 S
    have R1 : tR s0 (zF1 F n (35, [vI (rows.length + 1), zr a1, zr a2, zr a3, zr a4, zr 0])) B s (dr, sz, rd, u) g (zput h n 0 (.int (Int32.ofNat (rows.length + 1)))) := R1
    generalize zF1 F n (35, [vI (rows.length + 1), zr a1, zr a2, zr a3, zr a4, zr 0]) = F1 at R1 D1
    generalize zput h n 0 (.int (Int32.ofNat (rows.length + 1))) = h1 at R1 ⊢
    refine e_R (R1.fc D1.2.1) fun (z4 : gR h1 n 1 = a1) => ?_
    rw [z4]
    obtain ⟨B1, rfl⟩ : ∃ B1, B = B1 + 72 := ⟨B - 72, by omega⟩
    -- its name
    refine ⟨⟨_, R1.main hm1⟩, t_shortTextM (d := d + 2) (b := B1 + 36) R1 hm1 hE1 fun n1 g2 h2 R2 L2 B2 => ⟨_, rfl, ?_⟩⟩
    have hm2 := L2.m hm1
    have hE2 := L2.B hE1
    refine g_S (t := 22) (R2.fc D1.2.2.1) S.2.2.2.1 (zin_of (by omega) (by omega)) ⟨B2.asg R2, ?_⟩
    rintro h3 rfl
    have R3 := R2.putL (k := rows.length) (v := zr n1) D1.2.2.1
    have D3 : tLd F0 (zF1 F1 a1 (1022, l1.set rows.length (zr n1))) n a1 a2 a3 a4 [vI (rows.length + 1), zr a1, zr a2, zr a3, zr a4, zr 0] (l1.set rows.length (zr n1)) l2 l3 l4 := D1.v1 S
    generalize zF1 F1 a1 (1022, l1.set rows.length (zr n1)) = F3 at R3 D3
    generalize zput h2 a1 rows.length (zr n1) = h3 at R3 ⊢
    refine e_R (R3.fc D3.2.1) fun (z5 : gR h3 n 2 = a2) => ?_
    rw [z5]
    -- its kind
    refine ⟨⟨_, R3.main hm2⟩, t_u8 R3 hm2 fun h4 R4 => ⟨_, rfl, ?_⟩⟩
    refine g_S (t := 1) (R4.fc D3.2.2.2.1) S.2.2.2.2.1 (zin_of (by omega) (by omega)) ?_
    rintro h5 rfl
    have R5 := R4.putL (k := rows.length) (v := .int (r_u8 (r_short rd).2).1) D3.2.2.2.1
    have D5 : tLd F0 (zF1 F3 a2 (1001, l2.set rows.length (.int (r_u8 (r_short rd).2).1))) n a1 a2 a3 a4 [vI (rows.length + 1), zr a1, zr a2, zr a3, zr a4, zr 0] (l1.set rows.length (zr n1)) (l2.set rows.length (.int (r_u8 (r_short rd).2).1)) l3 l4 := D3.v2 S
    have hreq := row_eq (rd := rd)
    have hrw := hrow.1
    have hrw2 := hrow.2
    generalize (r_u8 (r_short rd).2).1 = kd at *
    generalize (r_u8 (r_short rd).2).2 = r8 at *
    generalize hnm : (r_short rd).1 = nm at *
    generalize zF1 F3 a2 (1001, l2.set rows.length (.int kd)) = F5 at R5 D5
    generalize zput h4 a2 rows.length (.int kd) = h5 at R5 ⊢
    have ex5 := R5.fc D5.2.1
    have ek := R5.fc D5.2.2.2.1
    have hkl : (l2.set rows.length (.int kd))[(Int32.ofNat rows.length).toNatClampNeg]? = some (.int kd) := by
      rw [i_nat (by omega)]
      exact List.getElem?_set_self (by omega)
    have hkz : zin (Int32.ofNat rows.length) (l2.set rows.length (.int kd)).length := zin_of (by rw [List.length_set]; omega) (by omega)
    have T5 := T1.l L2.1
    refine e_R ex5 fun (z6 : gR h5 n 2 = a2) => ?_
    rw [z6]
    refine g_EI (t := 1) ek hkz hkl fun z7 => ?_
    rw [z7]
    refine ⟨fun h73 => e_R ex5 fun _ => ⟨fE_of (t := 1) ek hkz hkl, ⟨fun h116 => e_R ex5 fun _ => ⟨fE_of (t := 1) ek hkz hkl, ⟨fun h83 => ?_, fun h83 => e_R ex5 fun (z8 : gR h5 n 4 = a4) => ?_⟩⟩, fun h116 => e_R ex5 fun (z8 : gR h5 n 3 = a3) => ?_⟩⟩, fun h73 => e_R ex5 fun (z8 : gR h5 n 3 = a3) => ?_⟩
    · -- none of the kinds
      have hrow2 : r_row rd = ((nm, kd, 0, []), r_bad r8) := by
        rw [hreq]
        unfold r_value
        rw [if_neg h73, if_neg h116, if_neg h83]
      refine g_Bad R5 hm2 fun h6 R6 => ?_
      have hrem2 := hrem _ hrw
      rw [hrow2] at hnext hrem2
      refine hnext _ _ _ _ _ _ g2 h6 R6 L2 (by omega) (fun hf => nomatch (show true = false from hf)) D5 fun hf => nomatch (show true = false from hf)
    · -- a text
      have hrow2 : r_row rd = ((nm, kd, 0, (r_long r8).1), (r_long r8).2) := by
        rw [hreq]
        unfold r_value
        rw [if_neg h73, if_neg h116, if_pos h83]
      rw [z8]
      refine ⟨⟨_, R5.main hm2⟩, t_longTextM (d := d) (b := B1) R5 hm2 hE2 fun n2 g7 h7 R7 L7 B7 => ⟨_, rfl, ?_⟩⟩
      refine g_S (t := 22) (R7.fc D5.2.2.2.2.2) S.2.2.2.2.2.2 (zin_of (by omega) (by omega)) ⟨B7.asg R7, ?_⟩
      rintro h8 rfl
      have R8 := R7.putL (k := rows.length) (v := zr n2) D5.2.2.2.2.2
      have D8 := D5.v4 S (l := l4.set rows.length (zr n2))
      have hrem2 := hrem _ hrw
      have hrp := hrw.2.1
      rw [hrow2] at hnext hrem2 hrw2 hrp
      refine hnext _ _ _ _ _ _ g7 _ R8 (L2.trans L7) (by omega) (fun hf => ?_) D8 fun hf => ⟨?_, fun j h1 h2 => ⟨(T3 j (by omega) h2).1, by rw [List.getElem?_set_ne (by omega)]; exact (T3 j (by omega) h2).2⟩⟩
      · have := (hrw2 hf).2 h83
        have h9 : rd.2.1 + 6 ≤ (r_long r8).2.2.1 := this
        have h10 : rRem (r_long r8).2 = rRem rd - ((r_long r8).2.2.1 - rd.2.1) := hrem2
        have h11 : (r_long r8).2.2.1 ≤ rd.1.length := by
          have := R7.2.frame.2
          have e1 : (r_long r8).2.1 = rd.1 := by
            have := hrw.1
            rw [hrow2] at this
            exact this
          have h12 : (r_long r8).2.2.1 ≤ (r_long r8).2.1.length := this
          rw [e1] at h12
          exact h12
        have h13 : rRem rd = rd.1.length - rd.2.1 := rfl
        show b + 12 * rRem (r_long r8).2 + 150 ≤ B1
        omega
      · exact (T5.l L7.1).snoc hk (L7.B B2) (fun _ => B7) rfl rfl ⟨y3, fun _ _ => rfl, (T3 _ (Nat.le_refl _) hk).1⟩ ⟨by rw [List.length_set]; exact y4, fun j hj => List.getElem?_set_ne (by omega), List.getElem?_set_self (by omega)⟩
    · -- a bit
      have hrow2 : r_row rd = ((nm, kd, (r_u8 r8).1, []), (r_u8 r8).2) := by
        rw [hreq]
        unfold r_value
        rw [if_neg h73, if_pos h116]
      rw [z8]
      refine ⟨⟨_, R5.main hm2⟩, t_u8 R5 hm2 fun h7 R7 => ⟨_, rfl, ?_⟩⟩
      refine g_S (t := 1) (R7.fc D5.2.2.2.2.1) S.2.2.2.2.2.1 (zin_of (by omega) (by omega)) ?_
      rintro h8 rfl
      have R8 := R7.putL (k := rows.length) (v := .int (r_u8 r8).1) D5.2.2.2.2.1
      have D8 := D5.v3 S (l := l3.set rows.length (.int (r_u8 r8).1))
      have hrem2 := hrem _ hrw
      have hrp := hrw.2.1
      have hrb := hrw.1
      rw [hrow2] at hnext hrem2 hrw2 hrp hrb
      have hfr := R7.2.frame.2
      clear hrow2
      generalize r_u8 r8 = q8 at hnext hrem2 hrw2 hrp hrb hfr R8 D8 ⊢
      refine hnext _ _ _ _ _ _ g2 _ R8 L2 (by omega) (fun hf => ?_) D8 fun hf => ⟨?_, fun j h1 h2 => ⟨by rw [List.getElem?_set_ne (by omega)]; exact (T3 j (by omega) h2).1, (T3 j (by omega) h2).2⟩⟩
      · have h9 : rd.2.1 + 3 ≤ q8.2.2.1 := (hrw2 hf).1
        have h10 : rRem q8.2 = rRem rd - (q8.2.2.1 - rd.2.1) := hrem2
        have h12 : q8.2.2.1 ≤ q8.2.1.length := hfr
        have e1 : q8.2.1 = rd.1 := hrb
        rw [e1] at h12
        have h13 : rRem rd = rd.1.length - rd.2.1 := rfl
        show b + 12 * rRem q8.2 + 150 ≤ B1 + 36
        omega
      · exact T5.snoc hk B2 (fun e => absurd (show kd = 83 from e) (by rw [h116]; decide)) rfl rfl ⟨by rw [List.length_set]; exact y3, fun j hj => List.getElem?_set_ne (by omega), List.getElem?_set_self (by omega)⟩ ⟨y4, fun _ _ => rfl, (T3 _ (Nat.le_refl _) hk).2⟩
    · -- a number
      have hrow2 : r_row rd = ((nm, kd, (r_u32 r8).1, []), (r_u32 r8).2) := by
        rw [hreq]
        unfold r_value
        rw [if_pos h73]
      rw [z8]
      refine ⟨⟨_, R5.main hm2⟩, t_u32 (d := d + 1) R5 hm2 fun h7 R7 => ⟨_, rfl, ?_⟩⟩
      refine g_S (t := 1) (R7.fc D5.2.2.2.2.1) S.2.2.2.2.2.1 (zin_of (by omega) (by omega)) ?_
      rintro h8 rfl
      have R8 := R7.putL (k := rows.length) (v := .int (r_u32 r8).1) D5.2.2.2.2.1
      have D8 := D5.v3 S (l := l3.set rows.length (.int (r_u32 r8).1))
      have hrem2 := hrem _ hrw
      have hrp := hrw.2.1
      have hrb := hrw.1
      rw [hrow2] at hnext hrem2 hrw2 hrp hrb
      have hfr := R7.2.frame.2
      clear hrow2
      generalize r_u32 r8 = q8 at hnext hrem2 hrw2 hrp hrb hfr R8 D8 ⊢
      refine hnext _ _ _ _ _ _ g2 _ R8 L2 (by omega) (fun hf => ?_) D8 fun hf => ⟨?_, fun j h1 h2 => ⟨by rw [List.getElem?_set_ne (by omega)]; exact (T3 j (by omega) h2).1, (T3 j (by omega) h2).2⟩⟩
      · have h9 : rd.2.1 + 3 ≤ q8.2.2.1 := (hrw2 hf).1
        have h10 : rRem q8.2 = rRem rd - (q8.2.2.1 - rd.2.1) := hrem2
        have h12 : q8.2.2.1 ≤ q8.2.1.length := hfr
        have e1 : q8.2.1 = rd.1 := hrb
        rw [e1] at h12
        have h13 : rRem rd = rd.1.length - rd.2.1 := rfl
        show b + 12 * rRem q8.2 + 150 ≤ B1 + 36
        omega
      · exact T5.snoc hk B2 (fun e => absurd (show kd = 83 from e) (by rw [h73]; decide)) rfl rfl ⟨by rw [List.length_set]; exact y3, fun j hj => List.getElem?_set_ne (by omega), List.getElem?_set_self (by omega)⟩ ⟨y4, fun _ _ => rfl, (T3 _ (Nat.le_refl _) hk).2⟩
theorem t_table_64M {st nn : Nat} {bs : sBy} {QF : List sRow × sRd} {g0 : sG} (hm : g0.kind x0 = (1, 0)) (S : tLs s0 F0 n a1 a2 a3 a4) (hE : gB g0 (zst s0 "RelayHallModel" "EMPTY" "[B") []) (hnn : nn ≤ 160) (hst : st + nn ≤ bs.length)
    (K : ∀ g1 h1, tR s0 F0 (b + 12 * rRem QF.2) s (dr, sz, (if QF.2.2.1 = st + nn then QF.2 else r_bad QF.2), u) g1 h1 → gM g0 g1 → ((if QF.2.2.1 = st + nn then QF.2 else r_bad QF.2).2.2 = false → gTab g1 n (QF.1, (bs.drop st).take nn) ∧ QF.1.length ≤ 54 ∧ rOk QF.1) → Q (zr n) h1) :
    ∀ (f : Nat) (rows : List sRow) (rd : sRd) (F : Nat → Option zC) (B : Nat) (l1 l2 l3 l4 : List Value) (g : sG) (h : zH), rows.length + f = 54 → rd.1 = bs → (rd.2.2 = false → st + 3 * rows.length ≤ rd.2.1) → tR s0 F B s (dr, sz, rd, u) g h → b + 12 * rRem rd + 36 ≤ B → (rd.2.2 = false → b + 12 * rRem rd + 150 ≤ B) →
      tLd F0 F n a1 a2 a3 a4 [vI rows.length, zr a1, zr a2, zr a3, zr a4, zr 0] l1 l2 l3 l4 → (rd.2.2 = false → tRws g rows l1 l2 l3 l4 ∧ rOk rows ∧ ∀ j, rows.length ≤ j → j < 54 → l3[j]? = some (.int 0) ∧ l4[j]? = some (zr 0)) → gM g0 g →
      QF = (rows ++ (r_rows (st + nn) f rd).1, (r_rows (st + nn) f rd).2) →
      zP s0 m_X8_table (d + 4) 64 [some (zr x0), some (zr n), some (.int (Int32.ofNat nn)), some (.int (Int32.ofNat st)), some (.int (Int32.ofNat (st + nn))), none] [] h Q E
  | f, rows, rd, F, B, l1, l2, l3, l4, g, h, hf, hbs, hp3, R, hB, hB2, D, T, L, hQ => by
    have hm1 := L.m hm
    have em := R.main hm1
    have hE1 := L.B hE
    obtain ⟨A, hat⟩ : gAr g 16 0 400 (vB rd.1) ∧ rd.2.1 ≤ rd.1.length := R.2.frame
    have hl : rd.1.length ≤ 400 := by have := A.le; rwa [vB_len] at this
    have hbl : bs.length ≤ 400 := by rw [← hbs]; exact hl
    have hend : (rd.2.2 = true ∨ st + nn ≤ rd.2.1) → zP s0 m_X8_table (d + 4) 204 [some (zr x0), some (zr n), some (.int (Int32.ofNat nn)), some (.int (Int32.ofNat st)), some (.int (Int32.ofNat (st + nn))), none] [] h Q E := fun hb => by
      rw [rows_bad hb, List.append_nil] at hQ
      subst hQ
      refine t_table_204M (d := d + 3) (b := b + 12 * rRem rd) hm1 (R.less (by omega)) S D (fun hf => (T hf).1) hE1 (by omega) hnn (by rw [hbs]; exact hst) fun g1 h1 R1 L1 T1 => K g1 h1 R1 (L.trans L1) fun hf => ?_
      have hrf : rd.2.2 = false := by
        by_cases hq : rd.2.1 = st + nn
        · rw [if_pos hq] at hf
          exact hf
        · rw [if_neg hq] at hf
          exact nomatch (show true = false from hf)
      refine ⟨?_, by show rows.length ≤ 54; omega, (T hrf).2.1⟩
      have := T1 hf
      rw [hbs] at this
      exact this
    by_cases hq : rd.2.2 = true ∨ st + nn ≤ rd.2.1
    · refine b_X8_table_64 (e_I em fun (z1 : gI h x0 34 = sB rd.2.2) => ?_)
      rw [z1, sB_0]
      refine ⟨fun hb => hend hq, fun hb => e_I em fun (z2 : gI h x0 31 = Int32.ofNat rd.2.1) => ?_⟩
      rw [z2, i_le (by omega) (by omega)]
      exact ⟨fun hle => hend hq, fun hle => absurd hq (fun hh => hh.elim (fun e => by rw [hb] at e; cases e) hle)⟩
    have hb : rd.2.2 = false := by
      cases hh : rd.2.2 with
      | false => rfl
      | true => exact absurd (Or.inl hh) hq
    have hle : ¬ st + nn ≤ rd.2.1 := fun h => hq (Or.inr h)
    have h3 := hp3 hb
    have hk : rows.length < 54 := by omega
    obtain ⟨f', rfl⟩ : ∃ f', f = f' + 1 := ⟨f - 1, by omega⟩
    rw [rows_go hb hle] at hQ
    have hQ : QF = ((rows ++ [(r_row rd).1]) ++ (r_rows (st + nn) f' (r_row rd).2).1, (r_rows (st + nn) f' (r_row rd).2).2) := by
      rw [hQ, List.append_assoc]
      rfl
    obtain ⟨T1, T2, T3⟩ := T hb
    have hrow := rd_row (rd := rd)
    have hrok := row_ok (rd := rd)
    exact t_table_rowM hb hle hm1 S hE1 hk R (hB2 hb) (by omega) D T1 T3 (fun F' B' l1' l2' l3' l4' g' h' R' L' hb1 hb2 D' T' => by
      have hlen : (rows ++ [(r_row rd).1]).length = rows.length + 1 := by rw [List.length_append, List.length_singleton]
      refine t_table_64M hm S hE hnn hst K f' (rows ++ [(r_row rd).1]) (r_row rd).2 F' B' l1' l2' l3' l4' g' h' (by omega) (hrow.1.1.trans hbs) (fun hf => ?_) R' hb1 hb2 (by rw [hlen]; exact D') (fun hf => ⟨(T' hf).1, fun w hw => ?_, by rw [hlen]; exact (T' hf).2⟩) (L.trans L') hQ
      · have := (hrow.2 hf).1
        omega
      · rcases List.mem_append.mp hw with hw | hw
        · exact T2 w hw
        · rw [List.mem_singleton.mp hw]
          exact hrok hf)
end K99ME
section K99MF
variable {s0 : zE} {F F0 F1 : Nat → Option zC} {b : Nat} {s s' s1 : sSt} {w w' w1 w2 : tW} {g g' g0 : sG} {h h' : zH} {d x0 x1 x2 x3 x4 i j q m n e k c a a1 a2 a3 a4 : Nat} {Q : Value → zH → Prop} {E : Nat → zH → Prop} {fs l l1 l2 l3 l4 : List Value} {v : Value} {dr : sBy} {sz : Int32} {rd : sRd} {u : Int32 × Int32 × Int32 × List Nat × (Nat → Nat)} {rows : List sRow}
theorem t_tableM (R : tR s0 F (b + 12 * rRem rd + 200) s (dr, sz, rd, u) g h) (hm : g.kind x0 = (1, 0)) (hE : gB g (zst s0 "RelayHallModel" "EMPTY" "[B") [])
    (K : ∀ n g1 h1, tR s0 F (b + 12 * rRem (r_table rd).2) s (dr, sz, (r_table rd).2, u) g1 h1 → gM g g1 → ((r_table rd).2.2.2 = false → gTab g1 n (r_table rd).1 ∧ sTabOk (r_table rd).1) → Q (zr n) h1) : zX s0 m_X8_table (d + 4) [zr x0] h Q E := by
  refine c_X8_table (g_N (u := 1) (b := b + 12 * rRem rd + 199) (R.less (by omega)) (by decide) (by decide) R.big fun n h1 R1 U1 => ⟨⟨_, _, U1.2.2.1⟩, ?_⟩)
  have hFn := U1.2.1
  have hns := U1.2.2.2.2.2
  have R1' := R1.lend U1
  refine t_X38 (d := d + 2) (F := F) (b := b + 12 * rRem rd + 163) (R1'.less (by omega)) zF1_at hns (fun m q hq => zF1_lk U1 hq) hFn fun F2 a1 a2 a3 a4 h2 R2 S D => ⟨⟨_, R2.main hm⟩, t_u32 (d := d + 1) R2 hm fun h3 R3 => ⟨_, rfl, ?_⟩⟩
  have em := R3.main hm
  have hru := rd_u32 (r := rd)
  obtain ⟨A, hat⟩ : gAr g 16 0 400 (vB (r_u32 rd).2.1) ∧ (r_u32 rd).2.2.1 ≤ (r_u32 rd).2.1.length := R3.2.frame
  have hl : (r_u32 rd).2.1.length ≤ 400 := by have := A.le; rwa [vB_len] at this
  have hrem : rRem (r_u32 rd).2 ≤ rRem rd := by
    unfold rRem
    rw [hru.1.1]
    have := hru.1.2.1
    omega
  have htb := table_bad (rd := rd)
  have htg := fun hb => table_go (rd := rd) hb rfl
  revert R3 em hat hl hrem htb htg hru
  generalize r_u32 rd = q
  intro R3 em hru hat hl hrem htb htg
  have hbad : (q.2.2.2 = true ∨ q.1 < 0 ∨ 160 < q.1 ∨ q.2.1.length < q.2.2.1 + q.1.toNatClampNeg) → (fC h3 x0 7 ∧ ∀ h4, h4 = zput h3 x0 34 (.int 1) → Q (zr n) h4) := fun hb => by
    have ht := htb hb
    refine g_Bad R3 hm fun h4 R4 => ?_
    refine K n g h4 ?_ (gM.refl g) fun hf => ?_
    · rw [ht]
      have : rRem (r_bad q.2) = rRem q.2 := rfl
      exact (R4.sub D.1).less (by rw [this]; omega)
    · rw [ht] at hf
      exact nomatch (show true = false from hf)
  refine e_I em fun (z1 : gI h3 x0 34 = sB q.2.2.2) => ?_
  rw [z1, sB_0]
  refine ⟨fun hb => hbad (Or.inl (by rw [Bool.not_eq_false] at hb; exact hb)), fun hb => ⟨fun hneg => hbad (Or.inr (Or.inl hneg)), fun hneg => ⟨fun hbig => hbad (Or.inr (Or.inr (Or.inl hbig))), fun hbig => ?_⟩⟩⟩
  have h0 : 0 ≤ q.1 := Int32.not_lt.mp hneg
  have hq1 : q.1 = Int32.ofNat q.1.toNatClampNeg := (i_of h0).symm
  have hle : q.1.toNatClampNeg ≤ 160 := clamp_le (k := 160) (by decide) hbig
  refine e_I em fun (z2 : gI h3 x0 30 = Int32.ofNat q.2.1.length) => e_I em fun (z3 : gI h3 x0 31 = Int32.ofNat q.2.2.1) => ?_
  rw [z2, z3, i_sub hat]
  refine ⟨fun hfit => e_I em fun _ => e_I em fun _ => ?_, fun hfit => hbad (Or.inr (Or.inr (Or.inr ?_)))⟩
  · rw [hq1, i_le (by omega) (by omega)] at hfit
    have hno : ¬ (q.2.2.2 = true ∨ q.1 < 0 ∨ 160 < q.1 ∨ q.2.1.length < q.2.2.1 + q.1.toNatClampNeg) := by
      rintro (h | h | h | h)
      · rw [hb] at h; cases h
      · exact hneg h
      · exact hbig h
      · omega
    obtain ⟨t1, t2⟩ := htg hno
    have hfin : zP s0 m_X8_table (d + 4) 64 [some (zr x0), some (zr n), some (.int (Int32.ofNat q.1.toNatClampNeg)), some (.int (Int32.ofNat q.2.2.1)), some (.int (Int32.ofNat (q.2.2.1 + q.1.toNatClampNeg))), none] [] h3 Q E := by
      refine t_table_64M (b := b) (bs := q.2.1) (QF := r_rows (q.2.2.1 + q.1.toNatClampNeg) 54 q.2) hm S hE hle (by omega) (fun g4 h4 R4 L4 T4 => ?_) 54 [] q.2 F2 _ _ _ _ _ g h3 rfl rfl (fun _ => by simp) R3 (by omega) (fun _ => by omega) D (fun _ => ⟨⟨⟨List.length_replicate, List.length_replicate, List.length_replicate, List.length_replicate⟩, fun j w hw => by cases hw⟩, (by intro w hw; cases hw), fun j _ hj => ⟨by rw [List.getElem?_replicate, if_pos hj], by rw [List.getElem?_replicate, if_pos hj]⟩⟩) (gM.refl g) rfl
      refine K n g4 h4 ?_ L4 fun hf => ?_
      · rw [t1]
        refine R4.less (Nat.add_le_add_left (Nat.mul_le_mul_left _ (Nat.le_of_eq ?_)) _)
        split <;> rfl
      · have t3 := t2 hf
        rw [t1] at hf
        obtain ⟨p1, p2, p3⟩ := T4 hf
        rw [t3]
        exact ⟨p1, Nat.le_trans (List.length_take_le _ _) hle, p2, p3⟩
    have e1 : Int32.ofNat q.2.2.1 + q.1 = Int32.ofNat (q.2.2.1 + q.1.toNatClampNeg) := by
      conv => lhs; rw [hq1]
      rw [i_add]
    rw [e1]
    rw [show (Value.int q.1) = Value.int (Int32.ofNat q.1.toNatClampNeg) from congrArg Value.int hq1]
    exact hfin
  · rw [hq1, i_le (by omega) (by omega)] at hfit
    omega
end K99MF
section K99NH
variable {s0 : zE} {F : Nat → Option zC} {b : Nat} {s s' s1 s2 sS : sSt} {w w' w1 w2 : tW} {g g' g0 : sG} {h h' : zH} {d x0 x1 j n c k e ky hd nn : Nat} {Q : Value → zH → Prop} {E : Nat → zH → Prop} {dr : sBy} {sz marks N prio cls : Int32} {expi : Int64} {rd : sRd} {u : Int32 × Int32 × Int32 × List Nat × (Nat → Nat)} {mand pers : Bool} {fs : List Value} {v : Value}
theorem t_hd_103M (R : tR s0 (zF1 F nn (40, zCt e ky mand pers prio expi 0)) (b + 12 * rRem rd + 200) s (dr, sz, rd, u) g h) (hm : g.kind x0 = (1, 0)) (hE : gB g (zst s0 "RelayHallModel" "EMPTY" "[B") [])
    (K : ∀ hd9 g1 h1, tR s0 (zF1 F nn (40, zCt e ky mand pers prio expi hd9)) b s (dr, sz, (h_t marks rd).2, u) g1 h1 → gM g g1 → ((h_t marks rd).2.2.2 = false → gTo g1 hd9 (h_t marks rd).1 ∧ ∀ t, (h_t marks rd).1 = some t → sTabOk t) → zP s0 m_X8_header (d + 5) 120 [some (zr x0), some (zr x1), some (.int cls), some (.int N), some (.int marks), some (zr nn)] [] h1 Q E) :
    zP s0 m_X8_header (d + 5) 103 [some (zr x0), some (zr x1), some (.int cls), some (.int N), some (.int marks), some (zr nn)] [] h Q E := by
  refine b_X8_header_103 ⟨fun h8 => ?_, fun h8 => ⟨⟨_, R.main hm⟩, t_tableM (d := d) R hm hE fun n g1 h1 R1 L1 B1 => ⟨_, rfl, g_PL R1 fun h2 R2 => ?_⟩⟩⟩
  · have e1 : h_t marks rd = (none, rd) := if_neg (by rw [bit_0.mpr h8]; decide)
    rw [e1] at K
    exact K 0 g h (R.less (by omega)) (gM.refl g) fun _ => ⟨rfl, fun t ht => nomatch ht⟩
  · have e1 : h_t marks rd = (some (r_table rd).1, (r_table rd).2) := if_pos (bit_1 h8)
    rw [e1] at K
    exact K n g1 h2 (R2.less (by omega)) L1 fun hb => ⟨(B1 hb).1, fun t ht => by obtain rfl := Option.some.inj ht; exact (B1 hb).2⟩
end K99NH
