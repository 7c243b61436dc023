/-! ===== the twin: frames drafted ===== -/
set_option maxRecDepth 100000
section T2
variable {s0 : zE} {F : Nat → Option zC} {b : Nat} {s s' : sSt} {w w' : tW} {dr : sBy} {sz : Int32} {rd : sRd} {u : Int32 × Int32 × Int32 × List Nat × (Nat → Nat)} {g g' : sG} {h h' : zH} {d x0 x1 : Nat} {Q : Value → zH → Prop} {E : Nat → zH → Prop}
theorem gA_of {n c : Nat} {l : List Value} (e : h.1 n = some (c, l)) : gA h n = l := by unfold gA; rw [e]
theorem tR.fz (R : tR s0 F b s w g h) {n : Nat} {q : zC} (hB : gF g n q) : h.1 n = some q := by
  rw [R.1.cell hB.1 (by decide)]
  exact congrArg some hB.2
theorem t_putBytes_l {bs : sBy} : ∀ (m j : Nat) {dr : sBy} {sz : Int32} {rd : sRd} {u : Int32 × Int32 × Int32 × List Nat × (Nat → Nat)} {g : sG} {h : zH}, bs.length = j + m → bs.length < 2147483648 → tR s0 F b s (dr, sz, rd, u) g h → g.kind x0 = (1, 0) → gB g x1 bs → dr.length + m ≤ 1200 →
    (∀ g1 h1, tR s0 F b s ((dr ++ bs.drop j), sz, rd, u) g1 h1 → gL g g1 → Q .null h1) → zP s0 m_X8_putBytes (d + 1) 2 [some (zr x0), some (zr x1), some (.int (Int32.ofNat j))] [] h Q E
  | m, j, dr, sz, rd, u, g, h, hj, hb, R, hm, hB, hl, K => by
    have e1 := R.fz hB
    refine b_X8_putBytes_2 ⟨⟨_, e1⟩, fun hle => ?_, fun hle => ?_⟩
    · rw [gA_of e1, vB_len, i_le hb (by omega)] at hle
      refine K g h ?_ (gL.refl g)
      rw [List.drop_eq_nil_of_le hle, List.append_nil]
      exact R
    · rw [gA_of e1, vB_len, i_le hb (by omega)] at hle
      obtain ⟨x, hx⟩ : ∃ x, bs[j]? = some x := ⟨_, List.getElem?_eq_getElem (by omega)⟩
      obtain ⟨m', rfl⟩ : ∃ m', m = m' + 1 := ⟨m - 1, by omega⟩
      refine g_EI e1 (zin_of (by rw [vB_len]; omega) (by omega)) (by rw [i_nat (by omega)]; exact vB_get hx) fun z => ?_
      rw [z]
      refine ⟨⟨_, R.main hm⟩, t_put R hm (by omega) fun g1 h1 R1 L1 => ?_⟩
      rw [i_succ]
      have hlo : lo8 (sx x) = x := by
        have h : ∀ n : Fin 256, lo8 (sx (UInt8.ofBitVec (BitVec.ofFin n))) = UInt8.ofBitVec (BitVec.ofFin n) := by decide +kernel
        exact h x.toBitVec.toFin
      refine t_putBytes_l m' (j + 1) (by omega) hb R1 (L1.m hm) (L1.B hB) (by simp; omega) fun g2 h2 R2 L2 => K g2 h2 ?_ (L1.trans L2)
      have e2 : dr ++ bs.drop j = dr ++ [lo8 (sx x)] ++ bs.drop (j + 1) := by
        rw [hlo, List.append_assoc]
        congr 1
        have hlt : j < bs.length := by omega
        rw [List.drop_eq_getElem_cons hlt]
        rw [List.getElem?_eq_getElem hlt] at hx
        cases hx
        rfl
      rw [e2]
      exact R2
theorem t_putBytes {bs : sBy} (R : tR s0 F b s (dr, sz, rd, u) g h) (hm : g.kind x0 = (1, 0)) (hB : gB g x1 bs) (hl : dr.length + bs.length ≤ 1200) (K : ∀ g1 h1, tR s0 F b s ((dr ++ bs), sz, rd, u) g1 h1 → gL g g1 → Q .null h1) : zX s0 m_X8_putBytes (d + 1) [zr x0, zr x1] h Q E :=
  c_X8_putBytes (t_putBytes_l bs.length 0 (by omega) (by omega) R hm hB hl K)
theorem t_putShort {bs : sBy} (R : tR s0 F b s (dr, sz, rd, u) g h) (hm : g.kind x0 = (1, 0)) (hB : gB g x1 bs) (hl : dr.length + 1 + bs.length ≤ 1200) (K : ∀ g1 h1, tR s0 F b s ((dr ++ w_short bs), sz, rd, u) g1 h1 → gL g g1 → Q .null h1) : zX s0 m_X8_putShort (d + 2) [zr x0, zr x1] h Q E := by
  have e1 := R.fz hB
  refine c_X8_putShort ⟨⟨_, e1⟩, ⟨_, R.main hm⟩, ?_⟩
  rw [gA_of e1, vB_len]
  refine t_put R hm (by omega) fun g1 h1 R1 L1 => ⟨⟨_, R1.main (L1.m hm)⟩, t_putBytes R1 (L1.m hm) (L1.B hB) (by simp; omega) fun g2 h2 R2 L2 => K g2 h2 ?_ (L1.trans L2)⟩
  rw [show dr ++ w_short bs = dr ++ [lo8 (Int32.ofNat bs.length)] ++ bs by simp [w_short, w_8]]
  exact R2
def w_head (type chan : Int32) : sBy := w_8 type ++ w_16 chan ++ [0, 0, 0, 0]
theorem w_head_len {type chan : Int32} : (w_head type chan).length = 7 := rfl
theorem w_32_0 : w_32 0 = [0, 0, 0, 0] := by decide +kernel
theorem t_beginFrame {ty ch : Int32} (R : tR s0 F b s (dr, sz, rd, u) g h) (hm : g.kind x0 = (1, 0)) (hl : dr.length + 7 ≤ 1200) (K : ∀ g1 h1, tR s0 F b s ((dr ++ w_head ty ch), (Int32.ofNat (dr.length + 3)), rd, u) g1 h1 → gL g g1 → Q .null h1) : zX s0 m_X8_beginFrame (d + 3) [zr x0, .int ty, .int ch] h Q E := by
  refine c_X8_beginFrame ⟨⟨_, R.main hm⟩, t_put R hm (by omega) fun g1 h1 R1 L1 => ⟨⟨_, R1.main (L1.m hm)⟩, t_put16 R1 (L1.m hm) (by simp; omega) fun g2 h2 R2 L2 => ?_⟩⟩
  have hm2 := L2.m (L1.m hm)
  refine e_I (R2.main hm2) fun (z : gI h2 x0 36 = Int32.ofNat (dr ++ [lo8 ty] ++ w_16 ch).length) => ?_
  rw [z]
  refine g_PM R2 hm2 s (dr ++ [lo8 ty] ++ w_16 ch, Int32.ofNat (dr ++ [lo8 ty] ++ w_16 ch).length, rd, u) rfl R2.2 ⟨rfl, rfl, rfl, rfl, rfl, rfl, rfl, rfl, rfl⟩ fun h3 R3 _ => ⟨⟨_, R3.main hm2⟩, t_put32 R3 hm2 (by simp [w_16]; omega) fun g4 h4 R4 L4 => K g4 h4 ?_ ((L1.trans L2).trans L4)⟩
  have e1 : dr ++ w_head ty ch = dr ++ [lo8 ty] ++ w_16 ch ++ w_32 0 := by rw [w_32_0]; simp [w_head, w_8]
  have e2 : dr.length + 3 = (dr ++ [lo8 ty] ++ w_16 ch).length := by simp [w_16]
  rw [e1, e2]
  exact R4
theorem w_32_small {n : Nat} (hn : n < 1201) : w_32 (Int32.ofNat n) = [0, 0, lo8 (Int32.ofNat n >>> 8), lo8 (Int32.ofNat n)] := by
  have h : ∀ n : Fin 1201, lo8 (Int32.ofNat n.val >>> 16 >>> 8) = 0 ∧ lo8 (Int32.ofNat n.val >>> 16) = 0 := by decide +kernel
  obtain ⟨h1, h2⟩ := h ⟨n, hn⟩
  show [lo8 (Int32.ofNat n >>> 16 >>> 8), lo8 (Int32.ofNat n >>> 16), _, _] = _
  rw [h1, h2]
/-- a field of the draft is written over -/
theorem g_Dr (R : tR s0 F b s (dr, sz, rd, u) g h) {j : Nat} {x : Int32} {P : zH → Prop} (hj : j < dr.length) (hm : g.kind x0 = (1, 0)) (K : ∀ g1 h1, tR s0 F b s ((dr.set j (lo8 x)), sz, rd, u) g1 h1 → gL g g1 → P h1) : fS s0 h (g.ref 17 0) 0 (Int32.ofNat j) ∧ ∀ h1, h1 = zput h (g.ref 17 0) (Int32.ofNat j).toNatClampNeg (narrow .byte (.int x.toInt8.toInt32)) → P h1 := by
  have A : gAr g 17 0 1200 (vB dr) := R.2.ar17
  have hl := A.le
  rw [vB_len] at hl
  obtain ⟨eA, hA⟩ := R.arr A rfl (by decide) (by decide)
  have e := R.main hm
  have hne : x0 ≠ g.ref 17 0 := kne hm A.1 (by decide)
  refine g_S eA hA (zin_of (by rw [A.2.1]; omega) (by omega)) ?_
  rintro h1 rfl
  rw [i_nat (by omega), sx_lo2]
  have hpre : vB (dr.set j (lo8 x)) <+: (g.ar 17 0).set j (.int (sx (lo8 x))) := by
    obtain ⟨t, ht⟩ := A.2.2
    refine ⟨t, ?_⟩
    rw [← ht, List.set_append_left _ _ (by rw [vB_len]; exact hj)]
    unfold vB
    rw [List.map_set]
  refine K (gSet g 17 0 ((g.ar 17 0).set j (.int (sx (lo8 x))))) _ (R.arM hm A.1 (by decide) rfl ?_ rfl (fun n n1 n2 => by rw [zput_ne n2]) ?_ ?_ ⟨rfl, rfl, rfl, rfl, rfl, rfl, rfl, rfl, rfl⟩ (R.2.set17 (by rw [List.length_set]; exact A.2.1) hpre)) gL.set
  · show (1000 + tarT 17, (gSet g 17 0 _).ar 17 0) = _
    rw [gSet_self]
  · rw [zput_ne hne, e]
    have e5 : (dr.set j (lo8 x)).length = dr.length := List.length_set ..
    show _ = some (7, [_, _, _, _, _, _, _, _, _, _, _, _, _, _, _, _, _, _, _, _, _, _, _, _, _, _, _, _, _, _, _, _, _, _, _, _, vI (dr.set j (lo8 x)).length, _, _, _, _, _, _, _, _, _])
    rw [e5]
    rfl
  · exact zput_self eA
theorem t_endFrame {p body : sBy} {ty ch : Int32} (R : tR s0 F b s (dr, sz, rd, u) g h) (hm : g.kind x0 = (1, 0)) (hd : dr = p ++ (w_head ty ch ++ body)) (hs : sz = Int32.ofNat (p.length + 3)) (hl : dr.length + 1 ≤ 1200) (K : ∀ g1 h1, tR s0 F b s ((p ++ w_frame ty ch body), sz, rd, u) g1 h1 → gL g g1 → Q .null h1) : zX s0 m_X8_endFrame (d + 1) [zr x0] h Q E := by
  have e := R.main hm
  have hlen : dr.length = p.length + 7 + body.length := by rw [hd]; simp [w_head_len]; omega
  have h2s : (2 : Int32) = Int32.ofNat 2 := rfl
  have h3s : (3 : Int32) = Int32.ofNat 3 := rfl
  have h4s : (4 : Int32) = Int32.ofNat 4 := rfl
  refine c_X8_endFrame (e_I e fun (z1 : gI h x0 36 = Int32.ofNat dr.length) => e_I e fun (z2 : gI h x0 37 = sz) => e_R e fun z3 => e_I e fun _ => ?_)
  rw [z1, z2, z3, hs, h2s, h3s, h4s, i_add, i_sub (by omega), i_sub (by omega)]
  refine g_Dr R (by omega) hm fun g1 h1 R1 L1 => ?_
  have hm1 := L1.m hm
  refine e_R (R1.main hm1) fun z4 => e_I (R1.main hm1) fun (z5 : gI h1 x0 37 = sz) => ?_
  rw [z4, z5]
  rw [hs, i_add]
  refine g_Dr R1 (by rw [List.length_set]; omega) hm1 fun g2 h2 R2 L2 => ⟨⟨_, R2.main (L2.m hm1)⟩, t_put R2 (L2.m hm1) (by rw [List.length_set, List.length_set]; omega) fun g3 h3 R3 L3 => K g3 h3 ?_ ((L1.trans L2).trans L3)⟩
  have e9 : p ++ w_frame ty ch body = ((dr.set (p.length + 3 + 2) (lo8 (Int32.ofNat body.length >>> 8))).set (p.length + 3 + 3) (lo8 (Int32.ofNat body.length))) ++ [lo8 206] := by
    rw [hd]
    unfold w_frame
    rw [w_32_small (by omega)]
    rw [List.set_append_right _ _ (by omega), List.set_append_right _ _ (by omega)]
    simp [w_head, w_8, w_16, show p.length + 3 + 2 - p.length = 5 by omega, show p.length + 3 + 3 - p.length = 6 by omega]
  rw [e9]
  have e8 : dr.length - (p.length + 3) - 4 = body.length := by omega
  rw [e8] at R3
  exact R3
end T2
