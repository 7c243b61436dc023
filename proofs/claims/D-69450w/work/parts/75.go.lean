/-! ===== the twin: what was drafted goes; what was sent is taken out ===== -/
set_option maxRecDepth 100000
section GO
variable {s0 : zE} {F : Nat → Option zC} {b : Nat} {s s' : sSt} {w w' : tW} {g g' : sG} {h h' : zH} {d x0 x1 x2 c i q m e j k n : Nat} {l : List Value} {Q : Value → zH → Prop} {E : Nat → zH → Prop}
theorem t_take (R : tR s0 F b s w g h) (I : sScope s) (hj : isH j) (hx : g.kind x1 = (3, j)) (hk : (s.ch j).sent[k]? = some m) (hcs : (s.ch j).sent.length < 980000)
    (K : ∀ g1 h1, tR s0 F b (s_ch s j (fun x => x.w_sent (x.sent.eraseIdx k))) w g1 h1 → gL g g1 → Q (zr (g.ref 37 m)) h1) : zX s0 m_X8_take d [zr x0, zr x1, .int (Int32.ofNat k)] h Q E := by
  have e := R.1.cell hx (by decide)
  obtain ⟨f1, f2, ⟨n5, f3, f4, A⟩, f6, f7⟩ := R.2.chok hj
  have hle := A.le
  rw [List.length_map] at hle
  have hkl := (List.getElem?_eq_some_iff.mp hk).1
  have eA : h.1 (g.ref 28 j) = some (1000 + 20, g.ar 28 j) := R.1.cell A.1 (by decide)
  have hA : s0.1.heap.size < g.ref 28 j := R.1.new A.1 (by decide) (by decide)
  have hne : x1 ≠ g.ref 28 j := kne hx A.1 fun e => absurd (congrArg Prod.fst e) (by show ¬ (3 : Nat) = 28; decide)
  refine c_X8_take (e_R e fun (z1 : gR h x1 16 = g.ref 28 j) => ?_)
  rw [z1]
  refine g_El R A rfl (by decide) hk (by omega) fun z2 => ?_
  rw [z2]
  refine e_I e fun (z3 : gI h x1 10 = Int32.ofNat (s.ch j).sent.length) => g_C e ?_
  rw [z3, i_pred (by omega)]
  intro h1 e1
  have ex0 : h1.1 x1 = some (9, (tCh (s.ch j) w g j).set 10 (.int (Int32.ofNat ((s.ch j).sent.length - 1)))) := by rw [e1]; exact zput_self e
  have eA1 : h1.1 (g.ref 28 j) = some (1000 + 20, g.ar 28 j) := by rw [e1, zput_ne hne.symm]; exact eA
  have G := R.good (C := "RelayHallModel$Sent") A (by decide) (fun x hx => R.al (c := 37) (by decide) (by decide) ((I.ch j hj).1 x hx)) (fun x => ⟨_, rfl⟩) zcl_34 rfl
  refine sh_loop (Z := fun i hk => zP s0 m_X8_take d 20 [none, some (zr x1), none, some (zr (g.ref 37 m)), some (.int (Int32.ofNat i))] [] hk Q E) (own := x1) (oc := 9) (kc := 10) (ka := 16) (n := (s.ch j).sent.length) (C := "RelayHallModel$Sent") (t := 20) (arr := g.ref 28 j) hne rfl rfl hA
    (fun i hk H => b_X8_take_20 (by rw [i_succ] at H ⊢; exact H)) ((s.ch j).sent.length - 1 - k) k h1 (g.ar 28 j) (by omega) ex0 eA1 (by rw [A.2.1]; exact hle) (by rw [A.2.1]; omega)
    (G.mono (Nat.le_refl _) fun r hr => hr.imp id fun x => by rw [e1]; exact zAsg_put x) (fun h2 o1 o2 o3 => ?_)
  refine sh_fin (oc := 9) (own := x1) (ka := 16) (kc := 10) (by rw [o2 _ hne]; exact ex0) rfl rfl o3 hA (by rw [shf_len, A.2.1]; omega) (by rw [shf_len, A.2.1]; omega) fun h3 p1 p2 p3 => ?_
  have hx1 := shf_erase ((s.ch j).sent.length - 1 - k) (g.ar 28 j) _ k A.2.2 (by rw [List.length_map]; omega)
  rw [map_eraseIdx] at hx1
  have hlen : ((s.ch j).sent.eraseIdx k).length = (s.ch j).sent.length - 1 := List.length_eraseIdx_of_lt hkl
  have hx2 : ((s.ch j).sent.eraseIdx k).map (fun i => zr (g.ref 37 i)) <+: (shf ((s.ch j).sent.length - 1 - k) (g.ar 28 j) k).set ((s.ch j).sent.length - 1) .null := pre_set_out hx1 (by rw [List.length_map, hlen]; exact Nat.le_refl _)
  refine K (gSet g 28 j ((shf ((s.ch j).sent.length - 1 - k) (g.ar 28 j) k).set ((s.ch j).sent.length - 1) .null)) h3 (R.arC (x := (s.ch j).w_sent ((s.ch j).sent.eraseIdx k)) (Or.inl rfl) hx ?_ A.1 (fun m m1 m2 => ?_) ?_ p3 rfl (R.2.arC (Or.inl rfl) ?_)) gL.set
  · rw [p1, o1, e1]
    rfl
  · rw [p2 _ m2, o2 _ m2, e1, zput_ne m1]
  · rw [p2 _ hne, o2 _ hne, ex0]
    show _ = some (9, tCh ((s.ch j).w_sent ((s.ch j).sent.eraseIdx k)) w g j)
    rw [← hlen]
    rfl
  · refine ⟨f1, gUn.ne (k := s.ch j) f2 (by decide), ⟨n5, f3, ?_, gAr.new A.1 (by rw [List.length_set, shf_len]; exact A.2.1) hx2⟩, f6.ne2 (fun r x hx => hx) (by omega), ?_⟩
    · show 2 * ((s.ch j).sent.eraseIdx k).length ≤ n5 + g.cf 28 j
      omega
    · obtain ⟨n6, pre, f8, f9, f10, f11⟩ := f7
      exact ⟨n6, pre, f8, f9, f10, f11.ne (by omega)⟩
theorem tG.set26 (G : tG s w g) (hl : c < 4 → gRing l (s.cn c).first (s.cn c).out) : tG s w (gSet g 26 c l) := by
  obtain ⟨b1, b2, b3, b4, b5, b6, b7, b8, b9, b10, b11, b12⟩ := G
  refine ⟨b1, ?_, b3.ne (by omega), b4.ne (by omega), fun k hk => ?_, b6.ne (by omega), b7, b8.ne (by omega), b9, b10, b11, b12⟩
  · obtain ⟨c1, c2, c3, c4, c5, c6, c7, c8, c9, c10, c11, c12, c13, c14⟩ := b2
    exact ⟨c1.ne1 (by omega), c2.ne1 (by omega), c3.ne1 (by omega), c4.ne1 (by omega), c5.ne1 (by omega), c6.ne1 (by omega), c7.ne1 (by omega), c8.ne1 (by omega), c9.ne1 (by omega), c10.ne1 (by omega), c11.ne1 (by omega), c12.ne1 (by omega), c13.ne1 (by omega), c14⟩
  · obtain ⟨a1, ⟨a2, a3⟩, a4⟩ := b5 k hk
    refine ⟨a1.ne1 (by omega), ⟨a2, ?_⟩, a4.ne1 (by omega)⟩
    by_cases e : k = c
    · subst e
      rw [gSet_self]
      exact hl hk
    · rw [gSet_ne (fun e1 => e e1.2)]
      exact a3
theorem tR.put26 (R : tR s0 F b s w g h) (hc : c < 4) {v : Value} (hl : gRing ((g.ar 26 c).set k v) (s.cn c).first (s.cn c).out) : tR s0 F b s w (gSet g 26 c ((g.ar 26 c).set k v)) (zput h (g.ref 26 c) k v) := by
  have A := (R.2.2.2.2.2.1 c hc).2.1.1
  refine ⟨R.1.put A (by decide) rfl rfl (cc := 1000 + tarT 26) (fs := g.ar 26 c) rfl ?_ (fun m hk hne => tcell_set fun e => hne (Prod.ext e.1 e.2)), R.2.set26 fun _ => hl⟩
  show (1000 + tarT 26, (gSet g 26 c _).ar 26 c) = _
  rw [gSet_self]
theorem gRing.snoc {first : Int32} {b : sBy} {x : UInt8} (H : gRing l first b) (hb : b.length < 5000) : gRing (l.set ((first.toNatClampNeg + b.length) % 5000) (.int (sx x))) first (b ++ [x]) := by
  obtain ⟨h1, h2, h3, h4⟩ := H
  refine ⟨by rw [List.length_set]; exact h1, h2, h3, fun j y hy => ?_⟩
  by_cases e : j < b.length
  · rw [List.getElem?_append_left e] at hy
    rw [List.getElem?_set_ne (by omega)]
    exact h4 j y hy
  · have hj := (List.getElem?_eq_some_iff.mp hy).1
    rw [List.length_append, List.length_singleton] at hj
    have ej : j = b.length := by omega
    subst ej
    rw [List.getElem?_append_right (Nat.le_refl _), Nat.sub_self] at hy
    cases hy
    rw [List.getElem?_set_self (by rw [h1]; exact Nat.mod_lt _ (by decide))]
theorem gRing.pre {first : Int32} {b b2 : sBy} (H : gRing l first (b ++ b2)) : gRing l first b := by
  obtain ⟨h1, h2, h3, h4⟩ := H
  refine ⟨h1, h2, h3, fun j y hy => h4 j y ?_⟩
  rw [List.getElem?_append_left (List.getElem?_eq_some_iff.mp hy).1]
  exact hy
theorem t_go_31 {dr : sBy} {sz : Int32} {rd : sRd} {u : Int32 × Int32 × Int32 × List Nat × (Nat → Nat)} (hc : c < 4) (hm5 : (s.cn c).out.length + dr.length ≤ 5000)
    (K : ∀ g1 h1, tR s0 F b (s_cn s c (fun k => (k.w_out (k.out ++ dr)).w_lastOut s.clock)) (dr, sz, rd, u) g1 h1 → gL g g1 → Q .null h1) :
    ∀ (k i : Nat) (g' : sG) (h : zH), dr.length = i + k → tR s0 F b s (dr, sz, rd, u) g' h → g'.kind x0 = (1, 0) → g'.kind x1 = (2, c) → gL g g' → gRing (g'.ar 26 c) (s.cn c).first ((s.cn c).out ++ dr.take i) →
      zP s0 m_X8_go (d + 1) 31 [some (zr x0), some (zr x1), some (.int (Int32.ofNat i))] [] h Q E
  | k, i, g', h, hk, R, hm, hx, L, hR => by
    have e := R.1.cell hx (by decide)
    have A : gAr g' 17 0 1200 (vB dr) := R.2.ar17
    have hle := A.le
    rw [vB_len] at hle
    refine b_X8_go_31 (e_I (R.main hm) fun (z1 : gI h x0 36 = Int32.ofNat dr.length) => ?_)
    rw [z1, i_le (by omega) (by omega)]
    refine ⟨fun hl => ?_, fun hl => ?_⟩
    · have ei : i = dr.length := by omega
      subst ei
      rw [List.take_length] at hR
      refine e_I e fun (z2 : gI h x1 5 = Int32.ofNat (s.cn c).out.length) => e_I (R.main hm) fun _ => ?_
      rw [z2, i_add, show (s.cn c).out.length + dr.length = ((s.cn c).out ++ dr).length by simp]
      refine g_Pcn R hx ((s.cn c).w_out ((s.cn c).out ++ dr)) rfl (R.2.cn fun hc4 => ⟨(R.2.2.2.2.2.1 c hc4).1, hR⟩) fun h1 R1 _ => ?_
      refine e_I (R1.main hm) fun (z3 : gI h1 x0 12 = s.clock) => ?_
      rw [z3]
      have hcn : (s.w_cn (sUp s.cn c ((s.cn c).w_out ((s.cn c).out ++ dr)))).cn c = (s.cn c).w_out ((s.cn c).out ++ dr) := sUp_self
      refine g_Pcn R1 hx (((s.cn c).w_out ((s.cn c).out ++ dr)).w_lastOut s.clock) (by rw [hcn]; rfl) (R1.2.cn fun hc4 => ⟨(R.2.2.2.2.2.1 c hc4).1, hR⟩) fun h2 R2 _ => ?_
      rw [wr_cn, sUp_sUp] at R2
      exact K g' h2 R2 L
    · obtain ⟨k', rfl⟩ : ∃ k', k = k' + 1 := ⟨k - 1, by omega⟩
      obtain ⟨x, hx5⟩ : ∃ x, dr[i]? = some x := ⟨_, List.getElem?_eq_getElem (by omega)⟩
      obtain ⟨eA, hA⟩ := R.arr A rfl (by decide) (by decide)
      have A2 := (R.2.2.2.2.2.1 c hc).2.1
      have e26 : h.1 (g'.ref 26 c) = some (1000 + 0, g'.ar 26 c) := R.1.cell A2.1 (by decide)
      have n26 : s0.1.heap.size < g'.ref 26 c := R.1.new A2.1 (by decide) (by decide)
      refine e_R e fun (z2 : gR h x1 11 = g'.ref 26 c) => e_I e fun (z3 : gI h x1 4 = (s.cn c).first) => e_I e fun (z4 : gI h x1 5 = Int32.ofNat (s.cn c).out.length) => e_R (R.main hm) fun (z5 : gR h x0 35 = g'.ref 17 0) => ?_
      rw [z2, z3, z4, z5]
      refine g_EI (t := 0) eA (zin_of (by rw [A.2.1]; omega) (by omega)) (by rw [i_nat (by omega)]; exact pre_get A.2.2 (vB_get hx5)) fun z6 => ?_
      rw [z6]
      have hfi : (s.cn c).first = Int32.ofNat (s.cn c).first.toNatClampNeg := (i_of hR.2.1).symm
      have hfl : (s.cn c).first.toNatClampNeg < 5000 := by
        have h3 := hR.2.2.1
        rw [hfi, show (5000 : Int32) = Int32.ofNat 5000 from rfl, i_lt (Int32.toNatClampNeg_lt _) (by decide)] at h3
        exact h3
      have hix : ((s.cn c).first + Int32.ofNat (s.cn c).out.length + Int32.ofNat i) - ((s.cn c).first + Int32.ofNat (s.cn c).out.length + Int32.ofNat i) / 5000 * 5000 = Int32.ofNat (((s.cn c).first.toNatClampNeg + ((s.cn c).out ++ dr.take i).length) % 5000) := by
        conv => lhs; rw [hfi]
        rw [i_add, i_add, show (5000 : Int32) = Int32.ofNat 5000 from rfl, i_mod (by omega) (by decide), List.length_append, List.length_take, Nat.min_eq_left (by omega), Nat.add_assoc]
      rw [hix, i_succ]
      have hml : ((s.cn c).first.toNatClampNeg + ((s.cn c).out ++ dr.take i).length) % 5000 < 5000 := Nat.mod_lt _ (by decide)
      refine g_S (t := 0) e26 n26 (zin_of (by rw [hR.1]; exact hml) (by omega)) ?_
      rintro h3 rfl
      rw [i_nat (by omega), sx_lo]
      have hlo : lo8 (sx x) = x := by
        have := sx_lo (sx x)
        have h : ∀ n : Fin 256, lo8 (sx (UInt8.ofBitVec (BitVec.ofFin n))) = UInt8.ofBitVec (BitVec.ofFin n) := by decide +kernel
        exact h x.toBitVec.toFin
      rw [hlo]
      have hsn := hR.snoc (x := x) (by rw [List.length_append, List.length_take]; omega)
      rw [List.append_assoc, show dr.take i ++ [x] = dr.take (i + 1) by rw [List.take_add_one, hx5]; rfl] at hsn
      refine t_go_31 hc hm5 K k' (i + 1) _ _ (by omega) (R.put26 hc hsn.pre) hm hx (L.trans gL.set) ?_
      rw [gSet_self]
      exact hsn
/-- the contract of closing a connection, n of them being open at most -/
def tCL (s0 : zE) (F : Nat → Option zC) (b n D : Nat) : Prop := ∀ (d : Nat) (s : sSt) (w : tW) (g : sG) (h : zH) (x0 x1 c : Nat) (Q : Value → zH → Prop) (E : Nat → zH → Prop), D ≤ d → tZ s0 F b s w g h → g.kind x0 = (1, 0) → g.kind x1 = (2, c) → c < 4 → sLive s ≤ n →
  (∀ w1 g1 h1, tZ s0 F b (s_closeF n s c) w1 g1 h1 → tWk (s_closeF n s c) w w1 → gL g g1 → Q .null h1) → zX s0 m_X8_close d [zr x0, zr x1] h Q E
end GO
