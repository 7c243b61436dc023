/-! ===== the twin: one frame of what came ===== -/
set_option maxRecDepth 100000
section NR
variable {s0 : zE} {F : Nat → Option zC} {b : Nat} {s s' : sSt} {w w' : tW} {g g' : sG} {h h' hS hB : zH} {d x0 x1 a j n c m KK B : Nat} {Q : Value → zH → Prop} {E : Nat → zH → Prop} {dr : sBy} {sz cl me k ty chan : Int32} {rd : sRd} {u : Int32 × List Nat × (Nat → Nat)} {v : Int32 × Int32 × Int32 × List Nat × (Nat → Nat)} {bs inp inp2 nb rest : sBy} {fs L L' : List Value} {t c1 c2 n1 n2 n3 n4 : UInt8}
/-- a frame's head is read where the place is not set yet -/
theorem t_readHeadH (ex : h.1 x0 = some (7, fs)) (R2 : tR s0 F b s (dr, sz, (bs, 0, false), cl, me, u) g (zput (zput h x0 31 (.int 0)) x0 34 (.int 0))) (hm : g.kind x0 = (1, 0))
    (K : ∀ h1, tR s0 F b s (dr, sz, (r_head k bs).2.2, (r_head k bs).1, (r_head k bs).2.1, u) g h1 → Q .null h1) : zX s0 m_X8_readHead (d + 2) [zr x0, .int k] h Q E := by
  have hl : bs.length ≤ 400 := by
    have := R2.2.frame.1.le
    rwa [vB_len] at this
  have h4 : (Int32.ofNat bs.length < 4) ↔ bs.length < 4 := by
    rw [show (4 : Int32) = Int32.ofNat 4 from rfl]
    exact i_lt (by omega) (by omega)
  refine c_X8_readHead ⟨⟨_, ex⟩, fun h1 e1 => ⟨?_, fun h2 e2 => ?_⟩⟩
  · subst e1
    exact ⟨_, zput_self ex⟩
  have R2 : tR s0 F b s (dr, sz, (bs, 0, false), cl, me, u) g h2 := by rw [e2, e1]; exact R2
  clear e2 e1
  by_cases hk : k = 1 ∧ 4 ≤ bs.length
  · have e : r_head k bs = ((r_u16 (bs, 0, false)).1, (r_u16 (r_u16 (bs, 0, false)).2).1, (r_u16 (r_u16 (bs, 0, false)).2).2) := by
      unfold r_head
      exact if_pos hk
    rw [e] at K
    refine ⟨fun hh => absurd hk.1 hh, fun _ => e_I (R2.main hm) fun (z1 : gI h2 x0 30 = Int32.ofNat bs.length) => ?_⟩
    rw [z1]
    refine ⟨fun hh => absurd (h4.mp hh) (by omega), fun _ => ⟨⟨_, R2.main hm⟩, t_u16 (d := d) R2 hm fun h3 R3 => ⟨_, rfl, ?_⟩⟩⟩
    have e1 : (r_u16 (bs, 0, false)).2.1 = bs := (rd_u16 (r := (bs, 0, false))).1.1
    exact t_head_32 (d := d) R3 hm (fun hh => absurd ⟨hk.1, by rw [e1]; exact hk.2⟩ hh) fun _ h5 R5 => K h5 R5
  · have e : r_head k bs = (0, 0, (bs, 0, false)) := by
      unfold r_head
      exact if_neg hk
    rw [e] at K
    have h32 : zP s0 m_X8_readHead (d + 1 + 1) 31 [some (zr x0), some (.int k)] [zr x0] h2 Q E := b_X8_readHead_31 (t_head_32 (d := d) R2 hm (fun _ h5 R5 => K h5 R5) fun hh => absurd hh hk)
    refine ⟨fun _ => h32, fun h1 => e_I (R2.main hm) fun (z1 : gI h2 x0 30 = Int32.ofNat bs.length) => ?_⟩
    rw [z1]
    exact ⟨fun _ => h32, fun hh => absurd ⟨h1, by have := mt h4.mpr hh; omega⟩ hk⟩
/-- a frame is there, whole -/
abbrev oGood (ty n : Int32) : Prop := (ty = 1 ∨ ty = 2 ∨ ty = 3 ∨ ty = 8) ∧ 0 ≤ n ∧ n ≤ 400
/-- what comes of a frame -/
def s_fr (s : sSt) (c : Nat) (ty chan : Int32) (bs left : sBy) : sSt :=
  let s1 := s_cn s c (fun k => k.w_inp left)
  if (s1.cn c).state = 5 then s_onOpen s1 c ty chan bs else if (s1.cn c).state = 6 then s_onClosing s1 c ty chan bs else s_onGreeted s1 c ty chan bs
theorem takes_1 (h1 : (s.cn c).state = 1) : s_takes s c = if (s.cn c).inp.length < 8 then none else some (s_greet s c) := by
  unfold s_takes
  exact if_pos h1
theorem takes_nil (h1 : (s.cn c).state ≠ 1) (hl : (s.cn c).inp.length < 7) : s_takes s c = none := by
  unfold s_takes
  rw [if_neg h1]
  generalize (s.cn c).inp = l at hl
  match l, hl with
  | [], _ => rfl
  | [_], _ => rfl
  | [_, _], _ => rfl
  | [_, _, _], _ => rfl
  | [_, _, _, _], _ => rfl
  | [_, _, _, _, _], _ => rfl
  | [_, _, _, _, _, _], _ => rfl
theorem takes_eq (h1 : (s.cn c).state ≠ 1) (e : (s.cn c).inp = t :: c1 :: c2 :: n1 :: n2 :: n3 :: n4 :: rest) : s_takes s c =
    if oGood (zx t) (u_32 n1 n2 n3 n4) ∧ rest.length < (u_32 n1 n2 n3 n4).toNatClampNeg + 1 then none else
    if ¬ oGood (zx t) (u_32 n1 n2 n3 n4) ∨ rest[(u_32 n1 n2 n3 n4).toNatClampNeg]? ≠ some 206 then some (s_disp (s_noFrame (s_cn s c (fun k => k.w_inp [])) c)) else
    some (s_disp (s_fr s c (zx t) (u_16 c1 c2) (rest.take (u_32 n1 n2 n3 n4).toNatClampNeg) (rest.drop ((u_32 n1 n2 n3 n4).toNatClampNeg + 1)))) := by
  unfold s_takes
  rw [if_neg h1, e]
  rfl
theorem split7 {l : sBy} (h : 7 ≤ l.length) : ∃ t c1 c2 n1 n2 n3 n4 rest, l = t :: c1 :: c2 :: n1 :: n2 :: n3 :: n4 :: rest := by
  match l, h with
  | t :: c1 :: c2 :: n1 :: n2 :: n3 :: n4 :: rest, _ => exact ⟨t, c1, c2, n1, n2, n3, n4, rest, rfl⟩
theorem get7 (i : Nat) : (t :: c1 :: c2 :: n1 :: n2 :: n3 :: n4 :: rest)[7 + i]? = rest[i]? := by
  rw [Nat.add_comm 7 i]
  rfl
theorem drop7 (i : Nat) : (t :: c1 :: c2 :: n1 :: n2 :: n3 :: n4 :: rest).drop (8 + i) = rest.drop (i + 1) := by
  rw [show 8 + i = i + 1 + 1 + 1 + 1 + 1 + 1 + 1 + 1 by omega]
  rfl
theorem d_inp (hc : c < 4) (hl : inp2.length ≤ 828) : sDn s (s_cn s c (fun k => k.w_inp inp2)) := by
  unfold s_cn
  exact sDn.cnUp (fun I => ⟨hl, (I.cp.cn c hc).2⟩) fun e => e
/-- the frame's bytes are read into its array -/
theorem t_tk_169 (hx : g.kind x1 = (2, c)) (hc : c < 4) (hm : g.kind x0 = (1, 0)) (hn : n ≤ 400) (hnb : nb.length = n) (hin : ∀ j, j < n → (s.cn c).inp[7 + j]? = nb[j]?)
    (K : ∀ cur g1 h1, tR s0 F b s (dr, sz, (cur, rd.2.1, rd.2.2), cl, me, u) g1 h1 → gL g g1 → (g1.ar 16 0).length = 400 → vB nb <+: g1.ar 16 0 → g1.kind = g.kind → zP s0 m_X8_takesOne (d + 1) 169 [some (zr x0), some (zr x1), some (.int ty), some (.int chan), some (.int (Int32.ofNat n)), none, some (.int (Int32.ofNat n))] [] h1 Q E) :
    ∀ (k i : Nat) (cur : sBy) (g1 : sG) (h : zH), n = i + k → cur.length = rd.1.length → tR s0 F b s (dr, sz, (cur, rd.2.1, rd.2.2), cl, me, u) g1 h → gL g g1 → g1.kind = g.kind → (∀ j, j < i → (g1.ar 16 0)[j]? = (vB nb)[j]?) →
      zP s0 m_X8_takesOne (d + 1) 169 [some (zr x0), some (zr x1), some (.int ty), some (.int chan), some (.int (Int32.ofNat n)), none, some (.int (Int32.ofNat i))] [] h Q E
  | 0, i, cur, g1, h, hk, hcl, R, L, hkd, hd => by
    have ei : i = n := by omega
    subst ei
    refine K cur g1 h R L R.2.frame.1.2.1 (pre_of fun j x hx => ?_) hkd
    have := (List.getElem?_eq_some_iff.mp hx).1
    rw [vB_len] at this
    rw [hd j (by omega), hx]
  | k + 1, i, cur, g1, h, hk, hcl, R, L, hkd, hd => by
    have hm1 := L.m hm
    have hx1 := L.k hx gSt2
    have A := (R.2.2.2.2.2.1 c hc).1
    obtain ⟨eA, hA⟩ := R.arr (t := 0) A rfl (by decide) (by decide)
    have hleA := A.le
    rw [vB_len] at hleA
    have A6 := R.2.frame.1
    obtain ⟨e6, h6⟩ := R.arr (t := 0) A6 rfl (by decide) (by decide)
    have hat : rd.2.1 ≤ cur.length := R.2.frame.2
    obtain ⟨y, hy⟩ : ∃ y, nb[i]? = some y := ⟨_, List.getElem?_eq_getElem (by omega)⟩
    have hiy : (s.cn c).inp[7 + i]? = some y := by rw [hin i (by omega), hy]
    have hil := (List.getElem?_eq_some_iff.mp hiy).1
    refine b_X8_takesOne_169 ⟨fun hle => ?_, fun _ => e_R (R.main hm1) fun (z1 : gR h x0 29 = g1.ref 16 0) => e_R (R.1.cell hx1 (by decide)) fun (z2 : gR h x1 10 = g1.ref 25 c) => ?_⟩
    · rw [i_le (by omega) (by omega)] at hle
      omega
    rw [z1, z2, show (7 : Int32) = Int32.ofNat 7 from rfl, i_add]
    refine g_EI (t := 0) eA (zin_of (by rw [A.2.1]; omega) (by omega)) (by rw [i_nat (by omega)]; exact pre_get A.2.2 (vB_get hiy)) fun z3 => ?_
    rw [z3]
    refine g_S (t := 0) e6 h6 (zin_of (by rw [A6.2.1]; omega) (by omega)) ?_
    rintro h1 rfl
    rw [i_nat (by omega), sx_lo, lo8_sx, i_succ]
    have hpre : vB (cur.set i y) <+: (g1.ar 16 0).set i (.int (sx y)) := by
      by_cases hic : i < cur.length
      · have e : vB (cur.set i y) = (vB cur).set i (.int (sx y)) := List.map_set
        rw [e]
        exact pre_set A6.2.2 (by rw [vB_len]; exact hic)
      · rw [List.set_eq_of_length_le (by omega)]
        exact pre_set_out A6.2.2 (by rw [vB_len]; show cur.length ≤ i; omega)
    have hlen : (cur.set i y).length = cur.length := List.length_set
    have hne0 : x0 ≠ g1.ref 16 0 := kne hm1 A6.1 fun e => absurd (congrArg Prod.fst e) (by show ¬ (1 : Nat) = 16; decide)
    refine t_tk_169 hx hc hm hn hnb hin K k (i + 1) (cur.set i y) (gSet g1 16 0 ((g1.ar 16 0).set i (.int (sx y)))) _ (by omega) (hlen.trans hcl) (R.arM hm1 (t := 0) A6.1 (by decide) rfl ?_ rfl (fun r r0 r1 => zput_ne r1) ?_ (zput_self e6) ⟨rfl, rfl, rfl, rfl, rfl, rfl, rfl, rfl, rfl⟩ ?_) (L.trans gL.set) hkd fun j hj => ?_
    · show (1000 + tarT 16, (gSet g1 16 0 _).ar 16 0) = _
      rw [gSet_self]
      rfl
    · rw [zput_ne hne0, R.main hm1]
      show some (7, tMain s (dr, sz, (cur, rd.2.1, rd.2.2), cl, me, u) g1) = some (7, tMain s (dr, sz, (cur.set i y, rd.2.1, rd.2.2), cl, me, u) g1)
      unfold tMain
      show some (7, [_, _, _, _, _, _, _, _, _, _, _, _, _, _, _, _, _, _, _, _, _, _, _, _, _, _, _, _, _, _, vI cur.length, _, _, _, _, _, _, _, _, _, _, _, _, _, _, _]) = some (7, [_, _, _, _, _, _, _, _, _, _, _, _, _, _, _, _, _, _, _, _, _, _, _, _, _, _, _, _, _, _, vI (cur.set i y).length, _, _, _, _, _, _, _, _, _, _, _, _, _, _, _])
      rw [hlen]
      rfl
    · obtain ⟨b1, b2, b3, b4, b5, b6, b7, b8, b9, b10, b11, b12⟩ := R.2
      refine ⟨b1, ?_, b3.ne (by omega), b4.ne (by omega), fun k hk => ?_, b6.ne (by omega), b7, b8.ne (by omega), b9, b10, b11, b12⟩
      · obtain ⟨c1, c2, c3, c4, c5, c6, c7, c8, c9, c10, c11, c12, c13, c14⟩ := b2
        refine ⟨c1.ne1 (by omega), c2.ne1 (by omega), c3.ne1 (by omega), c4.ne1 (by omega), c5.ne1 (by omega), c6.ne1 (by omega), c7.ne1 (by omega), c8.ne1 (by omega), c9.ne1 (by omega), c10.ne1 (by omega), gAr.new A6.1 (by rw [List.length_set]; exact A6.2.1) hpre, c12.ne1 (by omega), c13.ne1 (by omega), ?_⟩
        show rd.2.1 ≤ (cur.set i y).length
        rw [hlen]
        exact hat
      · obtain ⟨a1, ⟨a2, a3⟩, a4⟩ := b5 k hk
        refine ⟨a1.ne1 (by omega), ⟨a2, ?_⟩, a4.ne1 (by omega)⟩
        rw [gSet_ne (fun q => absurd q.1 (by decide))]
        exact a3
    · rw [gSet_self]
      by_cases e : j = i
      · subst e
        rw [List.getElem?_set_self (by rw [A6.2.1]; omega)]
        exact (vB_get hy).symm
      · rw [List.getElem?_set_ne (fun q => e q.symm)]
        exact hd j (by omega)
def s_k9 (s : sSt) (c : Nat) (ty chan : Int32) (bs : sBy) : Nat := if (s.cn c).state = 5 then s_k0 s c ty chan bs else s_kj s c chan
/-- what may still be spent behind a frame -/
def s_left (s : sSt) (c : Nat) : Nat :=
  if (s.cn c).state = 1 then 300 * ((s.cn c).inp.length - 8) + tK s else match (s.cn c).inp with
  | t :: c1 :: c2 :: n1 :: n2 :: n3 :: n4 :: rest =>
    if ¬ oGood (zx t) (u_32 n1 n2 n3 n4) ∨ rest[(u_32 n1 n2 n3 n4).toNatClampNeg]? ≠ some 206 then tK s else
      300 * (rest.length - ((u_32 n1 n2 n3 n4).toNatClampNeg + 1)) + (tK s - s_kj s c (u_16 c1 c2)) + 950 + s_k9 s c (zx t) (u_16 c1 c2) (rest.take (u_32 n1 n2 n3 n4).toNatClampNeg)
  | _ => 0
theorem left_1 (h1 : (s.cn c).state = 1) : s_left s c = 300 * ((s.cn c).inp.length - 8) + tK s := by
  unfold s_left
  exact if_pos h1
theorem left_eq (h1 : (s.cn c).state ≠ 1) (e : (s.cn c).inp = t :: c1 :: c2 :: n1 :: n2 :: n3 :: n4 :: rest) : s_left s c =
    if ¬ oGood (zx t) (u_32 n1 n2 n3 n4) ∨ rest[(u_32 n1 n2 n3 n4).toNatClampNeg]? ≠ some 206 then tK s else
      300 * (rest.length - ((u_32 n1 n2 n3 n4).toNatClampNeg + 1)) + (tK s - s_kj s c (u_16 c1 c2)) + 950 + s_k9 s c (zx t) (u_16 c1 c2) (rest.take (u_32 n1 n2 n3 n4).toNatClampNeg) := by
  unfold s_left
  rw [if_neg h1, e]
theorem oA_300 {n : Nat} : oA n + 12 * n ≤ 300 * (8 + n) := by
  unfold oA
  by_cases h9 : 9 ≤ n
  · rw [if_pos h9]; omega
  · rw [if_neg h9]
    by_cases h4 : 4 ≤ n
    · rw [if_pos h4]; omega
    · rw [if_neg h4]; omega
theorem i_or (p q : Nat) : Int32.ofNat p ||| Int32.ofNat q = Int32.ofNat (p ||| q) := by
  rw [← Int32.ofBitVec_ofNat, ← Int32.ofBitVec_ofNat, ← Int32.ofBitVec_ofNat, ← Int32.ofBitVec_or, BitVec.ofNat_or]
theorem u16_rng {y z : UInt8} : ∃ n : Nat, n < 65536 ∧ u_16 y z = Int32.ofNat n := by
  have h : ∀ p : Fin 256, zx (UInt8.ofBitVec (BitVec.ofFin p)) <<< 8 = Int32.ofNat (256 * (UInt8.ofBitVec (BitVec.ofFin p)).toNat) := by decide +kernel
  have h1 : zx y <<< 8 = Int32.ofNat (256 * y.toNat) := h y.toBitVec.toFin
  refine ⟨256 * y.toNat ||| z.toNat, ?_, ?_⟩
  · have := y.toNat_lt
    have := z.toNat_lt
    exact Nat.or_lt_two_pow (n := 16) (by omega) (by omega)
  · unfold u_16
    rw [h1]
    exact i_or _ _
theorem k0_le : s_k0 s c ty chan bs ≤ s_kj s c chan := by
  unfold s_k0 s_kj
  by_cases hb : chan = 0 ∨ 3 < chan ∨ (ty = 1 ∧ (r_head ty bs).1 = 90 ∧ (r_head ty bs).2.1 = 20)
  · rw [if_pos hb]
    exact Nat.zero_le _
  · rw [if_neg hb, if_neg (fun hh => hb (hh.elim Or.inl fun q => Or.inr (Or.inl q)))]
    exact Nat.le_refl _
theorem k9_le : s_k9 s c ty chan bs ≤ s_kj s c chan := by
  unfold s_k9
  split
  · exact k0_le
  · exact Nat.le_refl _
theorem kj_le (hc : c < 4) (h0 : 0 ≤ chan) : s_kj s c chan ≤ tK s := by
  unfold s_kj tK
  by_cases hb : chan = 0 ∨ 3 < chan
  · rw [if_pos hb]
    exact Nat.zero_le _
  · rw [if_neg hb]
    refine Nat.mul_le_mul_left _ ?_
    refine mem_sum_le (f := fun h => (s.ch h).kept.length) (isH.hs (isH.of hc ?_ ?_))
    · refine Nat.pos_of_ne_zero fun e => hb (Or.inl ?_)
      have := i_of h0
      rw [e] at this
      exact this.symm
    · exact i_clamp (k := 3) (by decide) (Int32.not_lt.mp fun hh => hb (Or.inr hh))
end NR
