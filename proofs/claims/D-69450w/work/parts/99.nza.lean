/-! ===== the twin: bytes typed and sent ===== -/
set_option maxRecDepth 100000
set_option maxHeartbeats 200000
section NZA
variable {s0 : zE} {F : Nat → Option zC} {b : Nat} {s s' S : sSt} {w w' : tW} {g g' g0 : sG} {h h' : zH} {d x0 x1 n m c i : Nat} {x : Int32} {Q : Value → zH → Prop} {E : Nat → zH → Prop} {dr : sBy} {sz cl me thr : Int32} {rd : sRd} {u : List Nat × (Nat → Nat)} {word : Int64}
theorem sh_byte (a : BitVec 64) (n : Nat) (hn : n + 8 ≤ 64) : (BitVec.signExtend 32 (a >>> n)).setWidth 8 = (BitVec.signExtend 32 (a.sshiftRight n)).setWidth 8 := by
  rw [BitVec.signExtend_eq_setWidth_of_le _ (by decide), BitVec.signExtend_eq_setWidth_of_le _ (by decide)]
  refine BitVec.eq_of_getLsbD_eq fun i hi => ?_
  rw [BitVec.getLsbD_setWidth, BitVec.getLsbD_setWidth, BitVec.getLsbD_setWidth, BitVec.getLsbD_setWidth, BitVec.getLsbD_ushiftRight, BitVec.getLsbD_sshiftRight, if_pos (by omega), decide_eq_false (show ¬ 64 ≤ i by omega), Bool.not_false, Bool.true_and]
theorem ty_byte (k : Nat) (hk : k < 8) : lo8 ((word.toUInt64 >>> ((8 * Int32.ofNat k).toInt64.toUInt64 &&& Int64.toUInt64 63)).toInt64).toInt32 = lo8 (word >>> Int64.ofNat (8 * k)).toInt32 := by
  refine UInt8.toBitVec_inj.mp ?_
  have h : k = 0 ∨ k = 1 ∨ k = 2 ∨ k = 3 ∨ k = 4 ∨ k = 5 ∨ k = 6 ∨ k = 7 := by omega
  rcases h with e | e | e | e | e | e | e | e <;> subst e
  · exact sh_byte word.toBitVec 0 (by decide)
  · exact sh_byte word.toBitVec 8 (by decide)
  · exact sh_byte word.toBitVec 16 (by decide)
  · exact sh_byte word.toBitVec 24 (by decide)
  · exact sh_byte word.toBitVec 32 (by decide)
  · exact sh_byte word.toBitVec 40 (by decide)
  · exact sh_byte word.toBitVec 48 (by decide)
  · exact sh_byte word.toBitVec 56 (by decide)
/-- one less, from none on -/
def i_dec : Nat → Int32
  | 0 => -1
  | k + 1 => Int32.ofNat k
theorem dec_step (k : Nat) : Int32.ofNat k + (-1) = i_dec k := by
  cases k with
  | zero => decide
  | succ k =>
    show Int32.ofNat (k + 1) + (-1) = Int32.ofNat k
    rw [← i_succ, Int32.add_assoc, show (1 : Int32) + (-1) = 0 by decide, Int32.add_zero]
theorem ty8_len (k : Nat) : (s_ty8 word k).length = k := by
  induction k with
  | zero => rfl
  | succ k ih => rw [s_ty8, List.length_cons, ih]
/-- bytes are typed, one by one -/
theorem t_type_35 (hm0 : g0.kind x0 = (1, 0)) {S : sSt} (K : ∀ g1 h1, tR s0 F b S w g1 h1 → gL g0 g1 → Q (.int 1) h1) :
    ∀ (k : Nat) (s : sSt) (g : sG) (h : zH), k ≤ 8 → s.tape.length + k ≤ 420 → tR s0 F b s w g h → gL g0 g → S = s.w_tape (s.tape ++ s_ty8 word k) → zP s0 m_X8_type d 35 [some (zr x0), some (.long word), none, none, some (.int (i_dec k))] [] h Q E
  | 0, s, g, h, hk, hl, R, L, hS => by
    refine b_X8_type_35 ⟨fun _ => K g h ?_ L, fun hh => absurd (show (-1 : Int32) < 0 by decide) hh⟩
    rw [hS]
    have e : s.w_tape (s.tape ++ s_ty8 word 0) = s := by
      show s.w_tape (s.tape ++ []) = s
      rw [List.append_nil]
      rfl
    rw [e]
    exact R
  | k + 1, s, g, h, hk, hl, R, L, hS => by
    have hm := L.m hm0
    have em := R.main hm
    have A := R.2.ar15
    obtain ⟨eA, hA⟩ := R.arr (t := 0) A rfl (by decide) (by decide)
    have hne : x0 ≠ g.ref 15 0 := kne hm A.1 fun e => absurd (congrArg Prod.fst e) (by show ¬ (1 : Nat) = 15; decide)
    refine b_X8_type_35 ⟨fun hh => absurd hh (i_nn (by omega)), fun _ => e_R em fun (z1 : gR h x0 26 = g.ref 15 0) => e_I em fun (z2 : gI h x0 27 = Int32.ofNat s.tape.length) => ?_⟩
    rw [z1, z2]
    refine g_S (t := 0) eA hA (zin_of (by rw [A.2.1]; omega) (by omega)) ?_
    intro h1 e1
    show fI h1 x0 [7] 27 ∧ _
    rw [show i_dec (k + 1) = Int32.ofNat k from rfl, i_nat (by omega), sx_lo2, ty_byte k (by omega)] at e1
    have em1 : h1.1 x0 = some (7, tMain s w g) := by rw [e1, zput_ne hne]; exact em
    refine e_I em1 fun (z3 : gI h1 x0 27 = Int32.ofNat s.tape.length) => g_C em1 ?_
    rw [z3, i_succ]
    intro h2 e2
    have hpre : vB (s.tape ++ [lo8 (word >>> Int64.ofNat (8 * k)).toInt32]) <+: (g.ar 15 0).set s.tape.length (.int (sx (lo8 (word >>> Int64.ofNat (8 * k)).toInt32))) := by
      refine pre_of fun j y hy => ?_
      rw [vB_app] at hy
      have hvl : (vB s.tape).length = s.tape.length := vB_len _
      by_cases hj : j < s.tape.length
      · rw [List.getElem?_append_left (by rw [hvl]; exact hj)] at hy
        rw [List.getElem?_set_ne (by omega)]
        exact pre_get A.2.2 hy
      · have hjl := (List.getElem?_eq_some_iff.mp hy).1
        rw [List.length_append, hvl] at hjl
        have ej : j = s.tape.length := by
          have : (vB [lo8 (word >>> Int64.ofNat (8 * k)).toInt32]).length = 1 := rfl
          omega
        subst ej
        rw [List.getElem?_append_right (by rw [hvl]; exact Nat.le_refl _), hvl, Nat.sub_self] at hy
        rw [List.getElem?_set_self (by rw [A.2.1]; omega)]
        exact hy
    have G := R.2.set15 (xs := s.tape ++ [lo8 (word >>> Int64.ofNat (8 * k)).toInt32]) (by rw [List.length_set]; exact A.2.1) hpre
    have R2 := R.arM (t := 0) (s' := s.w_tape (s.tape ++ [lo8 (word >>> Int64.ofNat (8 * k)).toInt32])) (w' := w) (h' := h2) hm A.1 (by decide) rfl (by
      show (1000 + tarT 15, (gSet g 15 0 _).ar 15 0) = _
      rw [gSet_self]
      rfl) (by rw [e2, e1]; rfl) (fun r r0 r1 => by rw [e2, zput_ne r0, e1, zput_ne r1]) (by
      rw [e2, zput_self em1]
      have hlen : (s.tape ++ [lo8 (word >>> Int64.ofNat (8 * k)).toInt32]).length = s.tape.length + 1 := by rw [List.length_append]; rfl
      generalize lo8 (word >>> Int64.ofNat (8 * k)).toInt32 = y at hlen
      show some (7, (tMain s w g).set 27 (vI (s.tape.length + 1))) = _
      rw [← hlen]
      rfl) (by rw [e2, zput_ne (fun e => hne e.symm), e1]; exact zput_self eA) ⟨rfl, rfl, rfl, rfl, rfl, rfl, rfl, rfl, rfl⟩ G
    rw [show i_dec (k + 1) = Int32.ofNat k from rfl, dec_step]
    refine t_type_35 hm0 K k _ _ h2 (by omega) (by show (s.tape ++ [_]).length + k ≤ 420; rw [List.length_append]; show s.tape.length + 1 + k ≤ 420; omega) R2 (L.trans gL.set) ?_
    rw [hS, s_ty8]
    generalize lo8 (word >>> Int64.ofNat (8 * k)).toInt32 = y
    show s.w_tape (s.tape ++ y :: s_ty8 word k) = s.w_tape ((s.tape ++ [y]) ++ s_ty8 word k)
    rw [List.append_assoc]
    rfl
theorem i_sub1 {k : Nat} : Int32.ofNat (k + 1) - 1 = i_dec (k + 1) := by
  rw [show (1 : Int32) = Int32.ofNat 1 from rfl, i_sub (by omega)]
  rfl
theorem sI.w_tape {l : sBy} (I : sI s) (hl : l.length ≤ 420) : sI (s.w_tape l) := by
  obtain ⟨a1, a2, a3, a4, ⟨c1, c2, c3, c4, c5, c6, c7, c8, c9, c10, c11, c12, c13, c14, c15, c16, c17, c18⟩, a6⟩ := I
  exact ⟨a1, a2, a3, a4, ⟨c1, c2, c3, c4, c5, c6, c7, c8, c9, c10, c11, c12, c13, c14, c15, hl, c17, c18⟩, a6⟩
theorem V_tape {l : sBy} (V : sVV n s) : sVV n (s.w_tape l) := V
theorem t_type (Z : tZ s0 F (b + 2400 + tV s + tY s) s w g h) (hm : g.kind x0 = (1, 0)) (V : sVV n s)
    (K : ∀ g1 h1, tZ s0 F (b + tV (c_type s word x).2 + tY (c_type s word x).2) (c_type s word x).2 (w.w_thr 0) g1 h1 → sVV n (c_type s word x).2 → sPend (c_type s word x).2 ≤ sPend s + 8 → gL g g1 → Q (.int (c_type s word x).1) h1) : zX s0 m_X8_type d [zr x0, .long word, .int x] h Q E := by
  obtain ⟨dr, sz, rd, cl, me, thr, u⟩ := w
  unfold c_type at K
  have hl := Z.i.cp.2.2.2.2.2.2.2.2.2.2.2.2.2.2.2.1
  have hno : ∀ h1, (x < 1 ∨ 8 < x ∨ 420 < s.tape.length + x.toNatClampNeg) → tZ s0 F (b + 2400 + tV s + tY s) s (dr, sz, rd, cl, me, 0, u) g h1 → Q (.int 0) h1 := fun h1 hb Z1 => by
    rw [if_pos hb] at K
    try dsimp only at K
    exact K g h1 (Z1.le (by omega)) V (Nat.le_add_right _ _) (gL.refl g)
  refine c_X8_type (g_Thr Z hm fun h1 Z1 => ⟨fun h1' => hno h1 (Or.inl h1') Z1, fun h1' => ⟨fun h8 => hno h1 (Or.inr (Or.inl h8)) Z1, fun h8 => e_I (Z1.r.main hm) fun (z1 : gI h1 x0 27 = Int32.ofNat s.tape.length) => ?_⟩⟩)
  have hy8 : x.toNatClampNeg ≤ 8 := i_clamp (k := 8) (by decide) (Int32.not_lt.mp h8)
  have hy0 : 0 ≤ x := Int32.le_trans (by decide) (Int32.not_lt.mp h1')
  have ey : x = Int32.ofNat x.toNatClampNeg := (i_of hy0).symm
  have hy1 : 1 ≤ x.toNatClampNeg := by
    refine Nat.pos_of_ne_zero fun e => h1' ?_
    rw [ey, e]
    decide
  generalize x.toNatClampNeg = m at *
  subst ey
  rw [z1, i_add, show (420 : Int32) = Int32.ofNat 420 from rfl, i_le (by omega) (by decide)]
  refine ⟨fun hfit => ?_, fun hfit => hno h1 (Or.inr (Or.inr (by omega))) Z1⟩
  rw [if_neg (fun hh => hh.elim h1' fun q => q.elim h8 fun q => by omega)] at K
  try dsimp only at K
  obtain ⟨k, rfl⟩ : ∃ k, m = k + 1 := ⟨m - 1, by omega⟩
  rw [i_sub1]
  have hlen : (s.tape ++ s_ty8 word (k + 1)).length = s.tape.length + (k + 1) := by rw [List.length_append, ty8_len]
  have I9 := Z.i.w_tape (l := s.tape ++ s_ty8 word (k + 1)) (by omega)
  have V9 := V_tape (l := s.tape ++ s_ty8 word (k + 1)) V
  have hp : sPend (s.w_tape (s.tape ++ s_ty8 word (k + 1))) = sPend s + (k + 1) := by
    unfold sPend
    have e1 : (s.w_tape (s.tape ++ s_ty8 word (k + 1))).tape = s.tape ++ s_ty8 word (k + 1) := rfl
    have e2 : (s.w_tape (s.tape ++ s_ty8 word (k + 1))).cn = s.cn := rfl
    rw [e1, e2, hlen]
    omega
  have tk : tK (s.w_tape (s.tape ++ s_ty8 word (k + 1))) = tK s := rfl
  have ty : tY (s.w_tape (s.tape ++ s_ty8 word (k + 1))) = tY s := rfl
  have tp : tP (s.w_tape (s.tape ++ s_ty8 word (k + 1))) = tP s := rfl
  have sw : sWt (s.w_tape (s.tape ++ s_ty8 word (k + 1))) = sWt s := rfl
  have hv : tV (s.w_tape (s.tape ++ s_ty8 word (k + 1))) ≤ tV s + 2400 := by
    unfold tV
    rw [hp, tk]
    omega
  refine t_type_35 (w := (dr, sz, rd, cl, me, 0, u)) hm (S := s.w_tape (s.tape ++ s_ty8 word (k + 1))) (fun g2 h2 R2 L2 => ?_) (k + 1) s g h1 hy8 hfit Z1.r (gL.refl g) rfl
  generalize s.w_tape (s.tape ++ s_ty8 word (k + 1)) = s9 at *
  have hzc := Z.c
  exact K g2 h2 ⟨R2.less (by omega), I9, by omega⟩ V9 (by omega) L2
/-! sending -/
theorem tG.set25 {l : List Value} (G : tG s w g) (hl : c < 4 → l.length = 900 ∧ vB (s.cn c).inp <+: l) : tG s w (gSet g 25 c l) := by
  obtain ⟨b1, b2, b3, b4, b5, b6, b7, b8, b9, b10, b11, b12⟩ := G
  refine ⟨b1, ?_, b3.ne (by omega), b4.ne (by omega), fun k hk => ?_, b6.ne (by omega), b7, b8.ne (by omega), b9, b10, b11, b12⟩
  · obtain ⟨c1, c2, c3, c4, c5, c6, c7, c8, c9, c10, c11, c12, c13, c14⟩ := b2
    exact ⟨c1.ne1 (by omega), c2.ne1 (by omega), c3.ne1 (by omega), c4.ne1 (by omega), c5.ne1 (by omega), c6.ne1 (by omega), c7.ne1 (by omega), c8.ne1 (by omega), c9.ne1 (by omega), c10.ne1 (by omega), c11.ne1 (by omega), c12.ne1 (by omega), c13.ne1 (by omega), c14⟩
  · obtain ⟨a1, ⟨a2, a3⟩, a4⟩ := b5 k hk
    refine ⟨?_, ⟨a2, ?_⟩, a4.ne1 (by omega)⟩
    · by_cases e : k = c
      · subst e
        exact gAr.new a1.1 (hl hk).1 (hl hk).2
      · exact a1.ne fun q => e q.2
    · rw [gSet_ne (fun q => absurd q.1 (by decide))]
      exact a3
theorem tR.put25 (R : tR s0 F b s w g h) (hc : c < 4) {k : Nat} {v : Value} (hl : vB (s.cn c).inp <+: (g.ar 25 c).set k v) : tR s0 F b s w (gSet g 25 c ((g.ar 25 c).set k v)) (zput h (g.ref 25 c) k v) := by
  have A := (R.2.2.2.2.2.1 c hc).1
  refine ⟨R.1.put A.1 (by decide) rfl rfl (cc := 1000 + tarT 25) (fs := g.ar 25 c) rfl ?_ (fun m hk hne => tcell_set fun e => hne (Prod.ext e.1 e.2)), R.2.set25 fun _ => ⟨by rw [List.length_set]; exact A.2.1, hl⟩⟩
  show (1000 + tarT 25, (gSet g 25 c _).ar 25 c) = _
  rw [gSet_self]
/-- what is typed goes behind what came -/
theorem t_send_58 {tp : sBy} (hc : c < 4) (hm0 : g0.kind x0 = (1, 0)) (hx0 : g0.kind x1 = (2, c)) (hfit : (s.cn c).inp.length + tp.length ≤ 828) (hpt : vB tp <+: g0.ar 15 0)
    (K : ∀ g1 h1, tR s0 F b s w g1 h1 → gL g0 g1 → vB ((s.cn c).inp ++ tp) <+: g1.ar 25 c → zP s0 m_X8_send (d + 1) 58 [some (zr x0), none, some (.int (Int32.ofNat tp.length)), some (zr x1), some (.int (Int32.ofNat tp.length))] [] h1 Q E) :
    ∀ (k i : Nat) (g : sG) (h : zH), tp.length = i + k → tR s0 F b s w g h → gL g0 g → g.ar 15 0 = g0.ar 15 0 → (∀ j, j < i → (g.ar 25 c)[(s.cn c).inp.length + j]? = (vB tp)[j]?) → zP s0 m_X8_send (d + 1) 58 [some (zr x0), none, some (.int (Int32.ofNat tp.length)), some (zr x1), some (.int (Int32.ofNat i))] [] h Q E
  | 0, i, g, h, hi, R, L, h15, hd => by
    have ei : i = tp.length := by omega
    subst ei
    refine K g h R L (pre_of fun j y hy => ?_)
    rw [vB_app] at hy
    have hvl : (vB (s.cn c).inp).length = (s.cn c).inp.length := vB_len _
    have A := (R.2.2.2.2.2.1 c hc).1
    by_cases hj : j < (s.cn c).inp.length
    · rw [List.getElem?_append_left (by rw [hvl]; exact hj)] at hy
      exact pre_get A.2.2 hy
    · rw [List.getElem?_append_right (by rw [hvl]; omega), hvl] at hy
      have hjl := (List.getElem?_eq_some_iff.mp hy).1
      rw [vB_len] at hjl
      have := hd (j - (s.cn c).inp.length) hjl
      rw [hy] at this
      rw [show (s.cn c).inp.length + (j - (s.cn c).inp.length) = j by omega] at this
      exact this
  | k + 1, i, g, h, hi, R, L, h15, hd => by
    have hm := L.m hm0
    have hx := L.k hx0 gSt2
    have ex := R.1.cell hx (by decide)
    have A := (R.2.2.2.2.2.1 c hc).1
    obtain ⟨eA, hA⟩ := R.arr (t := 0) A rfl (by decide) (by decide)
    have A15 := R.2.ar15
    obtain ⟨e15, -⟩ := R.arr (t := 0) A15 rfl (by decide) (by decide)
    obtain ⟨y, hy⟩ : ∃ y, tp[i]? = some y := ⟨_, List.getElem?_eq_getElem (by omega)⟩
    refine b_X8_send_58 ⟨fun hle => ?_, fun _ => e_R ex fun (z1 : gR h x1 10 = g.ref 25 c) => e_I ex fun (z2 : gI h x1 3 = Int32.ofNat (s.cn c).inp.length) => e_R (R.main hm) fun (z3 : gR h x0 26 = g.ref 15 0) => ?_⟩
    · rw [i_le (by omega) (by omega)] at hle
      omega
    rw [z1, z2, z3, i_add]
    have hpl : tp.length ≤ 420 := by
      have := A15.2.1
      rw [h15] at this
      have h2 := List.IsPrefix.length_le hpt
      rw [vB_len] at h2
      omega
    refine g_EI (t := 0) e15 (zin_of (by rw [A15.2.1]; omega) (by omega)) (by rw [i_nat (by omega), h15]; exact pre_get hpt (vB_get hy)) fun z4 => ?_
    rw [z4]
    refine g_S (t := 0) eA hA (zin_of (by rw [A.2.1]; omega) (by omega)) ?_
    rintro h1 rfl
    rw [i_nat (by omega), sx_lo, lo8_sx, i_succ]
    have hpre : vB (s.cn c).inp <+: (g.ar 25 c).set ((s.cn c).inp.length + i) (.int (sx y)) := pre_set_out A.2.2 (by rw [vB_len]; omega)
    refine t_send_58 hc hm0 hx0 hfit hpt K k (i + 1) _ _ (by omega) (R.put25 hc hpre) (L.trans gL.set) ?_ fun j hj => ?_
    · rw [gSet_ne (fun q => absurd q.1 (by decide))]
      exact h15
    · rw [gSet_self]
      by_cases e : j = i
      · subst e
        rw [List.getElem?_set_self (by rw [A.2.1]; omega)]
        exact (vB_get hy).symm
      · rw [List.getElem?_set_ne (by omega)]
        exact hd j (by omega)
theorem takeIn_deaf {X Y : sBy} (hd : (s.cn c).deaf = true) : s_takeIn (s_cn s c (fun k => k.w_inp X)) c = s_takeIn (s_cn s c (fun k => k.w_inp Y)) c := by
  have H : ∀ X : sBy, s_takeIn (s_cn s c (fun k => k.w_inp X)) c = s_cn s c (fun k => k.w_inp []) := fun X => by
    have hcn : (s_cn s c (fun k => k.w_inp X)).cn c = (s.cn c).w_inp X := sUp_self
    have hd2 : ((s_cn s c (fun k => k.w_inp X)).cn c).state = 0 ∨ ((s_cn s c (fun k => k.w_inp X)).cn c).deaf = true := by rw [hcn]; exact Or.inr hd
    have hf : s_takeF c 1000 (s_cn s c (fun k => k.w_inp X)) = s_cn s c (fun k => k.w_inp X) := by
      rw [s_takeF, if_pos hd2]
    unfold s_takeIn
    dsimp only
    rw [hf, if_pos hd2]
    show s.w_cn (sUp (sUp s.cn c ((s.cn c).w_inp X)) c ((sUp s.cn c ((s.cn c).w_inp X) c).w_inp [])) = s.w_cn (sUp s.cn c ((s.cn c).w_inp []))
    rw [sUp_sUp, sUp_self]
    rfl
  rw [H X, H Y]
end NZA
