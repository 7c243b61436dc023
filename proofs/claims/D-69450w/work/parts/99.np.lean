/-! ===== the twin: bytes that came are taken away; words; the greeting ===== -/
set_option maxRecDepth 100000
section NP
variable {s0 : zE} {F : Nat → Option zC} {b : Nat} {s s' : sSt} {w w' : tW} {g g' : sG} {h h' hS hB : zH} {d x0 x1 a j n c k m : Nat} {Q : Value → zH → Prop} {E : Nat → zH → Prop} {dr : sBy} {sz cl me : Int32} {rd : sRd} {u : Int32 × List Nat × (Nat → Nat)} {v : Int32 × Int32 × Int32 × List Nat × (Nat → Nat)} {bs inp inp2 nb : sBy} {fs L L' : List Value}
theorem lo8_sx (x : UInt8) : lo8 (sx x) = x := by
  have h : ∀ n : Fin 256, lo8 (sx (UInt8.ofBitVec (BitVec.ofFin n))) = UInt8.ofBitVec (BitVec.ofFin n) := by decide +kernel
  exact h x.toBitVec.toFin
theorem pre_of {α : Type} {xs l : List α} (H : ∀ (j : Nat) x, xs[j]? = some x → l[j]? = some x) : xs <+: l := by
  refine List.prefix_iff_eq_take.mpr (List.ext_getElem? fun j => ?_)
  rw [List.getElem?_take]
  by_cases hj : j < xs.length
  · rw [if_pos hj, List.getElem?_eq_getElem hj]
    exact (H j _ (List.getElem?_eq_getElem hj)).symm
  · rw [if_neg hj, List.getElem?_eq_none (by omega)]
theorem vB_at {x : UInt8} (hx : bs[j]? = some x) : (vB bs)[j]? = some (.int (sx x)) := vB_get hx
theorem l_drop_12 (hne : x1 ≠ a) (h3 : fs[3]? = some (.int (Int32.ofNat (m - n)))) (h10 : fs[10]? = some (zr a)) (hm : inp.length = m) (hn : n ≤ m) (hm9 : m ≤ 900) (hnew : s0.1.heap.size < a)
    (K : ∀ h' L', h'.2 = hS.2 → (∀ r, r ≠ a → h'.1 r = hS.1 r) → h'.1 a = some (1000, L') → L'.length = 900 → vB (inp.drop n) <+: L' → Q .null h') :
    ∀ (k i : Nat) (h : zH) (L : List Value), m - n = i + k → h.2 = hS.2 → (∀ r, r ≠ a → h.1 r = hS.1 r) → h.1 x1 = some (8, fs) → h.1 a = some (1000, L) → L.length = 900 → (∀ j, i ≤ j → j < m → L[j]? = (vB inp)[j]?) → (∀ j, j < i → L[j]? = (vB (inp.drop n))[j]?) →
      zP s0 m_X8_drop d 12 [none, some (zr x1), some (.int (Int32.ofNat n)), some (.int (Int32.ofNat i))] [] h Q E
  | k, i, h, L, hk, e2, eo, ex, ea, hL, hin, hdone => by
    refine b_X8_drop_12 (e_I ex (fun (z1 : gI h x1 3 = Int32.ofNat (m - n)) => ?_) (hv := h3))
    rw [z1, i_le (by omega) (by omega)]
    refine ⟨fun hle => ?_, fun hle => ?_⟩
    · have ei : i = m - n := by omega
      refine K h L e2 eo ea hL (pre_of fun j x hx => ?_)
      have hj : j < i := by
        have := (List.getElem?_eq_some_iff.mp hx).1
        rw [vB_len, List.length_drop] at this
        omega
      rw [hdone j hj, hx]
    · obtain ⟨k', rfl⟩ : ∃ k', k = k' + 1 := ⟨k - 1, by omega⟩
      obtain ⟨y, hy⟩ : ∃ y, inp[i + n]? = some y := ⟨_, List.getElem?_eq_getElem (by omega)⟩
      have hLy : L[i + n]? = some (.int (sx y)) := by rw [hin (i + n) (by omega) (by omega)]; exact vB_get hy
      refine e_R ex (fun (z2 : gR h x1 10 = a) => e_R ex (fun _ => ?_) (hv := h10)) (hv := h10)
      rw [z2, i_add]
      refine g_EI (t := 0) ea (zin_of (by rw [hL]; omega) (by omega)) (by rw [i_nat (by omega)]; exact hLy) fun z3 => ?_
      rw [z3]
      refine g_S (t := 0) ea hnew (zin_of (by rw [hL]; omega) (by omega)) ?_
      rintro h1 rfl
      rw [i_nat (by omega), sx_lo, lo8_sx, i_succ]
      refine l_drop_12 hne h3 h10 hm hn hm9 hnew K k' (i + 1) _ (L.set i (.int (sx y))) (by omega) e2 (fun r hr => by rw [zput_ne hr]; exact eo r hr) (by rw [zput_ne hne]; exact ex) (zput_self ea) (by rw [List.length_set]; exact hL) (fun j h1 h2 => ?_) fun j hj => ?_
      · rw [List.getElem?_set_ne (by omega)]
        exact hin j (by omega) h2
      · by_cases e : j = i
        · subst e
          rw [List.getElem?_set_self (by omega)]
          refine (vB_get ?_).symm
          rw [List.getElem?_drop, Nat.add_comm]
          exact hy
        · rw [List.getElem?_set_ne (fun q => e q.symm)]
          exact hdone j (by omega)
/-- bytes are taken away, as the heap sees it -/
theorem l_drop (hne : x1 ≠ a) (ex : h.1 x1 = some (8, fs)) (h3 : fs[3]? = some (.int (Int32.ofNat m))) (h10 : fs[10]? = some (zr a)) (hm : inp.length = m) (hn : n ≤ m) (hm9 : m ≤ 900) (ea : h.1 a = some (1000, L)) (hnew : s0.1.heap.size < a) (hL : L.length = 900) (hp : vB inp <+: L)
    (K : ∀ h' L', h'.2 = h.2 → (∀ r, r ≠ x1 → r ≠ a → h'.1 r = h.1 r) → h'.1 x1 = some (8, fs.set 3 (.int (Int32.ofNat (m - n)))) → h'.1 a = some (1000, L') → L'.length = 900 → vB (inp.drop n) <+: L' → Q .null h') :
    zX s0 m_X8_drop d [zr x0, zr x1, .int (Int32.ofNat n)] h Q E := by
  refine c_X8_drop (e_I ex (fun (z1 : gI h x1 3 = Int32.ofNat m) => g_C ex ?_) (hv := h3))
  rw [z1, i_sub hn]
  rintro h1 rfl
  have h3l : 3 < fs.length := (List.getElem?_eq_some_iff.mp h3).1
  have e1 : (zput h x1 3 (.int (Int32.ofNat (m - n)))).1 x1 = some (8, fs.set 3 (.int (Int32.ofNat (m - n)))) := zput_self ex
  refine l_drop_12 (inp := inp) (m := m) (hS := zput h x1 3 (.int (Int32.ofNat (m - n)))) hne (List.getElem?_set_self h3l) (by rw [List.getElem?_set_ne (by omega)]; exact h10) hm hn hm9 hnew (fun h' L' f2 fo fa fl fp => K h' L' f2 (fun r r1 r2 => by rw [fo r r2, zput_ne r1]) ?_ fa fl fp) (m - n) 0 _ L (by omega) rfl (fun r hr => rfl) e1 (by rw [zput_ne hne.symm]; exact ea) hL (fun j _ h2 => ?_) (fun j hj => absurd hj (by omega))
  · rw [fo x1 hne]
    exact e1
  · obtain ⟨x, hx⟩ : ∃ x, inp[j]? = some x := ⟨_, List.getElem?_eq_getElem (by omega)⟩
    rw [vB_get hx]
    exact pre_get hp (vB_get hx)
/-- what came of a connection is written anew, and what is read -/
theorem tR.dropG (R : tR s0 F b s w g h) (hm : g.kind x0 = (1, 0)) (hx : g.kind x1 = (2, c)) (hS : tSame s s w w') (h16 : gAr g 16 0 400 (vB w'.rd.1) ∧ w'.rd.2.1 ≤ w'.rd.1.length) (hdr : w'.dr = w.dr) (hrt : w'.rt = w.rt) (hcd : w'.cd = w.cd)
    (e2 : hB.2 = h.2) (eo : ∀ r, r ≠ x0 → r ≠ x1 → r ≠ g.ref 25 c → hB.1 r = h.1 r) (e0 : hB.1 x0 = some (7, tMain s w' g)) (e1 : hB.1 x1 = some (8, tCn ((s.cn c).w_inp inp2) g c)) (ea : hB.1 (g.ref 25 c) = some (1000, L')) (hL : L'.length = 900) (hp : vB inp2 <+: L') (hc : c < 4) :
    tR s0 F b (s.w_cn (sUp s.cn c ((s.cn c).w_inp inp2))) w' (gSet g 25 c L') hB := by
  have A25 := (R.2.2.2.2.2.1 c hc).1
  refine ⟨R.1.re [x0, x1, g.ref 25 c] e2 rfl rfl (fun r hr => ?_) (fun r hr => ?_) fun r hk hr => ?_, ?_⟩
  · rw [List.mem_cons, List.mem_cons, List.mem_singleton] at hr
    exact eo r (fun q => hr (Or.inl q)) (fun q => hr (Or.inr (Or.inl q))) (fun q => hr (Or.inr (Or.inr q)))
  · rw [List.mem_cons, List.mem_cons, List.mem_singleton] at hr
    rcases hr with q | q | q
    · subst q
      rw [hm]
      exact ⟨by decide, e0⟩
    · subst q
      rw [hx]
      refine ⟨by show (2 : Nat) ≠ 0; decide, ?_⟩
      rw [e1]
      show _ = some (8, tCn (sUp s.cn c ((s.cn c).w_inp inp2) c) (gSet g 25 c L') c)
      rw [sUp_self]
      rfl
    · rw [q, A25.1]
      refine ⟨by show (25 : Nat) ≠ 0; decide, ?_⟩
      rw [ea]
      show _ = some (1000 + tarT 25, (gSet g 25 c L').ar 25 c)
      rw [gSet_self]
      rfl
  · rw [List.mem_cons, List.mem_cons, List.mem_singleton] at hr
    have n1 : g.kind r ≠ (1, 0) := fun e => hr (Or.inl (by rw [← R.1.at e (by decide), R.1.at hm (by decide)]))
    have n2 : g.kind r ≠ (2, c) := fun e => hr (Or.inr (Or.inl (by rw [← R.1.at e (by decide), R.1.at hx (by decide)])))
    have n3 : ¬ ((g.kind r).1 = 25 ∧ (g.kind r).2 = c) := fun e => hr (Or.inr (Or.inr (by
      have e1 : g.kind r = (25, c) := Prod.ext e.1 e.2
      rw [← R.1.at e1 (by decide)])))
    rw [tcell_set n3, tcell_cn (fun e => n2 (Prod.ext e.1 e.2))]
    exact tcell_same hS fun e => n1 (Prod.ext e (R.2.1.2.1 r _ (Prod.ext e rfl)))
  · obtain ⟨b1, b2, b3, b4, b5, b6, b7, b8, b9, b10, b11, b12⟩ := R.2
    refine ⟨b1, ?_, b3.ne (by omega), b4.ne (by omega), fun k hk => ?_, ?_, b7, b8.ne (by omega), b9, b10, b11, b12⟩
    · obtain ⟨c1, c2, c3, c4, c5, c6, c7, c8, c9, c10, c11, c12, c13, c14⟩ := b2
      refine ⟨c1.ne1 (by omega), c2.ne1 (by omega), c3.ne1 (by omega), c4.ne1 (by omega), c5.ne1 (by omega), c6.ne1 (by omega), c7.ne1 (by omega), c8.ne1 (by omega), c9.ne1 (by omega), c10.ne1 (by omega), h16.1.ne1 (by omega), ?_, ?_, h16.2⟩
      · rw [hdr]
        exact c12.ne1 (by omega)
      · rw [hrt]
        exact c13.ne1 (by omega)
    · obtain ⟨a1, ⟨a2, a3⟩, a4⟩ := b5 k hk
      show gAr (gSet g 25 c L') 25 k 900 (vB (sUp s.cn c ((s.cn c).w_inp inp2) k).inp) ∧ (gA1 (gSet g 25 c L') 26 k ∧ gRing ((gSet g 25 c L').ar 26 k) (sUp s.cn c ((s.cn c).w_inp inp2) k).first (sUp s.cn c ((s.cn c).w_inp inp2) k).out) ∧ gAr (gSet g 25 c L') 27 k 4 (zr 0 :: [1, 2, 3].map (fun q => zr (g.ref 3 (4 * k + q))))
      refine ⟨?_, ⟨a2, ?_⟩, a4.ne1 (by omega)⟩
      · by_cases e : k = c
        · subst e
          rw [sUp_self]
          exact gAr.new a1.1 hL hp
        · rw [sUp_ne e]
          exact a1.ne (fun q => e q.2)
      · rw [gSet_ne (fun q => absurd q.1 (by decide))]
        by_cases e : k = c
        · subst e
          rw [sUp_self]
          exact a3
        · rw [sUp_ne e]
          exact a3
    · have b6 : tGch (s.w_cn (sUp s.cn c ((s.cn c).w_inp inp2))) w' g := fun j hj => by
        obtain ⟨f1, f2, f3, f4, f5⟩ := b6 j hj
        rw [hcd]
        exact ⟨f1, f2, f3, f4, f5⟩
      exact b6.ne (by omega)
/-- bytes are taken away -/
theorem t_drop (R : tR s0 F b s w g h) (hm : g.kind x0 = (1, 0)) (hx : g.kind x1 = (2, c)) (hc : c < 4) (hn : n ≤ (s.cn c).inp.length)
    (K : ∀ g1 h1, tR s0 F b (s_cn s c (fun k => k.w_inp (k.inp.drop n))) w g1 h1 → gL g g1 → Q .null h1) : zX s0 m_X8_drop d [zr x0, zr x1, .int (Int32.ofNat n)] h Q E := by
  have A := (R.2.2.2.2.2.1 c hc).1
  obtain ⟨eA, hA⟩ := R.arr (t := 0) A rfl (by decide) (by decide)
  have hle := A.le
  rw [vB_len] at hle
  have hne : x1 ≠ g.ref 25 c := kne hx A.1 fun e => absurd (congrArg Prod.fst e) (by show ¬ (2 : Nat) = 25; decide)
  have hne0 : x0 ≠ g.ref 25 c := kne hm A.1 fun e => absurd (congrArg Prod.fst e) (by show ¬ (1 : Nat) = 25; decide)
  have hne1 : x0 ≠ x1 := kne hm hx fun e => absurd (congrArg Prod.fst e) (by show ¬ (1 : Nat) = 2; decide)
  refine l_drop (inp := (s.cn c).inp) hne (R.1.cell hx (by decide)) rfl rfl rfl hn hle eA hA A.2.1 A.2.2 fun h1 L1 f2 fo f1 fa fl fp => ?_
  refine K (gSet g 25 c L1) h1 (R.dropG hm hx ⟨rfl, rfl, rfl, rfl, rfl, rfl, rfl, rfl, rfl⟩ R.2.frame rfl rfl rfl f2 (fun r r0 r1 r2 => fo r r1 r2) ?_ ?_ fa fl fp hc) gL.set
  · rw [fo x0 hne1 hne0]
    exact R.main hm
  · rw [f1, ← List.length_drop]
    rfl
theorem i_shl2 (X y z : Int32) : ((X <<< 8 ||| y) <<< 8) ||| z = X <<< 16 ||| (y <<< 8 ||| z) := by
  refine Int32.toBitVec_inj.mp ?_
  show ((X.toBitVec <<< 8 ||| y.toBitVec) <<< 8) ||| z.toBitVec = X.toBitVec <<< 16 ||| (y.toBitVec <<< 8 ||| z.toBitVec)
  rw [BitVec.shiftLeft_or_distrib, ← BitVec.shiftLeft_add, BitVec.or_assoc]
theorem i_shl0 (y : Int32) : (0 : Int32) <<< 8 ||| y = y := by
  refine Int32.toBitVec_inj.mp ?_
  show (0#32) <<< 8 ||| y.toBitVec = y.toBitVec
  rw [BitVec.zero_shiftLeft, BitVec.zero_or]
theorem i_shlz (y z : Int32) : (0 : Int32) <<< 16 ||| (y <<< 8 ||| z) = y <<< 8 ||| z := by
  refine Int32.toBitVec_inj.mp ?_
  show (0#32) <<< 16 ||| (y.toBitVec <<< 8 ||| z.toBitVec) = y.toBitVec <<< 8 ||| z.toBitVec
  rw [BitVec.zero_shiftLeft, BitVec.zero_or]
/-- one byte more of a word -/
theorem t_word_5 {x : Int32} {f i : Nat} {y : UInt8} (ea : h.1 a = some (1000, L)) (hL : L.length < 1000) (hf : f + i < L.length) (hy : L[f + i]? = some (.int (sx y))) (hi : i < k) (hk : k < 10)
    (K : zP s0 m_X8_word d 5 [some (zr a), some (.int (Int32.ofNat f)), some (.int (Int32.ofNat k)), some (.int (x <<< 8 ||| zx y)), some (.int (Int32.ofNat (i + 1)))] [] h Q E) :
    zP s0 m_X8_word d 5 [some (zr a), some (.int (Int32.ofNat f)), some (.int (Int32.ofNat k)), some (.int x), some (.int (Int32.ofNat i))] [] h Q E := by
  refine b_X8_word_5 ⟨fun hle => ?_, fun hle => ?_⟩
  · rw [i_le (by omega) (by omega)] at hle
    omega
  · rw [i_add]
    refine g_EI (t := 0) ea (zin_of (by omega) (by omega)) (by rw [i_nat (by omega)]; exact hy) fun z1 => ?_
    rw [z1, sx_and, i_succ]
    exact K
theorem t_word_end {x : Int32} {f : Nat} (K : Q (.int x) h) : zP s0 m_X8_word d 5 [some (zr a), some (.int (Int32.ofNat f)), some (.int (Int32.ofNat k)), some (.int x), some (.int (Int32.ofNat k))] [] h Q E :=
  b_X8_word_5 ⟨fun _ => K, fun hle => absurd (Int32.le_refl _) hle⟩
theorem t_word2 {f : Nat} {y0 y1 : UInt8} (ea : h.1 a = some (1000, L)) (hL : L.length < 1000) (hf : f + 1 < L.length) (h0 : L[f]? = some (.int (sx y0))) (h1 : L[f + 1]? = some (.int (sx y1)))
    (K : Q (.int (u_16 y0 y1)) h) : zX s0 m_X8_word d [zr a, .int (Int32.ofNat f), .int 2] h Q E := by
  refine c_X8_word (t_word_5 (i := 0) (k := 2) (x := 0) (y := y0) ea hL (by omega) h0 (by omega) (by omega) (t_word_5 (i := 1) (k := 2) ea hL hf h1 (by omega) (by omega) (t_word_end (k := 2) ?_)))
  rw [i_shl0]
  exact K
theorem t_word4 {f : Nat} {y0 y1 y2 y3 : UInt8} (ea : h.1 a = some (1000, L)) (hL : L.length < 1000) (hf : f + 3 < L.length) (h0 : L[f]? = some (.int (sx y0))) (h1 : L[f + 1]? = some (.int (sx y1))) (h2 : L[f + 2]? = some (.int (sx y2))) (h3 : L[f + 3]? = some (.int (sx y3)))
    (K : Q (.int (u_32 y0 y1 y2 y3)) h) : zX s0 m_X8_word d [zr a, .int (Int32.ofNat f), .int 4] h Q E := by
  refine c_X8_word (t_word_5 (i := 0) (k := 4) (x := 0) (y := y0) ea hL (by omega) h0 (by omega) (by omega) (t_word_5 (i := 1) (k := 4) ea hL (by omega) h1 (by omega) (by omega) (t_word_5 (i := 2) (k := 4) ea hL (by omega) h2 (by omega) (by omega) (t_word_5 (i := 3) (k := 4) ea hL hf h3 (by omega) (by omega) (t_word_end (k := 4) ?_)))))
  rw [i_shl0, i_shl2]
  exact K
end NP
