/-! ===== the twin: what is recorded is made safe; confirms that waited ===== -/
set_option maxRecDepth 100000
set_option maxHeartbeats 200000
section OD
variable {s0 : zE} {F : Nat → Option zC} {b : Nat} {s s' S : sSt} {w w' : tW} {g g' g0 : sG} {h h' hS : zH} {d x0 x1 x2 x3 n m c i j q e k a : Nat} {Q : Value → zH → Prop} {E : Nat → zH → Prop} {fa : sFa} {L0 fs : List Value} {t : sS4}
/-- what is safe is set -/
def s_set4 (s : sSt) (t : sS4) : sSt := (((s.w_ses t.1).w_sqs t.2.1).w_sbs t.2.2.1).w_sen t.2.2.2
theorem set4_self : s_set4 s (s.ses, s.sqs, s.sbs, s.sen) = s := rfl
theorem mk_set4 : s_make (s_set4 s t) fa = s_set4 s (s_mkS s t fa) := by
  unfold s_make s_mkS s_mk4
  by_cases e0 : fa.kind = 0
  · rw [if_pos e0, if_pos e0]; rfl
  rw [if_neg e0, if_neg e0]
  by_cases e1 : fa.kind = 1
  · rw [if_pos e1, if_pos e1]; rfl
  rw [if_neg e1, if_neg e1]
  by_cases e2 : fa.kind = 2
  · rw [if_pos e2, if_pos e2]; rfl
  rw [if_neg e2, if_neg e2]
  by_cases e3 : fa.kind = 3
  · rw [if_pos e3, if_pos e3]; rfl
  rw [if_neg e3, if_neg e3]
  by_cases e4 : fa.kind = 4
  · rw [if_pos e4, if_pos e4]; rfl
  rw [if_neg e4, if_neg e4]
  by_cases e5 : fa.kind = 5
  · rw [if_pos e5, if_pos e5]; rfl
  rw [if_neg e5, if_neg e5]
  by_cases e6 : fa.kind = 6
  · rw [if_pos e6, if_pos e6]; rfl
  rw [if_neg e6, if_neg e6]; rfl
theorem fold_set4 : ∀ (l : List sFa) (t : sS4), l.foldl s_make (s_set4 s t) = s_set4 s (l.foldl (s_mkS s) t)
  | [], t => rfl
  | f :: l, t => by
    rw [List.foldl_cons, List.foldl_cons, mk_set4]
    exact fold_set4 l _
theorem safe_eq : sSafe s n = (s.facts.take n).foldl (s_mkS s) (s.ses, s.sqs, s.sbs, s.sen) := rfl
theorem secure_eq : s_secure s n = (s_set4 s (sSafe s n)).w_facts (s.facts.drop n) := by
  have e := fold_set4 (s := s) (s.facts.take n) (s.ses, s.sqs, s.sbs, s.sen)
  rw [set4_self] at e
  unfold s_secure
  rw [e, ← safe_eq]
theorem safe_0 : sSafe s 0 = (s.ses, s.sqs, s.sbs, s.sen) := rfl
theorem safe_succ (hj : s.facts[i]? = some fa) : sSafe s (i + 1) = s_mkS s (sSafe s i) fa := by
  rw [safe_eq, safe_eq, List.take_succ, hj, Option.toList_some, List.foldl_append]
  rfl
theorem mkS_0 (e0 : fa.kind = 0) : s_mkS s t fa = (t.1 ++ [fa.id], t.2) := by
  unfold s_mkS s_mk4
  rw [if_pos e0]
theorem mkS_2 (e2 : fa.kind = 2) : s_mkS s t fa = (t.1, t.2.1 ++ [fa.id], t.2.2) := by
  unfold s_mkS s_mk4
  rw [if_neg (by rw [e2]; decide), if_neg (by rw [e2]; decide), if_pos e2]
theorem mkS_4 (e4 : fa.kind = 4) : s_mkS s t fa = (t.1, t.2.1, t.2.2.1 ++ [fa.id], t.2.2.2) := by
  unfold s_mkS s_mk4
  rw [if_neg (by rw [e4]; decide), if_neg (by rw [e4]; decide), if_neg (by rw [e4]; decide), if_neg (by rw [e4]; decide), if_pos e4]
theorem SL_safe (H : sHi s) (i : Nat) : sSL (s_set4 s (sSafe s i)) := by
  obtain ⟨f1, f2, f3, f4, f5, f6, f7, f8, f9, f10, f11, -⟩ := H.1 i
  exact ⟨f1, f2, f3, f4, fun x hx => (f8 x hx).1, fun x hx => (f9 x hx).1, fun x hx => ⟨(f10 x hx).1, (f8 _ (f10 x hx).2.1).1, (f9 _ (f10 x hx).2.2).1⟩, fun x hx => ⟨(f11 x hx).1, (f9 _ (f11 x hx).2.1).1⟩⟩
theorem sScope.fact (I : sScope s) (hf : fa ∈ s.facts) : s.knd fa.id = (if fa.kind = 0 ∨ fa.kind = 1 then 32 else if fa.kind = 2 ∨ fa.kind = 3 then 33 else if fa.kind = 4 ∨ fa.kind = 5 then 34 else 36) := (I.2.2.2.2.2.2.2.2.2.2.2.2.2.2.2.1 fa hf).2.2
theorem t_sec_2 (I : sScope s) (H : sHi s) (hn : n ≤ s.facts.length) (hf9 : s.facts.length ≤ 1000000) (hm0 : g0.kind x0 = (1, 0))
    (K : ∀ g1 h1, tR s0 F b (s_set4 s (sSafe s n)) w g1 h1 → gL g0 g1 → zP s0 m_X8_secure (d + 3) 25 [some (zr x0), some (.int (Int32.ofNat n)), some (.int (Int32.ofNat n))] [] h1 Q E) :
    ∀ (k i : Nat) (g : sG) (h : zH), n = i + k → tR s0 F b (s_set4 s (sSafe s i)) w g h → gL g0 g → zP s0 m_X8_secure (d + 3) 2 [some (zr x0), some (.int (Int32.ofNat n)), some (.int (Int32.ofNat i))] [] h Q E
  | k, i, g, h, hi, R, L => by
    have hm := L.m hm0
    have em := R.main hm
    refine b_X8_secure_2 ⟨fun hle => ?_, fun hle => ?_⟩
    · rw [i_le (by omega) (by omega)] at hle
      have ei : i = n := by omega
      subst ei
      exact K g h R L
    rw [i_le (by omega) (by omega)] at hle
    obtain ⟨k', rfl⟩ : ∃ k', k = k' + 1 := ⟨k - 1, by omega⟩
    obtain ⟨fa, hfa⟩ : ∃ fa, s.facts[i]? = some fa := ⟨_, List.getElem?_eq_getElem (by omega)⟩
    obtain ⟨N, n1, n2, A⟩ := R.2.2.2.2.1.2
    obtain ⟨r, hr, hF⟩ := A.2.2.2 i fa hfa
    have eA : h.1 (g.ref 10 0) = some (1000 + 17, g.ar 10 0) := R.1.cell A.1 (by decide)
    have hlN : s.facts.length ≤ N := A.2.2.1
    have hs := safe_succ hfa
    refine e_R em fun (z1 : gR h x0 16 = g.ref 10 0) => ?_
    rw [z1]
    refine g_ER (t := 17) eA (zin_of (by rw [A.2.1]; omega) (by omega)) (by rw [i_nat (by omega)]; exact hr) fun z2 => ?_
    rw [z2]
    have F1 := H.1 (i + 1)
    refine ⟨⟨_, em⟩, t_make (d := d) R hm hF (I.fact (List.mem_of_getElem? hfa)) (SL_safe H i) (fun e0 => ?_) (fun e2 => ?_) (fun e4 => ?_) (fun _ => ?_) fun g1 h1 R1 L1 => ?_⟩
    · have h1 := F1.1
      rw [hs, mkS_0 e0, List.length_append] at h1
      exact h1
    · have h1 := F1.2.1
      rw [hs, mkS_2 e2, List.length_append] at h1
      exact h1
    · have h1 := F1.2.2.1
      rw [hs, mkS_4 e4, List.length_append] at h1
      exact h1
    · have h1 : (sSafe s i).2.2.2.length ≤ 300 := (H.1 i).2.2.2.1
      show (sSafe s i).2.2.2.length < 301
      omega
    · rw [mk_set4, ← hs] at R1
      rw [i_succ]
      exact t_sec_2 I H hn hf9 hm0 K k' (i + 1) g1 h1 (by omega) R1 (L.trans L1)
/-- records move to the front -/
theorem l_sec_25 (hne : x0 ≠ a) (h17 : fs[17]? = some (.int (Int32.ofNat m))) (h16 : fs[16]? = some (zr a)) (hn : n ≤ m) (hm9 : m ≤ 1000000) (hnew : s0.1.heap.size < a) (hL0 : m ≤ L0.length) (hl9 : L0.length < 2147483648)
    (hf : ∀ j, j < m → ∃ r, L0[j]? = some (zr r) ∧ r ≠ a ∧ ∃ l, hS.1 r = some (31, l))
    (K : ∀ h' L', h'.2 = hS.2 → (∀ r, r ≠ x0 → r ≠ a → h'.1 r = hS.1 r) → h'.1 x0 = some (7, fs.set 17 (.int (Int32.ofNat m - Int32.ofNat n))) → h'.1 a = some (1017, L') → L'.length = L0.length → (∀ j, j + n < m → L'[j]? = L0[j + n]?) → Q .null h') :
    ∀ (k i : Nat) (h : zH) (L : List Value), m = i + k → n ≤ i → h.2 = hS.2 → (∀ r, r ≠ a → h.1 r = hS.1 r) → h.1 x0 = some (7, fs) → h.1 a = some (1017, L) → L.length = L0.length → (∀ j, i - n ≤ j → L[j]? = L0[j]?) → (∀ j, j + n < i → L[j]? = L0[j + n]?) →
      zP s0 m_X8_secure (d + 1) 25 [some (zr x0), some (.int (Int32.ofNat n)), some (.int (Int32.ofNat i))] [] h Q E
  | k, i, h, L, hk, hni, e2, eo, ex, ea, hL, hin, hdone => by
    refine b_X8_secure_25 (e_I ex (fun (z1 : gI h x0 17 = Int32.ofNat m) => ?_) (hv := h17))
    rw [z1, i_le (by omega) (by omega)]
    refine ⟨fun hle => ?_, fun hle => ?_⟩
    · have ei : i = m := by omega
      subst ei
      refine e_I ex (fun _ => g_C ex ?_) (hv := h17)
      rintro h1 rfl
      exact K _ L e2 (fun r r0 r1 => by rw [zput_ne r0]; exact eo r r1) (zput_self ex) (by rw [zput_ne hne.symm]; exact ea) hL fun j hj => hdone j hj
    · obtain ⟨k', rfl⟩ : ∃ k', k = k' + 1 := ⟨k - 1, by omega⟩
      obtain ⟨r, hr, ra, l, hl⟩ := hf i (by omega)
      have hLi : L[i]? = some (zr r) := by rw [hin i (by omega)]; exact hr
      refine e_R ex (fun (z2 : gR h x0 16 = a) => e_R ex (fun _ => ?_) (hv := h16)) (hv := h16)
      rw [z2]
      refine g_ER (t := 17) ea (zin_of (by rw [hL]; omega) (by omega)) (by rw [i_nat (by omega)]; exact hLi) fun z3 => ?_
      rw [z3, i_sub hni]
      refine g_S (t := 17) ea hnew (zin_of (by rw [hL]; omega) (by omega)) ⟨Or.inr (zAsg_own (by rw [eo r ra]; exact hl) zcl_31 rfl), ?_⟩
      rintro h1 rfl
      rw [i_nat (by omega), i_succ]
      refine l_sec_25 hne h17 h16 hn hm9 hnew hL0 hl9 hf K k' (i + 1) _ (L.set (i - n) (zr r)) (by omega) (by omega) e2 (fun q hq => by rw [zput_ne hq]; exact eo q hq) (by rw [zput_ne hne]; exact ex) (zput_self ea) (by rw [List.length_set]; exact hL) (fun j hj => ?_) fun j hj => ?_
      · rw [List.getElem?_set_ne (by omega)]
        exact hin j (by omega)
      · by_cases e : j = i - n
        · subst e
          rw [List.getElem?_set_self (by rw [hL]; omega), show i - n + n = i by omega]
          exact hr.symm
        · rw [List.getElem?_set_ne (fun q => e q.symm)]
          exact hdone j (by omega)
theorem len_facts (l : List sFa) : tMain (s.w_facts l) w g = (tMain s w g).set 17 (vI l.length) := rfl
theorem t_secure (R : tR s0 F b s w g h) (I : sScope s) (H : sHi s) (hm : g.kind x0 = (1, 0)) (hn : n ≤ s.facts.length) (hf9 : s.facts.length ≤ 1000000)
    (K : ∀ g1 h1, tR s0 F b (s_secure s n) w g1 h1 → gL g g1 → Q .null h1) : zX s0 m_X8_secure (d + 3) [zr x0, .int (Int32.ofNat n)] h Q E := by
  refine c_X8_secure (t_sec_2 (s := s) (n := n) (g0 := g) I H hn hf9 hm (fun g1 h1 R1 L1 => ?_) n 0 g h (by omega) R (gL.refl g))
  rw [secure_eq] at K
  generalize hS : s_set4 s (sSafe s n) = S at R1 K
  have hSf : S.facts = s.facts := by rw [← hS]; rfl
  rw [← hSf] at K hn hf9
  clear hS hSf
  have hm1 := L1.m hm
  have em := R1.main hm1
  obtain ⟨N, n1, n2, A⟩ := R1.2.2.2.2.1.2
  have eA : h1.1 (g1.ref 10 0) = some (1017, g1.ar 10 0) := R1.1.cell A.1 (by decide)
  have hA : s0.1.heap.size < g1.ref 10 0 := R1.1.new A.1 (by decide) (by decide)
  have hne : x0 ≠ g1.ref 10 0 := kne hm1 A.1 (by decide)
  have hlN : S.facts.length ≤ N := A.2.2.1
  refine l_sec_25 (m := S.facts.length) (hS := h1) (L0 := g1.ar 10 0) (a := g1.ref 10 0) hne rfl rfl hn hf9 hA (by rw [A.2.1]; exact hlN) (by rw [A.2.1]; omega) (fun j hj => ?_) (fun h2 L2 f2 fo f1 fa fl fd => ?_) (S.facts.length - n) n h1 (g1.ar 10 0) (by omega) (Nat.le_refl _) rfl (fun _ _ => rfl) em eA rfl (fun _ _ => rfl) (fun j hj => absurd hj (by omega))
  · obtain ⟨r, hr, e1, q1, b1, m1', hF, -⟩ := A.2.2.2 j S.facts[j] (List.getElem?_eq_getElem hj)
    exact ⟨r, hr, fun e => by
      have := hF.1
      rw [e, A.1] at this
      cases this, _, R1.fz hF⟩
  · refine K (gSet g1 10 0 L2) h2 ?_ (L1.trans gL.set)
    refine R1.arM hm1 A.1 (by decide) (t := 17) rfl ?_ f2 (fun r r0 r1 => fo r r0 r1) ?_ fa ⟨rfl, rfl, rfl, rfl, rfl, rfl, rfl, rfl, rfl⟩ ?_
    · show (1000 + tarT 10, (gSet _ 10 0 _).ar 10 0) = _
      rw [gSet_self]
      rfl
    · rw [f1, len_facts, i_sub hn, List.length_drop]
      rfl
    · obtain ⟨b1, b2, b3, ⟨b4, n4, c4, d4, e4⟩, b5, b6, b7, b8, b9, b10, b11, b12⟩ := R1.2
      refine ⟨b1, ?_, b3.ne (by decide), ⟨b4.ne1 (fun r x hx => hx) (by decide), N, n1, ?_, ⟨A.1, ?_, ?_, fun j x hj => ?_⟩⟩, b5.ne (by decide), b6.ne (by decide), b7, b8.ne (by decide), b9, b10, b11, b12⟩
      · obtain ⟨c1, c2, c3, c4, c5, c6, c7, c8, c9, c10, c11, c12, c13, c14⟩ := b2
        exact ⟨c1.ne1 (by decide), c2.ne1 (by decide), c3.ne1 (by decide), c4.ne1 (by decide), c5.ne1 (by decide), c6.ne1 (by decide), c7.ne1 (by decide), c8.ne1 (by decide), c9.ne1 (by decide), c10.ne1 (by decide), c11.ne1 (by decide), c12.ne1 (by decide), c13.ne1 (by decide), c14⟩
      · show 2 * (S.facts.drop n).length ≤ N + g1.cf 10 0
        rw [List.length_drop]
        omega
      · rw [gSet_self, fl]
        exact A.2.1
      · show (S.facts.drop n).length ≤ N
        rw [List.length_drop]
        omega
      · have hj : (S.facts.drop n)[j]? = some x := hj
        rw [List.getElem?_drop, Nat.add_comm] at hj
        have hjl := (List.getElem?_eq_some_iff.mp hj).1
        obtain ⟨r, hr, hF⟩ := A.2.2.2 (j + n) x hj
        refine ⟨r, ?_, hF⟩
        rw [gSet_self, fd j (by omega)]
        exact hr
/-! what is safe, purely -/
theorem safe_secure (k : Nat) : sSafe (s_secure s n) k = sSafe s (n + k) := by
  rw [secure_eq, safe_eq, safe_eq]
  show ((s.facts.drop n).take k).foldl (s_mkS s) (sSafe s n) = _
  rw [safe_eq, ← List.foldl_append, List.take_add]
theorem fit_secure (t : sS4) : sFit (s_secure s n) t ↔ sFit s t := by
  rw [secure_eq]
  exact Iff.rfl
theorem sI.secure (I : sI s) (hn : n ≤ s.facts.length) : sI (s_secure s n) := by
  have Isc := I.sc
  have Hi := I.hi
  have hh : sHi (s_secure s n) := by
    have hlen : (s_secure s n).facts.length = s.facts.length - n := by rw [secure_eq]; exact List.length_drop
    refine ⟨fun k => (fit_secure _).mpr (by rw [safe_secure]; exact Hi.1 _), ?_⟩
    rw [hlen, safe_secure, show n + (s.facts.length - n) = s.facts.length by omega, secure_eq]
    exact Hi.2
  obtain ⟨f1, f2, f3, f4, f5, f6, f7, f8, f9, f10, f11, -⟩ := Hi.1 n
  obtain ⟨a1, a2, a3, a4, a5, a6, a7, a8, a9, a10, a11, a12, a13, a14, a15, a16, a17⟩ := Isc
  refine ⟨?_, ?_, ?_, ?_, ?_, hh⟩
  · rw [secure_eq]
    exact ⟨a1, a2, a3, a4, fun q hq => (f9 q hq).1, fun e he => (f8 e he).1, fun x hx => (f10 x hx).1, fun x hx => (f11 x hx).1, a9, a10, a11, a12, a13, a14, a15, fun f hf => a16 f (List.mem_of_mem_drop hf), a17⟩
  · rw [secure_eq]; exact I.tx
  · rw [secure_eq]; exact I.ms
  · rw [secure_eq]; exact I.sn
  · rw [secure_eq]; exact I.cp
theorem tP_secure : tP (s_secure s n) = tP s := by rw [secure_eq]; rfl
theorem tY_secure : tY (s_secure s n) = tY s := by rw [secure_eq]; rfl
theorem sWt_secure : sWt (s_secure s n) ≤ sWt s := by
  rw [secure_eq]
  show (s.facts.drop n).length + _ ≤ s.facts.length + _
  rw [List.length_drop]
  exact Nat.add_le_add_right (Nat.sub_le _ _) _
theorem e_secure : sE s (s_secure s n) := by
  rw [secure_eq]
  exact sE.of rfl rfl rfl rfl rfl rfl rfl (Nat.le_refl _) rfl rfl
theorem t_secureZ (Z : tZ s0 F b s w g h) (hm : g.kind x0 = (1, 0)) (hn : n ≤ s.facts.length)
    (K : ∀ g1 h1, tZ s0 F b (s_secure s n) w g1 h1 → gL g g1 → Q .null h1) : zX s0 m_X8_secure (d + 3) [zr x0, .int (Int32.ofNat n)] h Q E :=
  t_secure Z.r Z.sc Z.i.hi hm hn (by have := Z.facts; omega) fun g1 h1 R1 L1 => K g1 h1 ⟨by rw [tP_secure]; exact R1, Z.i.secure hn, by
    have h1 := Z.c
    have h2 := sWt_secure (s := s) (n := n)
    rw [tP_secure]
    omega⟩ L1
end OD
