/-! ===== the twin: topics matched; bindings match ===== -/
set_option maxRecDepth 100000
/-- an array of marks begins with those of f -/
def gRch (l : List Value) (f : Nat → Bool) (n : Nat) : Prop := ∀ j, j < n → l[j]? = some (.int (sB (f j)))
/-- the words of a pattern and of a key, as the scratch arrays tell them -/
def gTp (g : sG) (pb kb : sBy) : Prop := gWd (g.ar 18 0) (g.ar 19 0) pb (s_words pb) ∧ gWd (g.ar 20 0) (g.ar 21 0) kb (s_words kb)
section TM
variable {s0 : zE} {F : Nat → Option zC} {b : Nat} {s s' : sSt} {w w' : tW} {g g' g0 : sG} {h h' : zH} {d x0 x1 x2 x3 i q m c p n : Nat} {Q : Value → zH → Prop} {E : Nat → zH → Prop} {S : Nat → Prop} {pb kb : sBy} {P W : List sBy} {wd : sBy}
theorem nb_0 : narrow .boolean (.int 0) = .int (sB false) := rfl
theorem nb_1 : narrow .boolean (.int 1) = .int (sB true) := rfl
theorem nb_B {x : Bool} : narrow .boolean (.int (sB x)) = .int (sB x) := by cases x <;> rfl
theorem t_isSign {bs : sBy} {k : UInt8} {v : Int32} (hv : v = sx k) (R : tR s0 F b s w g h) (hm : g.kind x0 = (1, 0)) (hB : gB g x1 bs) (D : gWd (g.ar 18 0) (g.ar 19 0) bs W) (hw : W[p]? = some wd) (hp : p < 42) (hl : bs.length ≤ 41) (K : Q (.int (sB (wd == [k]))) h) : zX s0 m_X8_isSign d [zr x0, zr x1, .int (Int32.ofNat p), .int v] h Q E := by
  subst hv
  obtain ⟨a, e, h1, h2, h3, h4, h5⟩ := D p wd hw
  obtain ⟨e18, -, l18, -⟩ := R.sc1 (c := 18) (by omega)
  obtain ⟨e19, -, l19, -⟩ := R.sc1 (c := 19) (by omega)
  have em := R.main hm
  have eb := R.fz hB
  refine c_X8_isSign (e_R em fun (z1 : gR h x0 39 = g.ref 19 0) => ?_)
  rw [z1]
  refine g_EI (t := 1) e19 (zin_of (by omega) (by omega)) (by rw [i_nat (by omega)]; exact h2) fun z2 => e_R em fun (z3 : gR h x0 38 = g.ref 18 0) => ?_
  rw [z3]
  refine g_EI (t := 1) e18 (zin_of (by omega) (by omega)) (by rw [i_nat (by omega)]; exact h1) fun z4 => ?_
  rw [z2, z4, i_sub h3, show (1 : Int32) = Int32.ofNat 1 from rfl, i_inj (by omega) (by omega)]
  refine ⟨fun hne => ?_, fun he => e_R em fun _ => ?_⟩
  · have : wd ≠ [k] := fun ee => hne (by
      have : wd.length = e - a := by rw [h5, List.length_take, List.length_drop]; omega
      rw [ee] at this
      exact this.symm)
    rw [beq_false_of_ne this] at K
    exact K
  · refine ⟨fE_of (t := 1) e18 (zin_of (by omega) (by omega)) (by rw [i_nat (by omega)]; exact h1), ?_⟩
    have hx : bs[a]? = some bs[a] := List.getElem?_eq_getElem (by omega)
    refine g_EI (t := 0) eb (zin_of (by rw [vB_len]; omega) (by omega)) (by rw [i_nat (by omega)]; exact vB_get hx) fun z5 => ?_
    rw [z5, sx_inj]
    have hwd : wd = [bs[a]] := by
      rw [h5, he, List.drop_eq_getElem_cons (by omega)]
      rfl
    refine ⟨fun hne => ?_, fun heq => ?_⟩
    · have : wd ≠ [k] := fun ee => hne (by rw [hwd] at ee; exact (List.cons.inj ee).1)
      rw [beq_false_of_ne this] at K
      exact K
    · have : wd = [k] := by rw [hwd, heq]
      rw [beq_iff_eq.mpr this] at K
      exact K
theorem t_sameWord_36 {ks : sBy} {p2 a1 a2 len : Nat} {w2 : sBy} (R : tR s0 F b s w g h) (hm : g.kind x0 = (1, 0)) (hB : gB g x1 pb) (hB2 : gB g x3 ks) (hl : pb.length ≤ 41) (hl2 : ks.length ≤ 41) (hp : p < 42) (hp2 : p2 < 42) (e1 : (g.ar 18 0)[p]? = some (.int (Int32.ofNat a1)))
    (e3 : (g.ar 20 0)[p2]? = some (.int (Int32.ofNat a2))) (e4 : (g.ar 21 0)[p2]? = some (.int (Int32.ofNat (a2 + len)))) (h1 : a1 + len ≤ pb.length) (h2 : a2 + len ≤ ks.length) (hw1 : wd = (pb.drop a1).take len) (hw2 : w2 = (ks.drop a2).take len) (K : Q (.int (sB (wd == w2))) h) :
    ∀ (k i : Nat), i + k = len → (∀ n, n < i → wd[n]? = w2[n]?) → zP s0 m_X8_sameWord d 36 [some (zr x0), some (zr x1), some (.int (Int32.ofNat p)), some (zr x3), some (.int (Int32.ofNat p2)), some (.int (Int32.ofNat i))] [] h Q E
  | k, i, hik, hsame => by
    obtain ⟨e18, -, l18, -⟩ := R.sc1 (c := 18) (by omega)
    obtain ⟨e20, -, l20, -⟩ := R.sc1 (c := 20) (by omega)
    obtain ⟨e21, -, l21, -⟩ := R.sc1 (c := 21) (by omega)
    have em := R.main hm
    refine b_X8_sameWord_36 (e_R em fun (z1 : gR h x0 41 = g.ref 21 0) => ?_)
    rw [z1]
    refine g_EI (t := 1) e21 (zin_of (by omega) (by omega)) (by rw [i_nat (by omega)]; exact e4) fun z2 => e_R em fun (z3 : gR h x0 40 = g.ref 20 0) => ?_
    rw [z3]
    refine g_EI (t := 1) e20 (zin_of (by omega) (by omega)) (by rw [i_nat (by omega)]; exact e3) fun z4 => ?_
    rw [z2, z4, i_sub (by omega), Nat.add_sub_cancel_left, i_le (by omega) (by omega)]
    have l1 : wd.length = len := by rw [hw1, List.length_take, List.length_drop]; omega
    have l2 : w2.length = len := by rw [hw2, List.length_take, List.length_drop]; omega
    refine ⟨fun hle => ?_, fun hle => e_R em fun (z5 : gR h x0 38 = g.ref 18 0) => ?_⟩
    · have : wd = w2 := List.ext_getElem? fun n => by
        by_cases hn : n < i
        · exact hsame n hn
        · rw [List.getElem?_eq_none (by omega), List.getElem?_eq_none (by omega)]
      rw [beq_iff_eq.mpr this] at K
      exact K
    · obtain ⟨k', rfl⟩ : ∃ k', k = k' + 1 := ⟨k - 1, by omega⟩
      obtain ⟨px, hx⟩ : ∃ x, pb[a1 + i]? = some x := ⟨_, List.getElem?_eq_getElem (by omega)⟩
      obtain ⟨py, hy⟩ : ∃ x, ks[a2 + i]? = some x := ⟨_, List.getElem?_eq_getElem (by omega)⟩
      have hx2 : wd[i]? = some px := by rw [hw1, List.getElem?_take_of_lt (by omega), List.getElem?_drop]; exact hx
      have hy2 : w2[i]? = some py := by rw [hw2, List.getElem?_take_of_lt (by omega), List.getElem?_drop]; exact hy
      rw [z5]
      refine g_EI (t := 1) e18 (zin_of (by omega) (by omega)) (by rw [i_nat (by omega)]; exact e1) fun z6 => ?_
      rw [z6, i_add]
      refine g_EI (t := 0) (R.fz hB) (zin_of (by rw [vB_len]; omega) (by omega)) (by rw [i_nat (by omega)]; exact vB_get hx) fun z7 => e_R em fun _ => ?_
      refine ⟨fE_of (t := 1) e20 (zin_of (by omega) (by omega)) (by rw [i_nat (by omega)]; exact e3), ?_⟩
      rw [i_add]
      refine g_EI (t := 0) (R.fz hB2) (zin_of (by rw [vB_len]; omega) (by omega)) (by rw [i_nat (by omega)]; exact vB_get hy) fun z8 => ?_
      rw [z7, z8, sx_inj, i_succ]
      refine ⟨fun e => ?_, fun e => ?_⟩
      · refine t_sameWord_36 R hm hB hB2 hl hl2 hp hp2 e1 e3 e4 h1 h2 hw1 hw2 K k' (i + 1) (by omega) fun n hn => ?_
        by_cases hn2 : n < i
        · exact hsame n hn2
        · have en : n = i := by omega
          rw [en, hx2, hy2, e]
      · have : wd ≠ w2 := fun e2 => e (by
          rw [e2, hy2] at hx2
          exact (Option.some.inj hx2).symm)
        rw [beq_false_of_ne this] at K
        exact K
theorem t_sameWord {ks : sBy} {p2 : Nat} {w2 : sBy} {W2 : List sBy} (R : tR s0 F b s w g h) (hm : g.kind x0 = (1, 0)) (hB : gB g x1 pb) (hB2 : gB g x3 ks) (hl : pb.length ≤ 41) (hl2 : ks.length ≤ 41) (D : gWd (g.ar 18 0) (g.ar 19 0) pb W) (D2 : gWd (g.ar 20 0) (g.ar 21 0) ks W2) (hw : W[p]? = some wd) (hw2 : W2[p2]? = some w2) (hp : p < 42) (hp2 : p2 < 42) (K : Q (.int (sB (wd == w2))) h) :
    zX s0 m_X8_sameWord d [zr x0, zr x1, .int (Int32.ofNat p), zr x3, .int (Int32.ofNat p2)] h Q E := by
  obtain ⟨a1, e1, h1, h2, h3, h4, h5⟩ := D p wd hw
  obtain ⟨a2, e2, k1, k2, k3, k4, k5⟩ := D2 p2 w2 hw2
  obtain ⟨e18, -, l18, -⟩ := R.sc1 (c := 18) (by omega)
  obtain ⟨e19, -, l19, -⟩ := R.sc1 (c := 19) (by omega)
  obtain ⟨e20, -, l20, -⟩ := R.sc1 (c := 20) (by omega)
  obtain ⟨e21, -, l21, -⟩ := R.sc1 (c := 21) (by omega)
  have em := R.main hm
  refine c_X8_sameWord (e_R em fun (z1 : gR h x0 39 = g.ref 19 0) => ?_)
  rw [z1]
  refine g_EI (t := 1) e19 (zin_of (by omega) (by omega)) (by rw [i_nat (by omega)]; exact h2) fun z2 => e_R em fun (z3 : gR h x0 38 = g.ref 18 0) => ?_
  rw [z3]
  refine g_EI (t := 1) e18 (zin_of (by omega) (by omega)) (by rw [i_nat (by omega)]; exact h1) fun z4 => e_R em fun (z5 : gR h x0 41 = g.ref 21 0) => ?_
  rw [z5]
  refine g_EI (t := 1) e21 (zin_of (by omega) (by omega)) (by rw [i_nat (by omega)]; exact k2) fun z6 => e_R em fun (z7 : gR h x0 40 = g.ref 20 0) => ?_
  rw [z7]
  refine g_EI (t := 1) e20 (zin_of (by omega) (by omega)) (by rw [i_nat (by omega)]; exact k1) fun z8 => ?_
  rw [z2, z4, z6, z8, i_sub h3, i_sub k3, i_inj (by omega) (by omega)]
  refine ⟨fun he => ?_, fun he => ?_⟩
  · exact t_sameWord_36 (len := e2 - a2) R hm hB hB2 hl hl2 hp hp2 h1 k1 (by rw [Nat.add_sub_cancel' k3]; exact k2) (by omega) (by omega) (by rw [h5, he]) k5 K (e2 - a2) 0 (Nat.zero_add _) fun n hn => absurd hn (Nat.not_lt_zero _)
  · have l1 : wd.length = e1 - a1 := by rw [h5, List.length_take, List.length_drop]; omega
    have l2 : w2.length = e2 - a2 := by rw [k5, List.length_take, List.length_drop]; omega
    have : wd ≠ w2 := fun e => he (by rw [← l1, ← l2, e])
    rw [beq_false_of_ne this] at K
    exact K
theorem tw_g0 (hp : P[p]? = some wd) : s_topicW (P.take (p + 1)) (W.take 0) = if wd = [35] then s_topicW (P.take p) (W.take 0) else false := by
  rw [List.take_add_one, hp, Option.toList_some, List.take_zero]
  by_cases e : wd = [35]
  · rw [if_pos e, e, tw_hash_0]
  · rw [if_neg e, tw_word_0 e]
theorem tw_gs {k : sBy} (hp : P[p]? = some wd) (hk : W[i]? = some k) : s_topicW (P.take (p + 1)) (W.take (i + 1)) = if wd = [35] then (s_topicW (P.take p) (W.take (i + 1)) || s_topicW (P.take (p + 1)) (W.take i)) else (s_topicW (P.take p) (W.take i) && (wd == [42] || wd == k)) := by
  have hP : P.take (p + 1) = P.take p ++ [wd] := by rw [List.take_add_one, hp, Option.toList_some]
  have hW : W.take (i + 1) = W.take i ++ [k] := by rw [List.take_add_one, hk, Option.toList_some]
  rw [hP, hW]
  by_cases e : wd = [35]
  · rw [if_pos e, e, tw_hash_s]
  · rw [if_neg e, tw_word_s e]
theorem gTp.sc (T : gTp g pb kb) (hS : gSc (fun c => c = 22 ∨ c = 23) g g') : gTp g' pb kb := by
  unfold gTp
  rw [hS.2.2 18 0 (by omega), hS.2.2 19 0 (by omega), hS.2.2 20 0 (by omega), hS.2.2 21 0 (by omega)]
  exact T
theorem t_topic_94 (hm : g0.kind x0 = (1, 0)) (hB1 : gB g0 x1 pb) (hB2 : gB g0 x2 kb) (hl1 : pb.length ≤ 41) (hl2 : kb.length ≤ 41) (T : gTp g0 pb kb) (n1 : (s_words pb).length ≤ 42) (n2 : (s_words kb).length ≤ 42) (hp : (s_words pb)[p]? = some wd)
    (K : ∀ g1 h1, tR s0 F b s w g1 h1 → gSc (fun c => c = 22 ∨ c = 23) g0 g1 → gRch (g1.ar 23 0) (fun i => s_topicW ((s_words pb).take (p + 1)) ((s_words kb).take i)) ((s_words kb).length + 1) →
      zP s0 m_X8_topic (d + 1) 206 [some (zr x0), some (zr x1), some (zr x2), some (.int (Int32.ofNat (s_words pb).length)), some (.int (Int32.ofNat (s_words kb).length)), some (.int (Int32.ofNat p)), none, none, some (.int 0)] [] h1 Q E) :
    ∀ (k i : Nat) (g : sG) (h : zH), i + k = (s_words kb).length + 1 → tR s0 F b s w g h → gSc (fun c => c = 22 ∨ c = 23) g0 g → gRch (g.ar 22 0) (fun i => s_topicW ((s_words pb).take p) ((s_words kb).take i)) ((s_words kb).length + 1) → gRch (g.ar 23 0) (fun i => s_topicW ((s_words pb).take (p + 1)) ((s_words kb).take i)) i →
      zP s0 m_X8_topic (d + 1) 94 [some (zr x0), some (zr x1), some (zr x2), some (.int (Int32.ofNat (s_words pb).length)), some (.int (Int32.ofNat (s_words kb).length)), some (.int (Int32.ofNat p)), some (.int (sB (wd == [35]))), some (.int (sB (wd == [42]))), some (.int (Int32.ofNat i))] [] h Q E
  | k, i, g, h, hik, R, hS, r22, r23 => by
    have hm1 := hS.1.m hm
    have em := R.main hm1
    have hpl := (List.getElem?_eq_some_iff.mp hp).1
    obtain ⟨e22, -, l22, -⟩ := R.sc3 (c := 22) (by omega)
    obtain ⟨e23, b23, l23, -⟩ := R.sc3 (c := 23) (by omega)
    have T1 := T.sc hS
    refine b_X8_topic_94 ?_
    rw [i_lt (by omega) (by omega)]
    refine ⟨fun hlt => ?_, fun hlt => ?_⟩
    · have ei : i = (s_words kb).length + 1 := by omega
      subst ei
      exact K g h R hS r23
    · obtain ⟨k', rfl⟩ : ∃ k', k = k' + 1 := ⟨k - 1, by omega⟩
      have hput : ∀ (v : Value) (x : Bool), v = .int (sB x) → s_topicW ((s_words pb).take (p + 1)) ((s_words kb).take i) = x → (fS s0 h (g.ref 23 0) 3 (Int32.ofNat i)) ∧ (∀ h1, h1 = zput h (g.ref 23 0) (Int32.ofNat i).toNatClampNeg v → zP s0 m_X8_topic (d + 1) 94 [some (zr x0), some (zr x1), some (zr x2), some (.int (Int32.ofNat (s_words pb).length)), some (.int (Int32.ofNat (s_words kb).length)), some (.int (Int32.ofNat p)), some (.int (sB (wd == [35]))), some (.int (sB (wd == [42]))), some (.int (Int32.ofNat i + 1))] [] h1 Q E) := fun v x hv hx => by
        subst hv
        refine g_S (t := 3) e23 b23 (zin_of (by omega) (by omega)) ?_
        rintro h1 rfl
        rw [i_nat (by omega), i_succ]
        refine t_topic_94 hm hB1 hB2 hl1 hl2 T n1 n2 hp K k' (i + 1) _ _ (by omega) (R.scr (c := 23) (by omega)) (hS.trans (gSc.set (Or.inr rfl))) ?_ ?_
        · rw [gSet_ne (by omega)]
          exact r22
        · rw [gSet_self]
          intro j hj
          show _ = some (Value.int (sB (s_topicW ((s_words pb).take (p + 1)) ((s_words kb).take j))))
          by_cases ej : j = i
          · subst ej
            rw [List.getElem?_set_self (by omega), hx]
          · rw [List.getElem?_set_ne (by omega)]
            exact r23 j (by omega)
      have q22 : ∀ j, j < (s_words kb).length + 1 → (g.ar 22 0)[j]? = some (.int (sB (s_topicW ((s_words pb).take p) ((s_words kb).take j)))) := r22
      have q23 : ∀ j, j < i → (g.ar 23 0)[j]? = some (.int (sB (s_topicW ((s_words pb).take (p + 1)) ((s_words kb).take j)))) := r23
      have z43 : gR h x0 43 = g.ref 23 0 := gR_of em rfl
      have z42 : gR h x0 42 = g.ref 22 0 := gR_of em rfl
      rw [sB_0, sB_0]
      refine ⟨fun hh => e_R em fun _ => ?_, fun hh => e_R em fun _ => e_R em fun _ => ?_⟩
      · have hne : wd ≠ [35] := fun e => by rw [e] at hh; cases hh
        rw [z43, z42]
        refine ⟨fun h0 => ?_, fun h0 => e_R em fun _ => ?_⟩
        · rw [show (0 : Int32) = Int32.ofNat 0 from rfl, i_le (by omega) (by omega)] at h0
          have ei : i = 0 := by omega
          refine hput _ false nb_0 ?_
          rw [ei, tw_g0 hp, if_neg hne]
        · rw [show (0 : Int32) = Int32.ofNat 0 from rfl, i_le (by omega) (by omega)] at h0
          obtain ⟨i', rfl⟩ : ∃ i', i = i' + 1 := ⟨i - 1, by omega⟩
          have hkx : (s_words kb)[i']? = some (s_words kb)[i'] := List.getElem?_eq_getElem (by omega)
          have hg := tw_gs (P := s_words pb) (W := s_words kb) hp hkx
          rw [if_neg hne] at hg
          rw [i_pred (by omega), Nat.add_sub_cancel]
          refine g_EI (t := 3) e22 (zin_of (by omega) (by omega)) (by rw [i_nat (by omega)]; exact q22 i' (by omega)) fun z1 => ?_
          rw [z1, sB_0]
          refine ⟨fun hf => hput _ false nb_0 ?_, fun hf => ⟨fun hst => hput _ true nb_1 ?_, fun hst => ⟨⟨_, em⟩, ?_⟩⟩⟩
          · rw [hg, hf, Bool.false_and]
          · rw [Bool.not_eq_false] at hf hst
            rw [hg, hf, hst]
            rfl
          · rw [Bool.not_eq_false] at hf
            refine t_sameWord R hm1 (hS.1.B hB1) (hS.1.B hB2) hl1 hl2 T1.1 T1.2 hp hkx (by omega) (by omega) ⟨_, rfl, ?_⟩
            rw [sB_0]
            refine ⟨fun hw => hput _ false nb_0 ?_, fun hw => hput _ true nb_1 ?_⟩
            · rw [hg, hst, hw]
              simp
            · rw [Bool.not_eq_false] at hw
              rw [hg, hf, hw]
              simp
      · rw [Bool.not_eq_false] at hh
        have heq : wd = [35] := eq_of_beq hh
        rw [z43, z42]
        refine g_EI (t := 3) e22 (zin_of (by omega) (by omega)) (by rw [i_nat (by omega)]; exact q22 i (by omega)) fun z1 => ?_
        rw [z1, sB_0]
        refine ⟨fun hf => hput _ true nb_1 ?_, fun hf => ⟨fun h0 => ?_, fun h0 => e_R em fun _ => ?_⟩⟩
        · rw [Bool.not_eq_false] at hf
          cases i with
          | zero => rw [tw_g0 hp, if_pos heq]; exact hf
          | succ i' =>
            have hkx : (s_words kb)[i']? = some (s_words kb)[i'] := List.getElem?_eq_getElem (by omega)
            rw [tw_gs hp hkx, if_pos heq, hf, Bool.true_or]
        · rw [show (0 : Int32) = Int32.ofNat 0 from rfl, i_le (by omega) (by omega)] at h0
          have ei : i = 0 := by omega
          subst ei
          refine hput _ false nb_0 ?_
          rw [tw_g0 hp, if_pos heq]
          exact hf
        · rw [show (0 : Int32) = Int32.ofNat 0 from rfl, i_le (by omega) (by omega)] at h0
          obtain ⟨i', rfl⟩ : ∃ i', i = i' + 1 := ⟨i - 1, by omega⟩
          have hkx : (s_words kb)[i']? = some (s_words kb)[i'] := List.getElem?_eq_getElem (by omega)
          have hg := tw_gs (P := s_words pb) (W := s_words kb) hp hkx
          rw [if_pos heq, hf, Bool.false_or] at hg
          rw [i_pred (by omega), Nat.add_sub_cancel]
          refine g_EI (t := 3) e23 (zin_of (by omega) (by omega)) (by rw [i_nat (by omega)]; exact q23 i' (by omega)) fun z2 => ?_
          rw [z2, sB_0]
          refine ⟨fun hv => hput _ false nb_0 (hg.trans hv), fun hv => hput _ true nb_1 (hg.trans ?_)⟩
          rw [Bool.not_eq_false] at hv
          exact hv
theorem t_topic_206 {f : Nat → Bool} {n3 : Int32} (hm : g0.kind x0 = (1, 0)) (hn : n < 42)
    (K : ∀ g1 h1, tR s0 F b s w g1 h1 → gSc (fun c => c = 22 ∨ c = 23) g0 g1 → gRch (g1.ar 22 0) f (n + 1) → zP s0 m_X8_topic (d + 1) 63 [some (zr x0), some (zr x1), some (zr x2), some (.int n3), some (.int (Int32.ofNat n)), some (.int (Int32.ofNat (p + 1))), none, none, none] [] h1 Q E) :
    ∀ (k i : Nat) (g : sG) (h : zH), i + k = n + 1 → tR s0 F b s w g h → gSc (fun c => c = 22 ∨ c = 23) g0 g → gRch (g.ar 22 0) f i → gRch (g.ar 23 0) f (n + 1) →
      zP s0 m_X8_topic (d + 1) 206 [some (zr x0), some (zr x1), some (zr x2), some (.int n3), some (.int (Int32.ofNat n)), some (.int (Int32.ofNat p)), none, none, some (.int (Int32.ofNat i))] [] h Q E
  | k, i, g, h, hik, R, hS, r22, r23 => by
    have em := R.main (hS.1.m hm)
    obtain ⟨e22, b22, l22, -⟩ := R.sc3 (c := 22) (by omega)
    obtain ⟨e23, -, l23, -⟩ := R.sc3 (c := 23) (by omega)
    refine b_X8_topic_206 ?_
    rw [i_lt (by omega) (by omega), i_succ]
    refine ⟨fun hlt => ?_, fun hlt => e_R em fun (z1 : gR h x0 42 = g.ref 22 0) => e_R em fun (z2 : gR h x0 43 = g.ref 23 0) => ?_⟩
    · have ei : i = n + 1 := by omega
      subst ei
      exact K g h R hS r22
    · obtain ⟨k', rfl⟩ : ∃ k', k = k' + 1 := ⟨k - 1, by omega⟩
      rw [z1, z2]
      refine g_EI (t := 3) e23 (zin_of (by omega) (by omega)) (by rw [i_nat (by omega)]; exact r23 i (by omega)) fun z3 => ?_
      rw [z3]
      refine g_S (t := 3) e22 b22 (zin_of (by omega) (by omega)) ?_
      rintro h1 rfl
      rw [i_nat (by omega), i_succ, nb_B]
      refine t_topic_206 hm hn K k' (i + 1) _ _ (by omega) (R.scr (c := 22) (by omega)) (hS.trans (gSc.set (Or.inl rfl))) ?_ ?_
      · rw [gSet_self]
        intro j hj
        by_cases ej : j = i
        · subst ej
          rw [List.getElem?_set_self (by omega)]
        · rw [List.getElem?_set_ne (by omega)]
          exact r22 j (by omega)
      · rw [gSet_ne (by omega)]
        exact r23
theorem t_topic_63 (hm : g0.kind x0 = (1, 0)) (hB1 : gB g0 x1 pb) (hB2 : gB g0 x2 kb) (hl1 : pb.length ≤ 41) (hl2 : kb.length ≤ 41) (T : gTp g0 pb kb) (n1 : (s_words pb).length ≤ 42) (n2 : (s_words kb).length < 42)
    (K : ∀ g1 h1, tR s0 F b s w g1 h1 → gSc (fun c => c = 22 ∨ c = 23) g0 g1 → Q (.int (sB (s_topicW (s_words pb) (s_words kb)))) h1) :
    ∀ (k p : Nat) (g : sG) (h : zH), p + k = (s_words pb).length → tR s0 F b s w g h → gSc (fun c => c = 22 ∨ c = 23) g0 g → gRch (g.ar 22 0) (fun i => s_topicW ((s_words pb).take p) ((s_words kb).take i)) ((s_words kb).length + 1) →
      zP s0 m_X8_topic (d + 1) 63 [some (zr x0), some (zr x1), some (zr x2), some (.int (Int32.ofNat (s_words pb).length)), some (.int (Int32.ofNat (s_words kb).length)), some (.int (Int32.ofNat p)), none, none, none] [] h Q E
  | k, p, g, h, hpk, R, hS, r22 => by
    have hm1 := hS.1.m hm
    have em := R.main hm1
    obtain ⟨e22, -, l22, -⟩ := R.sc3 (c := 22) (by omega)
    have T1 := T.sc hS
    refine b_X8_topic_63 ?_
    rw [i_le (by omega) (by omega)]
    refine ⟨fun hle => e_R em fun (z1 : gR h x0 42 = g.ref 22 0) => ?_, fun hle => ⟨⟨_, em⟩, ?_⟩⟩
    · have ep : p = (s_words pb).length := by omega
      subst ep
      rw [z1]
      have q22 : (g.ar 22 0)[(s_words kb).length]? = some (.int (sB (s_topicW ((s_words pb).take (s_words pb).length) ((s_words kb).take (s_words kb).length)))) := r22 _ (Nat.lt_succ_self _)
      refine g_EI (t := 3) e22 (zin_of (by omega) (by omega)) (by rw [i_nat (by omega)]; exact q22) fun z2 => ?_
      rw [z2, List.take_length, List.take_length]
      refine ⟨?_, K g h R hS⟩
      cases s_topicW (s_words pb) (s_words kb)
      · exact Or.inl rfl
      · exact Or.inr rfl
    · obtain ⟨k', rfl⟩ : ∃ k', k = k' + 1 := ⟨k - 1, by omega⟩
      have hp : (s_words pb)[p]? = some (s_words pb)[p] := List.getElem?_eq_getElem (by omega)
      refine t_isSign (k := 35) rfl R hm1 (hS.1.B hB1) T1.1 hp (by omega) hl1 ⟨_, rfl, ⟨_, em⟩, t_isSign (k := 42) rfl R hm1 (hS.1.B hB1) T1.1 hp (by omega) hl1 ⟨_, rfl, ?_⟩⟩
      refine t_topic_94 hm hB1 hB2 hl1 hl2 T n1 (by omega) hp (fun g1 h1 R1 hS1 r23 => ?_) ((s_words kb).length + 1) 0 g h (Nat.zero_add _) R hS r22 (fun j hj => absurd hj (Nat.not_lt_zero _))
      exact t_topic_206 hm n2 (fun g2 h2 R2 hS2 r2 => t_topic_63 hm hB1 hB2 hl1 hl2 T n1 n2 K k' (p + 1) g2 h2 (by omega) R2 hS2 r2) ((s_words kb).length + 1) 0 g1 h1 (Nat.zero_add _) R1 hS1 (fun j hj => absurd hj (Nat.not_lt_zero _)) r23
theorem t_topic_30 {n3 : Int32} (hm : g0.kind x0 = (1, 0)) (hn : n < 42)
    (K : ∀ g1 h1, tR s0 F b s w g1 h1 → gSc (fun c => c = 22 ∨ c = 23) g0 g1 → gRch (g1.ar 22 0) (fun i => decide (i = 0)) (n + 1) → zP s0 m_X8_topic (d + 1) 63 [some (zr x0), some (zr x1), some (zr x2), some (.int n3), some (.int (Int32.ofNat n)), some (.int 0), none, none, none] [] h1 Q E) :
    ∀ (k i : Nat) (g : sG) (h : zH), i + k = n + 1 → tR s0 F b s w g h → gSc (fun c => c = 22 ∨ c = 23) g0 g → gRch (g.ar 22 0) (fun i => decide (i = 0)) i →
      zP s0 m_X8_topic (d + 1) 30 [some (zr x0), some (zr x1), some (zr x2), some (.int n3), some (.int (Int32.ofNat n)), some (.int (Int32.ofNat i)), none, none, none] [] h Q E
  | k, i, g, h, hik, R, hS, r22 => by
    have em := R.main (hS.1.m hm)
    obtain ⟨e22, b22, l22, -⟩ := R.sc3 (c := 22) (by omega)
    refine b_X8_topic_30 ?_
    rw [i_lt (by omega) (by omega)]
    refine ⟨fun hlt => ?_, fun hlt => e_R em fun (z1 : gR h x0 42 = g.ref 22 0) => ?_⟩
    · have ei : i = n + 1 := by omega
      subst ei
      exact K g h R hS r22
    · obtain ⟨k', rfl⟩ : ∃ k', k = k' + 1 := ⟨k - 1, by omega⟩
      have hput : ∀ (v : Value) (x : Bool), v = .int (sB x) → decide (i = 0) = x → (fS s0 h (g.ref 22 0) 3 (Int32.ofNat i)) ∧ (∀ h1, h1 = zput h (g.ref 22 0) (Int32.ofNat i).toNatClampNeg v → zP s0 m_X8_topic (d + 1) 30 [some (zr x0), some (zr x1), some (zr x2), some (.int n3), some (.int (Int32.ofNat n)), some (.int (Int32.ofNat i + 1)), none, none, none] [] h1 Q E) := fun v x hv hx => by
        subst hv
        refine g_S (t := 3) e22 b22 (zin_of (by omega) (by omega)) ?_
        rintro h1 rfl
        rw [i_nat (by omega), i_succ]
        refine t_topic_30 hm hn K k' (i + 1) _ _ (by omega) (R.scr (c := 22) (by omega)) (hS.trans (gSc.set (Or.inl rfl))) ?_
        rw [gSet_self]
        intro j hj
        show _ = some (Value.int (sB (decide (j = 0))))
        by_cases ej : j = i
        · subst ej
          rw [List.getElem?_set_self (by omega), hx]
        · rw [List.getElem?_set_ne (by omega)]
          exact r22 j (by omega)
      rw [z1, show (0 : Int32) = Int32.ofNat 0 from rfl, i_inj (by omega) (by omega)]
      refine ⟨fun h0 => hput _ false nb_0 (decide_eq_false h0), fun h0 => hput _ true nb_1 (decide_eq_true h0)⟩
theorem tw_nil {i : Nat} (hi : i ≤ W.length) : decide (i = 0) = s_topicW ([] : List sBy) (W.take i) := by
  cases i with
  | zero => exact tw_nil_0.symm
  | succ i =>
    rw [List.take_add_one, List.getElem?_eq_getElem (by omega), Option.toList_some, tw_nil_s]
    rfl
theorem t_topic (R : tR s0 F b s w g h) (hm : g.kind x0 = (1, 0)) (hB1 : gB g x1 pb) (hB2 : gB g x2 kb) (hl1 : pb.length ≤ 40) (hl2 : kb.length ≤ 40) (hw : ∀ x : sBy, (s_words x).length ≤ x.length + 1)
    (K : ∀ g1 h1, tR s0 F b s w g1 h1 → gL g g1 → Q (.int (sB (s_topicW (s_words pb) (s_words kb)))) h1) : zX s0 m_X8_topic (d + 1) [zr x0, zr x1, zr x2] h Q E := by
  have em := R.main hm
  have w1 := hw pb
  have w2 := hw kb
  refine c_X8_topic (e_R em fun (z1 : gR h x0 38 = g.ref 18 0) => e_R em fun (z2 : gR h x0 39 = g.ref 19 0) => ?_)
  rw [z1, z2]
  refine t_words (c1 := 18) (c2 := 19) (by omega) (by omega) (by omega) R hB1 (by omega) fun g1 h1 R1 S1 D1 n1 => ⟨_, rfl, ?_⟩
  have hm1 := S1.1.m hm
  have em1 := R1.main hm1
  refine e_R em1 fun (z3 : gR h1 x0 40 = g1.ref 20 0) => e_R em1 fun (z4 : gR h1 x0 41 = g1.ref 21 0) => ?_
  rw [z3, z4]
  refine t_words (c1 := 20) (c2 := 21) (by omega) (by omega) (by omega) R1 (S1.1.B hB2) (by omega) fun g2 h2 R2 S2 D2 n2 => ⟨_, rfl, ?_⟩
  have T : gTp g2 pb kb := by
    refine ⟨?_, D2⟩
    rw [S2.2.2 18 0 (by omega), S2.2.2 19 0 (by omega)]
    exact D1
  have L := S1.1.trans S2.1
  have hm2 := L.m hm
  refine t_topic_30 hm2 (by omega) (fun g3 h3 R3 S3 r3 => ?_) ((s_words kb).length + 1) 0 g2 h2 (Nat.zero_add _) R2 gSc.refl (fun j hj => absurd hj (Nat.not_lt_zero _))
  refine t_topic_63 hm2 (L.B hB1) (L.B hB2) (by omega) (by omega) T n1 (by omega) (fun g4 h4 R4 S4 => K g4 h4 R4 (L.trans S4.1)) (s_words pb).length 0 g3 h3 (Nat.zero_add _) R3 S3 fun j hj => ?_
  show _ = some (Value.int (sB (s_topicW ((s_words pb).take 0) ((s_words kb).take j))))
  rw [List.take_zero, ← tw_nil (by omega)]
  exact r3 j hj
theorem words_len : ∀ x : sBy, (s_words x).length ≤ x.length + 1
  | [] => Nat.le_refl _
  | b :: r => by
    have := words_len r
    rw [s_words]
    split
    · rw [List.length_cons, List.length_cons]
      omega
    · split
      · rw [List.length_cons]
        simp
      · rename_i e
        rw [e] at this
        rw [List.length_cons] at this ⊢
        rw [List.length_cons]
        omega
end TM
