/-! ===== topics: what a pattern matches; the twin's words ===== -/
set_option maxRecDepth 100000
/-- what one word of a pattern stands for -/
def sSeg (p : sBy) (u : List sBy) : Prop := p = [35] ∨ ∃ k, u = [k] ∧ (p = [42] ∨ p = k)
def sLm : List sBy → List sBy → Prop
  | [], k => k = []
  | p :: ps, k => ∃ u v, k = u ++ v ∧ sSeg p u ∧ sLm ps v
/-- words stand between marks: where each begins and ends -/
def gWd (l1 l2 : List Value) (bs : sBy) (W : List sBy) : Prop := ∀ (j : Nat) (w : sBy), W[j]? = some w → ∃ a e : Nat, l1[j]? = some (.int (Int32.ofNat a)) ∧ l2[j]? = some (.int (Int32.ofNat e)) ∧ a ≤ e ∧ e ≤ bs.length ∧ w = (bs.drop a).take (e - a)
/-- the scratch arrays of a set are others, no more -/
def gSc (S : Nat → Prop) (g g1 : sG) : Prop := gL g g1 ∧ g1.ref = g.ref ∧ ∀ c i, ¬ S c → g1.ar c i = g.ar c i
section TP
variable {s0 : zE} {F : Nat → Option zC} {b : Nat} {s s' : sSt} {w w' : tW} {g g' : sG} {h h' : zH} {d x0 x1 x2 i q m c : Nat} {Q : Value → zH → Prop} {E : Nat → zH → Prop} {S : Nat → Prop}
/-- an element of an array of things, once it is known -/
theorem f_El {c n t k j x : Nat} {l : List Nat} (R : tR s0 F b s w g h) (A : gAr g c i n (l.map (fun x => zr (g.ref k x)))) (hp : tcell s w g c i = (1000 + t, g.ar c i)) (hc : c ≠ 0) (hj : l[j]? = some x) (hn : n < 2147483648) : fE h (g.ref c i) t (Int32.ofNat j) (zr (g.ref k x)) := by
  have e := R.1.cell A.1 hc
  rw [hp] at e
  have hlt := (List.getElem?_eq_some_iff.mp hj).1
  have hle := A.le
  rw [List.length_map] at hle
  exact fE_of e (zin_of (by rw [A.2.1]; omega) (by omega)) (by rw [i_nat (by omega)]; exact el_get A.2.2 hj)
theorem topic_iff : ∀ (ps ks : List sBy), s_topicW ps ks = true ↔ sLm ps ks
  | [], ks => by
    rw [s_topicW, sLm]
    exact List.isEmpty_iff
  | p :: ps, [] => by
    rw [s_topicW, sLm, Bool.and_eq_true_iff, topic_iff ps []]
    constructor
    · rintro ⟨h1, h2⟩
      exact ⟨[], [], rfl, Or.inl (eq_of_beq h1), h2⟩
    · rintro ⟨u, v, h1, h2, h3⟩
      obtain ⟨rfl, rfl⟩ := List.append_eq_nil_iff.mp h1.symm
      refine ⟨?_, h3⟩
      rcases h2 with h2 | ⟨k, h2, -⟩
      · rw [h2]
        rfl
      · cases h2
  | p :: ps, k :: ks => by
    rw [s_topicW]
    by_cases hp : p = [35]
    · rw [if_pos hp, Bool.or_eq_true_iff, topic_iff ps (k :: ks), topic_iff (p :: ps) ks, sLm, sLm]
      constructor
      · rintro (h1 | ⟨u, v, h1, h2, h3⟩)
        · exact ⟨[], k :: ks, rfl, Or.inl hp, h1⟩
        · exact ⟨k :: u, v, by rw [h1]; rfl, Or.inl hp, h3⟩
      · rintro ⟨u, v, h1, h2, h3⟩
        cases u with
        | nil =>
          have h1 : k :: ks = v := h1
          rw [← h1] at h3
          exact Or.inl h3
        | cons x u =>
          have h1 : k :: ks = x :: (u ++ v) := h1
          obtain ⟨-, h4⟩ := List.cons.inj h1
          exact Or.inr ⟨u, v, h4, Or.inl hp, h3⟩
    · rw [if_neg hp, Bool.and_eq_true_iff, Bool.or_eq_true_iff, topic_iff ps ks, sLm]
      constructor
      · rintro ⟨h1, h2⟩
        refine ⟨[k], ks, rfl, Or.inr ⟨k, rfl, h1.imp eq_of_beq eq_of_beq⟩, h2⟩
      · rintro ⟨u, v, h1, h2, h3⟩
        rcases h2 with h2 | ⟨k', rfl, h2⟩
        · exact absurd h2 hp
        · have h1 : k :: ks = k' :: v := h1
          obtain ⟨h4, h5⟩ := List.cons.inj h1
          subst h4 h5
          exact ⟨h2.imp beq_iff_eq.mpr beq_iff_eq.mpr, h3⟩
theorem Lm_snoc {p : sBy} : ∀ {ps k : List sBy}, sLm (ps ++ [p]) k ↔ ∃ u v, k = u ++ v ∧ sLm ps u ∧ sSeg p v
  | [], k => by
    constructor
    · rintro ⟨u, v, h1, h2, h3⟩
      have h3 : v = [] := h3
      subst h3
      exact ⟨[], u, by rw [h1, List.append_nil]; rfl, rfl, h2⟩
    · rintro ⟨u, v, h1, h2, h3⟩
      have h2 : u = [] := h2
      subst h2
      exact ⟨v, [], by rw [h1, List.append_nil]; rfl, h3, rfl⟩
  | q :: qs, k => by
    constructor
    · rintro ⟨u, v, h1, h2, h3⟩
      obtain ⟨v1, v2, h4, h5, h6⟩ := Lm_snoc.mp h3
      exact ⟨u ++ v1, v2, by rw [h1, h4, List.append_assoc], ⟨u, v1, rfl, h2, h5⟩, h6⟩
    · rintro ⟨a, v2, h1, ⟨u, v1, h2, h3, h4⟩, h6⟩
      exact ⟨u, v1 ++ v2, by rw [h1, h2, List.append_assoc], h3, Lm_snoc.mpr ⟨v1, v2, rfl, h4, h6⟩⟩
theorem tw_hash_0 {P : List sBy} : s_topicW (P ++ [[35]]) [] = s_topicW P [] := by
  rw [Bool.eq_iff_iff, topic_iff, topic_iff, Lm_snoc]
  constructor
  · rintro ⟨u, v, h1, h2, h3⟩
    obtain ⟨rfl, rfl⟩ := List.append_eq_nil_iff.mp h1.symm
    exact h2
  · exact fun h => ⟨[], [], rfl, h, Or.inl rfl⟩
theorem tw_hash_s {P K : List sBy} {x : sBy} : s_topicW (P ++ [[35]]) (K ++ [x]) = (s_topicW P (K ++ [x]) || s_topicW (P ++ [[35]]) K) := by
  rw [Bool.eq_iff_iff, Bool.or_eq_true_iff, topic_iff, topic_iff, topic_iff, Lm_snoc, Lm_snoc]
  constructor
  · rintro ⟨u, v, h1, h2, h3⟩
    rcases List.eq_nil_or_concat v with rfl | ⟨v', y, rfl⟩
    · rw [List.append_nil] at h1
      rw [h1]
      exact Or.inl h2
    · rw [List.concat_eq_append, ← List.append_assoc] at h1
      obtain ⟨h4, -⟩ := List.append_inj' h1 rfl
      exact Or.inr ⟨u, v', h4, h2, Or.inl rfl⟩
  · rintro (h | ⟨u, v, h1, h2, h3⟩)
    · exact ⟨K ++ [x], [], (List.append_nil _).symm, h, Or.inl rfl⟩
    · exact ⟨u, v ++ [x], by rw [h1, List.append_assoc], h2, Or.inl rfl⟩
theorem tw_word_0 {P : List sBy} {p : sBy} (hp : p ≠ [35]) : s_topicW (P ++ [p]) [] = false := by
  rw [Bool.eq_false_iff, ne_eq, topic_iff, Lm_snoc]
  rintro ⟨u, v, h1, h2, h3⟩
  obtain ⟨rfl, rfl⟩ := List.append_eq_nil_iff.mp h1.symm
  rcases h3 with h3 | ⟨k, h3, -⟩
  · exact hp h3
  · cases h3
theorem tw_word_s {P K : List sBy} {p x : sBy} (hp : p ≠ [35]) : s_topicW (P ++ [p]) (K ++ [x]) = (s_topicW P K && (p == [42] || p == x)) := by
  rw [Bool.eq_iff_iff, Bool.and_eq_true_iff, Bool.or_eq_true_iff, topic_iff, topic_iff, Lm_snoc]
  constructor
  · rintro ⟨u, v, h1, h2, h3⟩
    rcases h3 with h3 | ⟨k, rfl, h3⟩
    · exact absurd h3 hp
    · obtain ⟨h4, h5⟩ := List.append_inj' h1 rfl
      obtain rfl : x = k := (List.cons.inj h5).1
      rw [h4]
      exact ⟨h2, h3.imp beq_iff_eq.mpr beq_iff_eq.mpr⟩
  · rintro ⟨h1, h2⟩
    exact ⟨K, [x], rfl, h1, Or.inr ⟨x, rfl, h2.imp eq_of_beq eq_of_beq⟩⟩
theorem tw_nil_0 : s_topicW [] [] = true := by
  rw [s_topicW]
  rfl
theorem tw_nil_s {K : List sBy} {x : sBy} : s_topicW [] (K ++ [x]) = false := by
  rw [s_topicW]
  cases K <;> rfl
theorem words_split {r : sBy} : ∀ {u : sBy}, (∀ x ∈ u, x ≠ 46) → s_words (u ++ 46 :: r) = u :: s_words r ∧ s_words u = [u]
  | [], _ => by
    refine ⟨?_, rfl⟩
    rw [List.nil_append, s_words, if_pos rfl]
  | x :: u, hu => by
    obtain ⟨h1, h2⟩ := words_split (r := r) (u := u) fun y hy => hu y (List.mem_cons_of_mem _ hy)
    have hx := hu x List.mem_cons_self
    constructor
    · rw [List.cons_append, s_words, if_neg hx, h1]
    · rw [s_words, if_neg hx, h2]
theorem gSc.refl : gSc S g g := ⟨gL.refl g, rfl, fun _ _ _ => rfl⟩
theorem gSc.trans {g2 : sG} (a : gSc S g g') (c : gSc S g' g2) : gSc S g g2 := ⟨a.1.trans c.1, c.2.1.trans a.2.1, fun k i hk => (c.2.2 k i hk).trans (a.2.2 k i hk)⟩
theorem gSc.set {l : List Value} (hc : S c) : gSc S g (gSet g c 0 l) := ⟨gL.set, rfl, fun k i hk => gSet_ne fun e => hk (by rw [e.1]; exact hc)⟩
theorem gSc.mono {S' : Nat → Prop} (a : gSc S g g') (h : ∀ c, S c → S' c) : gSc S' g g' := ⟨a.1, a.2.1, fun k i hk => a.2.2 k i fun e => hk (h k e)⟩
theorem gAr.scr {k n : Nat} {l : List Value} (A : gAr g k 0 n []) (hl : l.length = (g.ar c 0).length) : gAr (gSet g c 0 l) k 0 n [] := by
  by_cases e : k = c
  · subst e
    exact gAr.new A.1 (hl.trans A.2.1) (List.nil_prefix)
  · exact A.ne1 e
theorem tG.scr (G : tG s w g) (hc : 18 ≤ c ∧ c ≤ 23) {l : List Value} (hl : l.length = (g.ar c 0).length) : tG s w (gSet g c 0 l) := by
  obtain ⟨b1, b2, b3, b4, b5, b6, b7, b8, b9, b10, b11, b12⟩ := G
  refine ⟨b1, ?_, ?_, b4.ne (by omega), b5.ne (by omega), b6.ne (by omega), b7, b8.ne (by omega), b9, b10, b11, b12⟩
  · obtain ⟨c1, c2, c3, c4, c5, c6, c7, c8, c9, c10, c11, c12, c13, c14⟩ := b2
    exact ⟨c1.ne1 (by omega), c2.ne1 (by omega), c3.ne1 (by omega), c4.ne1 (by omega), c5.ne1 (by omega), c6.ne1 (by omega), c7.ne1 (by omega), c8.ne1 (by omega), c9.ne1 (by omega), c10.ne1 (by omega), c11.ne1 (by omega), c12.ne1 (by omega), c13.ne1 (by omega), c14⟩
  · obtain ⟨c1, c2, c3, c4, c5, c6⟩ := b3
    exact ⟨c1.scr hl, c2.scr hl, c3.scr hl, c4.scr hl, c5.scr hl, c6.scr hl⟩
theorem tcell_scr (hc : 18 ≤ c ∧ c ≤ 23) : tcell s w g c 0 = (1000 + tarT c, g.ar c 0) := by
  obtain e | e | e | e | e | e : c = 18 ∨ c = 19 ∨ c = 20 ∨ c = 21 ∨ c = 22 ∨ c = 23 := by omega
  all_goals (subst e; rfl)
theorem tR.sc1 (R : tR s0 F b s w g h) (hc : 18 ≤ c ∧ c ≤ 21) : h.1 (g.ref c 0) = some (1000 + 1, g.ar c 0) ∧ s0.1.heap.size < g.ref c 0 ∧ (g.ar c 0).length = 42 ∧ gA1 g c 0 := by
  have hA : gAr g c 0 42 [] := by
    obtain ⟨c1, c2, c3, c4, c5, c6⟩ := R.2.2.2.1
    obtain e | e | e | e : c = 18 ∨ c = 19 ∨ c = 20 ∨ c = 21 := by omega
    all_goals (subst e; assumption)
  have h1 : tarT c = 1 := by
    obtain e | e | e | e : c = 18 ∨ c = 19 ∨ c = 20 ∨ c = 21 := by omega
    all_goals (subst e; rfl)
  have e := R.1.cell hA.1 (by omega)
  rw [tcell_scr (by omega), h1] at e
  exact ⟨e, R.1.new hA.1 (by omega) (by omega), hA.2.1, hA.1⟩
theorem tR.sc3 (R : tR s0 F b s w g h) (hc : 22 ≤ c ∧ c ≤ 23) : h.1 (g.ref c 0) = some (1000 + 3, g.ar c 0) ∧ s0.1.heap.size < g.ref c 0 ∧ (g.ar c 0).length = 43 ∧ gA1 g c 0 := by
  have hA : gAr g c 0 43 [] := by
    obtain ⟨c1, c2, c3, c4, c5, c6⟩ := R.2.2.2.1
    obtain e | e : c = 22 ∨ c = 23 := by omega
    all_goals (subst e; assumption)
  have h1 : tarT c = 3 := by
    obtain e | e : c = 22 ∨ c = 23 := by omega
    all_goals (subst e; rfl)
  have e := R.1.cell hA.1 (by omega)
  rw [tcell_scr (by omega), h1] at e
  exact ⟨e, R.1.new hA.1 (by omega) (by omega), hA.2.1, hA.1⟩
theorem tR.scr (R : tR s0 F b s w g h) (hc : 18 ≤ c ∧ c ≤ 23) {k : Nat} {v : Value} : tR s0 F b s w (gSet g c 0 ((g.ar c 0).set k v)) (zput h (g.ref c 0) k v) := by
  have A : gA1 g c 0 := by
    by_cases e : c ≤ 21
    · exact (R.sc1 ⟨hc.1, e⟩).2.2.2
    · exact (R.sc3 ⟨by omega, hc.2⟩).2.2.2
  refine ⟨R.1.put A (by omega) rfl rfl (cc := 1000 + tarT c) (fs := g.ar c 0) (tcell_scr hc) ?_ (fun m hk hne => tcell_set fun e => hne (Prod.ext e.1 e.2)), R.2.scr hc (List.length_set ..)⟩
  rw [tcell_scr hc, gSet_self]
theorem t_words_8 {c1 c2 : Nat} {bs : sBy} (hc1 : 18 ≤ c1 ∧ c1 ≤ 21) (hc2 : 18 ≤ c2 ∧ c2 ≤ 21) (hne : c1 ≠ c2) (hl : bs.length ≤ 41) {g0 : sG}
    (K : ∀ g1 h1, tR s0 F b s w g1 h1 → gSc (fun c => c = c1 ∨ c = c2) g0 g1 → gWd (g1.ar c1 0) (g1.ar c2 0) bs (s_words bs) → (s_words bs).length ≤ 42 → Q (.int (Int32.ofNat (s_words bs).length)) h1) :
    ∀ (k i a : Nat) (W0 : List sBy) (g : sG) (h : zH), i + k = bs.length → a ≤ i → W0.length ≤ a → s_words bs = W0 ++ s_words (bs.drop a) → (∀ n, a ≤ n → n < i → bs[n]? ≠ some 46) → tR s0 F b s w g h → gB g x0 bs → gWd (g.ar c1 0) (g.ar c2 0) bs W0 → gSc (fun c => c = c1 ∨ c = c2) g0 g →
      zP s0 m_X8_words d 8 [some (zr x0), some (zr (g0.ref c1 0)), some (zr (g0.ref c2 0)), some (.int (Int32.ofNat W0.length)), some (.int (Int32.ofNat a)), some (.int (Int32.ofNat i))] [] h Q E
  | k, i, a, W0, g, h, hik, hai, hWa, hW, hno, R, hB, hD, hS => by
    have eb := R.fz hB
    -- a word ends at i
    have hend : (bs[i]? = none ∨ bs[i]? = some 46) → (∀ (W1 : List sBy) (g1 : sG) (h1 : zH), W1 = W0 ++ [(bs.drop a).take (i - a)] → tR s0 F b s w g1 h1 → gB g1 x0 bs → gWd (g1.ar c1 0) (g1.ar c2 0) bs W1 → gSc (fun c => c = c1 ∨ c = c2) g0 g1 →
        zP s0 m_X8_words d 8 [some (zr x0), some (zr (g0.ref c1 0)), some (zr (g0.ref c2 0)), some (.int (Int32.ofNat (W0.length + 1))), some (.int (Int32.ofNat (i + 1))), some (.int (Int32.ofNat (i + 1)))] [] h1 Q E) →
        zP s0 m_X8_words d 31 [some (zr x0), some (zr (g0.ref c1 0)), some (zr (g0.ref c2 0)), some (.int (Int32.ofNat W0.length)), some (.int (Int32.ofNat a)), some (.int (Int32.ofNat i))] [] h Q E := fun _ KK => by
      obtain ⟨e1, n1, l1, A1⟩ := R.sc1 hc1
      rw [hS.2.1] at e1 n1
      refine b_X8_words_31 (g_S (t := 1) e1 n1 (zin_of (by rw [l1]; omega) (by omega)) ?_)
      rintro h1 rfl
      rw [i_nat (by omega)]
      have R1 := R.scr (c := c1) (k := W0.length) (v := .int (Int32.ofNat a)) ⟨hc1.1, by omega⟩
      rw [hS.2.1] at R1
      have hS1 : gSc (fun c => c = c1 ∨ c = c2) g0 (gSet g c1 0 ((g.ar c1 0).set W0.length (.int (Int32.ofNat a)))) := hS.trans (gSc.set (Or.inl rfl))
      have hB1 : gB (gSet g c1 0 ((g.ar c1 0).set W0.length (.int (Int32.ofNat a)))) x0 bs := gL.set.B hB
      have a1 : (gSet g c1 0 ((g.ar c1 0).set W0.length (.int (Int32.ofNat a)))).ar c1 0 = (g.ar c1 0).set W0.length (.int (Int32.ofNat a)) := gSet_self
      have a2 : (gSet g c1 0 ((g.ar c1 0).set W0.length (.int (Int32.ofNat a)))).ar c2 0 = g.ar c2 0 := gSet_ne fun e => hne e.1.symm
      revert R1 hS1 hB1 a1 a2
      generalize gSet g c1 0 ((g.ar c1 0).set W0.length (.int (Int32.ofNat a))) = g1
      generalize zput h (g0.ref c1 0) W0.length (.int (Int32.ofNat a)) = h1
      intro R1 hS1 hB1 a1 a2
      obtain ⟨e2, n2, l2, A2⟩ := R1.sc1 hc2
      rw [hS1.2.1] at e2 n2
      refine g_S (t := 1) e2 n2 (zin_of (by rw [l2]; omega) (by omega)) ?_
      rintro h2 rfl
      rw [i_succ, i_succ]
      have R2 := R1.scr (c := c2) (k := W0.length) (v := .int (Int32.ofNat i)) ⟨hc2.1, by omega⟩
      rw [hS1.2.1] at R2
      refine KK _ (gSet g1 c2 0 ((g1.ar c2 0).set W0.length (.int (Int32.ofNat i)))) _ rfl R2 (gL.set.B hB1) ?_ (hS1.trans (gSc.set (Or.inr rfl)))
      rw [gSet_self, gSet_ne (fun e => hne e.1), a1, a2]
      rw [a2] at l2
      intro j x hx
      by_cases ej : j < W0.length
      · rw [List.getElem?_append_left ej] at hx
        obtain ⟨p, e, q1, q2, q3⟩ := hD j x hx
        exact ⟨p, e, by rw [List.getElem?_set_ne (by omega)]; exact q1, by rw [List.getElem?_set_ne (by omega)]; exact q2, q3⟩
      · have hj := (List.getElem?_eq_some_iff.mp hx).1
        rw [List.length_append, List.length_singleton] at hj
        have ej : j = W0.length := by omega
        subst ej
        rw [List.getElem?_append_right (Nat.le_refl _), Nat.sub_self] at hx
        cases hx
        exact ⟨a, i, List.getElem?_set_self (by omega), List.getElem?_set_self (by omega), hai, by omega, rfl⟩
    -- what a word is without marks
    have hun : ∀ x ∈ (bs.drop a).take (i - a), x ≠ 46 := fun x hx e => by
      obtain ⟨n, hn⟩ := List.getElem?_of_mem hx
      have hn2 := (List.getElem?_eq_some_iff.mp hn).1
      rw [List.length_take, List.length_drop] at hn2
      rw [List.getElem?_take_of_lt (by omega), List.getElem?_drop, e] at hn
      exact hno (a + n) (by omega) (by omega) hn
    refine b_X8_words_8 ⟨⟨_, eb⟩, ?_⟩
    rw [gA_of eb, vB_len, i_lt (by omega) (by omega)]
    refine ⟨fun hlt => absurd hlt (by omega), fun _ => ⟨⟨_, eb⟩, ?_⟩⟩
    rw [i_inj (by omega) (by omega)]
    refine ⟨fun hi => ?_, fun hi => ?_⟩
    · refine hend (Or.inl (List.getElem?_eq_none (by omega))) fun W1 g1 h1 hW1 R1 hB1 hD1 hS1 => ?_
      have eb1 := R1.fz hB1
      have hwd : s_words bs = W1 := by
        have hdr : bs.drop a = (bs.drop a).take (i - a) := (List.take_of_length_le (by rw [List.length_drop]; omega)).symm
        rw [hW, hW1, (words_split (r := []) hun).2.symm, ← hdr]
      have hlen : (s_words bs).length = W0.length + 1 := by rw [hwd, hW1, List.length_append, List.length_singleton]
      refine b_X8_words_8 ⟨⟨_, eb1⟩, ?_⟩
      rw [gA_of eb1, vB_len, i_lt (by omega) (by omega)]
      refine ⟨fun _ => ?_, fun hh => absurd (by omega) hh⟩
      have := K g1 h1 R1 hS1 (by rw [hwd]; exact hD1) (by omega)
      rw [hlen] at this
      exact this
    · obtain ⟨k', rfl⟩ : ∃ k', k = k' + 1 := ⟨k - 1, by omega⟩
      have hx : bs[i]? = some bs[i] := List.getElem?_eq_getElem (by omega)
      refine g_EI (t := 0) eb (zin_of (by rw [vB_len]; omega) (by omega)) (by rw [i_nat (by omega)]; exact vB_get hx) fun z1 => ?_
      rw [z1, show (46 : Int32) = sx 46 from rfl, sx_inj, i_succ]
      refine ⟨fun hne46 => ?_, fun h46 => ?_⟩
      · exact t_words_8 hc1 hc2 hne hl K k' (i + 1) a W0 g h (by omega) (by omega) hWa hW (fun n h1 h2 => by
          by_cases e : n = i
          · subst e
            rw [hx]
            exact fun e2 => hne46 (Option.some.inj e2)
          · exact hno n h1 (by omega)) R hB hD hS
      · refine hend (Or.inr (by rw [hx, h46])) fun W1 g1 h1 hW1 R1 hB1 hD1 hS1 => ?_
        have hlen : W0.length + 1 = W1.length := by rw [hW1, List.length_append, List.length_singleton]
        rw [hlen]
        refine t_words_8 hc1 hc2 hne hl K k' (i + 1) (i + 1) W1 g1 h1 (by omega) (Nat.le_refl _) (by omega) ?_ (fun n h1 h2 => absurd h2 (by omega)) R1 hB1 hD1 hS1
        have hdr : bs.drop a = (bs.drop a).take (i - a) ++ 46 :: bs.drop (i + 1) := by
          have h1 : bs.drop i = 46 :: bs.drop (i + 1) := by rw [List.drop_eq_getElem_cons (by omega), h46]
          have h2 : (bs.drop a).drop (i - a) = bs.drop i := by rw [List.drop_drop]; congr 1; omega
          rw [← h1, ← h2, List.take_append_drop]
        rw [hW, hdr, (words_split hun).1, hW1, List.append_assoc]
        rfl
theorem t_words {c1 c2 : Nat} {bs : sBy} (hc1 : 18 ≤ c1 ∧ c1 ≤ 21) (hc2 : 18 ≤ c2 ∧ c2 ≤ 21) (hne : c1 ≠ c2) (R : tR s0 F b s w g h) (hB : gB g x0 bs) (hl : bs.length ≤ 41)
    (K : ∀ g1 h1, tR s0 F b s w g1 h1 → gSc (fun c => c = c1 ∨ c = c2) g g1 → gWd (g1.ar c1 0) (g1.ar c2 0) bs (s_words bs) → (s_words bs).length ≤ 42 → Q (.int (Int32.ofNat (s_words bs).length)) h1) : zX s0 m_X8_words d [zr x0, zr (g.ref c1 0), zr (g.ref c2 0)] h Q E :=
  c_X8_words (t_words_8 hc1 hc2 hne hl K bs.length 0 0 [] g h (Nat.zero_add _) (Nat.le_refl _) (Nat.le_refl _) rfl (fun n _ hn => absurd hn (Nat.not_lt_zero _)) R hB (fun j w hw => by cases hw) gSc.refl)
end TP
