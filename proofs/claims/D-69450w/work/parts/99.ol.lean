/-! ===== what a crash leaves (pure) ===== -/
set_option maxRecDepth 100000
set_option maxHeartbeats 200000
section OL
variable {s s' S T : sSt} {n m c i j q e k a N0 : Nat} {x : Int32} {l xs : List Nat}
theorem backs_row {α : Type} (f : sSt → α) (H : ∀ s m, f (s_back0 s m) = f s) : ∀ (l : List Nat) (s : sSt), f (s_backs s l) = f s
  | [], s => rfl
  | m :: l, s => (backs_row f H l (s_back0 s m)).trans (H s m)
/-- a message that is put back, as it was -/
def sCopy (s : sSt) (m : Nat) : sEn := ((s.en m).cont, (s.en m).exch, (s.en m).key, (s.en m).expi, (s.en m).queue, (s.en m).number, s.clock, (s.en m).deaths, 0, true)
def sBe (s : sSt) (l : List Nat) (s' : sSt) : Prop := (∀ (j : Nat) m, l[j]? = some m → s'.en (s.next + j) = sCopy s m) ∧
  (∀ q, ∃ y, s'.qu q = (s.qu q).w_ents y ∧ ((s.qu q).ents = [] → y.Pairwise (· < ·) ∧ ∀ m, m ∈ y ↔ (s.next ≤ m ∧ m < s.next + l.length ∧ (s'.en m).queue = q))) ∧ s'.messages = s.messages + Int32.ofNat l.length ∧ s'.clock = s.clock
theorem be_nil : sBe s [] (s_backs s []) := by
  refine ⟨fun j m h => (nomatch h), fun q => ⟨(s.qu q).ents, rfl, fun h => ?_⟩, ?_, rfl⟩
  · rw [h]
    exact ⟨List.Pairwise.nil, fun m => ⟨fun h => (nomatch h), fun h => absurd h.2.1 (by rw [List.length_nil]; omega)⟩⟩
  · show s.messages = s.messages + 0
    rw [Int32.add_zero]
theorem be_snoc (B : sBk s l s') (D : sBe s l s') (hm : m < s.next) : sBe s (l ++ [m]) (s_back0 s' m) := by
  obtain ⟨b1, b2, b3, b4, b5, b6⟩ := B
  obtain ⟨d1, d2, d3, d4⟩ := D
  have hlen : (l ++ [m]).length = l.length + 1 := by rw [List.length_append]; rfl
  have hq : (s'.en m).queue = (s.en m).queue := by rw [(b4 m hm).1]
  have hnew : (s_back0 s' m).en s'.next = sCopy s m := by
    rw [back0_en, sUp_self, (b4 m hm).1, d4]
    rfl
  have hold : ∀ j, j ≠ s'.next → (s_back0 s' m).en j = s'.en j := fun j hj => by rw [back0_en, sUp_ne hj]
  refine ⟨fun j m' h => ?_, fun q => ?_, ?_, d4⟩
  · by_cases hj : j < l.length
    · rw [List.getElem?_append_left hj] at h
      rw [hold _ (by omega)]
      exact d1 j m' h
    · have hj2 := (List.getElem?_eq_some_iff.mp h).1
      rw [hlen] at hj2
      have ej : j = l.length := by omega
      subst ej
      rw [List.getElem?_append_right (Nat.le_refl _), Nat.sub_self] at h
      cases h
      rw [← b2]
      exact hnew
  · obtain ⟨y, y1, y2⟩ := d2 q
    by_cases e : q = (s'.en m).queue
    · refine ⟨y ++ [s'.next], ?_, fun h0 => ?_⟩
      · rw [back0_qu, e, sUp_self, ← e, y1]
        rfl
      · obtain ⟨y3, y4⟩ := y2 h0
        refine ⟨List.pairwise_append.mpr ⟨y3, List.pairwise_singleton _ _, fun a ha c hc => ?_⟩, fun m' => ?_⟩
        · rw [List.mem_singleton.mp hc]
          have := ((y4 a).mp ha).2.1
          omega
        · rw [List.mem_append, hlen]
          constructor
          · rintro (h | h)
            · obtain ⟨h1, h2, h3⟩ := (y4 m').mp h
              exact ⟨h1, by omega, by rw [hold m' (by omega)]; exact h3⟩
            · rw [List.mem_singleton.mp h]
              exact ⟨by omega, by omega, by rw [hnew, e, hq]; rfl⟩
          · rintro ⟨h1, h2, h3⟩
            by_cases e2 : m' = s'.next
            · exact Or.inr (List.mem_singleton.mpr e2)
            · rw [hold m' e2] at h3
              exact Or.inl ((y4 m').mpr ⟨h1, by omega, h3⟩)
    · refine ⟨y, by rw [back0_qu, sUp_ne e, y1], fun h0 => ?_⟩
      obtain ⟨y3, y4⟩ := y2 h0
      refine ⟨y3, fun m' => ?_⟩
      rw [hlen]
      constructor
      · intro h
        obtain ⟨h1, h2, h3⟩ := (y4 m').mp h
        exact ⟨h1, by omega, by rw [hold m' (by omega)]; exact h3⟩
      · rintro ⟨h1, h2, h3⟩
        by_cases e2 : m' = s'.next
        · rw [e2, hnew] at h3
          exact absurd (h3.symm.trans hq.symm) e
        · rw [hold m' e2] at h3
          exact (y4 m').mpr ⟨h1, by omega, h3⟩
  · show s'.messages + 1 = _
    rw [d3, hlen, Int32.add_assoc, i_succ]
theorem bk_all (I : sScope s) : ∀ (k : Nat) (l : List Nat), l.length = k → (∀ m ∈ l, m < s.next ∧ s.knd m = 36) → sBk s l (s_backs s l) ∧ sBe s l (s_backs s l)
  | 0, l, hl, _ => by
    rw [List.eq_nil_of_length_eq_zero hl]
    exact ⟨bk_nil I, be_nil⟩
  | k + 1, l, hl, H => by
    rcases List.eq_nil_or_concat l with e | ⟨l', m, e⟩
    · rw [e] at hl; cases hl
    · rw [List.concat_eq_append] at e
      subst e
      rw [List.length_append, List.length_singleton] at hl
      obtain ⟨B, D⟩ := bk_all I k l' (by omega) fun m hm => H m (List.mem_append.mpr (Or.inl hm))
      obtain ⟨h1, h2⟩ := H m (List.mem_append.mpr (Or.inr (List.mem_singleton.mpr rfl)))
      rw [backs_snoc]
      exact ⟨bk_snoc B h1 h2, be_snoc B D h1⟩
/-- the state behind a crash, from what is safe in s -/
def s_crF (s : sSt) : sSt := s_gc ((s_backs (s_cr5 s) s.sen).w_sen (List.range' (s_cr5 s).next s.sen.length))
theorem crF_rows : (s_crF s).ses = s.ses ∧ (s_crF s).sqs = s.sqs ∧ (s_crF s).sbs = s.sbs ∧ (s_crF s).sen = List.range' s.next s.sen.length ∧ (s_crF s).es = s.ses ∧ (s_crF s).qs = s.sqs ∧ (s_crF s).bs = s.sbs ∧ (s_crF s).cs = [] ∧ (s_crF s).dead = [] ∧ (s_crF s).facts = [] ∧
  (s_crF s).bi = s.bi ∧ (s_crF s).co = s.co ∧ (s_crF s).se = s.se ∧ (s_crF s).cn = s.cn ∧ (s_crF s).ch = s.ch ∧ (s_crF s).lastNum = s.lastNum ∧ (s_crF s).tape = s.tape ∧ (s_crF s).gener = s.gener ∧ (s_crF s).ex = fun e => if e ∈ s.ses then (s.ex e).w_there true else s.ex e :=
  ⟨backs_row (fun x => x.ses) (fun _ _ => rfl) _ _, backs_row (fun x => x.sqs) (fun _ _ => rfl) _ _, backs_row (fun x => x.sbs) (fun _ _ => rfl) _ _, rfl, backs_row (fun x => x.es) (fun _ _ => rfl) _ _, backs_row (fun x => x.qs) (fun _ _ => rfl) _ _, backs_row (fun x => x.bs) (fun _ _ => rfl) _ _, backs_row (fun x => x.cs) (fun _ _ => rfl) _ _,
   backs_row (fun x => x.dead) (fun _ _ => rfl) _ _, backs_row (fun x => x.facts) (fun _ _ => rfl) _ _, backs_row (fun x => x.bi) (fun _ _ => rfl) _ _, backs_row (fun x => x.co) (fun _ _ => rfl) _ _, backs_row (fun x => x.se) (fun _ _ => rfl) _ _, backs_row (fun x => x.cn) (fun _ _ => rfl) _ _, backs_row (fun x => x.ch) (fun _ _ => rfl) _ _,
   backs_row (fun x => x.lastNum) (fun _ _ => rfl) _ _, backs_row (fun x => x.tape) (fun _ _ => rfl) _ _, backs_row (fun x => x.gener) (fun _ _ => rfl) _ _, backs_row (fun x => x.ex) (fun _ _ => rfl) _ _⟩
/-- the rest of it: kinds, messages, queues -/
def sCrT (s t : sSt) : Prop := t.next = s.next + s.sen.length ∧ (∀ i, t.knd i = 32 ↔ i ∈ s.ses) ∧ (∀ i, t.knd i = 33 ↔ i ∈ s.sqs) ∧ (∀ i, t.knd i = 34 ↔ i ∈ s.sbs) ∧ (∀ i, t.knd i = 36 ↔ (s.next ≤ i ∧ i < s.next + s.sen.length)) ∧ (∀ i, t.knd i ≠ 35 ∧ t.knd i ≠ 37) ∧ (∀ i, t.next ≤ i → t.knd i = 0) ∧
  (∀ m, s.next ≤ m → m < s.next + s.sen.length → ∃ j m0, m = s.next + j ∧ s.sen[j]? = some m0 ∧ t.en m = sCopy s m0) ∧
  (∀ q, q ∈ s.sqs → ∃ y, t.qu q = ((((s.qu q).w_there true).w_ents []).w_last none).w_ents y ∧ y.Pairwise (· < ·) ∧ ∀ m, m ∈ y ↔ (s.next ≤ m ∧ m < s.next + s.sen.length ∧ (t.en m).queue = q)) ∧ (∀ q, q ∉ s.sqs → (t.qu q).ents = []) ∧ t.messages = Int32.ofNat s.sen.length
theorem crF_T (I : sI s) (N : sNone s) : sCrT s (s_crF s) := by
  have Isc := I.sc
  have I5 := sScope.cr5 I N
  have F1 := I.hi.1 0
  rw [safe_0] at F1
  obtain ⟨f1, f2, f3, f4, f5, f6, f7, f8, f9, f10, f11, f12, f13, f14⟩ := F1
  obtain ⟨r1, r2, r3, r4, r5, r6, r7, r8, r9, r10, r11, r12, r13, r14, r15, r16, r17, r18, r19, r20, r21, r22⟩ := cr5_rows (s := s)
  have hlt : ∀ i, s.knd i ≠ 0 → i < s.next := fun i hi => Nat.lt_of_not_le fun hh => hi (Isc.2.2.2.2.2.2.2.2.2.2.2.2.2.2.2.2 i hh)
  obtain ⟨B, D⟩ := bk_all I5 s.sen.length s.sen rfl fun m hm => by
    have h1 := (f11 m hm).1
    exact ⟨by rw [r2]; exact hlt m (by rw [h1]; decide), by rw [r1]; exact h1⟩
  obtain ⟨g1, g2, g3, g4, g5, g6, -⟩ := crF_rows (s := s)
  have hkn : ∀ i, (s_crF s).knd i = if i ∈ s.ses ∨ i ∈ s.sqs ∨ i ∈ s.sbs ∨ i ∈ List.range' s.next s.sen.length then (s_backs (s_cr5 s) s.sen).knd i else 0 := fun i => by
    rw [← g1, ← g2, ← g3, ← g4]
    rfl
  have hqn : ∀ q, (s_crF s).qu q = if q ∈ s.sqs then (s_backs (s_cr5 s) s.sen).qu q else ((s_backs (s_cr5 s) s.sen).qu q).w_ents [] := fun q => by
    rw [← g2]
    rfl
  have hen : (s_crF s).en = (s_backs (s_cr5 s) s.sen).en := rfl
  have hnx : (s_crF s).next = (s_backs (s_cr5 s) s.sen).next := rfl
  have hms : (s_crF s).messages = (s_backs (s_cr5 s) s.sen).messages := rfl
  generalize s_crF s = t at hkn hqn hen hnx hms
  generalize s_backs (s_cr5 s) s.sen = X at B D hkn hqn hen hnx hms
  obtain ⟨b1, b2, b3, b4, b5, b6⟩ := B
  obtain ⟨d1, d2, d3, d4⟩ := D
  rw [r2] at b2 b4 b5 d1
  have k8 : ∀ i ∈ s.ses, X.knd i = 32 := fun i hi => by
    have h1 := (f8 i hi).1
    rw [(b4 i (hlt i (by rw [h1]; decide))).2, r1, h1]
  have k9 : ∀ i ∈ s.sqs, X.knd i = 33 := fun i hi => by
    have h1 := (f9 i hi).1
    rw [(b4 i (hlt i (by rw [h1]; decide))).2, r1, h1]
  have k10 : ∀ i ∈ s.sbs, X.knd i = 34 := fun i hi => by
    have h1 := (f10 i hi).1
    rw [(b4 i (hlt i (by rw [h1]; decide))).2, r1, h1]
  have k11 : ∀ i ∈ List.range' s.next s.sen.length, X.knd i = 36 := fun i hi => by
    obtain ⟨h1, h2⟩ := List.mem_range'_1.mp hi
    exact b5 i h1 h2
  have kc : ∀ i c, c ≠ 0 → t.knd i = c → (i ∈ s.ses ∧ c = 32) ∨ (i ∈ s.sqs ∧ c = 33) ∨ (i ∈ s.sbs ∧ c = 34) ∨ (i ∈ List.range' s.next s.sen.length ∧ c = 36) := fun i c hc h => by
    rw [hkn] at h
    split at h
    · rename_i hh
      rcases hh with e | e | e | e
      · exact Or.inl ⟨e, by rw [← h, k8 i e]⟩
      · exact Or.inr (Or.inl ⟨e, by rw [← h, k9 i e]⟩)
      · exact Or.inr (Or.inr (Or.inl ⟨e, by rw [← h, k10 i e]⟩))
      · exact Or.inr (Or.inr (Or.inr ⟨e, by rw [← h, k11 i e]⟩))
    · exact absurd h.symm hc
  refine ⟨by rw [hnx]; exact b2, fun i => ⟨fun h => ?_, fun h => ?_⟩, fun i => ⟨fun h => ?_, fun h => ?_⟩, fun i => ⟨fun h => ?_, fun h => ?_⟩, fun i => ⟨fun h => ?_, fun h => ?_⟩, fun i => ⟨fun h => ?_, fun h => ?_⟩, fun i hi => ?_, fun m h1 h2 => ?_, fun q hq => ?_, fun q hq => ?_, ?_⟩
  · rcases kc i _ (by decide) h with e | e | e | e
    · exact e.1
    all_goals exact absurd e.2 (by decide)
  · rw [hkn, if_pos (Or.inl h), k8 i h]
  · rcases kc i _ (by decide) h with e | e | e | e
    · exact absurd e.2 (by decide)
    · exact e.1
    all_goals exact absurd e.2 (by decide)
  · rw [hkn, if_pos (Or.inr (Or.inl h)), k9 i h]
  · rcases kc i _ (by decide) h with e | e | e | e
    · exact absurd e.2 (by decide)
    · exact absurd e.2 (by decide)
    · exact e.1
    · exact absurd e.2 (by decide)
  · rw [hkn, if_pos (Or.inr (Or.inr (Or.inl h))), k10 i h]
  · rcases kc i _ (by decide) h with e | e | e | e
    · exact absurd e.2 (by decide)
    · exact absurd e.2 (by decide)
    · exact absurd e.2 (by decide)
    · exact List.mem_range'_1.mp e.1
  · have hm := List.mem_range'_1.mpr h
    rw [hkn, if_pos (Or.inr (Or.inr (Or.inr hm))), k11 i hm]
  · rcases kc i _ (by decide) h with e | e | e | e <;> exact absurd e.2 (by decide)
  · rcases kc i _ (by decide) h with e | e | e | e <;> exact absurd e.2 (by decide)
  · refine Classical.byContradiction fun h0 => ?_
    rw [hnx, b2] at hi
    rcases kc i _ h0 rfl with e | e | e | e
    · have := hlt i (by rw [(f8 i e.1).1]; decide)
      omega
    · have := hlt i (by rw [(f9 i e.1).1]; decide)
      omega
    · have := hlt i (by rw [(f10 i e.1).1]; decide)
      omega
    · have := (List.mem_range'_1.mp e.1).2
      omega
  · obtain ⟨j, rfl⟩ : ∃ j, m = s.next + j := ⟨m - s.next, by omega⟩
    have hj : j < s.sen.length := by omega
    refine ⟨j, s.sen[j], rfl, List.getElem?_eq_getElem hj, ?_⟩
    rw [hen]
    exact d1 j _ (List.getElem?_eq_getElem hj)
  · obtain ⟨y, y1, y2⟩ := d2 q
    have he : ((s_cr5 s).qu q).ents = [] := by rw [r21, if_pos hq]; rfl
    obtain ⟨y3, y4⟩ := y2 he
    refine ⟨y, by rw [hqn, if_pos hq, y1, r21, if_pos hq], y3, fun m => ?_⟩
    rw [hen, y4, r2]
  · rw [hqn, if_neg hq]
    rfl
  · rw [hms, d3, r20, Int32.zero_add]
/-- each of a list is counted once -/
theorem sum_filter {f : Nat → Nat} {ys : List Nat} (hn : ys.Nodup) : ∀ (xs : List Nat), (∀ x ∈ xs, f x ∈ ys) → (ys.map (fun y => (xs.filter (fun x => f x == y)).length)).sum = xs.length
  | [], _ => by
    have : ∀ (ys : List Nat), (ys.map (fun y => (([] : List Nat).filter (fun x => f x == y)).length)).sum = 0 := fun ys => by
      induction ys with
      | nil => rfl
      | cons y ys ih => rw [List.map_cons, List.sum_cons, ih]; rfl
    exact this ys
  | x :: xs, H => by
    have ih := sum_filter hn xs fun y hy => H y (List.mem_cons_of_mem _ hy)
    rw [List.length_cons, ← ih]
    refine sum_up (k := 1) (j := f x) hn (H x List.mem_cons_self) fun y hy => ?_
    rw [List.filter_cons]
    by_cases e : y = f x
    · subst e
      rw [if_pos (beq_self_eq_true _), if_pos rfl, List.length_cons]
    · rw [if_neg (fun h => e (beq_iff_eq.mp h).symm), if_neg e]
/-- ascending lists of the same members are the same -/
theorem asc_ext : ∀ (xs ys : List Nat), xs.Pairwise (· < ·) → ys.Pairwise (· < ·) → (∀ m, m ∈ xs ↔ m ∈ ys) → xs = ys
  | [], [], _, _, _ => rfl
  | [], y :: ys, _, _, H => absurd ((H y).mpr List.mem_cons_self) List.not_mem_nil
  | x :: xs, [], _, _, H => absurd ((H x).mp List.mem_cons_self) List.not_mem_nil
  | x :: xs, y :: ys, P1, P2, H => by
    obtain ⟨p1, p2⟩ := List.pairwise_cons.mp P1
    obtain ⟨q1, q2⟩ := List.pairwise_cons.mp P2
    have exy : x = y := by
      rcases List.mem_cons.mp ((H x).mp List.mem_cons_self) with e | e
      · exact e
      · rcases List.mem_cons.mp ((H y).mpr List.mem_cons_self) with e2 | e2
        · exact e2.symm
        · have := q1 x e
          have := p1 y e2
          omega
    subst exy
    refine congrArg (x :: ·) (asc_ext xs ys p2 q2 fun m => ⟨fun h => ?_, fun h => ?_⟩)
    · rcases List.mem_cons.mp ((H m).mp (List.mem_cons_of_mem _ h)) with e | e
      · have := p1 m h
        omega
      · exact e
    · rcases List.mem_cons.mp ((H m).mpr (List.mem_cons_of_mem _ h)) with e | e
      · have := q1 m h
        omega
      · exact e
theorem range_asc (a n : Nat) : (List.range' a n).Pairwise (· < ·) := List.pairwise_lt_range'
theorem crF_ents (I : sI s) (N : sNone s) : sEnts (s_crF s) = s.sen.length := by
  have F1 := I.hi.1 0
  rw [safe_0] at F1
  obtain ⟨f1, f2, f3, f4, f5, f6, f7, f8, f9, f10, f11, f12, f13, f14⟩ := F1
  obtain ⟨g1, g2, g3, g4, g5, g6, -⟩ := crF_rows (s := s)
  obtain ⟨t1, t2, t3, t4, t5, t6, t7, t8, t9, t10, t11⟩ := crF_T I N
  unfold sEnts
  rw [g6]
  have h1 := sum_filter (f := fun m => ((s_crF s).en m).queue) (ys := s.sqs) f6 (List.range' s.next s.sen.length) fun m hm => by
    obtain ⟨a1, a2⟩ := List.mem_range'_1.mp hm
    obtain ⟨j, m0, -, e2, e3⟩ := t8 m a1 a2
    rw [e3]
    exact (f11 m0 (List.mem_of_getElem? e2)).2.1
  rw [List.length_range'] at h1
  rw [← h1]
  refine congrArg List.sum (List.map_congr_left fun q hq => ?_)
  obtain ⟨y, y1, y2, y3⟩ := t9 q hq
  have e : y = (List.range' s.next s.sen.length).filter (fun x => ((s_crF s).en x).queue == q) := asc_ext _ _ y2 (List.Pairwise.sublist List.filter_sublist (range_asc _ _)) fun m => by
    rw [y3, List.mem_filter, List.mem_range'_1, beq_iff_eq]
    exact ⟨fun h => ⟨⟨h.1, h.2.1⟩, h.2.2⟩, fun h => ⟨h.1.1, h.1.2, h.2⟩⟩
  rw [y1, ← e]
  rfl
theorem nums_asc (I : sI s) {j1 j2 m1' m2' : Nat} (h1 : s.sen[j1]? = some m1') (h2 : s.sen[j2]? = some m2') (hj : j1 < j2) : (s.en m1').number < (s.en m2').number := by
  have F1 := I.hi.1 0
  rw [safe_0] at F1
  obtain ⟨f1, f2, f3, f4, f5, f6, f7, f8, f9, f10, f11, f12, f13, f14⟩ := F1
  have hp := List.pairwise_iff_getElem.mp f14
  obtain ⟨l1, e1⟩ := List.getElem?_eq_some_iff.mp h1
  obtain ⟨l2, e2⟩ := List.getElem?_eq_some_iff.mp h2
  have := hp j1 j2 (by rw [List.length_map]; exact l1) (by rw [List.length_map]; exact l2) hj
  rw [List.getElem_map, List.getElem_map, e1, e2] at this
  exact this
theorem sI.crF (I : sI s) (N : sNone s) : sI (s_crF s) := by
  have F1 := I.hi.1 0
  rw [safe_0] at F1
  obtain ⟨f1, f2, f3, f4, f5, f6, f7, f8, f9, f10, f11, f12, f13, f14⟩ := F1
  have hEn := crF_ents I N
  obtain ⟨g1, g2, g3, g4, g5, g6, g7, g8, g9, g10, g11, g12, g13, g14, g15, g16, g17, g18, g19⟩ := crF_rows (s := s)
  obtain ⟨t1, t2, t3, t4, t5, t6, t7, t8, t9, t10, t11⟩ := crF_T I N
  have hnum := fun {j1 j2 m1' m2' : Nat} (h1 : s.sen[j1]? = some m1') (h2 : s.sen[j2]? = some m2') (hj : j1 < j2) => nums_asc I h1 h2 hj
  generalize s_crF s = t at *
  have hsen : ∀ m, m ∈ t.sen ↔ (s.next ≤ m ∧ m < s.next + s.sen.length) := fun m => by rw [g4, List.mem_range'_1]
  have hex : ∀ i ∈ s.ses, t.ex i = (s.ex i).w_there true := fun i hi => by rw [g19]; exact if_pos hi
  have hqn : ∀ q, q ∈ s.sqs → (t.qu q).name = (s.qu q).name ∧ s_kept (t.qu q) = s_kept (s.qu q) := fun q hq => by
    obtain ⟨y, y1, -⟩ := t9 q hq
    rw [y1]
    exact ⟨rfl, rfl⟩
  have hrec : ∀ m, s.next ≤ m → m < s.next + s.sen.length → sRecM t m = true ∧ (t.en m).queue ∈ s.sqs ∧ 0 < (t.en m).number ∧ (t.en m).number ≤ t.lastNum := fun m h1 h2 => by
    obtain ⟨j, m0, -, e2, e3⟩ := t8 m h1 h2
    obtain ⟨p1, p2, p3, p4, p5⟩ := f11 m0 (List.mem_of_getElem? e2)
    unfold sRecM s_rec at p3 ⊢
    have hq : (sCopy s m0).queue = (s.en m0).queue := rfl
    rw [e3, hq, (hqn _ p2).2, g16]
    exact ⟨p3, p2, p4, p5⟩
  have hpw : ∀ m m', s.next ≤ m → m' < s.next + s.sen.length → m < m' → (t.en m).number < (t.en m').number := fun m m' h1 h2 hlt => by
    obtain ⟨j, m0, e1, e2, e3⟩ := t8 m h1 (by omega)
    obtain ⟨j', m0', e1', e2', e3'⟩ := t8 m' (by omega) h2
    rw [e3, e3']
    exact hnum e2 e2' (by omega)
  obtain ⟨a1, a2, a3, a4, a5, a6, a7, a8, a9, a10, a11, a12, a13, a14, a15, a16, a17⟩ := I.sc
  obtain ⟨x1, x2, x3, x4, x5, x6, x7⟩ := I.tx
  refine ⟨⟨?_, ?_, ?_, ?_, ?_, ?_, ?_, ?_, ?_, fun i hi => ?_, fun i hi => ?_, fun i hi => absurd hi (t6 i).1, fun i hi => ?_, fun i hi => absurd hi (t6 i).2, fun h hh => ?_, ?_, t7⟩, ⟨fun i hi => ?_, fun i hi => ?_, fun i hi => ?_, fun i hi => absurd hi (t6 i).1, fun i hi => ?_, ?_, ?_⟩, ⟨?_, fun q hq => ?_, ?_, ?_⟩, ⟨fun h hh => ?_, fun h k hh hk x hx => ?_, fun h hh h1 => ?_⟩, ?_, ?_⟩
  · rw [g6]; exact fun q hq => (t3 q).mpr hq
  · rw [g5]; exact fun q hq => (t2 q).mpr hq
  · rw [g7]; exact fun q hq => (t4 q).mpr hq
  · rw [g8]; exact fun _ h => nomatch h
  · rw [g2]; exact fun q hq => (t3 q).mpr hq
  · rw [g1]; exact fun q hq => (t2 q).mpr hq
  · rw [g3]; exact fun q hq => (t4 q).mpr hq
  · exact fun m hm => (t5 m).mpr ((hsen m).mp hm)
  · rw [g9]; exact fun _ h => nomatch h
  · have hq := (t3 i).mp hi
    obtain ⟨y, y1, y2, y3⟩ := t9 i hq
    rw [y1]
    exact ⟨fun m hm => by
      obtain ⟨h1, h2, h3⟩ := (y3 m).mp hm
      exact ⟨(t5 m).mpr ⟨h1, h2⟩, h3⟩, fun x hx => (nomatch hx), fun c hc => (a10 i (f9 i hq).1).2.2 c hc⟩
  · have hb := (t4 i).mp hi
    rw [g11]
    exact ⟨(t3 _).mpr (f10 i hb).2.2, (t2 _).mpr (f10 i hb).2.1⟩
  · obtain ⟨h1, h2⟩ := (t5 i).mp hi
    exact (t3 _).mpr (hrec i h1 h2).2.1
  · obtain ⟨n1, n2, n3, -⟩ := N.2 h hh
    rw [g15, n2, n3]
    exact ⟨fun _ h => (nomatch h), fun _ h => (nomatch h)⟩
  · rw [g10]; exact fun _ h => nomatch h
  · have he := (t2 i).mp hi
    rw [hex i he]
    exact x1 i (f8 i he).1
  · have hq := (t3 i).mp hi
    obtain ⟨y, y1, -⟩ := t9 i hq
    rw [y1]
    exact x2 i (f9 i hq).1
  · rw [g11]
    exact x3 i (f10 i ((t4 i).mp hi)).1
  · obtain ⟨h1, h2⟩ := (t5 i).mp hi
    obtain ⟨j, m0, -, e2, e3⟩ := t8 i h1 h2
    rw [e3]
    exact x5 m0 (f11 m0 (List.mem_of_getElem? e2)).1
  · rw [g9]; exact fun _ h => nomatch h
  · rw [g15]; exact x7
  · rw [g6]; exact f6
  · have hq' := (t3 q).mp hq
    obtain ⟨y, y1, y2, y3⟩ := t9 q hq'
    rw [y1]
    refine ⟨y2.imp fun h => Nat.ne_of_lt h, fun h => absurd (by rw [g6]; exact hq') h, fun m hm => Or.inl ?_⟩
    obtain ⟨h1, h2, -⟩ := (y3 m).mp hm
    obtain ⟨j, m0, -, e2, e3⟩ := t8 m h1 h2
    rw [e3]
    rfl
  · rw [t11, hEn]
  · rw [hEn]; exact f4
  · obtain ⟨n1, n2, n3, -⟩ := N.2 h hh
    rw [g15, n2]
    exact ⟨List.nodup_nil, fun _ h => nomatch h⟩
  · rw [g15, (N.2 h hh).2.1] at hx
    exact nomatch hx
  · rw [g15, (N.2 h hh).2.2.2.1] at h1
    exact absurd h1 (by decide)
  · obtain ⟨c1, c2, c3, c4, c5, c6, c7, c8, c9, c10, c11, c12, c13, c14, c15, c16, c17, c18⟩ := I.cp
    refine ⟨by rw [g5]; exact f5, by rw [g7]; exact f7, by rw [g8]; exact List.nodup_nil, by rw [g5]; exact f1, by rw [g6]; exact f2, by rw [g7]; exact f3, by rw [g8]; exact Nat.zero_le _, by rw [g9]; exact Nat.zero_le _, ?_, fun q hq x hx => ?_, by rw [g8]; exact fun _ h => nomatch h, by rw [g15]; exact c12, by rw [g14]; exact c13, by rw [g16]; exact c14, by rw [g16]; exact c15, by rw [g17]; exact c16, ?_, ?_⟩
    · rw [g7, g11, g5, g6]
      exact fun x hx => (f10 x hx).2
    · obtain ⟨y, y1, -⟩ := t9 q ((t3 q).mp hq)
      rw [y1] at hx
      exact nomatch hx
    · rw [g6]
      exact fun q hq p hp he => f12 q hq p hp (by rw [(hqn q hq).1, (hqn p hp).1] at he; exact he)
    · rw [g5]
      exact fun q hq p hp he => f13 q hq p hp (by rw [hex q hq, hex p hp] at he; exact he)
  · have hs0 : ∀ n, sSafe t n = (s.ses, s.sqs, s.sbs, t.sen) := fun n => by
      rw [safe_eq, g10, List.take_nil, List.foldl_nil, g1, g2, g3]
    have hlen : t.sen.length = s.sen.length := by rw [g4, List.length_range']
    refine ⟨fun n => ?_, ?_, ?_, ?_, fun m => ?_, fun q hq => ?_, fun q hq m hm => ?_⟩
    · rw [hs0]
      refine ⟨f1, f2, f3, by show t.sen.length ≤ 300; rw [hlen]; exact f4, f5, f6, f7, fun e he => ⟨(t2 e).mpr he, ?_⟩, fun q hq => ⟨(t3 q).mpr hq, ?_⟩, fun x hx => ⟨(t4 x).mpr hx, ?_⟩, fun m hm => ?_, fun q hq p hp he => ?_, fun q hq p hp he => ?_, ?_⟩
      · rw [hex e he]
        exact (f8 e he).2
      · rw [(hqn q hq).2]
        exact (f9 q hq).2
      · rw [g11]
        exact (f10 x hx).2
      · obtain ⟨h1, h2⟩ := (hsen m).mp hm
        obtain ⟨p1, p2, p3, p4⟩ := hrec m h1 h2
        exact ⟨(t5 m).mpr ⟨h1, h2⟩, p2, p1, p3, p4⟩
      · rw [(hqn q hq).1, (hqn p hp).1] at he
        exact f12 q hq p hp he
      · rw [hex q hq, hex p hp] at he
        exact f13 q hq p hp he
      · show (t.sen.map (fun m => (t.en m).number)).Pairwise (· < ·)
        rw [List.pairwise_map, g4]
        refine (range_asc s.next s.sen.length).imp_of_mem fun {a b} ha hb hlt => ?_
        exact hpw a b (List.mem_range'_1.mp ha).1 (List.mem_range'_1.mp hb).2 hlt
    · rw [hs0, g5]
      exact (List.filter_eq_self.mpr fun e he => by rw [hex e he]; exact (f8 e he).2).symm
    · rw [hs0, g6]
      exact (List.filter_eq_self.mpr fun q hq => by rw [(hqn q hq).2]; exact (f9 q hq).2).symm
    · rw [hs0, g7, g11]
      refine (List.filter_eq_self.mpr fun x hx => ?_).symm
      obtain ⟨p1, p2, p3⟩ := f10 x hx
      rw [hex _ p2, (hqn _ p3).2, (f9 _ p3).2]
      show ((s.ex (s.bi x).exch).dur && true) = true
      rw [(f8 _ p2).2]
      rfl
    · rw [hs0, g6]
      show m ∈ t.sen ↔ _
      rw [hsen]
      constructor
      · rintro ⟨h1, h2⟩
        obtain ⟨p1, p2, -⟩ := hrec m h1 h2
        obtain ⟨y, y1, y2, y3⟩ := t9 _ p2
        refine ⟨?_, p2, p1⟩
        rw [y1]
        exact (y3 m).mpr ⟨h1, h2, rfl⟩
      · rintro ⟨h1, h2, h3⟩
        obtain ⟨y, y1, y2, y3⟩ := t9 _ h2
        rw [y1] at h1
        obtain ⟨p1, p2, -⟩ := (y3 m).mp h1
        exact ⟨p1, p2⟩
    · obtain ⟨y, y1, y2, y3⟩ := t9 q ((t3 q).mp hq)
      rw [y1]
      show (y.map (fun m => (t.en m).number)).Pairwise (· < ·)
      rw [List.pairwise_map]
      refine y2.imp_of_mem fun {a b} ha hb hlt => hpw a b ((y3 a).mp ha).1 ((y3 b).mp hb).2.1 hlt
    · obtain ⟨y, y1, y2, y3⟩ := t9 q ((t3 q).mp hq)
      rw [y1] at hm
      obtain ⟨p1, p2, -⟩ := (y3 m).mp hm
      exact (hrec m p1 p2).2.2
/-- what it costs -/
theorem crF_cost (I : sI s) (N : sNone s) : tP (s_crF s) ≤ tP s + 3100 ∧ tY (s_crF s) ≤ tY s + 900 ∧ sWt (s_crF s) = 0 := by
  have hEn := crF_ents I N
  have I2 := I.crF N
  have F1 := I.hi.1 0
  rw [safe_0] at F1
  obtain ⟨f1, f2, f3, f4, -⟩ := F1
  obtain ⟨g1, g2, g3, g4, g5, g6, g7, g8, g9, g10, g11, g12, g13, g14, g15, g16, g17, g18, g19⟩ := crF_rows (s := s)
  have hr := rdy_le (s := s_crF s)
  rw [hEn] at hr
  have hl : sLive (s_crF s) = sLive s := by unfold sLive; rw [g14]
  refine ⟨?_, ?_, ?_⟩
  · unfold tP
    rw [hEn, g16, g9, g5, g6, List.length_nil]
    have f1 : s.ses.length ≤ 12 := f1
    have f2 : s.sqs.length ≤ 12 := f2
    have f4 : s.sen.length ≤ 300 := f4
    omega
  · unfold tY
    rw [hl, g16]
    have f4 : s.sen.length ≤ 300 := f4
    omega
  · unfold sWt
    rw [g10, g15]
    have : ∀ (l : List Nat), (∀ h ∈ l, isH h) → (l.map (fun h => (s.ch h).sent.length + (s.ch h).confs.length)).sum = 0 := fun l => by
      induction l with
      | nil => exact fun _ => rfl
      | cons a l ih =>
        intro H
        obtain ⟨n1, n2, -⟩ := N.2 a (H a List.mem_cons_self)
        rw [List.map_cons, List.sum_cons, ih fun h hh => H h (List.mem_cons_of_mem _ hh), n1, n2]
        rfl
    rw [this s_hs fun h hh => ?_]
    · rfl
    · have : ∀ h ∈ s_hs, h < 16 ∧ h % 4 ≠ 0 := by decide
      exact this h hh
theorem sVV.crF (V : sVV n s) (I : sI s) (N : sNone s) : sVV n (s_crF s) := by
  have F1 := I.hi.1 0
  rw [safe_0] at F1
  obtain ⟨f1, f2, f3, f4, f5, f6, f7, f8, f9, f10, f11, f12, f13, f14⟩ := F1
  obtain ⟨g1, g2, g3, g4, g5, g6, g7, g8, g9, g10, g11, g12, g13, g14, g15, g16, g17, g18, g19⟩ := crF_rows (s := s)
  obtain ⟨t1, t2, t3, t4, t5, t6, t7, t8, t9, t10, t11⟩ := crF_T I N
  obtain ⟨v1, v2, v3, v4⟩ := V
  have I2 := I.crF N
  have hlv : ∀ m, sLv2 (s_crF s) m → s.next ≤ m ∧ m < s.next + s.sen.length := fun m hm => by
    rcases hm with ⟨q, hq⟩ | ⟨h, hh, x, hx, -⟩
    · by_cases hqs : q ∈ s.sqs
      · obtain ⟨y, y1, y2, y3⟩ := t9 q hqs
        rw [y1] at hq
        obtain ⟨p1, p2, -⟩ := (y3 m).mp hq
        exact ⟨p1, p2⟩
      · rw [t10 q hqs] at hq
        exact nomatch hq
    · rw [g15, (N.2 h hh).2.1] at hx
      exact nomatch hx
  have hnum : ∀ m m', s.next ≤ m → m' < s.next + s.sen.length → m < m' → ((s_crF s).en m).number ≠ ((s_crF s).en m').number := fun m m' h1 h2 hlt e => by
    obtain ⟨j, m0, e1, e2, e3⟩ := t8 m h1 (by omega)
    obtain ⟨j', m0', e1', e2', e3'⟩ := t8 m' (by omega) h2
    have := nums_asc I e2 e2' (by omega)
    rw [e3, e3'] at e
    have e : (s.en m0).number = (s.en m0').number := e
    rw [e] at this
    exact Int32.lt_irrefl this
  refine ⟨⟨by rw [g6]; exact f6, fun q hq => ?_⟩, by rw [g18]; exact v2, by rw [g15]; exact v3, fun m m' hm hm' e => ?_, fun m hm => ?_, fun h hh x hx => ?_, fun h k hh hk x hx => ?_, by rw [g16]; exact v4.2.2.2.2⟩
  · rw [g6] at hq
    obtain ⟨y, y1, -⟩ := t9 q hq
    rw [y1]
    rfl
  · obtain ⟨a1, a2⟩ := hlv m hm
    obtain ⟨b1, b2⟩ := hlv m' hm'
    rcases Nat.lt_trichotomy m m' with h | h | h
    · exact absurd e (hnum m m' a1 b2 h)
    · exact h
    · exact absurd e.symm (hnum m' m b1 a2 h)
  · obtain ⟨a1, a2⟩ := hlv m hm
    obtain ⟨j, m0, -, e2, e3⟩ := t8 m a1 a2
    have := f11 m0 (List.mem_of_getElem? e2)
    rw [t1, e3, g16]
    exact ⟨a2, this.2.2.2⟩
  · rw [g15, (N.2 h hh).2.1] at hx
    exact nomatch hx
  · rw [g15, (N.2 h hh).2.1] at hx
    exact nomatch hx
end OL
