/-! ===== the twin: what is counted and looked up ===== -/
set_option maxRecDepth 100000
theorem sB_0 {b : Bool} : sB b = 0 ↔ b = false := by cases b <;> decide
theorem sB_1 {b : Bool} : sB b = 1 ↔ b = true := by cases b <;> decide
/-- references lead to things of their kinds -/
def sScope (s : sSt) : Prop :=
  (∀ q ∈ s.qs, s.knd q = 33) ∧ (∀ e ∈ s.es, s.knd e = 32) ∧ (∀ x ∈ s.bs, s.knd x = 34) ∧ (∀ i ∈ s.cs, s.knd i = 35) ∧ (∀ q ∈ s.sqs, s.knd q = 33) ∧ (∀ e ∈ s.ses, s.knd e = 32) ∧ (∀ x ∈ s.sbs, s.knd x = 34) ∧ (∀ m ∈ s.sen, s.knd m = 36) ∧
  (∀ x ∈ s.dead, s.knd x.entry = 36) ∧ (∀ i, s.knd i = 33 → (∀ m ∈ (s.qu i).ents, s.knd m = 36 ∧ (s.en m).queue = i) ∧ (∀ x, (s.qu i).last = some x → s.knd x = 35) ∧ (∀ c, (s.qu i).owner = some c → c < 4)) ∧
  (∀ i, s.knd i = 34 → s.knd (s.bi i).queue = 33 ∧ s.knd (s.bi i).exch = 32) ∧ (∀ i, s.knd i = 35 → s.knd (s.co i).queue = 33 ∧ isH (s.co i).chan) ∧ (∀ i, s.knd i = 36 → s.knd (s.en i).queue = 33) ∧
  (∀ i, s.knd i = 37 → s.knd (s.se i).entry = 36 ∧ ∀ x, (s.se i).cons = some x → s.knd x = 35) ∧ (∀ h, isH h → (∀ x ∈ (s.ch h).sent, s.knd x = 37) ∧ ∀ k ∈ (s.ch h).kept, ∀ x ∈ k.those, s.knd x = 37) ∧
  (∀ f ∈ s.facts, 0 ≤ f.kind ∧ f.kind ≤ 7 ∧ s.knd f.id = (if f.kind = 0 ∨ f.kind = 1 then 32 else if f.kind = 2 ∨ f.kind = 3 then 33 else if f.kind = 4 ∨ f.kind = 5 then 34 else 36)) ∧ (∀ i, s.next ≤ i → s.knd i = 0)
section RD
variable {s0 : zE} {F : Nat → Option zC} {b : Nat} {s s' : sSt} {w w' : tW} {g g' : sG} {h h' : zH} {d x0 x1 x2 i q : Nat} {Q : Value → zH → Prop} {E : Nat → zH → Prop}
theorem sScope.qs (I : sScope s) : ∀ q ∈ s.qs, s.knd q = 33 := I.1
theorem sScope.es (I : sScope s) : ∀ q ∈ s.es, s.knd q = 32 := I.2.1
theorem sScope.bs (I : sScope s) : ∀ q ∈ s.bs, s.knd q = 34 := I.2.2.1
theorem sScope.cs (I : sScope s) : ∀ q ∈ s.cs, s.knd q = 35 := I.2.2.2.1
theorem sScope.qu (I : sScope s) : ∀ i, s.knd i = 33 → (∀ m ∈ (s.qu i).ents, s.knd m = 36 ∧ (s.en m).queue = i) ∧ (∀ x, (s.qu i).last = some x → s.knd x = 35) ∧ (∀ c, (s.qu i).owner = some c → c < 4) := I.2.2.2.2.2.2.2.2.2.1
theorem sScope.bi (I : sScope s) : ∀ i, s.knd i = 34 → s.knd (s.bi i).queue = 33 ∧ s.knd (s.bi i).exch = 32 := I.2.2.2.2.2.2.2.2.2.2.1
theorem sScope.co (I : sScope s) : ∀ i, s.knd i = 35 → s.knd (s.co i).queue = 33 ∧ isH (s.co i).chan := I.2.2.2.2.2.2.2.2.2.2.2.1
theorem sScope.en (I : sScope s) : ∀ i, s.knd i = 36 → s.knd (s.en i).queue = 33 := I.2.2.2.2.2.2.2.2.2.2.2.2.1
theorem sScope.se (I : sScope s) : ∀ i, s.knd i = 37 → s.knd (s.se i).entry = 36 ∧ ∀ x, (s.se i).cons = some x → s.knd x = 35 := I.2.2.2.2.2.2.2.2.2.2.2.2.2.1
theorem sScope.ch (I : sScope s) : ∀ h, isH h → (∀ x ∈ (s.ch h).sent, s.knd x = 37) ∧ ∀ k ∈ (s.ch h).kept, ∀ x ∈ k.those, s.knd x = 37 := I.2.2.2.2.2.2.2.2.2.2.2.2.2.2.1
/-- a thing that is there has its place -/
theorem tR.al (R : tR s0 F b s w g h) {c i : Nat} (h1 : 32 ≤ c) (h2 : c ≤ 37) (hk : s.knd i = c) : gA1 g c i := R.2.1.2.2.2.2.2.1 c i h1 h2 hk
theorem tR.ak (R : tR s0 F b s w g h) {c i n : Nat} (h1 : 32 ≤ c) (h2 : c ≤ 37) (hk : g.kind n = (c, i)) : s.knd i = c := R.2.1.2.2.2.2.2.2 c i n h1 h2 hk
theorem tR.cn (R : tR s0 F b s w g h) {c : Nat} (hc : c < 4) : gA1 g 2 c := R.2.1.2.2.2.1 c hc
theorem tR.ch (R : tR s0 F b s w g h) {j : Nat} (hj : isH j) : gA1 g 3 j := R.2.1.2.2.2.2.1 j hj
theorem t_kept (R : tR s0 F b s w g h) (hx : g.kind x0 = (33, q)) (K : Q (.int (sB (s_kept (s.qu q)))) h) : zX s0 m_X40_kept d [zr x0] h Q E := by
  have e := R.1.cell hx (by decide)
  refine c_X40_kept (e_I e fun z1 => ?_)
  rw [z1, sB_0]
  revert K
  unfold s_kept
  cases hd : (s.qu q).dur
  · exact fun K => ⟨fun _ => K, fun hn => absurd rfl hn⟩
  · refine fun K => ⟨fun hn => (nomatch hn), fun _ => e_I e fun z2 => ?_⟩
    rw [z2, sB_0]
    revert K
    cases he : (s.qu q).exc
    · exact fun K => ⟨fun hn => absurd rfl hn, fun _ => K⟩
    · exact fun K => ⟨fun _ => K, fun hn => (nomatch hn)⟩
theorem gCont.cell (R : tR s0 F b s w g h) {n : Nat} {c : sCont} (C : gCont g n c) : ∃ e k hd bd got, h.1 n = some (40, [zr e, zr k, vZ c.mand, vZ c.pers, .int c.prio, .long c.expi, zr hd, zr bd, .int got]) ∧ gB g e c.exch ∧ gB g k c.key ∧ gTo g hd c.heads ∧ gB g bd c.body := by
  obtain ⟨e, k, hd, bd, got, h1, h2⟩ := C
  exact ⟨e, k, hd, bd, got, R.fz h1, h2⟩
theorem t_recorded {c : sCont} (R : tR s0 F b s w g h) (hx : g.kind x1 = (33, q)) (hc : gCont g x2 c) (K : Q (.int (sB (s_rec (s.qu q) c))) h) : zX s0 m_X8_recorded (d + 1) [zr x0, zr x1, zr x2] h Q E := by
  obtain ⟨f1, f2, f3, f4, f5, ec, -⟩ := hc.cell R
  refine c_X8_recorded ⟨⟨_, R.1.cell hx (by decide)⟩, t_kept R hx ⟨_, rfl, ?_⟩⟩
  rw [sB_0]
  revert K
  unfold s_rec
  cases s_kept (s.qu q)
  · exact fun K => ⟨fun _ => K, fun hn => absurd rfl hn⟩
  · refine fun K => ⟨fun hn => (nomatch hn), fun _ => e_I ec fun z2 => ?_⟩
    rw [z2, sB_0]
    revert K
    cases c.pers
    · exact fun K => ⟨fun _ => K, fun hn => absurd rfl hn⟩
    · exact fun K => ⟨fun hn => (nomatch hn), fun _ => K⟩
theorem t_full (R : tR s0 F b s w g h) (hm : g.kind x0 = (1, 0)) (K : Q (.int (sB (s_full s))) h) : zX s0 m_X8_full d [zr x0] h Q E := by
  have e := R.main hm
  refine c_X8_full (e_I e fun z1 => ?_)
  rw [z1]
  revert K
  unfold s_full
  by_cases h1 : 300 ≤ s.messages
  · rw [decide_eq_true h1]
    exact fun K => ⟨fun _ => K, fun hn => absurd h1 hn⟩
  · rw [decide_eq_false h1]
    refine fun K => ⟨fun hn => absurd hn h1, fun _ => e_I e fun z2 => ?_⟩
    rw [z2]
    by_cases h2 : s.lastNum < 12000
    · rw [decide_eq_false (Int32.not_le.mpr h2)] at K
      exact ⟨fun _ => K, fun hn => absurd h2 hn⟩
    · rw [decide_eq_true (Int32.not_lt.mp h2)] at K
      exact ⟨fun hn => absurd hn h2, fun _ => K⟩
theorem t_priority {m : Nat} (R : tR s0 F b s w g h) (hx : g.kind x0 = (33, q)) (hy : g.kind x1 = (36, m)) (K : Q (.int (s_prio s q m)) h) : zX s0 m_X8_priority d [zr x0, zr x1] h Q E := by
  have e1 := R.1.cell hy (by decide)
  have e0 := R.1.cell hx (by decide)
  obtain ⟨f1, f2, f3, f4, f5, ec, -⟩ := (R.2.2.2.2.2.2.2.2.2.2.2.1 m (R.ak (by decide) (by decide) hy)).1.cell R
  refine c_X8_priority (e_R e1 fun z1 => ?_)
  rw [z1]
  refine e_I ec fun z2 => e_I e0 fun z3 => ?_
  rw [z2, z3]
  unfold s_prio at K
  by_cases hl : (s.en m).cont.prio < (s.qu q).pri
  · rw [if_pos hl] at K
    refine ⟨fun hn => absurd hn (Int32.not_le.mpr hl), fun _ => e_R e1 fun _ => e_I ec fun _ => ?_⟩
    exact K
  · rw [if_neg hl] at K
    refine ⟨fun _ => e_I e0 fun _ => ?_, fun hn => absurd (Int32.not_lt.mp hl) hn⟩
    exact K
theorem t_ahead {m n : Nat} (R : tR s0 F b s w g h) (hx : g.kind x0 = (33, q)) (hy : g.kind x1 = (36, m)) (hz : g.kind x2 = (36, n)) (K : Q (.int (sB (s_ahead s q m n))) h) : zX s0 m_X8_ahead (d + 1) [zr x0, zr x1, zr x2] h Q E := by
  have e1 := R.1.cell hy (by decide)
  have e2 := R.1.cell hz (by decide)
  refine c_X8_ahead (t_priority R hx hy ⟨_, rfl, t_priority R hx hz ⟨_, rfl, ?_⟩⟩)
  unfold s_ahead at K
  by_cases hp : s_prio s q m = s_prio s q n
  · rw [if_neg (fun hn => hn hp)] at K
    refine ⟨fun _ => e_I e1 fun z1 => e_I e2 fun z2 => ?_, fun hn => absurd hp hn⟩
    rw [z1, z2]
    by_cases hl : (s.en m).number < (s.en n).number
    · rw [decide_eq_true hl] at K
      exact ⟨fun hn => absurd hn (Int32.not_le.mpr hl), fun _ => K⟩
    · rw [decide_eq_false hl] at K
      exact ⟨fun _ => K, fun hn => absurd (Int32.not_lt.mp hl) hn⟩
  · rw [if_pos hp] at K
    refine ⟨fun hn => absurd hn hp, fun _ => ?_⟩
    by_cases hl : s_prio s q n < s_prio s q m
    · rw [decide_eq_true hl] at K
      exact ⟨fun hn => absurd hn (Int32.not_le.mpr hl), fun _ => K⟩
    · rw [decide_eq_false hl] at K
      exact ⟨fun _ => K, fun hn => absurd (Int32.not_lt.mp hl) hn⟩
/-- how many of a list meet f, up to a place -/
def cnt (l : List Nat) (f : Nat → Bool) (j : Nat) : Nat := ((l.take j).filter f).length
theorem cnt_succ {l : List Nat} {f : Nat → Bool} {j x : Nat} (hj : l[j]? = some x) : cnt l f (j + 1) = cnt l f j + if f x then 1 else 0 := by
  unfold cnt
  rw [List.take_add_one, hj, List.filter_append, List.length_append]
  cases hf : f x <;> simp [hf]
theorem cnt_all {l : List Nat} {f : Nat → Bool} {j : Nat} (hj : l.length ≤ j) : cnt l f j = (l.filter f).length := by
  unfold cnt
  rw [List.take_of_length_le hj]
theorem cnt_le {l : List Nat} {f : Nat → Bool} {j : Nat} : cnt l f j ≤ l.length := Nat.le_trans (List.length_filter_le _ _) (by rw [List.length_take]; exact Nat.min_le_right _ _)
theorem t_consumersOf_l (R : tR s0 F b s w g h) (I : sScope s) (hm : g.kind x0 = (1, 0)) (hx : g.kind x1 = (33, q)) (K : Q (.int (Int32.ofNat (s_consQ s q).length)) h) :
    ∀ (k j : Nat), s.cs.length = j + k → zP s0 m_X8_consumersOf d 4 [some (zr x0), some (zr x1), some (.int (Int32.ofNat (cnt s.cs (fun c => (s.co c).queue == q) j))), some (.int (Int32.ofNat j))] [] h Q E
  | k, j, hj => by
    have A := R.2.ar8
    have hle := A.le
    rw [List.length_map] at hle
    refine b_X8_consumersOf_4 (e_I (R.main hm) fun z1 => ?_)
    rw [z1, i_le (by omega) (by omega)]
    refine ⟨fun hl => ?_, fun hl => e_R (R.main hm) fun z2 => ?_⟩
    · rw [cnt_all hl]
      exact K
    · rw [z2]
      obtain ⟨k', rfl⟩ : ∃ k', k = k' + 1 := ⟨k - 1, by omega⟩
      obtain ⟨x, hx5⟩ : ∃ x, s.cs[j]? = some x := ⟨_, List.getElem?_eq_getElem (by omega)⟩
      have hkx := I.cs x (List.mem_of_getElem? hx5)
      refine g_El R A rfl (by decide) hx5 (by decide) fun z3 => ?_
      rw [z3]
      refine e_R (R.1.cell (R.al (by decide) (by decide) hkx) (by decide)) fun z4 => ?_
      rw [z4, R.inj (R.al (by decide) (by decide) (I.co x hkx).1) hx (by decide), i_succ, i_succ]
      have hc := cnt_succ (f := fun c => (s.co c).queue == q) hx5
      constructor
      · intro e
        rw [show ((s.co x).queue == q) = false from beq_false_of_ne e] at hc
        have := t_consumersOf_l R I hm hx K k' (j + 1) (by omega)
        rw [hc] at this
        exact this
      · intro e
        rw [show ((s.co x).queue == q) = true from beq_iff_eq.mpr e] at hc
        have := t_consumersOf_l R I hm hx K k' (j + 1) (by omega)
        rw [hc] at this
        exact this
theorem t_consumersOf (R : tR s0 F b s w g h) (I : sScope s) (hm : g.kind x0 = (1, 0)) (hx : g.kind x1 = (33, q)) (K : Q (.int (Int32.ofNat (s_consQ s q).length)) h) : zX s0 m_X8_consumersOf d [zr x0, zr x1] h Q E :=
  c_X8_consumersOf (t_consumersOf_l R I hm hx K s.cs.length 0 (by omega))
theorem tR.ents (R : tR s0 F b s w g h) (hq : s.knd q = 33) : gAr g 31 q 301 ((s.qu q).ents.map (fun m => zr (g.ref 36 m))) := (R.2.2.2.2.2.2.2.2.1 q hq).2.2.2
theorem t_ready_l (R : tR s0 F b s w g h) (I : sScope s) (hx : g.kind x1 = (33, q)) (K : Q (.int (Int32.ofNat (s_ready s q).length)) h) :
    ∀ (k j : Nat), (s.qu q).ents.length = j + k → zP s0 m_X8_ready d 4 [none, some (zr x1), some (.int (Int32.ofNat (cnt (s.qu q).ents (fun m => (s.en m).state == 0) j))), some (.int (Int32.ofNat j))] [] h Q E
  | k, j, hj => by
    have hq := R.ak (by decide) (by decide) hx
    have A := R.ents hq
    have hle := A.le
    rw [List.length_map] at hle
    have e := R.1.cell hx (by decide)
    refine b_X8_ready_4 (e_I e fun (z1 : gI h x1 12 = Int32.ofNat (s.qu q).ents.length) => ?_)
    rw [z1, i_le (by omega) (by omega)]
    refine ⟨fun hl => ?_, fun hl => e_R e fun z2 => ?_⟩
    · rw [cnt_all hl]
      exact K
    · rw [z2]
      obtain ⟨k', rfl⟩ : ∃ k', k = k' + 1 := ⟨k - 1, by omega⟩
      obtain ⟨x, hx5⟩ : ∃ x, (s.qu q).ents[j]? = some x := ⟨_, List.getElem?_eq_getElem (by omega)⟩
      have hkx := ((I.qu q hq).1 x (List.mem_of_getElem? hx5)).1
      refine g_El R A rfl (by decide) hx5 (by decide) fun z3 => ?_
      rw [z3]
      refine e_I (R.1.cell (R.al (by decide) (by decide) hkx) (by decide)) fun (z4 : gI h (g.ref 36 x) 8 = (s.en x).state) => ?_
      rw [z4, i_succ, i_succ]
      have hc := cnt_succ (f := fun m => (s.en m).state == 0) hx5
      constructor
      · intro e
        rw [show ((s.en x).state == 0) = false from beq_false_of_ne e] at hc
        have := t_ready_l R I hx K k' (j + 1) (by omega)
        rw [hc] at this
        exact this
      · intro e
        rw [show ((s.en x).state == 0) = true from beq_iff_eq.mpr e] at hc
        have := t_ready_l R I hx K k' (j + 1) (by omega)
        rw [hc] at this
        exact this
theorem t_ready (R : tR s0 F b s w g h) (I : sScope s) (hx : g.kind x1 = (33, q)) (K : Q (.int (Int32.ofNat (s_ready s q).length)) h) : zX s0 m_X8_ready d [zr x0, zr x1] h Q E :=
  c_X8_ready (t_ready_l R I hx K (s.qu q).ents.length 0 (by omega))
/-- one more of a list is weighed -/
def s_bstep (s : sSt) (q : Nat) (f : Nat → Bool) (best : Option Nat) (m : Nat) : Option Nat := if f m then (match best with
  | none => some m
  | some b => if s_ahead s q m b then some m else some b) else best
theorem s_bstep_f {f : Nat → Bool} {best : Option Nat} {m : Nat} (hf : f m = false) : s_bstep s q f best m = best := by
  unfold s_bstep
  rw [hf]
  rfl
theorem s_bstep_n {f : Nat → Bool} {m : Nat} (hf : f m = true) : s_bstep s q f none m = some m := by
  unfold s_bstep
  rw [hf]
  rfl
theorem s_bstep_s {f : Nat → Bool} {m y : Nat} (hf : f m = true) : s_bstep s q f (some y) m = if s_ahead s q m y then some m else some y := by
  unfold s_bstep
  rw [hf]
  rfl
theorem tR.el {c n t k j x : Nat} {l : List Nat} (R : tR s0 F b s w g h) (A : gAr g c i n (l.map (fun x => zr (g.ref k x)))) (hp : tcell s w g c i = (1000 + t, g.ar c i)) (hc : c ≠ 0) (hj : l[j]? = some x) (hn : n < 2147483648) : fE h (g.ref c i) t (Int32.ofNat j) (zr (g.ref k x)) := by
  have := g_El (P := eR h (g.ref c i) (Int32.ofNat j) = g.ref k x) R A hp hc hj hn id
  rw [this.2] at this
  exact this.1
theorem t_first_l (R : tR s0 F b s w g h) (I : sScope s) (hx : g.kind x1 = (33, q)) (K : Q (zr (gO g 36 (s_first s q))) h) :
    ∀ (rest pre : List Nat) (best : Option Nat), (s.qu q).ents = pre ++ rest → (∀ x, best = some x → s.knd x = 36) → s_first s q = rest.foldl (s_bstep s q (fun m => (s.en m).state == 0)) best →
      zP s0 m_X8_first (d + 2) 4 [none, some (zr x1), some (zr (gO g 36 best)), some (.int (Int32.ofNat pre.length))] [] h Q E
  | [], pre, best, hp, hb, hf => by
    have hq := R.ak (by decide) (by decide) hx
    have A := R.ents hq
    have hle := A.le
    rw [List.length_map] at hle
    have e := R.1.cell hx (by decide)
    have hl : (s.qu q).ents.length = pre.length := by rw [hp, List.append_nil]
    refine b_X8_first_4 (e_I e fun (z1 : gI h x1 12 = Int32.ofNat (s.qu q).ents.length) => ?_)
    rw [z1, i_le (by omega) (by omega)]
    refine ⟨fun _ => ?_, fun hn => absurd (Nat.le_of_eq hl) hn⟩
    rw [hf] at K
    exact K
  | x :: rest, pre, best, hp, hb, hf => by
    have hq := R.ak (by decide) (by decide) hx
    have A := R.ents hq
    have hle := A.le
    rw [List.length_map] at hle
    have e := R.1.cell hx (by decide)
    have hl : (s.qu q).ents.length = pre.length + rest.length + 1 := by rw [hp]; simp; omega
    have hx5 : (s.qu q).ents[pre.length]? = some x := by rw [hp]; simp
    have hkx := ((I.qu q hq).1 x (List.mem_of_getElem? hx5)).1
    have ax := R.al (by decide) (by decide) hkx
    have hpp : (s.qu q).ents = (pre ++ [x]) ++ rest := by rw [hp, List.append_assoc]; rfl
    have hpl : pre.length + 1 = (pre ++ [x]).length := by simp
    rw [List.foldl_cons] at hf
    refine b_X8_first_4 (e_I e fun (z1 : gI h x1 12 = Int32.ofNat (s.qu q).ents.length) => ?_)
    rw [z1, i_le (by omega) (by omega)]
    refine ⟨fun hn => absurd hn (by omega), fun _ => e_R e fun z2 => ?_⟩
    rw [z2]
    refine g_El R A rfl (by decide) hx5 (by decide) fun z3 => ?_
    rw [z3]
    refine e_I (R.1.cell ax (by decide)) fun (z4 : gI h (g.ref 36 x) 8 = (s.en x).state) => ?_
    rw [z4, i_succ, hpl]
    refine ⟨fun hs => t_first_l R I hx K rest (pre ++ [x]) best hpp hb ?_, fun hs => ⟨fun h0 => e_R e fun _ => ⟨R.el (t := 18) A rfl (by decide) hx5 (by decide), ?_⟩, fun h0 => e_R e fun _ => ⟨R.el (t := 18) A rfl (by decide) hx5 (by decide), ?_⟩⟩⟩
    · rw [hf]
      rw [s_bstep_f (f := fun m => (s.en m).state == 0) (beq_false_of_ne hs)]
    · have hbn : best = none := by
        cases best with
        | none => rfl
        | some y => exact absurd h0 (R.1.pos (R.al (by decide) (by decide) (hb y rfl)) (by decide))
      refine t_first_l R I hx K rest (pre ++ [x]) (some x) hpp (fun y hy => by cases hy; exact hkx) ?_
      rw [hf, hbn, s_bstep_n (f := fun m => (s.en m).state == 0) (beq_iff_eq.mpr hs)]
    · obtain ⟨y, rfl⟩ : ∃ y, best = some y := by
        cases best with
        | none => exact absurd rfl h0
        | some y => exact ⟨y, rfl⟩
      refine t_ahead R hx ax (R.al (by decide) (by decide) (hb y rfl)) ⟨_, rfl, ?_⟩
      have hst : s_bstep s q (fun m => (s.en m).state == 0) (some y) x = if s_ahead s q x y then some x else some y := s_bstep_s (f := fun m => (s.en m).state == 0) (beq_iff_eq.mpr hs)
      rw [sB_0]
      constructor
      · intro ha
        refine t_first_l R I hx K rest (pre ++ [x]) (some y) hpp hb ?_
        rw [hf, hst, ha]
        rfl
      · intro ha
        rw [Bool.not_eq_false] at ha
        refine e_R e fun _ => ?_
        rw [z2]
        refine g_El R A rfl (by decide) hx5 (by decide) fun _ => ?_
        rw [z3]
        refine t_first_l R I hx K rest (pre ++ [x]) (some x) hpp (fun y hy => by cases hy; exact hkx) ?_
        rw [hf, hst, ha]
        rfl
theorem t_first (R : tR s0 F b s w g h) (I : sScope s) (hx : g.kind x1 = (33, q)) (K : Q (zr (gO g 36 (s_first s q))) h) : zX s0 m_X8_first (d + 2) [zr x0, zr x1] h Q E :=
  c_X8_first (t_first_l R I hx K (s.qu q).ents [] none rfl (fun x hx => nomatch hx) rfl)
end RD
