/-! ===== the twin: credit, and who is next ===== -/
set_option maxRecDepth 100000
theorem i_mod {a n : Nat} (ha : a < 2147483648) (hn : n < 2147483648) : Int32.ofNat a - Int32.ofNat a / Int32.ofNat n * Int32.ofNat n = Int32.ofNat (a % n) := by
  have e : Int32.ofNat (a / n) = Int32.ofNat a / Int32.ofNat n := Int32.ofNat_div ha hn
  rw [← e, ← Int32.ofNat_mul, i_sub (Nat.div_mul_le_self a n)]
  congr 1
  have := Nat.div_add_mod a n
  rw [Nat.mul_comm] at this
  omega
section CR
variable {s0 : zE} {F : Nat → Option zC} {b : Nat} {s s' : sSt} {w w' : tW} {g g' : sG} {h h' : zH} {d x0 x1 x2 i q m j : Nat} {Q : Value → zH → Prop} {E : Nat → zH → Prop}
theorem t_credit_49 (R : tR s0 F b s w g h) (I : sScope s) (hm : g.kind x0 = (1, 0)) (hx : g.kind x1 = (35, i)) :
    ∀ t : Bool, Q (.int (sB (t && ((s.ch (s.co i).chan).limit == 0 || decide (Int32.ofNat (s_unackedAll s (s.co i).chan) < (s.ch (s.co i).chan).limit))))) h → zP s0 m_X8_credit (d + 1) 49 [some (zr x0), some (zr x1), none] [.int (sB t)] h Q E := by
  have hj := (I.co i (R.ak (by decide) (by decide) hx)).2
  have e1 := R.1.cell hx (by decide)
  have ac := R.ch hj
  have e2 := R.1.cell ac (by decide)
  intro t K
  refine b_X8_credit_49 ?_
  rw [sB_0]
  cases t with
  | false => exact ⟨fun _ => K, fun hn => absurd rfl hn⟩
  | true =>
    refine ⟨fun hn => (nomatch hn), fun _ => e_R e1 fun (z1 : gR h x1 2 = g.ref 3 (s.co i).chan) => ?_⟩
    rw [z1]
    refine e_I e2 fun (z2 : gI h (g.ref 3 (s.co i).chan) 4 = (s.ch (s.co i).chan).limit) => ?_
    rw [z2]
    rw [Bool.true_and] at K
    refine ⟨fun hl => ?_, fun hl => ?_⟩
    · rw [beq_iff_eq.mpr hl, Bool.true_or] at K
      exact K
    · rw [beq_false_of_ne hl, Bool.false_or] at K
      refine e_R e1 fun _ => ?_
      refine ⟨⟨_, R.main hm⟩, t_unackedOf (oc := none) R I hj ac rfl ⟨_, rfl, ?_⟩⟩
      rw [show ((s.ch (s.co i).chan).sent.filter (s_for s none)).length = s_unackedAll s (s.co i).chan from rfl]
      refine e_R e1 fun _ => ?_
      rw [z1]
      refine e_I e2 fun _ => ?_
      rw [z2]
      refine ⟨fun hc => ?_, fun hc => ?_⟩
      · rw [decide_eq_false (Int32.not_lt.mpr hc)] at K
        exact K
      · rw [decide_eq_true (Int32.not_le.mp hc)] at K
        exact K
theorem t_credit (R : tR s0 F b s w g h) (I : sScope s) (hm : g.kind x0 = (1, 0)) (hx : g.kind x1 = (35, i)) (K : Q (.int (sB (s_credit s i))) h) : zX s0 m_X8_credit (d + 1) [zr x0, zr x1] h Q E := by
  have hj := (I.co i (R.ak (by decide) (by decide) hx)).2
  have e1 := R.1.cell hx (by decide)
  have ac := R.ch hj
  have e2 := R.1.cell ac (by decide)
  have P49 := fun t => t_credit_49 (Q := Q) (E := E) (d := d) R I hm hx t
  unfold s_credit at K
  refine c_X8_credit (e_R e1 fun (z1 : gR h x1 2 = g.ref 3 (s.co i).chan) => ?_)
  rw [z1]
  refine e_I e2 fun (z2 : gI h (g.ref 3 (s.co i).chan) 13 = sB (s.ch (s.co i).chan).active) => ?_
  rw [z2, sB_0]
  refine ⟨fun ha => ?_, fun ha => ?_⟩
  · rw [Bool.not_eq_false] at ha
    simp only [ha, Bool.true_and] at K
    refine e_I e1 fun (z3 : gI h x1 3 = sB (s.co i).free) => ?_
    rw [z3, sB_0]
    refine ⟨fun hf => ?_, fun hf => ?_⟩
    · simp only [hf, Bool.false_or] at K
      refine e_I e1 fun (z4 : gI h x1 5 = (s.co i).limit) => ?_
      rw [z4]
      refine ⟨fun hl => ?_, fun hl => ?_⟩
      · rw [beq_iff_eq.mpr hl, Bool.true_or] at K
        exact b_X8_credit_44 (P49 true K)
      · rw [beq_false_of_ne hl, Bool.false_or] at K
        refine e_R e1 fun _ => ?_
        refine ⟨⟨_, R.main hm⟩, t_unackedOf (oc := some i) R I hj ac hx ⟨_, rfl, ?_⟩⟩
        refine e_I e1 fun _ => ?_
        rw [z4]
        have hun : ((s.ch (s.co i).chan).sent.filter (s_for s (some i))).length = s_unackedOf s (s.co i).chan i := rfl
        rw [hun]
        refine ⟨fun hc => ?_, fun hc => ?_⟩
        · rw [decide_eq_false (Int32.not_lt.mpr hc)] at K
          exact P49 false K
        · rw [decide_eq_true (Int32.not_le.mp hc)] at K
          exact b_X8_credit_44 (P49 true K)
    · rw [Bool.not_eq_false] at hf
      simp only [hf, Bool.true_or] at K
      exact K
  · simp only [ha, Bool.false_and] at K
    exact K
/-- the place behind the last one, where it is there -/
def s_frm (last : Option Nat) : List Nat → Nat → Nat → Nat
  | [], _, f => f
  | x :: r, j, f => if some x = last then s_frm last r (j + 1) (j + 1) else s_frm last r (j + 1) f
theorem s_frm_no {last : Option Nat} : ∀ {l : List Nat} {j f : Nat}, (∀ x ∈ l, some x ≠ last) → s_frm last l j f = f
  | [], _, _, _ => rfl
  | x :: r, j, f, hn => by
    rw [s_frm, if_neg (hn x List.mem_cons_self)]
    exact s_frm_no fun y hy => hn y (List.mem_cons_of_mem _ hy)
theorem s_frm_at {x : Nat} : ∀ {pre suf : List Nat} {j f : Nat}, x ∉ suf → s_frm (some x) (pre ++ x :: suf) j f = j + pre.length + 1
  | [], suf, j, f, hs => by
    rw [List.nil_append, s_frm, if_pos rfl, s_frm_no fun y hy e => hs (by cases e; exact hy)]
    rfl
  | y :: pre, suf, j, f, hs => by
    rw [List.cons_append, s_frm]
    split
    · rw [s_frm_at hs, List.length_cons]; omega
    · rw [s_frm_at hs, List.length_cons]; omega
theorem rot_get {l : List Nat} {f k : Nat} (hf : f ≤ l.length) (hk : k < l.length) : (l.drop f ++ l.take f)[k]? = l[(f + k) % l.length]? := by
  by_cases h : k < l.length - f
  · rw [List.getElem?_append_left (by rw [List.length_drop]; exact h), List.getElem?_drop, Nat.mod_eq_of_lt (by omega)]
  · rw [List.getElem?_append_right (by rw [List.length_drop]; omega), List.length_drop, List.getElem?_take_of_lt (by omega)]
    rw [show f + k = (k - (l.length - f)) + l.length by omega, Nat.add_mod_right, Nat.mod_eq_of_lt (by omega)]
theorem round_at {l pre suf : List Nat} {x : Nat} {f : Nat → Bool} (hl : l = pre ++ x :: suf) (hx : x ∉ pre) (hf : f x = true) : s_round (l.filter f) (some x) = (suf ++ (pre ++ [x])).filter f := by
  subst hl
  have e : (pre ++ x :: suf).filter f = pre.filter f ++ x :: suf.filter f := by rw [List.filter_append, List.filter_cons_of_pos hf]
  have hn : ∀ y ∈ pre.filter f, (!(y == x)) = true := fun y hy => by
    have : y ≠ x := fun e => hx (by rw [← e]; exact (List.mem_filter.mp hy).1)
    rw [beq_false_of_ne this]
    rfl
  have hx2 : ¬ (!(x == x)) = true := by simp
  have e2 : List.dropWhile (fun y => !(y == x)) (x :: suf.filter f) = x :: suf.filter f := List.dropWhile_cons_of_neg (p := fun y => !(y == x)) hx2
  have e3 : List.takeWhile (fun y => !(y == x)) (x :: suf.filter f) = [] := List.takeWhile_cons_of_neg (p := fun y => !(y == x)) hx2
  unfold s_round
  simp only [e]
  rw [if_pos (List.mem_append_right _ List.mem_cons_self), List.dropWhile_append_of_pos hn, e2, List.takeWhile_append_of_pos hn, e3, List.append_nil, List.filter_append, List.filter_append, List.filter_cons_of_pos hf, List.filter_nil, List.append_assoc]
  rfl
theorem next_rot (hn : s.cs.Nodup) (hl : ∀ x, (s.qu q).last = some x → (s.co x).queue = q) : s_frm (s.qu q).last s.cs 0 0 ≤ s.cs.length ∧
    s_nextOf s q = (s.cs.drop (s_frm (s.qu q).last s.cs 0 0) ++ s.cs.take (s_frm (s.qu q).last s.cs 0 0)).find? (fun i => (s.co i).queue == q && s_credit s i) := by
  have hfin : ∀ l : List Nat, (l.filter (fun c => (s.co c).queue == q)).find? (fun i => s_credit s i) = l.find? (fun i => (s.co i).queue == q && s_credit s i) := fun l => by
    rw [List.find?_filter]
    congr 1
    funext a
    cases h1 : ((s.co a).queue == q) <;> cases h2 : s_credit s a <;> rfl
  unfold s_nextOf s_consQ
  cases hla : (s.qu q).last with
  | none =>
    rw [s_frm_no fun x _ => by simp]
    refine ⟨Nat.zero_le _, ?_⟩
    rw [List.drop_zero, List.take_zero, List.append_nil]
    exact hfin _
  | some x =>
    by_cases hx : x ∈ s.cs
    · obtain ⟨pre, suf, hp⟩ := List.append_of_mem hx
      have hn2 := hn
      rw [hp] at hn2
      have hn3 := List.nodup_append.mp hn2
      have hx1 : x ∉ pre := fun h => hn3.2.2 x h x List.mem_cons_self rfl
      have hx2 : x ∉ suf := (List.nodup_cons.mp hn3.2.1).1
      have hfr : s_frm (some x) s.cs 0 0 = pre.length + 1 := by
        rw [hp, s_frm_at hx2]
        omega
      rw [hfr]
      refine ⟨by rw [hp]; simp, ?_⟩
      rw [round_at (f := fun c => (s.co c).queue == q) hp hx1 (beq_iff_eq.mpr (hl x hla)), hfin]
      congr 1
      rw [hp, show pre ++ x :: suf = (pre ++ [x]) ++ suf by simp, List.drop_left' (by simp), List.take_left' (by simp)]
    · rw [s_frm_no fun y hy e => hx (by cases e; exact hy)]
      refine ⟨Nat.zero_le _, ?_⟩
      rw [List.drop_zero, List.take_zero, List.append_nil]
      unfold s_round
      dsimp only
      rw [if_neg fun hm => hx (List.mem_filter.mp hm).1]
      exact hfin _
theorem t_nextOf_2 (R : tR s0 F b s w g h) (I : sScope s) (hm : g.kind x0 = (1, 0)) (hx : g.kind x1 = (33, q)) {f : Nat} (hf : f ≤ s.cs.length) (K : Q (zr (gO g 35 ((s.cs.drop f ++ s.cs.take f).find? (fun i => (s.co i).queue == q && s_credit s i)))) h) :
    ∀ (rest pre : List Nat), s.cs.drop f ++ s.cs.take f = pre ++ rest → (s.cs.drop f ++ s.cs.take f).find? (fun i => (s.co i).queue == q && s_credit s i) = rest.find? (fun i => (s.co i).queue == q && s_credit s i) →
      zP s0 m_X8_nextOf (d + 2) 37 [some (zr x0), some (zr x1), some (.int (Int32.ofNat f)), some (.int (Int32.ofNat pre.length)), none] [] h Q E
  | [], pre, hp, hq => by
    have hle := R.2.ar8.le
    rw [List.length_map] at hle
    have hl : s.cs.length = pre.length := by
      have := congrArg List.length hp
      rw [List.length_append, List.length_drop, List.length_take, List.append_nil] at this
      omega
    refine b_X8_nextOf_37 (e_I (R.main hm) fun (z1 : gI h x0 8 = Int32.ofNat s.cs.length) => ?_)
    rw [z1, i_le (by omega) (by omega)]
    refine ⟨fun _ => ?_, fun hn => absurd (Nat.le_of_eq hl) hn⟩
    rw [hq] at K
    exact K
  | x :: rest, pre, hp, hq => by
    have A := R.2.ar8
    have hle := A.le
    rw [List.length_map] at hle
    have hl : s.cs.length = pre.length + rest.length + 1 := by
      have := congrArg List.length hp
      rw [List.length_append, List.length_drop, List.length_take, List.length_append, List.length_cons] at this
      omega
    have hx5 : s.cs[(f + pre.length) % s.cs.length]? = some x := by
      rw [← rot_get hf (by omega), hp]
      simp
    have hkx := I.cs x (List.mem_of_getElem? hx5)
    have ax := R.al (by decide) (by decide) hkx
    have IH := fun e => t_nextOf_2 R I hm hx hf K rest (pre ++ [x]) (by rw [hp, List.append_assoc]; rfl) e
    rw [show (pre ++ [x]).length = pre.length + 1 by simp] at IH
    rw [List.find?_cons] at hq
    refine b_X8_nextOf_37 (e_I (R.main hm) fun (z1 : gI h x0 8 = Int32.ofNat s.cs.length) => ?_)
    rw [z1, i_le (by omega) (by omega), i_succ, i_add, i_mod (by omega) (by omega)]
    refine ⟨fun hn => absurd hn (by omega), fun _ => e_R (R.main hm) fun z2 => e_I (R.main hm) fun _ => ⟨fun h0 => ?_, ?_⟩⟩
    · rw [show (0 : Int32) = Int32.ofNat 0 from rfl, i_inj (by omega) (by decide)] at h0
      omega
    rw [z2]
    refine g_El R A rfl (by decide) hx5 (by decide) fun z3 => ?_
    rw [z3]
    refine e_R (R.1.cell ax (by decide)) fun (z4 : gR h (g.ref 35 x) 1 = g.ref 33 (s.co x).queue) => ?_
    rw [z4, R.inj (R.al (by decide) (by decide) (I.co x hkx).1) hx (by decide)]
    constructor
    · intro e
      rw [beq_false_of_ne e, Bool.false_and] at hq
      exact IH hq
    · intro e
      rw [beq_iff_eq.mpr e, Bool.true_and] at hq
      refine ⟨⟨_, R.main hm⟩, t_credit R I hm ax ⟨_, rfl, ?_⟩⟩
      rw [sB_0]
      constructor
      · intro e2
        rw [e2] at hq
        exact IH hq
      · intro e2
        rw [Bool.not_eq_false] at e2
        rw [e2] at hq
        rw [hq] at K
        exact K
theorem t_nextOf_1 (R : tR s0 F b s w g h) (I : sScope s) (hm : g.kind x0 = (1, 0)) (hx : g.kind x1 = (33, q)) (hn : s.cs.Nodup) (hl : ∀ x, (s.qu q).last = some x → (s.co x).queue = q) (K : Q (zr (gO g 35 (s_nextOf s q))) h) :
    ∀ (rest pre : List Nat) (f : Nat), s.cs = pre ++ rest → s_frm (s.qu q).last s.cs 0 0 = s_frm (s.qu q).last rest pre.length f → zP s0 m_X8_nextOf (d + 2) 4 [some (zr x0), some (zr x1), some (.int (Int32.ofNat f)), some (.int (Int32.ofNat pre.length)), none] [] h Q E
  | [], pre, f, hp, hf => by
    have hle := R.2.ar8.le
    rw [List.length_map] at hle
    have hlen : s.cs.length = pre.length := by rw [hp, List.append_nil]
    obtain ⟨h1, h2⟩ := next_rot hn hl
    rw [hf] at h1 h2
    rw [h2] at K
    refine b_X8_nextOf_4 (e_I (R.main hm) fun (z1 : gI h x0 8 = Int32.ofNat s.cs.length) => ?_)
    rw [z1, i_le (by omega) (by omega)]
    exact ⟨fun _ => t_nextOf_2 R I hm hx h1 K _ [] rfl rfl, fun hn => absurd (Nat.le_of_eq hlen) hn⟩
  | x :: rest, pre, f, hp, hf => by
    have A := R.2.ar8
    have hle := A.le
    rw [List.length_map] at hle
    have hlen : s.cs.length = pre.length + rest.length + 1 := by rw [hp]; simp; omega
    have hx5 : s.cs[pre.length]? = some x := by rw [hp]; simp
    have hkx := I.cs x (List.mem_of_getElem? hx5)
    have ax := R.al (by decide) (by decide) hkx
    have IH := fun f e => t_nextOf_1 R I hm hx hn hl K rest (pre ++ [x]) f (by rw [hp, List.append_assoc]; rfl) e
    rw [show (pre ++ [x]).length = pre.length + 1 by simp] at IH
    rw [s_frm] at hf
    refine b_X8_nextOf_4 (e_I (R.main hm) fun (z1 : gI h x0 8 = Int32.ofNat s.cs.length) => ?_)
    rw [z1, i_le (by omega) (by omega), i_succ]
    refine ⟨fun hn => absurd hn (by omega), fun _ => e_R (R.main hm) fun z2 => ?_⟩
    rw [z2]
    refine g_El R A rfl (by decide) hx5 (by decide) fun z3 => ?_
    rw [z3]
    refine e_R (R.1.cell hx (by decide)) fun (z4 : gR h x1 13 = gO g 35 (s.qu q).last) => ?_
    rw [z4]
    have hiff : g.ref 35 x = gO g 35 (s.qu q).last ↔ some x = (s.qu q).last := by
      cases hla : (s.qu q).last with
      | none => exact ⟨fun e => absurd e (R.1.pos ax (by decide)), fun e => nomatch e⟩
      | some y =>
        rw [show gO g 35 (some y) = g.ref 35 y from rfl, R.inj ax (R.al (by decide) (by decide) ((I.qu q (R.ak (by decide) (by decide) hx)).2.1 y hla)) (by decide)]
        exact ⟨fun e => by rw [e], fun e => by cases e; rfl⟩
    rw [hiff]
    constructor
    · intro e
      rw [if_neg e] at hf
      exact IH f hf
    · intro e
      rw [if_pos e] at hf
      exact IH (pre.length + 1) hf
theorem t_nextOf (R : tR s0 F b s w g h) (I : sScope s) (hm : g.kind x0 = (1, 0)) (hx : g.kind x1 = (33, q)) (hn : s.cs.Nodup) (hl : ∀ x, (s.qu q).last = some x → (s.co x).queue = q) (K : Q (zr (gO g 35 (s_nextOf s q))) h) : zX s0 m_X8_nextOf (d + 2) [zr x0, zr x1] h Q E :=
  c_X8_nextOf (t_nextOf_1 R I hm hx hn hl K s.cs [] 0 rfl rfl)
end CR
