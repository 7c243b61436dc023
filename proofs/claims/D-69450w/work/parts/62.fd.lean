/-! ===== the twin: queues and exchanges by name ===== -/
set_option maxRecDepth 100000
section FD
variable {s0 : zE} {F : Nat → Option zC} {b : Nat} {s s' : sSt} {w w' : tW} {g g' : sG} {h h' : zH} {d x0 x1 x2 i q m : Nat} {Q : Value → zH → Prop} {E : Nat → zH → Prop}
theorem tG.pqu (G : tG s w g) : tGqu s g := G.2.2.2.2.2.2.2.1
theorem tG.pex (G : tG s w g) : tGex s g := G.2.2.2.2.2.2.1
theorem t_queue_l {nm : sBy} (R : tR s0 F b s w g h) (I : sScope s) (hm : g.kind x0 = (1, 0)) (hB : gB g x1 nm) (hs : nm.length < 2147483648) (hs2 : ∀ q ∈ s.qs, (s.qu q).name.length < 2147483648) (K : Q (zr (gO g 33 (s_queue s nm))) h) :
    ∀ (rest pre : List Nat), s.qs = pre ++ rest → s_queue s nm = rest.find? (fun q => (s.qu q).name == nm) → zP s0 m_X8_queue (d + 1) 2 [some (zr x0), some (zr x1), some (.int (Int32.ofNat pre.length))] [] h Q E
  | [], pre, hp, hf => by
    have A := R.2.ar6
    have hle := A.le
    rw [List.length_map] at hle
    have hl : s.qs.length = pre.length := by rw [hp, List.append_nil]
    refine b_X8_queue_2 (e_I (R.main hm) fun (z1 : gI h x0 6 = Int32.ofNat s.qs.length) => ?_)
    rw [z1, i_le (by omega) (by omega)]
    refine ⟨fun _ => ?_, fun hn => absurd (Nat.le_of_eq hl) hn⟩
    rw [hf] at K
    exact K
  | x :: rest, pre, hp, hf => by
    have A := R.2.ar6
    have hle := A.le
    rw [List.length_map] at hle
    have hl : s.qs.length = pre.length + rest.length + 1 := by rw [hp]; simp; omega
    have hx5 : s.qs[pre.length]? = some x := by rw [hp]; simp
    have hmem := List.mem_of_getElem? hx5
    have hkx := I.qs x hmem
    have ax := R.al (by decide) (by decide) hkx
    refine b_X8_queue_2 (e_I (R.main hm) fun (z1 : gI h x0 6 = Int32.ofNat s.qs.length) => ?_)
    rw [z1, i_le (by omega) (by omega)]
    refine ⟨fun hn => absurd hn (by omega), fun _ => e_R (R.main hm) fun z2 => ?_⟩
    rw [z2]
    refine g_El R A rfl (by decide) hx5 (by decide) fun z3 => ?_
    rw [z3]
    refine e_R (R.1.cell ax (by decide)) fun (z4 : gR h (g.ref 33 x) 0 = g.rf 33 x 0) => ?_
    rw [z4]
    refine t_same (a := some (s.qu x).name) (c := some nm) R ((R.2.pqu x hkx).1) hB (fun y hy => by cases hy; exact hs2 x hmem) (fun y hy => by cases hy; exact hs) ⟨_, rfl, ?_⟩
    rw [sB_0, show (some (s.qu x).name == some nm) = ((s.qu x).name == nm) from rfl]
    rw [List.find?_cons] at hf
    constructor
    · intro e
      rw [e] at hf
      rw [i_succ, show pre.length + 1 = (pre ++ [x]).length by simp]
      exact t_queue_l R I hm hB hs hs2 K rest (pre ++ [x]) (by rw [hp, List.append_assoc]; rfl) hf
    · intro e
      rw [Bool.not_eq_false] at e
      rw [e] at hf
      refine e_R (R.main hm) fun z5 => ?_
      rw [z5]
      refine g_El R A rfl (by decide) hx5 (by decide) fun z6 => ?_
      rw [z6]
      rw [hf] at K
      exact K
theorem t_queue {nm : sBy} (R : tR s0 F b s w g h) (I : sScope s) (hm : g.kind x0 = (1, 0)) (hB : gB g x1 nm) (hs : nm.length < 2147483648) (hs2 : ∀ q ∈ s.qs, (s.qu q).name.length < 2147483648) (K : Q (zr (gO g 33 (s_queue s nm))) h) : zX s0 m_X8_queue (d + 1) [zr x0, zr x1] h Q E :=
  c_X8_queue (t_queue_l R I hm hB hs hs2 K s.qs [] rfl rfl)
theorem t_exchange_l {nm : sBy} (R : tR s0 F b s w g h) (I : sScope s) (hm : g.kind x0 = (1, 0)) (hB : gB g x1 nm) (hs : nm.length < 2147483648) (hs2 : ∀ q ∈ s.es, (s.ex q).name.length < 2147483648) (K : Q (zr (gO g 32 (s_exch s nm))) h) :
    ∀ (rest pre : List Nat), s.es = pre ++ rest → s_exch s nm = rest.find? (fun q => (s.ex q).name == nm) → zP s0 m_X8_exchange (d + 1) 2 [some (zr x0), some (zr x1), some (.int (Int32.ofNat pre.length))] [] h Q E
  | [], pre, hp, hf => by
    have A := R.2.ar5
    have hle := A.le
    rw [List.length_map] at hle
    have hl : s.es.length = pre.length := by rw [hp, List.append_nil]
    refine b_X8_exchange_2 (e_I (R.main hm) fun (z1 : gI h x0 5 = Int32.ofNat s.es.length) => ?_)
    rw [z1, i_le (by omega) (by omega)]
    refine ⟨fun _ => ?_, fun hn => absurd (Nat.le_of_eq hl) hn⟩
    rw [hf] at K
    exact K
  | x :: rest, pre, hp, hf => by
    have A := R.2.ar5
    have hle := A.le
    rw [List.length_map] at hle
    have hl : s.es.length = pre.length + rest.length + 1 := by rw [hp]; simp; omega
    have hx5 : s.es[pre.length]? = some x := by rw [hp]; simp
    have hmem := List.mem_of_getElem? hx5
    have hkx := I.es x hmem
    have ax := R.al (by decide) (by decide) hkx
    refine b_X8_exchange_2 (e_I (R.main hm) fun (z1 : gI h x0 5 = Int32.ofNat s.es.length) => ?_)
    rw [z1, i_le (by omega) (by omega)]
    refine ⟨fun hn => absurd hn (by omega), fun _ => e_R (R.main hm) fun z2 => ?_⟩
    rw [z2]
    refine g_El R A rfl (by decide) hx5 (by decide) fun z3 => ?_
    rw [z3]
    refine e_R (R.1.cell ax (by decide)) fun (z4 : gR h (g.ref 32 x) 0 = g.rf 32 x 0) => ?_
    rw [z4]
    refine t_same (a := some (s.ex x).name) (c := some nm) R ((R.2.pex x hkx).1) hB (fun y hy => by cases hy; exact hs2 x hmem) (fun y hy => by cases hy; exact hs) ⟨_, rfl, ?_⟩
    rw [sB_0, show (some (s.ex x).name == some nm) = ((s.ex x).name == nm) from rfl]
    rw [List.find?_cons] at hf
    constructor
    · intro e
      rw [e] at hf
      rw [i_succ, show pre.length + 1 = (pre ++ [x]).length by simp]
      exact t_exchange_l R I hm hB hs hs2 K rest (pre ++ [x]) (by rw [hp, List.append_assoc]; rfl) hf
    · intro e
      rw [Bool.not_eq_false] at e
      rw [e] at hf
      refine e_R (R.main hm) fun z5 => ?_
      rw [z5]
      refine g_El R A rfl (by decide) hx5 (by decide) fun z6 => ?_
      rw [z6]
      rw [hf] at K
      exact K
theorem t_exchange {nm : sBy} (R : tR s0 F b s w g h) (I : sScope s) (hm : g.kind x0 = (1, 0)) (hB : gB g x1 nm) (hs : nm.length < 2147483648) (hs2 : ∀ q ∈ s.es, (s.ex q).name.length < 2147483648) (K : Q (zr (gO g 32 (s_exch s nm))) h) : zX s0 m_X8_exchange (d + 1) [zr x0, zr x1] h Q E :=
  c_X8_exchange (t_exchange_l R I hm hB hs hs2 K s.es [] rfl rfl)
theorem t_speaks {j : Nat} (R : tR s0 F b s w g h) (hx : g.kind x0 = (3, j)) (hj : isH j) (K : Q (.int (sB (s_speaks s j))) h) : zX s0 m_X8_speaks d [zr x0] h Q E := by
  have e := R.1.cell hx (by decide)
  have ec := R.1.cell (R.cn (show j / 4 < 4 by have := hj.1; omega)) (by decide)
  refine c_X8_speaks (e_R e fun (z1 : gR h x0 0 = g.ref 2 (j / 4)) => ?_)
  rw [z1]
  refine e_I ec fun (z2 : gI h (g.ref 2 (j / 4)) 1 = (s.cn (j / 4)).state) => ?_
  rw [z2]
  unfold s_speaks at K
  constructor
  · intro hn
    rw [beq_false_of_ne hn] at K
    exact K
  · intro hn
    rw [beq_iff_eq.mpr hn] at K
    refine e_I e fun (z3 : gI h x0 2 = (s.ch j).state) => ?_
    rw [z3]
    constructor
    · intro hn
      rw [beq_false_of_ne hn] at K
      exact K
    · intro hn
      rw [beq_iff_eq.mpr hn] at K
      exact K
end FD
