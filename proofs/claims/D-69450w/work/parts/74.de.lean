/-! ===== the twin: exchanges are deleted ===== -/
set_option maxRecDepth 100000
section DE
variable {s0 : zE} {F : Nat → Option zC} {b : Nat} {s s' : sSt} {w w' : tW} {g g' : sG} {h h' : zH} {d x0 x1 x2 i q m e j : Nat} {Q : Value → zH → Prop} {E : Nat → zH → Prop}
theorem i_m1 {x : Int32} : x + (-1) = x - 1 := (Int32.sub_eq_add_neg x 1).symm
/-- a list whose end, from n on, is sifted -/
def tk (p : Nat → Bool) (l : List Nat) (n : Nat) : List Nat := l.take n ++ (l.drop n).filter p
theorem tk_keep {p : Nat → Bool} {l : List Nat} {n x : Nat} (hx : l[n]? = some x) (hp : p x = true) : tk p l (n + 1) = tk p l n := by
  have hl := (List.getElem?_eq_some_iff.mp hx).1
  have e : l.drop n = x :: l.drop (n + 1) := by
    rw [List.drop_eq_getElem_cons hl]
    congr 1
    exact (List.getElem?_eq_some_iff.mp hx).2
  unfold tk
  rw [e, List.filter_cons_of_pos hp, List.take_add_one, hx, List.append_assoc]
  rfl
theorem tk_drop {p : Nat → Bool} {l : List Nat} {n x : Nat} (hx : l[n]? = some x) (hp : p x = false) : (tk p l (n + 1)).eraseIdx n = tk p l n := by
  have hl := (List.getElem?_eq_some_iff.mp hx).1
  have e : l.drop n = x :: l.drop (n + 1) := by
    rw [List.drop_eq_getElem_cons hl]
    congr 1
    exact (List.getElem?_eq_some_iff.mp hx).2
  unfold tk
  rw [e, List.filter_cons_of_neg (by rw [hp]; decide), List.take_add_one, hx]
  rw [show (l.take n ++ (some x).toList) ++ (l.drop (n + 1)).filter p = l.take n ++ (x :: (l.drop (n + 1)).filter p) by rw [List.append_assoc]; rfl]
  rw [List.eraseIdx_append_of_length_le (by rw [List.length_take]; omega), List.length_take, Nat.min_eq_left (by omega), Nat.sub_self]
  rfl
theorem tk_all {p : Nat → Bool} {l : List Nat} : tk p l l.length = l := by
  unfold tk
  rw [List.take_length, List.drop_length, List.filter_nil, List.append_nil]
theorem tk_zero {p : Nat → Bool} {l : List Nat} : tk p l 0 = l.filter p := by
  unfold tk
  rw [List.take_zero, List.drop_zero, List.nil_append]
theorem tk_get {p : Nat → Bool} {l : List Nat} {n x : Nat} (hx : l[n]? = some x) : (tk p l (n + 1))[n]? = some x := by
  have hl := (List.getElem?_eq_some_iff.mp hx).1
  unfold tk
  rw [List.getElem?_append_left (by rw [List.length_take]; omega), List.getElem?_take_of_lt (by omega)]
  exact hx
theorem tk_mem {p : Nat → Bool} {l : List Nat} {n : Nat} : ∀ x ∈ tk p l n, x ∈ l := fun x hx => by
  rcases List.mem_append.mp hx with h | h
  · exact List.mem_of_mem_take h
  · exact List.mem_of_mem_drop (List.mem_filter.mp h).1
theorem w_bs_bs {u v : List Nat} : (s.w_bs u).w_bs v = s.w_bs v := rfl
theorem sScope.bsw (I : sScope s) {l : List Nat} (hl : ∀ x ∈ l, x ∈ s.bs) : sScope (s.w_bs l) := by
  obtain ⟨a1, a2, a3, a4, a5, a6, a7, a8, a9⟩ := I
  exact ⟨a1, a2, fun x hx => a3 x (hl x hx), a4, a5, a6, a7, a8, a9⟩
theorem sScope.esw (I : sScope s) {l : List Nat} (hl : ∀ x ∈ l, x ∈ s.es) : sScope (s.w_es l) := by
  obtain ⟨a1, a2, a3, a4, a5, a6, a7, a8, a9⟩ := I
  exact ⟨a1, fun x hx => a2 x (hl x hx), a3, a4, a5, a6, a7, a8, a9⟩
theorem sScope.exw (I : sScope s) {v : Nat → sEx} : sScope (s.w_ex v) := I
theorem gI_pred {h1 : zH} {n k : Nat} {c : Nat} {fs : List Value} {a : Nat} (e : h1.1 n = some (c, fs)) (hv : fs[k]? = some (.int (Int32.ofNat a))) : gI h1 n k = Int32.ofNat a := gI_of e hv
/-- the bindings of an exchange that is no more are taken out, from the last on -/
theorem t_delE_96 {l : List Nat} (hm0 : ∀ g, gL g g → True) :
    ∀ (n : Nat) (s : sSt) (g : sG) (h : zH), tR s0 F b (s.w_bs (tk (fun x => !((s.bi x).exch == e)) l n)) w g h → sScope (s.w_bs l) → g.kind x0 = (1, 0) → g.kind x1 = (32, e) → n ≤ l.length → l.length ≤ 40 →
      (∀ g1 h1, tR s0 F b (s.w_bs (l.filter (fun x => !((s.bi x).exch == e)))) w g1 h1 → gL g g1 → Q .null h1) → zP s0 m_X8_delete_2 (d + 1) 96 [some (zr x0), some (zr x1), none, some (.int (Int32.ofNat n - 1))] [] h Q E
  | 0, s, g, h, R, I, hm, hx, hn, hl, K => by
    rw [tk_zero] at R
    exact b_X8_delete_2_96 ⟨fun _ => K g h R (gL.refl g), fun hc => absurd (by decide : (Int32.ofNat 0 - 1 : Int32) < 0) hc⟩
  | n + 1, s, g, h, R, I, hm, hx, hn, hl, K => by
    obtain ⟨x, hx5⟩ : ∃ x, l[n]? = some x := ⟨_, List.getElem?_eq_getElem (by omega)⟩
    have hx6 := tk_get (p := fun x => !((s.bi x).exch == e)) hx5
    have A : gAr g 7 0 40 ((tk (fun x => !((s.bi x).exch == e)) l (n + 1)).map (fun b => zr (g.ref 34 b))) := R.2.ar7
    have hkx : s.knd x = 34 := I.bs x (List.mem_of_getElem? hx5)
    have hbx : s.knd (s.bi x).queue = 33 ∧ s.knd (s.bi x).exch = 32 := I.bi x hkx
    have ax := R.al (c := 34) (by decide) (by decide) hkx
    have I2 : sScope (s.w_bs (tk (fun x => !((s.bi x).exch == e)) l (n + 1))) := I.bsw (l := tk (fun x => !((s.bi x).exch == e)) l (n + 1)) tk_mem
    rw [i_pred (by omega), Nat.add_sub_cancel]
    refine b_X8_delete_2_96 ⟨fun hc => absurd hc (i_nn (by omega)), fun _ => e_R (R.main hm) fun z2 => ?_⟩
    rw [z2]
    refine g_El R A rfl (by decide) hx6 (by decide) fun z3 => ?_
    rw [z3]
    refine e_R (R.1.cell ax (by decide)) fun (z4 : gR h (g.ref 34 x) 1 = g.ref 32 (s.bi x).exch) => ?_
    rw [z4, R.inj (R.al (c := 32) (by decide) (by decide) hbx.2) hx (by decide), i_m1]
    refine ⟨fun hne => ?_, fun heq => ⟨⟨_, R.main hm⟩, ?_⟩⟩
    · rw [tk_keep hx5 (by simp only [beq_false_of_ne hne]; rfl)] at R
      exact t_delE_96 hm0 n s g h R I hm hx (by omega) hl K
    · refine t_takeBinding R I2 hm (List.getElem?_eq_some_iff.mp hx6).1 fun g1 h1 R1 L1 => ?_
      rw [w_bs_bs, wr_bs, tk_drop hx5 (by simp only [beq_iff_eq.mpr heq]; rfl)] at R1
      exact t_delE_96 hm0 n s g1 h1 R1 I (L1.m hm) (L1.th (by decide) (by decide) hx) (by omega) hl fun g2 h2 R2 L2 => K g2 h2 R2 (L1.trans L2)
theorem t_delE_23 (R : tR s0 F b s w g h) (I : sScope s) (hm : g.kind x0 = (1, 0)) (hx : g.kind x1 = (32, e))
    (K : ∀ pre suf, s.es = pre ++ e :: suf → e ∉ pre → ∀ h1, h1 = zput h x0 5 (.int (Int32.ofNat s.es.length - 1)) → zP s0 m_X8_delete_2 (d + 1) 51 [some (zr x0), some (zr x1), none, some (.int (Int32.ofNat pre.length))] [] h1 Q E) :
    ∀ (rest pre : List Nat), s.es = pre ++ rest → e ∉ pre → e ∈ rest → zP s0 m_X8_delete_2 (d + 1) 23 [some (zr x0), some (zr x1), some (.int (Int32.ofNat pre.length)), none] [] h Q E
  | [], pre, _, _, hi => by cases hi
  | x :: rest, pre, hcs, hp, hi => by
    have A := R.2.ar5
    have hle := A.le
    rw [List.length_map] at hle
    have hj : s.es[pre.length]? = some x := by rw [hcs]; simp
    have hax := R.al (c := 32) (by decide) (by decide) (I.es x (List.mem_of_getElem? hj))
    refine b_X8_delete_2_23 (e_R (R.main hm) fun z1 => ?_)
    rw [z1]
    refine g_El R A rfl (by decide) hj (by decide) fun z2 => ?_
    rw [z2]
    constructor
    · intro e1
      have ex : x = e := (R.inj hax hx (by decide)).mp e1
      subst ex
      refine e_I (R.main hm) fun (z3 : gI h x0 5 = Int32.ofNat s.es.length) => g_C (R.main hm) ?_
      rw [z3]
      exact fun h1 e1 => K pre rest hcs hp h1 e1
    · intro e1
      have ex : x ≠ e := fun e2 => e1 ((R.inj hax hx (by decide)).mpr e2)
      rw [i_succ, show pre.length + 1 = (pre ++ [x]).length by simp]
      exact t_delE_23 R I hm hx K rest (pre ++ [x]) (by rw [hcs, List.append_assoc]; rfl) (by simp only [List.mem_append, List.mem_singleton]; exact fun e3 => e3.elim hp fun e4 => ex e4.symm) (by
        rcases List.mem_cons.mp hi with e2 | e2
        · exact absurd e2.symm ex
        · exact e2)
/-- behind the record: out of the list, and its bindings with it -/
theorem t_delE_21 (R : tR s0 F b s w g h) (I : sScope s) (hm : g.kind x0 = (1, 0)) (hx : g.kind x1 = (32, e)) (hi : e ∈ s.es)
    (K : ∀ g1 h1, tR s0 F b ((s.w_es (s.es.erase e)).w_bs (s.bs.filter (fun x => !((s.bi x).exch == e)))) w g1 h1 → gL g g1 → Q .null h1) : zP s0 m_X8_delete_2 (d + 1) 21 [some (zr x0), some (zr x1), none, none] [] h Q E := by
  have A := R.2.ar5
  have hle := A.le
  rw [List.length_map] at hle
  obtain ⟨eA, hA⟩ := R.arr A rfl (by decide) (by decide)
  have hne : x0 ≠ g.ref 5 0 := kne hm A.1 (by decide)
  refine b_X8_delete_2_21 (t_delE_23 R I hm hx (fun pre suf hcs hp h1 e1 => ?_) s.es [] rfl (by simp) hi)
  have hlen : s.es.length = pre.length + suf.length + 1 := by rw [hcs]; simp; omega
  rw [i_pred (by omega)] at e1
  have ex0 : h1.1 x0 = some (7, (tMain s w g).set 5 (.int (Int32.ofNat (s.es.length - 1)))) := by rw [e1]; exact zput_self (R.main hm)
  have eA1 : h1.1 (g.ref 5 0) = some (1000 + 12, g.ar 5 0) := by rw [e1, zput_ne hne.symm]; exact eA
  have G := R.good (C := "RelayHallModel$Exchange") A (by decide) (fun x hx => R.al (c := 32) (by decide) (by decide) (I.es x hx)) (fun x => ⟨_, rfl⟩) zcl_36 rfl
  refine sh_loop (Z := fun i hk => zP s0 m_X8_delete_2 (d + 1) 51 [some (zr x0), some (zr x1), none, some (.int (Int32.ofNat i))] [] hk Q E) (own := x0) (oc := 7) (kc := 5) (ka := 1) (n := s.es.length) (C := "RelayHallModel$Exchange") (t := 12) (arr := g.ref 5 0) hne rfl rfl hA
    (fun i hk H => b_X8_delete_2_51 (by rw [i_succ] at H ⊢; exact H)) suf.length pre.length h1 (g.ar 5 0) (by omega) ex0 eA1 (by rw [A.2.1]; exact hle) (by rw [A.2.1]; decide)
    (G.mono (Nat.le_refl _) fun r hr => hr.imp id fun x => by rw [e1]; exact zAsg_put x) (fun h2 o1 o2 o3 => ?_)
  refine sh_fin (oc := 7) (own := x0) (ka := 1) (kc := 5) (by rw [o2 _ hne]; exact ex0) rfl rfl o3 hA (by rw [shf_len, A.2.1]; omega) (by rw [shf_len, A.2.1]; decide) fun h3 p1 p2 p3 => ?_
  have hx1 := shf_erase suf.length (g.ar 5 0) _ pre.length A.2.2 (by rw [List.length_map]; omega)
  rw [erase_split hcs hp] at hx1
  have hx2 : (s.es.erase e).map (fun i => zr (g.ref 32 i)) <+: (shf suf.length (g.ar 5 0) pre.length).set (s.es.length - 1) .null := pre_set_out hx1 (by rw [List.length_map, List.length_erase_of_mem hi]; exact Nat.le_refl _)
  have R3 : tR s0 F b (s.w_es (s.es.erase e)) w (gSet g 5 0 ((shf suf.length (g.ar 5 0) pre.length).set (s.es.length - 1) .null)) h3 := by
    refine R.arM hm A.1 (by decide) (t := 12) rfl ?_ ?_ (fun m m1 m2 => ?_) ?_ p3 ⟨rfl, rfl, rfl, rfl, rfl, rfl, rfl, rfl, rfl⟩ (R.2.set5 (by rw [List.length_set, shf_len]; exact A.2.1) hx2)
    · show (1000 + tarT 5, (gSet _ 5 0 _).ar 5 0) = _
      rw [gSet_self]
      rfl
    · rw [p1, o1, e1]
      rfl
    · rw [p2 _ m2, o2 _ m2, e1, zput_ne m1]
    · rw [p2 _ hne, o2 _ hne, ex0]
      show _ = some (7, tMain (s.w_es (s.es.erase e)) w g)
      rw [← List.length_erase_of_mem hi]
      rfl
  have L3 : gL g (gSet g 5 0 ((shf suf.length (g.ar 5 0) pre.length).set (s.es.length - 1) .null)) := gL.set
  have I3 : sScope (s.w_es (s.es.erase e)) := I.esw fun x hx => List.mem_of_mem_erase hx
  have hK : (s.w_es (s.es.erase e)).bi = s.bi := rfl
  have hB : (s.w_es (s.es.erase e)).bs = s.bs := rfl
  revert R3 L3 I3
  generalize gSet g 5 0 ((shf suf.length (g.ar 5 0) pre.length).set (s.es.length - 1) .null) = g3
  intro R3 L3 I3
  refine e_I (R3.main (L3.m hm)) fun (z5 : gI h3 x0 7 = Int32.ofNat s.bs.length) => ?_
  rw [z5]
  have hbl : s.bs.length ≤ 40 := by
    have := R.2.ar7.le
    rw [List.length_map] at this
    exact this
  refine t_delE_96 (l := s.bs) (fun _ _ => trivial) s.bs.length (s.w_es (s.es.erase e)) g3 h3 ?_ I3 (L3.m hm) (L3.th (by decide) (by decide) hx) (Nat.le_refl _) hbl fun g4 h4 R4 L4 => K g4 h4 R4 (L3.trans L4)
  rw [tk_all]
  exact R3
theorem t_delE (R : tR s0 F (b + 3) s w g h) (I : sScope s) (hm : g.kind x0 = (1, 0)) (hx : g.kind x1 = (32, e)) (hi : e ∈ s.es) (hcap : s.facts.length < 1000000)
    (K : ∀ g1 h1, tR s0 F b (s_delE s e) w g1 h1 → gL g g1 → Q .null h1) : zX s0 m_X8_delete_2 (d + 3) [zr x0, zr x1] h Q E := by
  have hk := R.ak (by decide) (by decide) hx
  have e0 := R.1.cell hx (by decide)
  refine c_X8_delete_2 ?_
  refine g_Pex R hx ((s.ex e).w_there false) rfl (R.2.ex fun hk => R.2.2.2.2.2.2.2.1 e hk) fun h1 R1 _ => ?_
  have e1 : h1.1 x1 = some (36, tEx (sUp s.ex e ((s.ex e).w_there false) e) g e) := R1.1.cell hx (by decide)
  rw [sUp_self] at e1
  have I1 : sScope (s_ex s e (fun x => x.w_there false)) := I
  have R1 : tR s0 F (b + 3) (s_ex s e (fun x => x.w_there false)) w g h1 := R1
  refine e_I e1 fun (z1 : gI h1 x1 2 = sB (s.ex e).dur) => ?_
  rw [z1, sB_0]
  have hf1 : (s_ex s e (fun x => x.w_there false)).facts = s.facts := rfl
  have he1 : (s_ex s e (fun x => x.w_there false)).es = s.es := rfl
  have hu : s_delE s e = (((if (s.ex e).dur then s_tell (s_ex s e (fun x => x.w_there false)) 1 e else s_ex s e (fun x => x.w_there false)).w_es ((if (s.ex e).dur then s_tell (s_ex s e (fun x => x.w_there false)) 1 e else s_ex s e (fun x => x.w_there false)).es.erase e)).w_bs
    ((if (s.ex e).dur then s_tell (s_ex s e (fun x => x.w_there false)) 1 e else s_ex s e (fun x => x.w_there false)).bs.filter (fun b => !(((if (s.ex e).dur then s_tell (s_ex s e (fun x => x.w_there false)) 1 e else s_ex s e (fun x => x.w_there false)).bi b).exch == e)))) := rfl
  rw [hu] at K
  have hk1 : (s_ex s e (fun x => x.w_there false)).knd = s.knd := rfl
  revert R1 I1 K
  rw [← hf1] at hcap
  rw [← he1] at hi
  rw [← hk1] at hk
  clear hu hf1 he1 hk1
  revert hcap hi hk
  generalize s_ex s e (fun x => x.w_there false) = s1
  intro hi hcap hk K I1 R1
  refine ⟨fun hd => ?_, fun hd => ⟨⟨_, R1.main hm⟩, ?_⟩⟩
  · rw [hd] at K
    exact t_delE_21 (R1.less (by omega)) I1 hm hx hi K
  · rw [Bool.not_eq_false] at hd
    rw [hd] at K
    refine t_tell (id := e) R1 hm hcap ⟨fun _ => (R1.1.at hx (by decide)).symm, fun e => absurd e (by decide), fun e => absurd e (by decide), fun e => absurd e (by decide), by decide, by decide⟩ fun g2 h2 R2 L2 => ?_
    refine t_delE_21 R2 (I1.tell' (by decide) (by decide) (by rw [hk]; decide)) (L2.m hm) (L2.th (by decide) (by decide) hx) hi fun g3 h3 R3 L3 => K g3 h3 R3 (L2.trans L3)
theorem s_delE_cases : s_delE s e = ((s_tell (s_ex s e (fun x => x.w_there false)) 1 e).w_es (s.es.erase e)).w_bs (s.bs.filter (fun b => !((s.bi b).exch == e))) ∨ s_delE s e = ((s_ex s e (fun x => x.w_there false)).w_es (s.es.erase e)).w_bs (s.bs.filter (fun b => !((s.bi b).exch == e))) := by
  unfold s_delE
  dsimp only
  cases (s.ex e).dur
  · exact Or.inr rfl
  · exact Or.inl rfl
theorem sScope.delE (I : sScope s) (hk : s.knd e = 32) : sScope (s_delE s e) := by
  have I1 : sScope (s_ex s e (fun x => x.w_there false)) := I
  rcases s_delE_cases (s := s) (e := e) with h | h
  · rw [h]
    have I2 : sScope (s_tell (s_ex s e (fun x => x.w_there false)) 1 e) := I1.tell' (by decide) (by decide) (by show s.knd e = _; rw [hk]; decide)
    have I3 := I2.esw (l := s.es.erase e) fun x hx => List.mem_of_mem_erase hx
    exact I3.bsw (l := s.bs.filter (fun b => !((s.bi b).exch == e))) fun x hx => (List.mem_filter.mp hx).1
  · rw [h]
    have I3 := I1.esw (l := s.es.erase e) fun x hx => List.mem_of_mem_erase hx
    exact I3.bsw (l := s.bs.filter (fun b => !((s.bi b).exch == e))) fun x hx => (List.mem_filter.mp hx).1
theorem delE_facts : (s_delE s e).facts.length ≤ s.facts.length + 1 := by
  rcases s_delE_cases (s := s) (e := e) with h | h
  · rw [h]
    show (s.facts ++ [(1, e)]).length ≤ _
    rw [List.length_append]
    exact Nat.le_refl _
  · rw [h]
    exact Nat.le_succ _
theorem delE_es : (s_delE s e).es = s.es.erase e := by
  rcases s_delE_cases (s := s) (e := e) with h | h <;> (rw [h]; rfl)
theorem delE_knd : (s_delE s e).knd = s.knd := by
  rcases s_delE_cases (s := s) (e := e) with h | h <;> (rw [h]; rfl)
end DE
