/-! ===== the twin: its lists gone over ===== -/
set_option maxRecDepth 100000
section LI
variable {s0 : zE} {F : Nat → Option zC} {b : Nat} {s s' : sSt} {w w' : tW} {g g' : sG} {h h' : zH} {d x0 x1 x2 i : Nat} {Q : Value → zH → Prop} {E : Nat → zH → Prop}
theorem el_get {l : List Nat} {f : Nat → Value} {L : List Value} (hx : l.map f <+: L) {j x : Nat} (hj : l[j]? = some x) : L[j]? = some (f x) := pre_get hx (by rw [List.getElem?_map, hj]; rfl)
theorem tR.inj (R : tR s0 F b s w g h) {c a i n : Nat} (ha : gA1 g c a) (hn : g.kind n = (c, i)) (hc : c ≠ 0) : g.ref c a = n ↔ a = i := by
  constructor
  · intro e
    rw [gA1, e, hn] at ha
    exact ((Prod.ext_iff.mp ha).2).symm
  · intro e
    rw [e]
    exact R.1.at hn hc
/-- an element of an array of things -/
theorem g_El {c n t k j x : Nat} {l : List Nat} {P : Prop} (R : tR s0 F b s w g h) (A : gAr g c i n (l.map (fun x => zr (g.ref k x)))) (hp : tcell s w g c i = (1000 + t, g.ar c i)) (hc : c ≠ 0) (hj : l[j]? = some x) (hn : n < 2147483648) (K : eR h (g.ref c i) (Int32.ofNat j) = g.ref k x → P) :
    fE h (g.ref c i) t (Int32.ofNat j) (zr (eR h (g.ref c i) (Int32.ofNat j))) ∧ P := by
  have e := R.1.cell A.1 hc
  rw [hp] at e
  have hlt := (List.getElem?_eq_some_iff.mp hj).1
  have hle := A.le
  rw [List.length_map] at hle
  exact g_ER e (zin_of (by rw [A.2.1]; omega) (by omega)) (by rw [i_nat (by omega)]; exact el_get A.2.2 hj) K
theorem zcl_39 : zcl[39]? = some (RX42, TX42, 6) := rfl
/-- the things of a list can be stored in arrays of their class -/
theorem tR.good (R : tR s0 F b s w g h) {c n k cc : Nat} {l : List Nat} {C : String} {q : vw_C} (A : gAr g c i n (l.map (fun x => zr (g.ref k x)))) (hk : k ≠ 0) (ha : ∀ x ∈ l, gA1 g k x) (hcell : ∀ x, ∃ fs, tcell s w g k x = (cc, fs)) (hq : zcl[cc]? = some q) (hC : q.1 = C) : zGd h C (g.ar c i) l.length := fun j hj => by
  refine ⟨g.ref k l[j], el_get A.2.2 (List.getElem?_eq_getElem hj), Or.inr ?_⟩
  obtain ⟨fs, e⟩ := hcell l[j]
  have := R.1.cell (ha _ (List.getElem_mem hj)) hk
  rw [e] at this
  exact zAsg_own this hq hC
theorem t_takeOut_1 (R : tR s0 F b s w g h) (hm : g.kind x0 = (1, 0)) (hx : g.kind x1 = (35, i)) (ha : ∀ x ∈ s.cs, gA1 g 35 x)
    (K : ∀ pre suf, s.cs = pre ++ i :: suf → i ∉ pre → ∀ h1, h1 = zput h x0 8 (.int (Int32.ofNat s.cs.length - 1)) → zP s0 m_X8_takeOut d 30 [some (zr x0), none, none, some (.int (Int32.ofNat pre.length))] [] h1 Q E) :
    ∀ (rest pre : List Nat), s.cs = pre ++ rest → i ∉ pre → i ∈ rest → zP s0 m_X8_takeOut d 2 [some (zr x0), some (zr x1), some (.int (Int32.ofNat pre.length)), none] [] h Q E
  | [], pre, _, _, hi => by cases hi
  | x :: rest, pre, hcs, hp, hi => by
    have A := R.2.ar8
    have hle := A.le
    rw [List.length_map] at hle
    have hj : s.cs[pre.length]? = some x := by rw [hcs]; simp
    have hlt := (List.getElem?_eq_some_iff.mp hj).1
    have hax : gA1 g 35 x := ha x (List.mem_of_getElem? hj)
    refine b_X8_takeOut_2 (e_R (R.main hm) fun z1 => ?_)
    rw [z1]
    refine g_El R A rfl (by decide) hj (by decide) fun z2 => ?_
    rw [z2]
    constructor
    · intro e
      have ex : x = i := (R.inj hax hx (by decide)).mp e
      subst ex
      refine e_I (R.main hm) fun z3 => g_C (R.main hm) ?_
      rw [z3]
      exact fun h1 e1 => K pre rest hcs hp h1 e1
    · intro e
      have ex : x ≠ i := fun e2 => e ((R.inj hax hx (by decide)).mpr e2)
      rw [i_succ, show pre.length + 1 = (pre ++ [x]).length by simp]
      exact t_takeOut_1 R hm hx ha K rest (pre ++ [x]) (by rw [hcs, List.append_assoc]; rfl) (by simp only [List.mem_append, List.mem_singleton]; exact fun e3 => e3.elim hp fun e4 => ex e4.symm) (by
        rcases List.mem_cons.mp hi with e2 | e2
        · exact absurd e2.symm ex
        · exact e2)
theorem erase_split {l pre suf : List Nat} (h : l = pre ++ i :: suf) (hp : i ∉ pre) {f : Nat → Value} : (l.map f).eraseIdx pre.length = (l.erase i).map f := by
  subst h
  rw [List.erase_append_right _ hp, List.erase_cons_head, List.map_append, List.map_cons, List.eraseIdx_append_of_length_le (by rw [List.length_map]; exact Nat.le_refl _), List.length_map, Nat.sub_self, List.map_append]
  rfl
theorem t_takeOut (R : tR s0 F b s w g h) (hm : g.kind x0 = (1, 0)) (hx : g.kind x1 = (35, i)) (hi : i ∈ s.cs) (ha : ∀ x ∈ s.cs, gA1 g 35 x) (K : ∀ g1 h1, tR s0 F b (s_takeOut s i) w g1 h1 → gL g g1 → Q .null h1) : zX s0 m_X8_takeOut d [zr x0, zr x1] h Q E := by
  have A := R.2.ar8
  have hle := A.le
  rw [List.length_map] at hle
  obtain ⟨eA, hA⟩ := R.arr A rfl (by decide) (by decide)
  have hne : x0 ≠ g.ref 8 0 := kne hm A.1 (by decide)
  refine c_X8_takeOut (t_takeOut_1 R hm hx ha (fun pre suf hcs hp h1 e1 => ?_) s.cs [] rfl (by simp) hi)
  have hlen : s.cs.length = pre.length + suf.length + 1 := by rw [hcs]; simp; omega
  rw [i_pred (by omega)] at e1
  have ex0 : h1.1 x0 = some (7, (tMain s w g).set 8 (.int (Int32.ofNat (s.cs.length - 1)))) := by rw [e1]; exact zput_self (R.main hm)
  have eA1 : h1.1 (g.ref 8 0) = some (1000 + 15, g.ar 8 0) := by rw [e1, zput_ne hne.symm]; exact eA
  have G := R.good (C := "RelayHallModel$Consumer") A (by decide) ha (fun x => ⟨_, rfl⟩) zcl_39 rfl
  refine sh_loop (Z := fun i hk => zP s0 m_X8_takeOut d 30 [some (zr x0), none, none, some (.int (Int32.ofNat i))] [] hk Q E) (own := x0) (oc := 7) (kc := 8) (ka := 4) (n := s.cs.length) (C := "RelayHallModel$Consumer") (t := 15) (arr := g.ref 8 0) hne rfl rfl hA
    (fun i hk H => b_X8_takeOut_30 (by rw [i_succ] at H ⊢; exact H)) suf.length pre.length h1 (g.ar 8 0) (by omega) ex0 eA1 (by rw [A.2.1]; exact hle) (by rw [A.2.1]; decide)
    (G.mono (Nat.le_refl _) fun r hr => hr.imp id fun x => x.keep fun c fs' hc => by
      by_cases er : r = x0
      · subst er
        rw [R.main hm] at hc
        cases hc
        exact ⟨_, ex0⟩
      · exact ⟨fs', by rw [e1, zput_ne er]; exact hc⟩) (fun h2 o1 o2 o3 => ?_)
  refine sh_fin (oc := 7) (own := x0) (ka := 4) (kc := 8) (by rw [o2 _ hne]; exact ex0) rfl rfl o3 hA (by rw [shf_len, A.2.1]; omega) (by rw [shf_len, A.2.1]; decide) fun h3 p1 p2 p3 => ?_
  have hx1 := shf_erase suf.length (g.ar 8 0) _ pre.length A.2.2 (by rw [List.length_map]; omega)
  rw [erase_split hcs hp] at hx1
  have hx2 : (s.cs.erase i).map (fun i => zr (g.ref 35 i)) <+: (shf suf.length (g.ar 8 0) pre.length).set (s.cs.length - 1) .null := pre_set_out hx1 (by rw [List.length_map, List.length_erase_of_mem hi]; exact Nat.le_refl _)
  refine K (gSet g 8 0 ((shf suf.length (g.ar 8 0) pre.length).set (s.cs.length - 1) .null)) h3 (R.arM hm A.1 (by decide) (t := 15) rfl ?_ ?_ (fun m m1 m2 => ?_) ?_ p3 ⟨rfl, rfl, rfl, rfl, rfl, rfl, rfl, rfl, rfl⟩ (R.2.set8 (by rw [List.length_set, shf_len]; exact A.2.1) hx2)) gL.set
  · show (1000 + tarT 8, (gSet _ 8 0 _).ar 8 0) = _
    rw [gSet_self]
    rfl
  · rw [p1, o1, e1]
    rfl
  · rw [p2 _ m2, o2 _ m2, e1, zput_ne m1]
  · rw [p2 _ hne, o2 _ hne, ex0]
    show _ = some (7, tMain (s.w_cs (s.cs.erase i)) w g)
    rw [← List.length_erase_of_mem hi]
    rfl
end LI
