/-! ===== the twin: a binding taken out ===== -/
set_option maxRecDepth 100000
section TK
variable {s0 : zE} {F : Nat → Option zC} {b : Nat} {s s' : sSt} {w w' : tW} {g g' : sG} {h h' : zH} {d x0 x1 x2 i q m j : Nat} {Q : Value → zH → Prop} {E : Nat → zH → Prop}
theorem zcl_38 : zcl[38]? = some (RX41, TX41, 4) := rfl
theorem map_eraseIdx {l : List Nat} {f : Nat → Value} {j : Nat} : (l.map f).eraseIdx j = (l.eraseIdx j).map f := by
  apply List.ext_getElem?
  intro k
  rw [List.getElem?_eraseIdx, List.getElem?_map, List.getElem?_map, List.getElem?_map, List.getElem?_eraseIdx]
  split <;> rfl
theorem t_takeBinding (R : tR s0 F b s w g h) (I : sScope s) (hm : g.kind x0 = (1, 0)) (hj : j < s.bs.length) (K : ∀ g1 h1, tR s0 F b (s.w_bs (s.bs.eraseIdx j)) w g1 h1 → gL g g1 → Q .null h1) : zX s0 m_X8_takeBinding d [zr x0, .int (Int32.ofNat j)] h Q E := by
  have A := R.2.ar7
  have hle := A.le
  rw [List.length_map] at hle
  obtain ⟨eA, hA⟩ := R.arr A rfl (by decide) (by decide)
  have hne : x0 ≠ g.ref 7 0 := kne hm A.1 (by decide)
  refine c_X8_takeBinding (e_I (R.main hm) fun (z1 : gI h x0 7 = Int32.ofNat s.bs.length) => g_C (R.main hm) ?_)
  rw [z1, i_pred (by omega)]
  intro h1 e1
  have ex0 : h1.1 x0 = some (7, (tMain s w g).set 7 (.int (Int32.ofNat (s.bs.length - 1)))) := by rw [e1]; exact zput_self (R.main hm)
  have eA1 : h1.1 (g.ref 7 0) = some (1000 + 14, g.ar 7 0) := by rw [e1, zput_ne hne.symm]; exact eA
  have G := R.good (C := "RelayHallModel$Binding") A (by decide) (fun x hx => R.al (by decide) (by decide) (I.bs x hx)) (fun x => ⟨_, rfl⟩) zcl_38 rfl
  refine sh_loop (Z := fun i hk => zP s0 m_X8_takeBinding d 12 [some (zr x0), none, some (.int (Int32.ofNat i))] [] hk Q E) (own := x0) (oc := 7) (kc := 7) (ka := 3) (n := s.bs.length) (C := "RelayHallModel$Binding") (t := 14) (arr := g.ref 7 0) hne rfl rfl hA
    (fun i hk H => b_X8_takeBinding_12 (by rw [i_succ] at H ⊢; exact H)) (s.bs.length - 1 - j) j h1 (g.ar 7 0) (by omega) ex0 eA1 (by rw [A.2.1]; exact hle) (by rw [A.2.1]; decide)
    (G.mono (Nat.le_refl _) fun r hr => hr.imp id fun x => by rw [e1]; exact zAsg_put x) (fun h2 o1 o2 o3 => ?_)
  refine sh_fin (oc := 7) (own := x0) (ka := 3) (kc := 7) (by rw [o2 _ hne]; exact ex0) rfl rfl o3 hA (by rw [shf_len, A.2.1]; omega) (by rw [shf_len, A.2.1]; decide) fun h3 p1 p2 p3 => ?_
  have hx1 := shf_erase (s.bs.length - 1 - j) (g.ar 7 0) _ j A.2.2 (by rw [List.length_map]; omega)
  rw [map_eraseIdx] at hx1
  have hlen : (s.bs.eraseIdx j).length = s.bs.length - 1 := List.length_eraseIdx_of_lt hj
  have hx2 : (s.bs.eraseIdx j).map (fun i => zr (g.ref 34 i)) <+: (shf (s.bs.length - 1 - j) (g.ar 7 0) j).set (s.bs.length - 1) .null := pre_set_out hx1 (by rw [List.length_map, hlen]; exact Nat.le_refl _)
  refine K (gSet g 7 0 ((shf (s.bs.length - 1 - j) (g.ar 7 0) j).set (s.bs.length - 1) .null)) h3 (R.arM hm A.1 (by decide) (t := 14) rfl ?_ ?_ (fun m m1 m2 => ?_) ?_ p3 ⟨rfl, rfl, rfl, rfl, rfl, rfl, rfl, rfl, rfl⟩ (R.2.set7 (by rw [List.length_set, shf_len]; exact A.2.1) hx2)) gL.set
  · show (1000 + tarT 7, (gSet _ 7 0 _).ar 7 0) = _
    rw [gSet_self]
    rfl
  · rw [p1, o1, e1]
    rfl
  · rw [p2 _ m2, o2 _ m2, e1, zput_ne m1]
  · rw [p2 _ hne, o2 _ hne, ex0]
    show _ = some (7, tMain (s.w_bs (s.bs.eraseIdx j)) w g)
    rw [← hlen]
    rfl
end TK
