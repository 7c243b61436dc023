/-! ===== the twin: acknowledgements: the three loops ===== -/
set_option maxRecDepth 100000
section MXA
variable {s0 : zE} {F : Nat → Option zC} {b : Nat} {s s' s1 s2 : sSt} {w w' w1 w2 : tW} {g g' g0 : sG} {h h' : zH} {d x0 x1 x2 x3 x5 x7 i j q m p n a e x y : Nat} {Q : Value → zH → Prop} {E : Nat → zH → Prop} {dr nm key frm : sBy} {sz cl me code k bits tag what c4 c5 c6 : Int32} {rd : sRd} {u : Int32 × List Nat × (Nat → Nat)} {all v : Bool} {l : List Nat}
/-- an element of a frozen list of things that were sent -/
theorem fz_el (R : tR s0 F b s w g h) (hF : gF g n (1020, l.map (fun x => zr (g0.ref 37 x)))) {P : Prop} (hi : l[i]? = some x) (hl : l.length < 2147483648) (K : eR h n (Int32.ofNat i) = g0.ref 37 x → P) : fE h n 20 (Int32.ofNat i) (zr (eR h n (Int32.ofNat i))) ∧ P := by
  have hlt := (List.getElem?_eq_some_iff.mp hi).1
  exact g_ER (t := 20) (R.fz hF) (zin_of (by rw [List.length_map]; exact hlt) (by omega)) (by rw [i_nat (by omega), List.getElem?_map, hi]; rfl) K
theorem t_ack_118 (hl : l.length ≤ 980000) (hg : ∀ x ∈ l, g.kind (g0.ref 37 x) = (37, x)) (hF : gF g n (1020, l.map (fun x => zr (g0.ref 37 x)))) (K : ∀ h1, tR s0 F b (s_dones s l true) w g h1 → Q .null h1) :
    ∀ (r pre : List Nat) (h : zH), l = pre ++ r → tR s0 F b (s_dones s pre true) w g h → zP s0 m_X8_acknowledges (d + 1) 118 [none, none, none, none, none, some (zr n), none, some (.int (Int32.ofNat pre.length))] [] h Q E
  | [], pre, h, hp, R => by
    have hp : l = pre := by rw [hp, List.append_nil]
    subst hp
    have eF := R.fz hF
    refine b_X8_acknowledges_118 ⟨⟨_, eF⟩, ?_⟩
    rw [gA_of eF, List.length_map, i_le (by omega) (by omega)]
    exact ⟨fun _ => K h R, fun hh => absurd (Nat.le_refl _) hh⟩
  | y :: r, pre, h, hp, R => by
    have eF := R.fz hF
    have hpl : l.length = pre.length + (r.length + 1) := by rw [hp, List.length_append]; rfl
    have hy : l[pre.length]? = some y := by rw [hp, List.getElem?_append_right (Nat.le_refl _), Nat.sub_self]; rfl
    have hyk := hg y (List.mem_of_getElem? hy)
    refine b_X8_acknowledges_118 ⟨⟨_, eF⟩, ?_⟩
    rw [gA_of eF, List.length_map, i_le (by omega) (by omega)]
    refine ⟨fun hh => absurd hh (by omega), fun _ => fz_el R hF hy (by omega) fun z1 => ?_⟩
    rw [z1, i_succ]
    have e1 : pre.length + 1 = (pre ++ [y]).length := by rw [List.length_append]; rfl
    rw [e1]
    refine g_Pse R hyk (((s_dones s pre true).se y).w_done true) rfl R.2.se fun h2 R2 _ => ?_
    rw [dones_snoc (r := r)] at R2
    exact t_ack_118 hl hg hF K r (pre ++ [y]) h2 (by rw [hp, List.append_assoc]; rfl) R2
theorem t_ack_62 (hl : l.length ≤ 980000) (hF : gF g0 n (1020, l.map (fun x => zr (g0.ref 37 x)))) (hm : g0.kind x0 = (1, 0)) (hg : ∀ x ∈ l, g0.kind (g0.ref 37 x) = (37, x)) :
    ∀ (r pre : List Nat) (s : sSt) (g : sG) (h : zH), l = pre ++ r → tZ s0 F b s w g h → (∀ x ∈ r, s.knd x = 37 ∧ sFree s (s.se x).entry) → gL g0 g → (∀ g1 h1, tZ s0 F b (s_setl what r s) w g1 h1 → gL g0 g1 → Q .null h1) →
      zP s0 m_X8_acknowledges (d + 8) 62 [some (zr x0), none, none, none, some (.int what), some (zr n), some (.int (Int32.ofNat pre.length)), none] [] h Q E
  | [], pre, s, g, h, hp, Z, hf, L, K => by
    have hp : l = pre := by rw [hp, List.append_nil]
    subst hp
    have eF := Z.r.fz (L.fz hF)
    refine b_X8_acknowledges_62 ⟨⟨_, eF⟩, ?_⟩
    rw [gA_of eF, List.length_map, i_le (by omega) (by omega)]
    exact ⟨fun _ => K g h Z L, fun hh => absurd (Nat.le_refl _) hh⟩
  | y :: r, pre, s, g, h, hp, Z, hf, L, K => by
    have eF := Z.r.fz (L.fz hF)
    have hpl : l.length = pre.length + (r.length + 1) := by rw [hp, List.length_append]; rfl
    have hy : l[pre.length]? = some y := by rw [hp, List.getElem?_append_right (Nat.le_refl _), Nat.sub_self]; rfl
    have hyk : g.kind (g0.ref 37 y) = (37, y) := L.th (by decide) (by decide) (hg y (List.mem_of_getElem? hy))
    obtain ⟨ky, fy⟩ := hf y List.mem_cons_self
    have hse := settle1_se (what := what) Z.i (Z.sc.se y ky).1 fy
    have hkn := (d_settle1 (what := what) Z.i (Z.sc.se y ky).1 fy).2.2.2.2.2.2.2.2.2.2.1
    refine b_X8_acknowledges_62 ⟨⟨_, eF⟩, ?_⟩
    rw [gA_of eF, List.length_map, i_le (by omega) (by omega)]
    refine ⟨fun hh => absurd hh (by omega), fun _ => fz_el Z.r (L.fz hF) hy (by omega) fun z1 => ?_⟩
    rw [z1, i_succ]
    have e1 : pre.length + 1 = (pre ++ [y]).length := by rw [List.length_append]; rfl
    rw [e1]
    refine ⟨⟨_, Z.r.main (L.m hm)⟩, t_settle (d := d) Z (L.m hm) hyk fy fun g1 h1 Z1 L1 => ?_⟩
    rw [setl_cons] at K
    exact t_ack_62 hl hF hm hg r (pre ++ [y]) _ g1 h1 (by rw [hp, List.append_assoc]; rfl) Z1 (fun x hx => by
      rw [hse, hkn]
      exact ⟨(hf x (List.mem_cons_of_mem _ hx)).1, free_settle1 (hf x (List.mem_cons_of_mem _ hx)).2⟩) (L.trans L1) K
theorem t_ack_35 (hj : isH j) (hl : l.length ≤ 980000) (hF : gF g0 n (1020, l.map (fun x => zr (g0.ref 37 x)))) (hm : g0.kind x0 = (1, 0)) (hx : g0.kind x1 = (3, j)) (hg : ∀ x ∈ l, g0.kind (g0.ref 37 x) = (37, x)) :
    ∀ (r pre : List Nat) (s : sSt) (g : sG) (h : zH), l = pre ++ r → tZ s0 F b s w g h → ((s.ch j).state = 1 → ∀ x ∈ r, ∀ y ∈ (s.ch j).kept, x ∉ y.those) → gL g0 g →
      (∀ g1 h1, tZ s0 F b (s_rms j r s) w g1 h1 → gL g0 g1 → zP s0 m_X8_acknowledges (d + 8) 62 [some (zr x0), none, none, none, some (.int what), some (zr n), some (.int 0), none] [] h1 Q E) →
      zP s0 m_X8_acknowledges (d + 8) 35 [some (zr x0), some (zr x1), none, none, some (.int what), some (zr n), some (.int (Int32.ofNat pre.length)), none] [] h Q E
  | [], pre, s, g, h, hp, Z, hf, L, K => by
    have hp : l = pre := by rw [hp, List.append_nil]
    subst hp
    have eF := Z.r.fz (L.fz hF)
    refine b_X8_acknowledges_35 ⟨⟨_, eF⟩, ?_⟩
    rw [gA_of eF, List.length_map, i_le (by omega) (by omega)]
    exact ⟨fun _ => K g h Z L, fun hh => absurd (Nat.le_refl _) hh⟩
  | y :: r, pre, s, g, h, hp, Z, hf, L, K => by
    have eF := Z.r.fz (L.fz hF)
    have hpl : l.length = pre.length + (r.length + 1) := by rw [hp, List.length_append]; rfl
    have hy : l[pre.length]? = some y := by rw [hp, List.getElem?_append_right (Nat.le_refl _), Nat.sub_self]; rfl
    have hyk : g.kind (g0.ref 37 y) = (37, y) := L.th (by decide) (by decide) (hg y (List.mem_of_getElem? hy))
    obtain ⟨-, e2, e3, -⟩ := rm_rd (s := s) (j := j) (x := y)
    refine b_X8_acknowledges_35 ⟨⟨_, eF⟩, ?_⟩
    rw [gA_of eF, List.length_map, i_le (by omega) (by omega)]
    refine ⟨fun hh => absurd hh (by omega), fun _ => fz_el Z.r (L.fz hF) hy (by omega) fun z1 => ?_⟩
    rw [z1, i_succ]
    have e1 : pre.length + 1 = (pre ++ [y]).length := by rw [List.length_append]; rfl
    rw [e1]
    refine ⟨⟨_, Z.r.main (L.m hm)⟩, t_removeZ (d := d + 6) Z (L.m hm) hj (L.k hx gSt3) hyk (fun h1 => hf h1 y List.mem_cons_self) fun g1 h1 Z1 L1 => ?_⟩
    rw [rms_cons] at K
    exact t_ack_35 hj hl hF hm hx hg r (pre ++ [y]) _ g1 h1 (by rw [hp, List.append_assoc]; rfl) Z1 (fun h1 z hz => by
      rw [e2]
      rw [e3] at h1
      exact hf h1 z (List.mem_cons_of_mem _ hz)) (L.trans L1) K
end MXA
