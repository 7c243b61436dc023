/-! ===== the twin: all that came is taken in ===== -/
set_option maxRecDepth 100000
set_option maxHeartbeats 200000
section NY
variable {s0 : zE} {F : Nat → Option zC} {b : Nat} {s s' : sSt} {w w' : tW} {g g' g0 : sG} {h h' : zH} {d x0 x1 n c : Nat} {Q : Value → zH → Prop} {E : Nat → zH → Prop}
theorem t_tki_29 {N : Nat} (Z : tZ s0 F N s w g h) (hx : g.kind x1 = (2, c)) (hc : c < 4)
    (K : ∀ h1, tZ s0 F N (if (s.cn c).state = 0 ∨ (s.cn c).deaf = true then s_cn s c (fun k => k.w_inp []) else s) w g h1 → Q .null h1) : zP s0 m_X8_takeIn (d + 1) 29 [none, some (zr x1), none] [] h Q E := by
  have ex := Z.r.1.cell hx (by decide)
  have hput : (s.cn c).state = 0 ∨ (s.cn c).deaf = true → fC h x1 8 ∧ ∀ h1, h1 = zput h x1 3 (.int 0) → Q .null h1 := fun hb => by
    rw [if_pos hb] at K
    refine g_Pcn Z.r hx ((s.cn c).w_inp []) rfl (Z.r.2.cn fun hc4 => ⟨⟨(Z.r.2.2.2.2.2.1 c hc4).1.1, (Z.r.2.2.2.2.2.1 c hc4).1.2.1, ⟨_, rfl⟩⟩, (Z.r.2.2.2.2.2.1 c hc4).2.1.2⟩) fun h1 R1 _ => ?_
    have R1 : tR s0 F (N + tP s) (s_cn s c (fun k => k.w_inp [])) w g h1 := R1
    exact K h1 (Z.dn' (d_inp (s := s) (inp2 := []) hc (by decide)) R1)
  refine b_X8_takeIn_29 (e_I ex fun (z1 : gI h x1 1 = (s.cn c).state) => ?_)
  rw [z1]
  refine ⟨fun h0 => hput (Or.inl h0), fun h0 => e_I ex fun (z2 : gI h x1 9 = sB (s.cn c).deaf) => ?_⟩
  rw [z2, sB_0]
  refine ⟨fun hd => ?_, fun hd => hput (Or.inr (by rwa [Bool.not_eq_false] at hd))⟩
  rw [if_neg (fun hh => hh.elim h0 fun q => by rw [hd] at q; cases q)] at K
  exact K h Z
theorem t_tki_s (J : tJs s0 F) (hc : c < 4) (hm : g.kind x0 = (1, 0)) (hx : g.kind x1 = (2, c)) (hE : gB g (zst s0 "RelayHallModel" "EMPTY" "[B") []) (hG : gB g (zst s0 "RelayHallModel" "GREETS" "[B") s_greets) (hn : n < 50000) (Z : tZ s0 F (b + 300 * (s.cn c).inp.length + tK s + tY s) s w g h) (V : sVV n s) (hcd : ∀ h, w.cd h = 0)
    (hstop : ((s.cn c).state = 0 ∨ (s.cn c).deaf = true) ∨ s_takes s c = none → zP s0 m_X8_takeIn (d + 86 + 1) 29 [none, some (zr x1), none] [] h Q E)
    (hnext : ∀ S, ¬ ((s.cn c).state = 0 ∨ (s.cn c).deaf = true) → s_takes s c = some S → sVV (n + 1) S → 300 * (S.cn c).inp.length + tK S ≤ s_left s c → ((S.cn c).inp.length + 7 ≤ (s.cn c).inp.length) → (∀ p, (S.cn p).inp.length ≤ (s.cn p).inp.length) → S.tape = s.tape → ∀ w1 g1 h1, tZ s0 F (b + s_left s c + tY S) S w1 g1 h1 → tWm w w1 → gL g g1 → zP s0 m_X8_takeIn (d + 86 + 1) 2 [some (zr x0), some (zr x1), some (.int 1)] [] h1 Q E) :
    zP s0 m_X8_takeIn (d + 86 + 1) 2 [some (zr x0), some (zr x1), some (.int 1)] [] h Q E := by
  have ex := Z.r.1.cell hx (by decide)
  refine b_X8_takeIn_2 ⟨fun hh => absurd hh (by decide), fun _ => e_I ex fun (z1 : gI h x1 1 = (s.cn c).state) => ?_⟩
  rw [z1]
  refine ⟨fun h0 => hstop (Or.inl (Or.inl h0)), fun h0 => e_I ex fun (z2 : gI h x1 9 = sB (s.cn c).deaf) => ?_⟩
  rw [z2, sB_0]
  refine ⟨fun hd => hstop (Or.inl (Or.inr (by rwa [Bool.not_eq_false] at hd))), fun hd => ⟨⟨_, Z.r.main hm⟩, ?_⟩⟩
  refine t_takesOne (d := d) (b := b) J Z hm hx hc hE hG V hn hcd h0 (fun hnone => ⟨0, rfl, b_X8_takeIn_2 ⟨fun _ => hstop (Or.inr hnone), fun hh => absurd rfl hh⟩⟩) fun S hS VS hk hl hp htp w1 g1 h1 Z1 W1 L1 => ⟨1, rfl, hnext S (fun hh => hh.elim h0 fun q => by rw [hd] at q; cases q) hS VS hk hl hp htp w1 g1 h1 Z1 W1 L1⟩
theorem t_tki_2 (J : tJs s0 F) (hc : c < 4) (hm0 : g0.kind x0 = (1, 0)) (hx0 : g0.kind x1 = (2, c)) (hE0 : gB g0 (zst s0 "RelayHallModel" "EMPTY" "[B") []) (hG0 : gB g0 (zst s0 "RelayHallModel" "GREETS" "[B") s_greets) :
    ∀ (f n : Nat) (s : sSt) (w : tW) (g : sG) (h : zH), (s.cn c).inp.length < f → n + (s.cn c).inp.length ≤ 49999 → tZ s0 F (b + 300 * (s.cn c).inp.length + tK s + tY s) s w g h → gL g0 g → sVV n s → (∀ h, w.cd h = 0) →
      (∀ S n' w1 g1 h1, S = s_takeF c f s → tZ s0 F (b + 300 * (S.cn c).inp.length + tK S + tY S) S w1 g1 h1 → sVV n' S → n' + (S.cn c).inp.length ≤ n + (s.cn c).inp.length → (∀ p, (S.cn p).inp.length ≤ (s.cn p).inp.length) → S.tape = s.tape → tWm w w1 → gL g g1 → zP s0 m_X8_takeIn (d + 86 + 1) 29 [none, some (zr x1), none] [] h1 Q E) →
      zP s0 m_X8_takeIn (d + 86 + 1) 2 [some (zr x0), some (zr x1), some (.int 1)] [] h Q E := by
  intro f
  induction f with
  | zero =>
    intro n s w g h hf
    exact absurd hf (Nat.not_lt_zero _)
  | succ f ih =>
    intro n s w g h hf hn Z L V hcd K
    refine t_tki_s (n := n) J hc (L.m hm0) (L.k hx0 gSt2) (L.B hE0) (L.B hG0) (by omega) Z V hcd (fun hb => ?_) fun S hnb hS VS hk hl hp htp w1 g1 h1 Z1 W1 L1 => ?_
    · refine K s n w g h ?_ Z V (Nat.le_refl _) (fun _ => Nat.le_refl _) rfl tWm.refl (gL.refl g)
      rw [s_takeF]
      by_cases hb1 : (s.cn c).state = 0 ∨ (s.cn c).deaf = true
      · rw [if_pos hb1]
      · rw [if_neg hb1, hb.resolve_left hb1]
    · refine ih (n + 1) S w1 g1 h1 (by omega) (by omega) (Z1.le (by omega)) (L.trans L1) VS (W1.2 hcd) fun S2 n2 w2 g2 h2 e2 Z2 V2 hl2 hp2 htp2 W2 L2 => K S2 n2 w2 g2 h2 ?_ Z2 V2 (by omega) (fun p => Nat.le_trans (hp2 p) (hp p)) (htp2.trans htp) (W1.trans W2) (L1.trans L2)
      rw [s_takeF, if_neg hnb, hS]
      exact e2
/-- all that came of a connection is taken in -/
theorem t_takeIn (J : tJs s0 F) (Z : tZ s0 F (b + 300 * (s.cn c).inp.length + tK s + tY s) s w g h) (hm : g.kind x0 = (1, 0)) (hx : g.kind x1 = (2, c)) (hc : c < 4) (hE : gB g (zst s0 "RelayHallModel" "EMPTY" "[B") []) (hG : gB g (zst s0 "RelayHallModel" "GREETS" "[B") s_greets) (V : sVV n s) (hn : n ≤ 40000) (hcd : ∀ h, w.cd h = 0)
    (K : ∀ n' w1 g1 h1, tZ s0 F (b + 300 * ((s_takeIn s c).cn c).inp.length + tK (s_takeIn s c) + tY (s_takeIn s c)) (s_takeIn s c) w1 g1 h1 → sVV n' (s_takeIn s c) → n' + ((s_takeIn s c).cn c).inp.length ≤ n + (s.cn c).inp.length → (∀ p, ((s_takeIn s c).cn p).inp.length ≤ (s.cn p).inp.length) → (s_takeIn s c).tape = s.tape → tWm w w1 → gL g g1 → Q .null h1) : zX s0 m_X8_takeIn (d + 87) [zr x0, zr x1] h Q E := by
  have hl := (Z.i.cp.cn c hc).1
  refine c_X8_takeIn (t_tki_2 (d := d) (g0 := g) (b := b) J hc hm hx hE hG 1000 n s w g h (by omega) (by omega) Z (gL.refl g) V hcd fun S n1 w1 g1 h1 eS Z1 V1 hl1 hp1 htp1 W1 L1 => ?_)
  have hI : s_takeIn s c = if (S.cn c).state = 0 ∨ (S.cn c).deaf = true then s_cn S c (fun k => k.w_inp []) else S := by
    unfold s_takeIn
    dsimp only
    rw [← eS]
  have hk : 300 * ((s_takeIn s c).cn c).inp.length + tK (s_takeIn s c) + tY (s_takeIn s c) ≤ 300 * (S.cn c).inp.length + tK S + tY S ∧ sVV n1 (s_takeIn s c) ∧ (∀ p, ((s_takeIn s c).cn p).inp.length ≤ (S.cn p).inp.length) ∧ (s_takeIn s c).tape = S.tape := by
    rw [hI]
    split
    · have E5 : sE S (s_cn S c (fun k => k.w_inp [])) := e_cnUp fun _ => Nat.zero_le _
      have D5 := d_inp (s := S) (inp2 := []) hc (by decide)
      have h1 := tK_e E5
      have h2 := tY_cnD D5
      have h3 := E5.2.2.2.2.2.2.2.2 c
      exact ⟨by omega, V1.eE E5, E5.2.2.2.2.2.2.2.2, rfl⟩
    · exact ⟨Nat.le_refl _, V1, fun _ => Nat.le_refl _, rfl⟩
  refine t_tki_29 (d := d + 86) Z1 (L1.k hx gSt2) hc fun h2 Z2 => ?_
  rw [← hI] at Z2
  have hkc := hk.2.2.1 c
  exact K n1 w1 g1 h2 (Z2.le (by omega)) hk.2.1 (by omega) (fun p => Nat.le_trans (hk.2.2.1 p) (hp1 p)) (hk.2.2.2.trans htp1) W1 L1
end NY
