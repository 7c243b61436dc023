/-! ===== the twin: a frame of an open connection ===== -/
set_option maxRecDepth 100000
/-- what a frame may lean on -/
def sFrm (s : sSt) : Prop := ∀ j, isH j → sMay s j ∧ ((s.ch j).state = 0 ∨ (s.ch j).state = 1 ∨ (s.ch j).state = 2) ∧ ((s.ch j).state ≠ 0 → (s.ch j).junk = false)
/-- what is left of what is kept behind a frame -/
def s_k0 (s : sSt) (c : Nat) (ty chan : Int32) (bs : sBy) : Nat :=
  if chan = 0 ∨ 3 < chan ∨ (ty = 1 ∧ (r_head ty bs).1 = 90 ∧ (r_head ty bs).2.1 = 20) then 0 else 950 * (s.ch (4 * c + chan.toNatClampNeg)).kept.length
/-- what a frame of so many bytes may want -/
def oA (n : Nat) : Nat := if 9 ≤ n then 4000 else if 4 ≤ n then 2500 else 2100
theorem oA_lo {n : Nat} : 2100 ≤ oA n := by
  unfold oA
  by_cases h9 : 9 ≤ n
  · rw [if_pos h9]; omega
  · rw [if_neg h9]
    by_cases h4 : 4 ≤ n
    · rw [if_pos h4]; omega
    · rw [if_neg h4]; omega
theorem oA_4 {n : Nat} (h : 4 ≤ n) : 2500 ≤ oA n := by
  unfold oA
  by_cases h9 : 9 ≤ n
  · rw [if_pos h9]; omega
  · rw [if_neg h9, if_pos h]; omega
theorem oA_9 {n : Nat} (h : 9 ≤ n) : oA n = 4000 := if_pos h
/-- what the target of a frame has kept -/
def s_kj (s : sSt) (c : Nat) (chan : Int32) : Nat := if chan = 0 ∨ 3 < chan then 0 else 950 * (s.ch (4 * c + chan.toNatClampNeg)).kept.length
def tK (s : sSt) : Nat := 950 * (s_hs.map (fun h => (s.ch h).kept.length)).sum
section NN
variable {s0 : zE} {F : Nat → Option zC} {b : Nat} {s : sSt} {w : tW} {g g' : sG} {h h' : zH} {d x0 x1 x4 j n c k : Nat} {Q : Value → zH → Prop} {E : Nat → zH → Prop} {dr : sBy} {sz cl me ty chan : Int32} {rd : sRd} {u : Int32 × List Nat × (Nat → Nat)} {bs : sBy}
theorem head_1 : (r_head ty bs).2.2.1 = bs := by
  unfold r_head
  dsimp only
  split
  · exact (rd_u16.1.trans rd_u16.1).1
  · rfl
theorem head_n (h : ¬ ty = 1) : r_head ty bs = (0, 0, (bs, 0, false)) := by
  unfold r_head
  dsimp only
  rw [if_neg (fun hh => h hh.1)]
theorem head_short (h : ¬ 4 ≤ bs.length) : r_head ty bs = (0, 0, (bs, 0, false)) := by
  unfold r_head
  dsimp only
  rw [if_neg (fun hh => h hh.2)]
theorem head_at (h1 : ty = 1) (h : 4 ≤ bs.length) : 4 ≤ (r_head ty bs).2.2.2.1 := by
  unfold r_head
  dsimp only
  rw [if_pos ⟨h1, h⟩]
  have u1 : ∀ r : sRd, r.1 = bs → r.2.1 + 1 ≤ bs.length → (r_u8 r).2.1 = bs ∧ (r_u8 r).2.2.1 = r.2.1 + 1 := fun r e hl => by
    unfold r_u8
    rw [e, List.getElem?_eq_getElem (by omega)]
    exact ⟨rfl, rfl⟩
  have u2 : ∀ r : sRd, r.1 = bs → r.2.1 + 2 ≤ bs.length → (r_u16 r).2.1 = bs ∧ (r_u16 r).2.2.1 = r.2.1 + 2 := fun r e hl => by
    obtain ⟨a1, a2⟩ := u1 r e (by omega)
    obtain ⟨b1, b2⟩ := u1 (r_u8 r).2 a1 (by omega)
    exact ⟨b1, by show (r_u8 (r_u8 r).2).2.2.1 = _; omega⟩
  obtain ⟨a1, a2⟩ := u2 (bs, 0, false) rfl (by show 0 + 2 ≤ _; omega)
  have a2 : (r_u16 (bs, 0, false)).2.2.1 = 2 := a2
  obtain ⟨b1, b2⟩ := u2 (r_u16 (bs, 0, false)).2 a1 (by omega)
  show 4 ≤ (r_u16 (r_u16 (bs, 0, false)).2).2.2.1
  omega
theorem rRem_len {r : sRd} : rRem r ≤ r.1.length := Nat.sub_le _ _
theorem t_opHard {code c1 m1 : Int32} {B : Nat} (Z : tZ s0 F B s w g h) (hB : b + 900 + tY s ≤ B) (hm : g.kind x0 = (1, 0)) (hx : g.kind x1 = (2, c)) (hc : c < 4)
    (K : ∀ w1 g1 h1, tZ s0 F (b + tY (s_hard s c code c1 m1)) (s_hard s c code c1 m1) w1 g1 h1 → tWm w w1 → gL g g1 → Q .null h1) :
    fC h x0 7 ∧ zX s0 m_X8_hard (d + 84) [zr x0, zr x1, .int code, .int c1, .int m1] h (fun _ h1 => Q .null h1) E :=
  ⟨⟨_, Z.r.main hm⟩, t_hardZ (d := d + 8) (Z.le hB) hm hx hc fun w1 g1 h1 Z1 W1 L1 => K w1 g1 h1 Z1 W1.tom L1⟩
/-- a frame for the connection itself -/
theorem t_op_108c (Z : tZ s0 F (b + 936 + tY s) s (dr, sz, (r_head ty bs).2.2, (r_head ty bs).1, (r_head ty bs).2.1, u) g h) (hm : g.kind x0 = (1, 0)) (hx : g.kind x1 = (2, c)) (hc : c < 4) (hE : gB g (zst s0 "RelayHallModel" "EMPTY" "[B") [])
    (K : ∀ w1 g1 h1, tZ s0 F (b + tY (s_onOpen s c ty 0 bs)) (s_onOpen s c ty 0 bs) w1 g1 h1 → tWm (dr, sz, (r_head ty bs).2.2, (r_head ty bs).1, (r_head ty bs).2.1, u) w1 → gL g g1 → Q .null h1) :
    zP s0 m_X8_onOpen (d + 85) 108 [some (zr x0), some (zr x1), some (.int ty), some (.int 0), some (zr 0)] [] h Q E := by
  have em := Z.r.main hm
  have hl : bs.length ≤ 400 := by
    have := Z.r.2.frame.1.le
    rw [vB_len] at this
    have e : (r_head ty bs).2.2.1 = bs := head_1
    have this : (r_head ty bs).2.2.1.length ≤ 400 := this
    rwa [e] at this
  unfold s_onOpen at K
  dsimp only at K
  rw [if_neg (by decide), if_neg (fun hh => hh.1 rfl)] at K
  refine b_X8_onOpen_108 ⟨fun h8 => ?_, fun h8 => ?_⟩
  · rw [if_neg h8] at K
    refine ⟨fun h1 => ?_, fun h1 => ?_⟩
    · rw [if_neg h1, if_pos (Or.inl rfl)] at K
      exact ⟨fun _ => b_X8_onOpen_200 (t_opHard (b := b) (d := d) Z (by omega) hm hx hc K), fun hh => absurd rfl hh⟩
    · rw [if_pos h1] at K
      refine e_I em fun (z1 : gI h x0 30 = Int32.ofNat (r_head ty bs).2.2.1.length) => ?_
      rw [z1, head_1, show (4 : Int32) = Int32.ofNat 4 from rfl, i_le (by omega) (by omega)]
      refine ⟨fun h4 => ⟨fun hh => absurd rfl hh, fun _ => ?_⟩, fun h4 => ?_⟩
      · rw [if_neg (by omega), if_pos rfl] at K
        exact ⟨⟨_, em⟩, t_onConnection (d := d + 7) Z hm hx hc hE K⟩
      · rw [if_pos (by omega)] at K
        exact t_opHard (b := b) (d := d) Z (by omega) hm hx hc K
  · rw [if_pos h8] at K
    refine ⟨fun hh => absurd rfl hh, fun _ => e_I em fun (z1 : gI h x0 30 = Int32.ofNat (r_head ty bs).2.2.1.length) => ?_⟩
    rw [z1, head_1, show (0 : Int32) = Int32.ofNat 0 from rfl, i_le (by omega) (by omega)]
    refine ⟨fun h0 => ?_, fun h0 => ?_⟩
    · have e0 : bs = [] := List.eq_nil_of_length_eq_zero (by omega)
      rw [if_neg (fun hh => hh.elim (fun q => q rfl) fun q => q e0)] at K
      exact K _ g h (Z.le (by omega)) tWm.refl (gL.refl g)
    · rw [if_pos (Or.inr (fun e => h0 (by rw [e]; exact Nat.le_refl 0)))] at K
      exact b_X8_onOpen_125 (t_opHard (b := b) (d := d) Z (by omega) hm hx hc K)
/-- a frame for a channel -/
theorem t_op_108h {chan : Int32} (hchan : chan = Int32.ofNat k) (hk : 1 ≤ k ∧ k ≤ 3) (hj4 : j = 4 * c + k) (J : tJs s0 F) (Z : tZ s0 F (b + oA bs.length + 12 * bs.length + 950 * (s.ch j).kept.length + tY s) s (dr, sz, (r_head ty bs).2.2, (r_head ty bs).1, (r_head ty bs).2.1, u) g h) (hm : g.kind x0 = (1, 0)) (hx : g.kind x1 = (2, c)) (hc : c < 4) (h4 : g.kind x4 = (3, j)) (hE : gB g (zst s0 "RelayHallModel" "EMPTY" "[B") []) (B : sFrm s) (hcd : ∀ h, u.2.2 h = 0) (hty : ty = 1 ∨ ty = 2 ∨ ty = 3 ∨ ty = 8) (hs2 : ¬ (s.ch j).state = 2)
    (K : ∀ w1 g1 h1, tZ s0 F (b + 950 + s_k0 s c ty chan bs + tY (s_onOpen s c ty chan bs)) (s_onOpen s c ty chan bs) w1 g1 h1 → tWm (dr, sz, (r_head ty bs).2.2, (r_head ty bs).1, (r_head ty bs).2.1, u) w1 → gL g g1 → Q .null h1) :
    zP s0 m_X8_onOpen (d + 85) 108 [some (zr x0), some (zr x1), some (.int ty), some (.int chan), some (zr x4)] [] h Q E := by
  have hA := oA_lo (n := bs.length)
  have em := Z.r.main hm
  have ex := Z.r.1.cell h4 (by decide)
  have hj : isH j := by rw [hj4]; exact isH.of hc hk.1 hk.2
  have hjd : j / 4 = c := by omega
  obtain ⟨B1, B2, B3⟩ := B j hj
  have hx0 : x4 ≠ 0 := Z.r.1.pos h4 (by decide)
  have hl : bs.length ≤ 400 := by
    have := Z.r.2.frame.1.le
    rw [vB_len] at this
    have e : (r_head ty bs).2.2.1 = bs := head_1
    have this : (r_head ty bs).2.2.1.length ≤ 400 := this
    rwa [e] at this
  have hn0 : ¬ chan = 0 := by
    rw [hchan, show (0 : Int32) = Int32.ofNat 0 from rfl, i_inj (by omega) (by omega)]
    omega
  have hn3 : ¬ 3 < chan := by
    rw [hchan, show (3 : Int32) = Int32.ofNat 3 from rfl, Int32.not_lt, i_le (by omega) (by omega)]
    exact hk.2
  have hjk : 4 * c + chan.toNatClampNeg = j := by rw [hchan, i_nat (by omega)]; exact hj4.symm
  have hk1 : s_k0 s c ty chan bs ≤ 950 * (s.ch j).kept.length := by
    unfold s_k0
    split
    · exact Nat.zero_le _
    · rw [hjk]
      exact Nat.le_refl _
  have hk2 : ty = 1 → (r_head ty bs).1 = 90 → (r_head ty bs).2.1 = 20 → s_k0 s c ty chan bs = 0 := fun a1 a2 a3 => by
    unfold s_k0
    exact if_pos (Or.inr (Or.inr ⟨a1, a2, a3⟩))
  unfold s_onOpen at K
  dsimp only at K
  rw [hjk, if_neg hn3, if_neg (fun hh => hs2 hh.2)] at K
  generalize s_k0 s c ty chan bs = k0 at K hk1 hk2
  have Zh : tZ s0 F (b + 950 + k0 + 900 + tY s) s (dr, sz, (r_head ty bs).2.2, (r_head ty bs).1, (r_head ty bs).2.1, u) g h := Z.le (by omega)
  have hdue := (Z.i.tx.ch j hj).2.2.2.2.1
  have hdc := (Z.i.tx.ch j hj).2.2.2.2.2.1
  refine b_X8_onOpen_108 ⟨fun h8 => ?_, fun h8 => ?_⟩
  · rw [if_neg h8] at K
    refine ⟨fun h1 => ⟨fun hh => absurd hh hx0, fun _ => e_I ex fun (z1 : gI h x4 2 = (s.ch j).state) => ?_⟩, fun h1 => ?_⟩
    · rw [if_neg h1] at K
      rw [z1]
      refine ⟨fun hs0 => e_I ex fun (z2 : gI h x4 12 = (s.ch j).due) => ?_, fun hs0 => ?_⟩
      · rw [if_neg (fun hh => hh.elim hn0 hs0)] at K
        rw [z2]
        have hjunk := B3 hs0
        refine ⟨fun hd => ?_, fun hd => ?_⟩
        · rw [if_neg (fun hh => hh hd)] at K
          have hdn : (s.ch j).cont ≠ none := fun e => by
            have e0 := hdc.mpr e
            rw [e0] at hd
            subst hd
            rcases hty with e | e | e | e <;> exact absurd e (by decide)
          obtain ⟨ct, hct⟩ := Option.ne_none_iff_exists'.mp hdn
          have hh := head_n (bs := bs) h1
          rw [hh] at K Z
          refine ⟨fun h2 => ?_, fun h2 => ?_⟩
          · rw [if_neg h2] at K
            have h3 : ty = 3 := by
              rcases hty with e | e | e | e
              · exact absurd e h1
              · exact absurd e h2
              · exact e
              · exact absurd e h8
            have K : ∀ w1 g1 h1, tZ s0 F (b + 950 + k0 + tY (s_told (j / 4) j (s_body s j bs))) (s_told (j / 4) j (s_body s j bs)) w1 g1 h1 → tWm (dr, sz, (bs, 0, false), 0, 0, u) w1 → gL g g1 → Q .null h1 := by rw [hjd]; exact K
            exact ⟨⟨_, em⟩, t_body (d := d + 2) (b := b + 950 + k0) J (Z.le (by omega)) hm h4 hj hcd hjunk hct (hd.trans h3) K⟩
          · rw [if_pos h2] at K
            have K : ∀ w1 g1 h1, tZ s0 F (b + 950 + k0 + tY (s_told (j / 4) j (s_header s j (bs, 0, false)))) (s_told (j / 4) j (s_header s j (bs, 0, false))) w1 g1 h1 → tWm (dr, sz, (bs, 0, false), 0, 0, u) w1 → gL g g1 → Q .null h1 := by rw [hjd]; exact K
            have hr : rRem ((0, 0, (bs, 0, false)) : Int32 × Int32 × sRd).2.2 ≤ bs.length := rRem_len
            exact ⟨⟨_, em⟩, t_header (d := d + 2) (b := b + 950 + k0) J (Z.le (by omega)) hm h4 hj hcd hjunk hct (hd.trans h2) hE K⟩
        · rw [if_pos hd] at K
          exact t_opHard (b := b + 950 + k0) (d := d) Z (by omega) hm hx hc K
      · rw [if_pos (Or.inr hs0)] at K
        exact b_X8_onOpen_200 (t_opHard (b := b + 950 + k0) (d := d) Z (by omega) hm hx hc K)
    · rw [if_pos h1] at K
      refine e_I em fun (z1 : gI h x0 30 = Int32.ofNat (r_head ty bs).2.2.1.length) => ?_
      rw [z1, head_1, show (4 : Int32) = Int32.ofNat 4 from rfl, i_le (by omega) (by omega)]
      refine ⟨fun hl4 => ⟨fun _ => ?_, fun hh => absurd hh hx0⟩, fun hl4 => ?_⟩
      · rw [if_neg (by omega), if_neg hn0] at K
        have hr : rRem (r_head ty bs).2.2 ≤ bs.length := by
          have := rRem_len (r := (r_head ty bs).2.2)
          rwa [head_1] at this
        have hst : (s.ch j).state = 0 ∨ (s.ch j).state = 1 := B2.elim Or.inl fun q => q.elim Or.inr fun q => absurd q hs2
        have hk2 := hk2 h1
        have hA4 := oA_4 hl4
        have hrA : rA (r_head ty bs).2.2 ≤ oA bs.length := by
          have hh := head_at (bs := bs) h1 hl4
          unfold rA
          split
          · rename_i h5
            have h5 : 5 ≤ (r_head ty bs).2.2.1.length - (r_head ty bs).2.2.2.1 := h5
            rw [head_1] at h5
            rw [oA_9 (by omega)]
            exact Nat.le_refl _
          · exact hA4
        generalize r_head ty bs = hd at *
        have K : ∀ w1 g1 h1, tZ s0 F (b + 950 + k0 + tY (s_tld j hd.1 hd.2.1 (s_onChannel s j hd.1 hd.2.1 hd.2.2))) (s_tld j hd.1 hd.2.1 (s_onChannel s j hd.1 hd.2.1 hd.2.2)) w1 g1 h1 → tWm (dr, sz, hd.2.2, hd.1, hd.2.1, u) w1 → gL g g1 → Q .null h1 := by unfold s_tld; rw [hjd]; exact K
        exact ⟨⟨_, em⟩, t_onChannel (d := d) (k0 := k0) (b := b) hk2 hk1 J (Z.le (by omega)) hm (by rw [hjd]; exact hx) h4 hj hE B1 hst hcd K⟩
      · rw [if_pos (by omega)] at K
        exact t_opHard (b := b + 950 + k0) (d := d) Z (by omega) hm hx hc K
  · rw [if_pos h8, if_pos (Or.inl hn0)] at K
    exact ⟨fun _ => b_X8_onOpen_125 (t_opHard (b := b + 950 + k0) (d := d) Z (by omega) hm hx hc K), fun hh => absurd hh hn0⟩
/-- a frame for a channel that is closing -/
theorem t_op_80 {B : Nat} {chan : Int32} (Z : tZ s0 F B s (dr, sz, rd, cl, me, u) g h) (hB : b + 900 + tY s ≤ B) (hm : g.kind x0 = (1, 0)) (hx : g.kind x1 = (2, c)) (hc : c < 4) (h4 : g.kind x4 = (3, j)) (hj : isH j)
    (K : ∀ w1 g1 h1, tZ s0 F (b + tY (s_ch (if me = 40 then s_simple s c chan 20 41 else s) j (fun k => k.w_state 0))) (s_ch (if me = 40 then s_simple s c chan 20 41 else s) j (fun k => k.w_state 0)) w1 g1 h1 → tWm (dr, sz, rd, cl, me, u) w1 → gL g g1 → Q .null h1) :
    zP s0 m_X8_onOpen (d + 85) 80 [some (zr x0), some (zr x1), none, some (.int chan), some (zr x4)] [] h Q E := by
  have em := Z.r.main hm
  have hput : ∀ (B2 : Nat) (s2 : sSt) (w2 : tW) (g2 : sG) (h2 : zH), tZ s0 F B2 s2 w2 g2 h2 → b + tY s2 ≤ B2 → g2.kind x4 = (3, j) → (∀ h1, tZ s0 F (b + tY (s_ch s2 j (fun k => k.w_state 0))) (s_ch s2 j (fun k => k.w_state 0)) w2 g2 h1 → Q .null h1) → fC h2 x4 9 ∧ ∀ h3, h3 = zput h2 x4 2 (.int 0) → Q .null h3 := fun B2 s2 w2 g2 h2 Z2 hB2 hx2 K2 => by
    refine g_Ph Z2.r hx2 ((s2.ch j).w_state 0) rfl rfl (fun hok => hok) fun h3 R3 _ => ?_
    have R3 : tR s0 F (B2 + tP s2) (s_ch s2 j (fun k => k.w_state 0)) w2 g2 h3 := R3
    have Z3 := Z2.dn' (d_cs (h := j) (v := 0) Z2.i hj (by decide)) R3
    have hy : tY (s_ch s2 j (fun k => k.w_state 0)) = tY s2 := tY_ch
    exact K2 h3 (Z3.le (by omega))
  refine b_X8_onOpen_80 (e_I em fun (z1 : gI h x0 33 = me) => ?_)
  rw [z1]
  refine ⟨fun h40 => ?_, fun h40 => ⟨⟨_, em⟩, ?_⟩⟩
  · rw [if_neg h40] at K
    exact hput B s _ g h Z (by omega) h4 fun h1 Z1 => K _ g h1 Z1 tWm.refl (gL.refl g)
  · rw [if_pos h40] at K
    have hy := tY_simple (ch := chan) (k1 := 20) (me := 41) Z.i hc
    refine t_simple (d := d + 13) Z hm hx hc fun w2 g2 h2 Z2 W2 L2 => ?_
    have W2 := W2.tom
    generalize s_simple s c chan 20 41 = s2 at K hy Z2
    exact hput B s2 w2 g2 h2 Z2 (by omega) (L2.k h4 gSt3) fun h1 Z1 => K w2 g2 h1 Z1 W2 L2
theorem t_onOpen (J : tJs s0 F) (Z : tZ s0 F (b + oA bs.length + 12 * bs.length + s_kj s c chan + tY s) s (dr, sz, (r_head ty bs).2.2, (r_head ty bs).1, (r_head ty bs).2.1, u) g h) (hm : g.kind x0 = (1, 0)) (hx : g.kind x1 = (2, c)) (hc : c < 4) (hE : gB g (zst s0 "RelayHallModel" "EMPTY" "[B") []) (B : sFrm s) (hcd : ∀ h, u.2.2 h = 0) (hty : ty = 1 ∨ ty = 2 ∨ ty = 3 ∨ ty = 8) (h0 : 0 ≤ chan)
    (K : ∀ w1 g1 h1, tZ s0 F (b + 950 + s_k0 s c ty chan bs + tY (s_onOpen s c ty chan bs)) (s_onOpen s c ty chan bs) w1 g1 h1 → tWm (dr, sz, (r_head ty bs).2.2, (r_head ty bs).1, (r_head ty bs).2.1, u) w1 → gL g g1 → Q .null h1) :
    zX s0 m_X8_onOpen (d + 85) [zr x0, zr x1, .int ty, .int chan] h Q E := by
  have hA := oA_lo (n := bs.length)
  have em := Z.r.main hm
  have ex := Z.r.1.cell hx (by decide)
  refine c_X8_onOpen ⟨fun h3 => ⟨fun hn0 => ?_, fun e0 => ?_⟩, fun h3 => ?_⟩
  · have hk3 := Nat.le_trans (i_clamp (k := 3) (by decide) h3) (Nat.le_refl 3)
    have hck : chan = Int32.ofNat chan.toNatClampNeg := (i_of h0).symm
    have hk1 : 1 ≤ chan.toNatClampNeg := by
      refine Nat.pos_of_ne_zero fun e => hn0 ?_
      rw [hck, e]
      rfl
    have K0 := K
    generalize hkk : chan.toNatClampNeg = k at hck hk3 hk1
    have hj : isH (4 * c + k) := isH.of hc hk1 hk3
    have A := (Z.r.2.2.2.2.2.1 c hc).2.2
    obtain ⟨eA, hA⟩ := Z.r.arr (t := 19) A rfl (by decide) (by decide)
    refine e_R ex fun (z1 : gR h x1 12 = g.ref 27 c) => ?_
    rw [z1]
    have hget : (zr 0 :: [1, 2, 3].map (fun k => zr (g.ref 3 (4 * c + k))))[k]? = some (zr (g.ref 3 (4 * c + k))) := by
      have h3 : k = 1 ∨ k = 2 ∨ k = 3 := by omega
      rcases h3 with e | e | e <;> subst e <;> rfl
    rw [hck]
    refine g_ER (t := 19) eA (zin_of (by rw [A.2.1]; omega) (by omega)) (by rw [i_nat (by omega)]; exact pre_get A.2.2 hget) fun z2 => ?_
    rw [z2]
    have h4 : g.kind (g.ref 3 (4 * c + k)) = (3, 4 * c + k) := Z.r.2.1.2.2.2.2.1 _ hj
    have ex4 := Z.r.1.cell h4 (by decide)
    refine b_X8_onOpen_36 ⟨fun hh => absurd hh (Z.r.1.pos h4 (by decide)), fun _ => e_I ex4 fun (z3 : gI h (g.ref 3 (4 * c + k)) 2 = (s.ch (4 * c + k)).state) => ?_⟩
    rw [z3]
    have hKj : s_kj s c chan = 950 * (s.ch (4 * c + k)).kept.length := by
      unfold s_kj
      rw [if_neg (fun hh => hh.elim hn0 fun q => Int32.not_lt.mpr h3 q), hkk]
    refine ⟨fun hs2 => ?_, fun hs2 => e_I em fun (z4 : gI h x0 32 = (r_head ty bs).1) => ?_⟩
    · rw [hck] at K
      exact t_op_108h (d := d) (j := 4 * c + k) rfl ⟨hk1, hk3⟩ rfl J (Z.le (by omega)) hm hx hc h4 hE B hcd hty hs2 K
    · rw [z4]
      unfold s_onOpen at K
      dsimp only at K
      rw [hkk, if_neg (by rw [Int32.not_lt]; exact h3), if_pos ⟨hn0, hs2⟩] at K
      have hk0 : s_k0 s c ty chan bs ≤ 950 * (s.ch (4 * c + k)).kept.length := by
        unfold s_k0
        split
        · exact Nat.zero_le _
        · rw [hkk]
          exact Nat.le_refl _
      generalize s_k0 s c ty chan bs = k0 at K hk0
      rw [hck] at K
      refine ⟨fun h20 => ?_, fun h20 => e_I em fun (z5 : gI h x0 33 = (r_head ty bs).2.1) => ?_⟩
      · rw [if_pos (Or.inl h20)] at K
        exact K _ g h (Z.le (by omega)) tWm.refl (gL.refl g)
      · rw [z5]
        have h80 : ((r_head ty bs).2.1 = 40 ∨ (r_head ty bs).2.1 = 41) → zP s0 m_X8_onOpen (d + 84 + 1) 80 [some (zr x0), some (zr x1), none, some (.int (Int32.ofNat k)), some (zr (g.ref 3 (4 * c + k)))] [] h Q E := fun ho => by
          rw [if_neg (fun hh => hh.elim (fun q => q h20) fun q => ho.elim q.1 q.2)] at K
          exact t_op_80 (d := d) (b := b + 950 + k0) Z (by omega) hm hx hc h4 hj K
        refine ⟨fun e40 => h80 (Or.inl e40), fun n40 => e_I em fun _ => ?_⟩
        refine ⟨fun e41 => h80 (Or.inr e41), fun n41 => ?_⟩
        rw [if_pos (Or.inr ⟨n40, n41⟩)] at K
        exact K _ g h (Z.le (by omega)) tWm.refl (gL.refl g)
  · subst e0
    refine b_X8_onOpen_36 ⟨fun _ => ?_, fun hh => absurd rfl hh⟩
    have hk0 : s_k0 s c ty 0 bs = 0 := by
      unfold s_k0
      exact if_pos (Or.inl rfl)
    rw [hk0] at K
    exact t_op_108c (d := d) (b := b + 950 + 0) (Z.le (by omega)) hm hx hc hE K
  · have hk0 : s_k0 s c ty chan bs = 0 := by
      unfold s_k0
      exact if_pos (Or.inr (Or.inl (Int32.not_le.mp h3)))
    rw [hk0] at K
    unfold s_onOpen at K
    dsimp only at K
    rw [if_pos (Int32.not_le.mp h3)] at K
    refine e_I em fun (z1 : gI h x0 32 = (r_head ty bs).1) => e_I em fun (z2 : gI h x0 33 = (r_head ty bs).2.1) => ?_
    rw [z1, z2]
    exact t_opHard (b := b + 950 + 0) (d := d) Z (by omega) hm hx hc K
end NN
