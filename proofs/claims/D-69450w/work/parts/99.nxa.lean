/-! ===== the twin: one frame, taken and dealt with ===== -/
set_option maxRecDepth 100000
set_option maxHeartbeats 200000
section NS
variable {s0 : zE} {F : Nat → Option zC} {b : Nat} {s s' : sSt} {w w' : tW} {g g' : sG} {h h' hS hB : zH} {d x0 x1 a j n c m KK B : Nat} {Q : Value → zH → Prop} {E : Nat → zH → Prop} {dr : sBy} {sz cl me k ty chan : Int32} {rd : sRd} {u : Int32 × List Nat × (Nat → Nat)} {v : Int32 × Int32 × Int32 × List Nat × (Nat → Nat)} {bs inp inp2 nb rest left : sBy} {fs L L' : List Value} {t c1 c2 n1 n2 n3 n4 : UInt8}
theorem st_234 {x : Int32} (h0 : 0 ≤ x) (h6 : x ≤ 6) (n0 : x ≠ 0) (n1 : x ≠ 1) (n5 : x ≠ 5) (n6 : x ≠ 6) : x = 2 ∨ x = 3 ∨ x = 4 := by
  have e := i_of h0
  have hk := i_clamp (k := 6) (by decide) h6
  generalize x.toNatClampNeg = k at e hk
  subst e
  have hc : k = 0 ∨ k = 1 ∨ k = 2 ∨ k = 3 ∨ k = 4 ∨ k = 5 ∨ k = 6 := by omega
  rcases hc with e | e | e | e | e | e | e <;> subst e
  · exact absurd rfl n0
  · exact absurd rfl n1
  · exact Or.inl rfl
  · exact Or.inr (Or.inl rfl)
  · exact Or.inr (Or.inr rfl)
  · exact absurd rfl n5
  · exact absurd rfl n6
theorem zx_206 {y : UInt8} (h : zx y = 206) : y = 206 := by
  have H : ∀ p : Fin 256, zx (UInt8.ofBitVec (BitVec.ofFin p)) = 206 → UInt8.ofBitVec (BitVec.ofFin p) = 206 := by decide +kernel
  exact H y.toBitVec.toFin h
/-- behind a frame's head: the frame is dealt with -/
theorem t_tk_fr {b' : Nat} {s1 : sSt} (J : tJs s0 F) (hb : b' ≤ B) (Z : tZ s0 F (B + oA bs.length + 12 * bs.length + s_kj s1 c chan + tY s1) s1 (dr, sz, (r_head ty bs).2.2, (r_head ty bs).1, (r_head ty bs).2.1, u) g h) (hm : g.kind x0 = (1, 0)) (hx : g.kind x1 = (2, c)) (hc : c < 4) (hE : gB g (zst s0 "RelayHallModel" "EMPTY" "[B") []) (Fr : sFrm s1) (hcd : ∀ h, u.2.2 h = 0) (hty : ty = 1 ∨ ty = 2 ∨ ty = 3 ∨ ty = 8) (h0 : 0 ≤ chan)
    (hst : (s1.cn c).state ≠ 0 ∧ (s1.cn c).state ≠ 1) {S : sSt} (hS : S = if (s1.cn c).state = 5 then s_onOpen s1 c ty chan bs else if (s1.cn c).state = 6 then s_onClosing s1 c ty chan bs else s_onGreeted s1 c ty chan bs)
    (K : sI S → ∀ w1 g1 h1, tZ s0 F (b' + 950 + s_k9 s1 c ty chan bs + tY (s_disp S)) (s_disp S) w1 g1 h1 → tWm (dr, sz, rd, cl, me, u) w1 → gL g g1 → Q (.int 1) h1) :
    (fI h x1 [8] 1) ∧ ((¬ gI h x1 1 = 5 → ((fI h x1 [8] 1) ∧ ((¬ gI h x1 1 = 6 → ((fC h x0 7 ∧ zX s0 m_X8_onGreeted (d + 85) [zr x0, zr (x1), .int (ty), .int (chan)] h (fun _ h4 => ((fC h4 x0 7 ∧ zX s0 m_X8_dispatch (d + 85) [zr x0] h4 (fun _ h5 => (Q (.int 1) h5)) E))) E))) ∧ (gI h x1 1 = 6 → ((fC h x0 7 ∧ zX s0 m_X8_onClosing (d + 85) [zr x0, zr (x1), .int (chan)] h (fun _ h6 => ((fC h6 x0 7 ∧ zX s0 m_X8_dispatch (d + 85) [zr x0] h6 (fun _ h7 => (Q (.int 1) h7)) E))) E)))))) ∧ (gI h x1 1 = 5 → ((fC h x0 7 ∧ zX s0 m_X8_onOpen (d + 85) [zr x0, zr (x1), .int (ty), .int (chan)] h (fun _ h8 => ((fC h8 x0 7 ∧ zX s0 m_X8_dispatch (d + 85) [zr x0] h8 (fun _ h9 => (Q (.int 1) h9)) E))) E)))) := by
  have ex := Z.r.1.cell hx (by decide)
  have em := Z.r.main hm
  have hk0 := k9_le (s := s1) (c := c) (ty := ty) (chan := chan) (bs := bs)
  have hA := oA_lo (n := bs.length)
  have hd : ∀ (w2 : tW) (g2 : sG) (h2 : zH), tZ s0 F (b' + 950 + s_k9 s1 c ty chan bs + tY S) S w2 g2 h2 → tWm (dr, sz, rd, cl, me, u) w2 → gL g g2 → fC h2 x0 7 ∧ zX s0 m_X8_dispatch (d + 85) [zr x0] h2 (fun _ h5 => Q (.int 1) h5) E := fun w2 g2 h2 Z2 W2 L2 =>
    ⟨⟨_, Z2.r.main (L2.m hm)⟩, t_dispatch (d := d + 13) J Z2 (L2.m hm) fun w3 g3 h3 Z3 W3 L3 => K Z2.i w3 g3 h3 Z3 (W2.trans W3.tom) (L2.trans L3)⟩
  refine e_I ex fun (z1 : gI h x1 1 = (s1.cn c).state) => ?_
  rw [z1]
  refine ⟨fun n5 => e_I ex fun _ => ?_, fun e5 => ?_⟩
  · rw [if_neg n5] at hS
    refine ⟨fun n6 => ⟨⟨_, em⟩, ?_⟩, fun e6 => ⟨⟨_, em⟩, ?_⟩⟩
    · rw [if_neg n6] at hS
      subst hS
      have h6 := (Z.i.cp.cn c hc).2.2
      have hs : (s1.cn c).state = 2 ∨ (s1.cn c).state = 3 ∨ (s1.cn c).state = 4 := st_234 h6.1 h6.2 hst.1 hst.2 n5 n6
      exact t_onGreeted (d := d + 13) (b := b' + 950 + s_k9 s1 c ty chan bs) (st := (s1.cn c).state) (Z.le (by omega)) hm hx hc hE rfl hs fun w2 g2 h2 Z2 W2 L2 => hd w2 g2 h2 Z2 ⟨W2.1, W2.2⟩ L2
    · rw [if_pos e6] at hS
      subst hS
      exact t_onClosing (d := d + 13) (b := b' + 950 + s_k9 s1 c ty chan bs) (Z.le (by omega)) hm hx hc fun w2 g2 h2 Z2 W2 L2 => hd w2 g2 h2 Z2 ⟨W2.1, W2.2⟩ L2
  · rw [if_pos e5] at hS
    subst hS
    have e9 : s_k9 s1 c ty chan bs = s_k0 s1 c ty chan bs := if_pos e5
    rw [e9] at hd
    exact ⟨⟨_, em⟩, t_onOpen (d := d) (b := b') J (Z.le (by omega)) hm hx hc hE Fr hcd hty h0 fun w2 g2 h2 Z2 W2 L2 => hd w2 g2 h2 Z2 ⟨W2.1, W2.2⟩ L2⟩
/-- what is no frame -/
theorem t_tk_154 {N : Nat} (J : tJs s0 F) (Z : tZ s0 F N s w g h) (hN : b + 1800 + tY s ≤ N) (hm : g.kind x0 = (1, 0)) (hx : g.kind x1 = (2, c)) (hc : c < 4)
    (K : ∀ w1 g1 h1, tZ s0 F (b + tY (s_disp (s_noFrame (s_cn s c (fun k => k.w_inp [])) c))) (s_disp (s_noFrame (s_cn s c (fun k => k.w_inp [])) c)) w1 g1 h1 → tWm w w1 → gL g g1 → Q (.int 1) h1) :
    zP s0 m_X8_takesOne (d + 86) 154 [some (zr x0), some (zr x1), none, none, none, none, none] [] h Q E := by
  refine b_X8_takesOne_154 (g_Pcn Z.r hx ((s.cn c).w_inp []) rfl (Z.r.2.cn fun hc4 => ⟨⟨(Z.r.2.2.2.2.2.1 c hc4).1.1, (Z.r.2.2.2.2.2.1 c hc4).1.2.1, ⟨_, rfl⟩⟩, (Z.r.2.2.2.2.2.1 c hc4).2.1.2⟩) fun h1 R1 _ => ?_)
  have R1 : tR s0 F (N + tP s) (s_cn s c (fun k => k.w_inp [])) w g h1 := R1
  have D := d_inp (s := s) (inp2 := []) hc (by decide)
  have Z1 := Z.dn' D R1
  have hy := tY_cnD D
  generalize s_cn s c (fun k => k.w_inp []) = s1 at Z1 hy K
  exact ⟨⟨_, Z1.r.main hm⟩, t_noFrame (d := d + 8) (b := b) J (Z1.le (by omega)) hm hx hc K⟩
/-- the frame's bytes are there: it is taken -/
theorem t_tk_end {N b' : Nat} {cur : sBy} {pl : Nat} {pb : Bool} {gz : sG} {hz : zH} {wz : tW} (J : tJs s0 F) (Z : tZ s0 F N s wz gz hz) (hN : B + oA nb.length + 12 * nb.length + s_kj s c chan + tY s ≤ N) (hb : b' ≤ B) (R : tR s0 F (N + tP s) s (dr, sz, (cur, pl, pb), cl, me, u) g h) (hm : g.kind x0 = (1, 0)) (hx : g.kind x1 = (2, c)) (hc : c < 4) (hE : gB g (zst s0 "RelayHallModel" "EMPTY" "[B") []) (Fr : sFrm s) (hcd : ∀ h, u.2.2 h = 0) (hty : ty = 1 ∨ ty = 2 ∨ ty = 3 ∨ ty = 8) (h0 : 0 ≤ chan)
    (hst : (s.cn c).state ≠ 0 ∧ (s.cn c).state ≠ 1) (hnb : nb.length = n) (hn : n ≤ 400) (hpre : vB nb <+: g.ar 16 0) (hnl : 8 + n ≤ (s.cn c).inp.length) (hleft : (s.cn c).inp.drop (8 + n) = left)
    (K : sI (s_fr s c ty chan nb left) → ∀ w1 g1 h1, tZ s0 F (b' + 950 + s_k9 s c ty chan nb + tY (s_disp (s_fr s c ty chan nb left))) (s_disp (s_fr s c ty chan nb left)) w1 g1 h1 → tWm (dr, sz, rd, cl, me, u) w1 → gL g g1 → Q (.int 1) h1) :
    zP s0 m_X8_takesOne (d + 86) 169 [some (zr x0), some (zr x1), some (.int ty), some (.int chan), some (.int (Int32.ofNat n)), none, some (.int (Int32.ofNat n))] [] h Q E := by
  have A := (R.2.2.2.2.2.1 c hc).1
  obtain ⟨eA, hA⟩ := R.arr (t := 0) A rfl (by decide) (by decide)
  have hle := A.le
  rw [vB_len] at hle
  have A6 := R.2.frame.1
  have em := R.main hm
  have hne : x1 ≠ g.ref 25 c := kne hx A.1 fun e => absurd (congrArg Prod.fst e) (by show ¬ (2 : Nat) = 25; decide)
  have hne0 : x0 ≠ g.ref 25 c := kne hm A.1 fun e => absurd (congrArg Prod.fst e) (by show ¬ (1 : Nat) = 25; decide)
  have hne1 : x0 ≠ x1 := kne hm hx fun e => absurd (congrArg Prod.fst e) (by show ¬ (1 : Nat) = 2; decide)
  refine b_X8_takesOne_169 ⟨fun _ => g_C em ?_, fun hh => absurd (Int32.le_refl _) hh⟩
  rintro h1 rfl
  have em1 := zput_self (k := 30) (v := .int (Int32.ofNat n)) em
  refine ⟨⟨_, em1⟩, ?_⟩
  rw [show (8 : Int32) = Int32.ofNat 8 from rfl, i_add]
  refine l_drop (inp := (s.cn c).inp) (m := (s.cn c).inp.length) hne (by rw [zput_ne hne1.symm]; exact R.1.cell hx (by decide)) rfl rfl rfl hnl hle (by rw [zput_ne hne0.symm]; exact eA) hA A.2.1 A.2.2 fun h2 L2 f2 fo f1 fa fl fp => ?_
  have em2 : h2.1 x0 = some (7, (tMain s (dr, sz, (cur, pl, pb), cl, me, u) g).set 30 (.int (Int32.ofNat n))) := by rw [fo x0 hne1 hne0]; exact em1
  refine ⟨⟨_, em2⟩, ?_⟩
  rw [hleft] at fp
  have RB : tR s0 F (N + tP s) (s.w_cn (sUp s.cn c ((s.cn c).w_inp left))) (dr, sz, (nb, 0, false), cl, me, u) (gSet g 25 c L2) (zput (zput h2 x0 31 (.int 0)) x0 34 (.int 0)) := by
    refine R.dropG hm hx ⟨rfl, rfl, rfl, rfl, rfl, rfl, rfl, rfl, rfl⟩ ⟨⟨A6.1, A6.2.1, hpre⟩, Nat.zero_le _⟩ rfl rfl rfl ?_ (fun r r0 r1 r2 => ?_) ?_ ?_ ?_ fl fp hc
    · exact f2
    · rw [zput_ne r0, zput_ne r0, fo r r1 r2, zput_ne r0]
    · rw [zput_self (zput_self em2), ← hnb]
      rfl
    · rw [zput_ne hne1.symm, zput_ne hne1.symm, f1, ← List.length_drop, hleft]
      rfl
    · rw [zput_ne hne0.symm, zput_ne hne0.symm]
      exact fa
  have L9 : gL g (gSet g 25 c L2) := gL.set
  refine t_readHeadH (d := d + 83) em2 RB (L9.m hm) fun h3 R3 => ?_
  have hll : left.length ≤ 828 := by
    have := (Z.i.cp.cn c hc).1
    rw [← hleft, List.length_drop]
    omega
  have D := d_inp (s := s) (inp2 := left) hc hll
  have R3 : tR s0 F (N + tP s) (s_cn s c (fun k => k.w_inp left)) (dr, sz, (r_head ty nb).2.2, (r_head ty nb).1, (r_head ty nb).2.1, u) (gSet g 25 c L2) h3 := R3
  have Z3 := Z.dn' D R3
  have hy := tY_cnD D
  have hst3 : ((s_cn s c (fun k => k.w_inp left)).cn c).state = (s.cn c).state := by
    show (sUp s.cn c _ c).state = _
    rw [sUp_self]
    rfl
  have hj3 : s_kj (s_cn s c (fun k => k.w_inp left)) c chan = s_kj s c chan := rfl
  have Fr3 : sFrm (s_cn s c (fun k => k.w_inp left)) := Fr
  have hk3 : s_k9 (s_cn s c (fun k => k.w_inp left)) c ty chan nb = s_k9 s c ty chan nb := by
    unfold s_k9 s_k0
    rw [hst3, hj3, show (s_cn s c fun k => k.w_inp left).ch = s.ch from rfl]
  have hS : s_fr s c ty chan nb left = s_fr s c ty chan nb left := rfl
  conv at hS => rhs; unfold s_fr; dsimp only
  rw [← hk3] at K
  generalize s_fr s c ty chan nb left = S at hS K
  generalize s_cn s c (fun k => k.w_inp left) = s3 at Z3 hy hst3 hj3 Fr3 hS K
  exact t_tk_fr (d := d) (B := B) (b' := b') (rd := rd) (cl := cl) (me := me) J hb (Z3.le (by omega)) (L9.m hm) (L9.k hx gSt2) hc (L9.B hE) Fr3 hcd hty h0 (by rw [hst3]; exact hst) hS fun i4 w4 g4 h4 Z4 W4 L4 => K i4 w4 g4 h4 Z4 W4 (L9.trans L4)
theorem t_takesOne (J : tJs s0 F) (Z : tZ s0 F (b + 300 * (s.cn c).inp.length + tK s + tY s) s w g h) (hm : g.kind x0 = (1, 0)) (hx : g.kind x1 = (2, c)) (hc : c < 4) (hE : gB g (zst s0 "RelayHallModel" "EMPTY" "[B") []) (hG : gB g (zst s0 "RelayHallModel" "GREETS" "[B") s_greets) (V : sVV n s) (hn5 : n < 50000) (hcd : ∀ h, w.cd h = 0) (hst : (s.cn c).state ≠ 0)
    (K0 : s_takes s c = none → Q (.int 0) h)
    (K1 : ∀ S, s_takes s c = some S → sVV (n + 1) S → 300 * (S.cn c).inp.length + tK S ≤ s_left s c → ((S.cn c).inp.length + 7 ≤ (s.cn c).inp.length) → (∀ p, (S.cn p).inp.length ≤ (s.cn p).inp.length) → S.tape = s.tape → ∀ w1 g1 h1, tZ s0 F (b + s_left s c + tY S) S w1 g1 h1 → tWm w w1 → gL g g1 → Q (.int 1) h1) : zX s0 m_X8_takesOne (d + 86) [zr x0, zr x1] h Q E := by
  obtain ⟨dr, sz, rd, cl, me, u⟩ := w
  have Fr := VV_frm V Z.i (by omega)
  have ex := Z.r.1.cell hx (by decide)
  have hlen := (Z.i.cp.cn c hc).1
  have A := (Z.r.2.2.2.2.2.1 c hc).1
  obtain ⟨eA, hA⟩ := Z.r.arr (t := 0) A rfl (by decide) (by decide)
  refine c_X8_takesOne (e_I ex fun (z1 : gI h x1 1 = (s.cn c).state) => ?_)
  rw [z1]
  refine ⟨fun hn1 => e_I ex fun (z2 : gI h x1 3 = Int32.ofNat (s.cn c).inp.length) => ?_, fun h1 => e_I ex fun (z2 : gI h x1 3 = Int32.ofNat (s.cn c).inp.length) => ?_⟩
  · rw [z2, show (7 : Int32) = Int32.ofNat 7 from rfl, i_le (by omega) (by omega)]
    refine ⟨fun h7 => ?_, fun h7 => K0 (takes_nil hn1 (by omega))⟩
    obtain ⟨t, c1, c2, n1, n2, n3, n4, rest, e⟩ := split7 h7
    have ht := takes_eq hn1 e
    have hlf := left_eq hn1 e
    have hget : ∀ j y, (t :: c1 :: c2 :: n1 :: n2 :: n3 :: n4 :: rest)[j]? = some y → (g.ar 25 c)[j]? = some (Value.int (sx y)) := fun j y hy => pre_get A.2.2 (vB_get (by rw [e]; exact hy))
    have hrl : (s.cn c).inp.length = rest.length + 7 := by rw [e]; rfl
    refine e_R ex fun (z3 : gR h x1 10 = g.ref 25 c) => ?_
    rw [z3]
    refine g_EI (t := 0) eA (zin_of (j := 0) (by rw [A.2.1]; omega) (by omega)) (by rw [show (0 : Int32).toNatClampNeg = 0 from by decide]; exact hget 0 t rfl) fun z4 => e_R ex fun _ => ?_
    rw [z4, sx_and]
    refine t_word2 (f := 1) (y0 := c1) (y1 := c2) eA (by rw [A.2.1]; omega) (by rw [A.2.1]; omega) (hget 1 _ rfl) (hget 2 _ rfl) ⟨_, rfl, e_R ex fun _ => ?_⟩
    rw [z3]
    refine t_word4 (f := 3) (y0 := n1) (y1 := n2) (y2 := n3) (y3 := n4) eA (by rw [A.2.1]; omega) (by rw [A.2.1]; omega) (hget 3 _ rfl) (hget 4 _ rfl) (hget 5 _ rfl) (hget 6 _ rfl) ⟨_, rfl, ?_⟩
    obtain ⟨nc, hnc, ech⟩ := u16_rng (y := c1) (z := c2)
    have hch : 0 ≤ u_16 c1 c2 := by rw [ech]; exact i_nn' (by omega)
    have hK1 := fun S hS => K1 S (ht.trans hS)
    have hin := Z.i
    have hK0 := fun hS => K0 (ht.trans hS)
    rw [hlf] at hK1
    clear K0 K1 ht hlf
    generalize u_32 n1 n2 n3 n4 = nz at *
    generalize u_16 c1 c2 = chan at *
    generalize zx t = ty at *
    have h154 : (¬ oGood ty nz ∨ (oGood ty nz ∧ ¬ rest.length < nz.toNatClampNeg + 1 ∧ rest[nz.toNatClampNeg]? ≠ some 206)) → zP s0 m_X8_takesOne (d + 85 + 1) 154 [some (zr x0), some (zr x1), none, none, none, none, none] [] h Q E := fun hb => by
      have hb1 : ¬ (oGood ty nz ∧ rest.length < nz.toNatClampNeg + 1) := fun hh => hb.elim (fun q => q hh.1) fun q => q.2.1 hh.2
      have hb2 : ¬ oGood ty nz ∨ rest[nz.toNatClampNeg]? ≠ some 206 := hb.imp id fun q => q.2.2
      rw [if_neg hb1, if_pos hb2, if_pos hb2] at hK1
      have E5 : sE s (s_cn s c (fun k => k.w_inp [])) := e_cnUp fun _ => Nat.zero_le _
      have i5 : ((s_cn s c (fun k => k.w_inp [])).cn c).inp.length = 0 := by
        show (sUp s.cn c _ c).inp.length = 0
        rw [sUp_self]
        rfl
      have I5 := (d_inp (s := s) (inp2 := []) hc (by decide)).1 hin
      have D5 := DR_disp (p_noFrame I5 hc) ((V.eE (E5.trans E_noFrame)).mono (Nat.le_succ n) (by omega))
      have t5 := D5.tK
      have t6 := tK_e (E5.trans (E_noFrame (c := c)))
      have l5 := (D5.2.2.2 c).1
      have l6 := (E_noFrame (s := s_cn s c (fun k => k.w_inp [])) (c := c)).2.2.2.2.2.2.2.2 c
      exact t_tk_154 (d := d) (b := b + tK s) J Z (by omega) hm hx hc (hK1 _ rfl D5.2.1 (by omega) (by omega) (fun p => Nat.le_trans (D5.2.2.2 p).1 ((E5.trans (E_noFrame (c := c))).2.2.2.2.2.2.2.2 p)) ((D5.2.2.2 c).2.trans (E5.trans (E_noFrame (c := c))).2.2.1.2))
    have h103 : ¬ oGood ty nz → zP s0 m_X8_takesOne (d + 85 + 1) 103 [some (zr x0), some (zr x1), some (.int ty), some (.int chan), some (.int nz), none, none] [] h Q E := fun hb =>
      b_X8_takesOne_103 (b_X8_takesOne_108 ⟨fun _ => b_X8_takesOne_129 ⟨fun _ => h154 (Or.inl hb), fun hh => absurd hh (by decide)⟩, fun hh => absurd hh (by decide)⟩)
    have h108 : oGood ty nz → zP s0 m_X8_takesOne (d + 85 + 1) 108 [some (zr x0), some (zr x1), some (.int ty), some (.int chan), some (.int nz), none, none] [.int 0] h Q E := fun hg => by
      have en : nz = Int32.ofNat nz.toNatClampNeg := (i_of hg.2.1).symm
      have hn4 : nz.toNatClampNeg ≤ 400 := i_clamp (k := 400) (by decide) hg.2.2
      generalize hnn : nz.toNatClampNeg = nn at *
      subst en
      refine b_X8_takesOne_108 ⟨fun hh => absurd rfl hh, fun _ => e_I ex fun _ => ?_⟩
      rw [z2, show (8 : Int32) = Int32.ofNat 8 from rfl, i_add, i_le (by omega) (by omega)]
      refine ⟨fun hfit => ?_, fun hfit => hK0 (if_pos ⟨hg, by omega⟩)⟩
      have hb1 : ¬ (oGood ty (Int32.ofNat nn) ∧ rest.length < nn + 1) := fun hh => by omega
      rw [if_neg hb1] at hK1
      obtain ⟨y, hy⟩ : ∃ y, rest[nn]? = some y := ⟨_, List.getElem?_eq_getElem (by omega)⟩
      refine b_X8_takesOne_129 ⟨fun hh => absurd rfl hh, fun _ => e_R ex fun _ => ?_⟩
      rw [z3, show (7 : Int32) = Int32.ofNat 7 from rfl, i_add]
      refine g_EI (t := 0) eA (zin_of (by rw [A.2.1]; omega) (by omega)) (by rw [i_nat (by omega)]; exact hget (7 + nn) y (by rw [get7]; exact hy)) fun z5 => ?_
      rw [z5, sx_and]
      refine ⟨fun h206 => ?_, fun h206 => h154 (Or.inr ⟨hg, by omega, fun hh => h206 (by rw [hy] at hh; rw [Option.some.inj hh]; rfl)⟩)⟩
      have ey : y = 206 := zx_206 h206
      subst ey
      have hb2 : ¬ (¬ oGood ty (Int32.ofNat nn) ∨ rest[nn]? ≠ some 206) := fun hh => hh.elim (fun q => q hg) fun q => q hy
      rw [if_neg hb2, if_neg hb2] at hK1
      have htl : (rest.take nn).length = nn := by rw [List.length_take]; omega
      refine t_tk_169 (c := c) (n := nn) (nb := rest.take nn) (g := g) (rd := rd) hx hc hm hn4 htl (fun j hj => ?_) (fun cur g1 h1 R1 L1 _ hp1 hk1 => ?_) nn 0 rd.1 g h (by omega) rfl Z.r (gL.refl g) rfl (fun j hj => absurd hj (by omega))
      · rw [e, get7, List.getElem?_take, if_pos hj]
      · have hoA := oA_300 (n := nn)
        have hkj := kj_le (s := s) (chan := chan) hc hch
        refine t_tk_end (d := d) (B := b + (300 * (rest.length - (nn + 1)) + (tK s - s_kj s c chan))) (b' := b + (300 * (rest.length - (nn + 1)) + (tK s - s_kj s c chan))) (rd := rd) (left := rest.drop (nn + 1)) J Z ?_ (Nat.le_refl _) R1 (L1.m hm) (L1.k hx gSt2) hc (L1.B hE) Fr hcd hg.1 hch ⟨hst, hn1⟩ htl hn4 hp1 (by omega) (by rw [e]; exact drop7 nn) fun i4 w4 g4 h4 Z4 W4 L4 => ?_
        · rw [htl]
          omega
        · obtain ⟨v1, v2, v3, v4, v5⟩ := V_fr (bs := rest.take nn) (left := rest.drop (nn + 1)) V hin hc hst hn5 hch hg.1 (by rw [List.length_drop]; omega)
          have D5 := DR_disp i4 v1
          have t5 := D5.tK
          have l5 := (D5.2.2.2 c).1
          have l6 : (rest.drop (nn + 1)).length = rest.length - (nn + 1) := List.length_drop
          have hK1 := hK1 _ rfl D5.2.1 (by omega) (by omega) (fun p => by
            by_cases hp : p = c
            · subst hp
              omega
            · exact Nat.le_trans (D5.2.2.2 p).1 (v4 p hp)) ((D5.2.2.2 c).2.trans v5)
          exact hK1 w4 g4 h4 (Z4.le (by omega)) W4 (L1.trans L4)
    have h90 : (ty = 1 ∨ ty = 2 ∨ ty = 3 ∨ ty = 8) → zP s0 m_X8_takesOne (d + 85 + 1) 90 [some (zr x0), some (zr x1), some (.int ty), some (.int chan), some (.int nz), none, none] [] h Q E := fun hty =>
      b_X8_takesOne_90 ⟨fun hneg => h103 fun hh => absurd hh.2.1 (Int32.not_le.mpr hneg), fun hneg => ⟨fun h4 => h108 ⟨hty, Int32.not_lt.mp hneg, h4⟩, fun h4 => h103 fun hh => h4 hh.2.2⟩⟩
    exact ⟨fun e1 => h90 (Or.inl e1), fun e1 => ⟨fun e2 => h90 (Or.inr (Or.inl e2)), fun e2 => ⟨fun e3 => h90 (Or.inr (Or.inr (Or.inl e3))), fun e3 => ⟨fun e8 => h103 fun hh => hh.1.elim e1 fun q => q.elim e2 fun q => q.elim e3 e8, fun e8 => h90 (Or.inr (Or.inr (Or.inr e8)))⟩⟩⟩⟩
  · rw [z2, show (8 : Int32) = Int32.ofNat 8 from rfl, i_le (by omega) (by omega)]
    have ht := takes_1 h1
    refine ⟨fun h8 => ⟨⟨_, Z.r.main hm⟩, ?_⟩, fun h8 => K0 (ht.trans (if_pos (by omega)))⟩
    have K1 := K1 _ (ht.trans (if_neg (by omega)))
    rw [left_1 h1] at K1
    obtain ⟨G1, G2⟩ := E_greet (s := s) (c := c)
    have g3 := tK_e G1
    have K1 := K1 ((V.eE G1).mono (Nat.le_succ n) (by omega)) (by omega) (by omega) (fun p => G1.2.2.2.2.2.2.2.2 p) G1.2.2.1.2
    exact t_greet (d := d + 13) (b := b + (300 * ((s.cn c).inp.length - 8) + tK s)) (Z.le (by omega)) hm hx hc h8 h1 hG K1
end NS
