/-! ===== the twin: the calls for bytes and connections ===== -/
set_option maxRecDepth 100000
set_option maxHeartbeats 200000
/-- bytes that are typed or came and are not taken in -/
def sPend (s : sSt) : Nat := s.tape.length + ((List.range 4).map (fun c => (s.cn c).inp.length)).sum
/-- what those, and what is kept, may cost -/
def tV (s : sSt) : Nat := 300 * sPend s + tK s
section NZ
variable {s0 : zE} {F : Nat → Option zC} {b : Nat} {s s' S : sSt} {w w' : tW} {g g' g0 : sG} {h h' : zH} {d x0 x1 n m c i : Nat} {x : Int32} {Q : Value → zH → Prop} {E : Nat → zH → Prop} {dr : sBy} {sz cl me thr : Int32} {rd : sRd} {u : List Nat × (Nat → Nat)}
theorem t_isC (K : Q (.int (sB (s_isC x))) h) : zX s0 m_X8_isConnection d [.int x] h Q E := by
  unfold s_isC at K
  refine c_X8_isConnection ⟨fun h0 => ?_, fun h0 => ⟨fun h4 => ?_, fun h4 => ?_⟩⟩
  · rw [decide_eq_false (Int32.not_le.mpr h0), Bool.false_and] at K
    exact K
  · rw [decide_eq_false (Int32.not_lt.mpr h4), Bool.and_false] at K
    exact K
  · rw [decide_eq_true (Int32.not_lt.mp h0), decide_eq_true (Int32.not_le.mp h4)] at K
    exact K
theorem isC_of (hx : s_isC x = true) : ∃ c : Nat, c < 4 ∧ x = Int32.ofNat c ∧ x.toNatClampNeg = c := by
  unfold s_isC at hx
  rw [Bool.and_eq_true, decide_eq_true_eq, decide_eq_true_eq] at hx
  obtain ⟨h0, h4⟩ := hx
  have e := i_of h0
  have hl := Int32.toNatClampNeg_lt x
  refine ⟨x.toNatClampNeg, ?_, e.symm, rfl⟩
  rw [← e, show (4 : Int32) = Int32.ofNat 4 from rfl] at h4
  exact (i_lt (by omega) (by decide)).mp h4
/-- a connection's cell is looked up -/
theorem g_Con {P : Prop} (R : tR s0 F b s w g h) (hm : g.kind x0 = (1, 0)) (hc : c < 4) (K : eR h (gR h x0 0) (Int32.ofNat c) = g.ref 2 c → P) :
    fR h x0 [7] 0 ∧ fE h (gR h x0 0) 11 (Int32.ofNat c) (zr (eR h (gR h x0 0) (Int32.ofNat c))) ∧ P := by
  have A := R.2.2.1.1
  obtain ⟨eA, hA⟩ := R.arr (t := 11) A rfl (by decide) (by decide)
  refine e_R (R.main hm) fun (z1 : gR h x0 0 = g.ref 4 0) => ?_
  rw [z1] at K ⊢
  refine g_ER (t := 11) eA (zin_of (by rw [A.2.1]; exact hc) (by omega)) ?_ K
  rw [i_nat (by omega)]
  refine pre_get A.2.2 ?_
  have : (List.range 4)[c]? = some c := by rw [List.getElem?_range hc]
  rw [List.getElem?_map, this]
  rfl
/-- the kind of throw is set -/
theorem g_Thr {v : Int32} {P : zH → Prop} (Z : tZ s0 F b s (dr, sz, rd, cl, me, thr, u) g h) (hm : g.kind x0 = (1, 0)) (K : ∀ h1, tZ s0 F b s (dr, sz, rd, cl, me, v, u) g h1 → P h1) : fC h x0 7 ∧ ∀ h1, h1 = zput h x0 28 (.int v) → P h1 :=
  g_PM Z.r hm s (dr, sz, rd, cl, me, v, u) rfl Z.r.2 ⟨rfl, rfl, rfl, rfl, rfl, rfl, rfl, rfl, rfl⟩ fun h1 R1 _ => K h1 (Z.re R1)
theorem sum4 {f : Nat → Nat} : ((List.range 4).map f).sum = f 0 + f 1 + f 2 + f 3 := by
  show f 0 + (f 1 + (f 2 + (f 3 + 0))) = _
  omega
theorem pend_le (h : ∀ c, (s'.cn c).inp.length ≤ (s.cn c).inp.length) (ht : s'.tape = s.tape) : sPend s' ≤ sPend s := by
  unfold sPend
  rw [sum4, sum4, ht]
  have h0 := h 0
  have h1 := h 1
  have h2 := h 2
  have h3 := h 3
  omega
theorem pend_e (E : sE s s') : sPend s' ≤ sPend s := pend_le E.2.2.2.2.2.2.2.2 E.2.2.1.2
theorem disp_pend (D : sDR n s s') : sPend s' ≤ sPend s := pend_le (fun c => (D.2.2.2 c).1) (D.2.2.2 0).2
theorem tV_e (E : sE s s') : tV s' ≤ tV s := by
  have h1 := pend_e E
  have h2 := tK_e E
  unfold tV
  omega
theorem t_thrown (R : tR s0 F b s w g h) (hm : g.kind x0 = (1, 0)) (K : Q (.int w.thr) h) : zX s0 m_X8_thrown d [zr x0] h Q E := by
  refine c_X8_thrown (e_I (R.main hm) fun (z1 : gI h x0 28 = w.thr) => ?_)
  rw [z1]
  exact K
theorem t_waiting (Z : tZ s0 F b s w g h) (hm : g.kind x0 = (1, 0)) (K : ∀ h1, tZ s0 F b s (w.w_thr 0) g h1 → Q (.int (c_waiting s x)) h1) : zX s0 m_X8_waiting (d + 1) [zr x0, .int x] h Q E := by
  obtain ⟨dr, sz, rd, cl, me, thr, u⟩ := w
  unfold c_waiting at K
  refine c_X8_waiting (g_Thr Z hm fun h1 Z1 => t_isC ⟨_, rfl, ?_⟩)
  rw [sB_0]
  refine ⟨fun hf => ?_, fun ht => ?_⟩
  · rw [if_neg (by rw [hf]; decide)] at K
    try dsimp only at K
    exact K h1 Z1
  · rw [Bool.not_eq_false] at ht
    rw [if_pos ht] at K
    try dsimp only at K
    obtain ⟨c, hc, ec, en⟩ := isC_of ht
    rw [en] at K
    subst ec
    refine g_Con Z1.r hm hc fun z1 => ?_
    rw [z1]
    refine e_I (Z1.r.1.cell (Z1.r.cn hc) (by decide)) fun (z2 : gI h1 (g.ref 2 c) 5 = Int32.ofNat (s.cn c).out.length) => ?_
    rw [z2]
    exact K h1 Z1
theorem sPend_cn {f : sCn → sCn} (hc : c < 4) (H : (f (s.cn c)).inp.length ≤ (s.cn c).inp.length) : sPend (s_cn s c f) ≤ sPend s := by
  refine pend_e (e_cn fun p => ?_)
  by_cases e : p = c
  · subst e; rw [sUp_self]; exact H
  · rw [sUp_ne e]; exact Nat.le_refl _
/-- a connection that is closed greets: what it may cost -/
theorem tY_conn {f : sCn → sCn} (hc : c < 4) : tY (s_cn s c f) ≤ tY s + 900 := by
  have h1 : sLive (s_cn s c f) ≤ sLive s + 1 := by
    unfold sLive
    have H : ∀ l : List Nat, l.Nodup → (l.filter (fun p => !(((s_cn s c f).cn p).state == 0))).length ≤ (l.filter (fun p => !((s.cn p).state == 0))).length + 1 := fun l hl => by
      induction l with
      | nil => exact Nat.zero_le _
      | cons p l ih =>
        have hp := List.nodup_cons.mp hl
        by_cases e : p = c
        · subst e
          have hs : l.filter (fun q => !(((s_cn s p f).cn q).state == 0)) = l.filter (fun q => !((s.cn q).state == 0)) := List.filter_congr fun q hq => by
            have : (s_cn s p f).cn q = s.cn q := sUp_ne fun e => hp.1 (e ▸ hq)
            rw [this]
          rw [List.filter_cons, List.filter_cons, hs]
          split <;> split <;> first | omega | (simp only [List.length_cons]; omega)
        · have hs : (s_cn s c f).cn p = s.cn p := sUp_ne e
          have ih := ih hp.2
          rw [List.filter_cons, List.filter_cons, hs]
          split <;> first | omega | (simp only [List.length_cons]; omega)
    exact H _ List.nodup_range
  have h2 : sRdy (s_cn s c f) = sRdy s := rfl
  have h3 : (s_cn s c f).lastNum = s.lastNum := rfl
  unfold tY
  rw [h2, h3]
  omega
theorem t_cut (J : tJs s0 F) (Z : tZ s0 F (b + tV s + tY s) s w g h) (hm : g.kind x0 = (1, 0)) (V : sVV n s)
    (K : ∀ w1 g1 h1, tZ s0 F (b + tV (c_cut s x).2 + tY (c_cut s x).2) (c_cut s x).2 w1 g1 h1 → sVV n (c_cut s x).2 → sPend (c_cut s x).2 ≤ sPend s → tWm (w.w_thr 0) w1 → gL g g1 → Q (.int (c_cut s x).1) h1) : zX s0 m_X8_cut (d + 73) [zr x0, .int x] h Q E := by
  obtain ⟨dr, sz, rd, cl, me, thr, u⟩ := w
  unfold c_cut at K
  dsimp only at K
  refine c_X8_cut (g_Thr Z hm fun h1 Z1 => t_isC ⟨_, rfl, ?_⟩)
  rw [sB_0]
  refine ⟨fun hf => ?_, fun ht => ?_⟩
  · rw [if_pos (Or.inl (by rw [hf]; decide))] at K
    try dsimp only at K
    exact K _ g h1 Z1 V (Nat.le_refl _) tWm.refl (gL.refl g)
  · rw [Bool.not_eq_false] at ht
    obtain ⟨c, hc, ec, en⟩ := isC_of ht
    rw [en] at K
    subst ec
    refine g_Con Z1.r hm hc fun z1 => ?_
    rw [z1]
    refine e_I (Z1.r.1.cell (Z1.r.cn hc) (by decide)) fun (z2 : gI h1 (g.ref 2 c) 1 = (s.cn c).state) => ?_
    rw [z2]
    refine ⟨fun hn0 => ?_, fun h0 => ?_⟩
    · rw [if_neg (fun hh => hh.elim (fun q => q ht) hn0)] at K
      try dsimp only at K
      obtain ⟨u1, u2, -⟩ := g_Con Z1.r hm hc (P := True) (fun _ => trivial)
      rw [z1] at u2
      refine ⟨u1, u2, ?_⟩
      have hy := tY_close Z1.i hc
      have E2 := e_close (s := s) (c := c)
      refine ⟨⟨_, Z1.r.main hm⟩, t_close (d := d + 4) Z1 hm (Z1.r.cn hc) hc fun w2 g2 h2 Z2 W2 L2 => ?_⟩
      have W2m := W2.tom
      clear W2
      have hv := tV_e E2
      have V2 := V.eE E2
      have hp2 := pend_e E2
      generalize s_close s c = s2 at *
      have D := DR_disp Z2.i V2
      have hp3 : sPend (s_disp s2) ≤ sPend s2 := disp_pend D
      have hk := D.tK
      refine ⟨⟨_, Z2.r.main (L2.m hm)⟩, t_dispatch (d := d) (b := b + tV s) J (Z2.le (by omega)) (L2.m hm) fun w3 g3 h3 Z3 W3 L3 => K w3 g3 h3 (Z3.le ?_) D.2.1 (by omega) (W2m.trans W3.tom) (L2.trans L3)⟩
      unfold tV at hv ⊢
      omega
    · rw [if_pos (Or.inr h0)] at K
      try dsimp only at K
      exact K _ g h1 Z1 V (Nat.le_refl _) tWm.refl (gL.refl g)
theorem sUp_same {f : Nat → sCn} : sUp f c (f c) = f := funext fun j => by
  by_cases e : j = c
  · subst e; rw [sUp_self]
  · rw [sUp_ne e]
/-- a field of a connection that is written anew, one behind the other -/
theorem g_Pcs {P : zH → Prop} {kk : sCn} {j : Nat} {v : Value} (R : tR s0 F b (s.w_cn (sUp s.cn c kk)) w g h) (hn : g.kind x1 = (2, c)) (k' : sCn) (hv : tCn k' g c = (tCn kk g c).set j v) (hG : c < 4 → gAr g 25 c 900 (vB k'.inp) ∧ gRing (g.ar 26 c) k'.first k'.out)
    (K : ∀ h1, tR s0 F b (s.w_cn (sUp s.cn c k')) w g h1 → P h1) : fC h x1 8 ∧ ∀ h1, h1 = zput h x1 j v → P h1 := by
  have e : (s.w_cn (sUp s.cn c kk)).cn c = kk := sUp_self
  refine g_Pcn R hn k' (by rw [e]; exact hv) (R.2.cn hG) fun h1 R1 _ => K h1 ?_
  rw [wr_cn, sUp_sUp] at R1
  exact R1
theorem conn_eq {u : Int32} : ∀ k : sCn, (((((((k.w_state 1).w_beat 0).w_inp []).w_out []).w_first 0).w_lastIn u).w_lastOut u).w_deaf false = (1, 0, u, u, k.closing, false, [], [], 0) := fun ⟨a1, a2, a3, a4, a5, a6, a7, a8, a9⟩ => rfl
theorem t_connect (Z : tZ s0 F (b + 900 + tV s + tY s) s w g h) (hm : g.kind x0 = (1, 0)) (V : sVV n s)
    (K : ∀ g1 h1, tZ s0 F (b + tV (c_connect s x).2 + tY (c_connect s x).2) (c_connect s x).2 (w.w_thr 0) g1 h1 → sVV n (c_connect s x).2 → sPend (c_connect s x).2 ≤ sPend s → gL g g1 → Q (.int (c_connect s x).1) h1) : zX s0 m_X8_connect (d + 1) [zr x0, .int x] h Q E := by
  obtain ⟨dr, sz, rd, cl, me, thr, u⟩ := w
  unfold c_connect at K
  dsimp only at K
  refine c_X8_connect (g_Thr Z hm fun h1 Z1 => t_isC ⟨_, rfl, ?_⟩)
  rw [sB_0]
  refine ⟨fun hf => ?_, fun ht => ?_⟩
  · rw [if_pos (Or.inl (by rw [hf]; decide))] at K
    dsimp only at K
    exact K g h1 (Z1.le (by omega)) V (Nat.le_refl _) (gL.refl g)
  · rw [Bool.not_eq_false] at ht
    obtain ⟨c, hc, ec, en⟩ := isC_of ht
    rw [en] at K
    subst ec
    refine g_Con Z1.r hm hc fun z1 => ?_
    rw [z1]
    have hx := Z1.r.cn hc
    refine e_I (Z1.r.1.cell hx (by decide)) fun (z2 : gI h1 (g.ref 2 c) 1 = (s.cn c).state) => ?_
    rw [z2]
    refine ⟨fun h0 => ?_, fun hn0 => ?_⟩
    · rw [if_neg (fun hh => hh.elim (fun q => q ht) fun q => q h0)] at K
      try dsimp only at K
      obtain ⟨u1, u2, -⟩ := g_Con Z1.r hm hc (P := True) (fun _ => trivial)
      rw [z1] at u2
      refine ⟨u1, u2, ?_⟩
      have B0 := Z1.r.2.2.2.2.2.1 c hc
      have A25 : gAr g 25 c 900 (vB []) := ⟨B0.1.1, B0.1.2.1, ⟨_, rfl⟩⟩
      have A26 : gRing (g.ar 26 c) 0 [] := ⟨B0.2.1.2.1, by decide, by decide, fun j y hy => nomatch hy⟩
      have A27 : gRing (g.ar 26 c) (s.cn c).first [] := ⟨B0.2.1.2.1, B0.2.1.2.2.1, B0.2.1.2.2.2.1, fun j y hy => nomatch hy⟩
      have R0 : tR s0 F (b + 900 + tV s + tY s + tP s) (s.w_cn (sUp s.cn c (s.cn c))) (dr, sz, rd, cl, me, 0, u) g h1 := by
        rw [sUp_same]
        exact Z1.r
      refine g_Pcs R0 hx ((s.cn c).w_state 1) rfl (fun _ => ⟨B0.1, B0.2.1.2⟩) fun h2 R2 => ?_
      refine g_Pcs R2 hx (((s.cn c).w_state 1).w_beat 0) rfl (fun _ => ⟨B0.1, B0.2.1.2⟩) fun h3 R3 => ?_
      refine g_Pcs R3 hx ((((s.cn c).w_state 1).w_beat 0).w_inp []) rfl (fun _ => ⟨A25, B0.2.1.2⟩) fun h4 R4 => ?_
      refine g_Pcs R4 hx (((((s.cn c).w_state 1).w_beat 0).w_inp []).w_out []) rfl (fun _ => ⟨A25, A27⟩) fun h5 R5 => ?_
      refine g_Pcs R5 hx ((((((s.cn c).w_state 1).w_beat 0).w_inp []).w_out []).w_first 0) rfl (fun _ => ⟨A25, A26⟩) fun h6 R6 => ?_
      refine e_I (R6.main hm) fun (z6 : gI h6 x0 12 = s.clock) => ?_
      rw [z6]
      refine g_Pcs R6 hx (((((((s.cn c).w_state 1).w_beat 0).w_inp []).w_out []).w_first 0).w_lastIn s.clock) rfl (fun _ => ⟨A25, A26⟩) fun h7 R7 => ?_
      refine e_I (R7.main hm) fun (z7 : gI h7 x0 12 = s.clock) => ?_
      rw [z7]
      refine g_Pcs R7 hx ((((((((s.cn c).w_state 1).w_beat 0).w_inp []).w_out []).w_first 0).w_lastIn s.clock).w_lastOut s.clock) rfl (fun _ => ⟨A25, A26⟩) fun h8 R8 => ?_
      refine g_Pcs R8 hx (((((((((s.cn c).w_state 1).w_beat 0).w_inp []).w_out []).w_first 0).w_lastIn s.clock).w_lastOut s.clock).w_deaf false) rfl (fun _ => ⟨A25, A26⟩) fun h9 R9 => ?_
      rw [conn_eq] at R9
      have eS : s.w_cn (sUp s.cn c (1, 0, s.clock, s.clock, (s.cn c).closing, false, [], [], 0)) = s_cn s c (fun k => (1, 0, s.clock, s.clock, k.closing, false, [], [], 0)) := rfl
      have E9 : sE s (s_cn s c (fun k => (1, 0, s.clock, s.clock, k.closing, false, [], [], 0))) := e_cnUp fun _ => Nat.zero_le _
      have I9 : sI (s_cn s c (fun k => (1, 0, s.clock, s.clock, k.closing, false, [], [], 0))) := Z.i.cnUp ⟨Nat.zero_le _, Nat.zero_le _, by show (0 : Int32) ≤ 1; decide, by show (1 : Int32) ≤ 6; decide⟩
      have hy := tY_conn (s := s) (f := fun k => (1, 0, s.clock, s.clock, k.closing, false, [], [], 0)) hc
      have hv := tV_e E9
      have V9 := V.eE E9
      have hp := pend_e E9
      have tp9 : tP (s_cn s c (fun k => (1, 0, s.clock, s.clock, k.closing, false, [], [], 0))) = tP s := tP_cn
      have sw9 : sWt (s_cn s c (fun k => (1, 0, s.clock, s.clock, k.closing, false, [], [], 0))) = sWt s := sWt_cn
      rw [eS] at R9
      generalize s_cn s c (fun k => (1, 0, s.clock, s.clock, k.closing, false, [], [], 0)) = s9 at *
      have hzc := Z.c
      exact K g h9 ⟨R9.less (by omega), I9, by omega⟩ V9 hp (gL.refl g)
    · rw [if_pos (Or.inr hn0)] at K
      dsimp only at K
      exact K g h1 (Z1.le (by omega)) V (Nat.le_refl _) (gL.refl g)
/-! reading -/
theorem num_snoc {l : sBy} {y : UInt8} : s_num (l ++ [y]) = s_num l <<< 8 ||| (zx y).toInt64 := by
  unfold s_num
  rw [List.foldl_append]
  rfl
def s_rdN (s : sSt) (c i : Nat) : sSt := s_cn s c (fun k => (k.w_out (k.out.drop i)).w_first (Int32.ofNat ((k.first.toNatClampNeg + i) % 5000)))
theorem ring_drop {l : List Value} {f : Int32} {y : UInt8} {o : sBy} (H : gRing l f (y :: o)) : gRing l (Int32.ofNat ((f.toNatClampNeg + 1) % 5000)) o := by
  obtain ⟨h1, h2, h3, h4⟩ := H
  have hm : (f.toNatClampNeg + 1) % 5000 < 5000 := Nat.mod_lt _ (by decide)
  refine ⟨h1, i_nn' (by omega), ?_, fun j z hz => ?_⟩
  · rw [show (5000 : Int32) = Int32.ofNat 5000 from rfl]
    exact (i_lt (by omega) (by decide)).mpr hm
  · rw [i_nat (by omega)]
    have := h4 (j + 1) z (by rw [List.getElem?_cons_succ]; exact hz)
    have e : ((f.toNatClampNeg + 1) % 5000 + j) % 5000 = (f.toNatClampNeg + (j + 1)) % 5000 := by omega
    rw [e]
    exact this
theorem tR.pcnH (R : tR s0 F b s w g h) (hn : g.kind x1 = (2, c)) (k' : sCn) (h2 : h'.2 = h.2) (ho : ∀ r, r ≠ x1 → h'.1 r = h.1 r) (h1 : h'.1 x1 = some (8, tCn k' g c)) (hG : tG (s.w_cn (sUp s.cn c k')) w g) : tR s0 F b (s.w_cn (sUp s.cn c k')) w g h' := by
  refine ⟨R.1.re [x1] h2 rfl rfl (fun r hr => ho r (fun e => hr (by rw [e]; exact List.mem_singleton.mpr rfl))) (fun r hr => ?_) (fun r hk hr => ?_), hG⟩
  · rw [List.mem_singleton.mp hr, hn]
    refine ⟨by show (2 : Nat) ≠ 0; decide, ?_⟩
    rw [h1]
    show _ = some (8, tCn (sUp s.cn c k' c) g c)
    rw [sUp_self]
  · exact tcell_cn fun e => hr (by
      have e1 : g.kind r = (2, c) := Prod.ext e.1 e.2
      rw [← R.1.at e1 (by decide), R.1.at hn (by decide)]
      exact List.mem_singleton.mpr rfl)
theorem t_read_66 {m : Nat} (hc : c < 4) (hx : g.kind x1 = (2, c)) (hn : m ≤ (s.cn c).out.length) (hm8 : m ≤ 8) (hl5 : (s.cn c).out.length ≤ 5000)
    (K : ∀ h1, tR s0 F b (s_rdN s c m) w g h1 → Q (.long (s_num ((s.cn c).out.take m))) h1) :
    ∀ (k i : Nat) (h : zH), m = i + k → tR s0 F b (s_rdN s c i) w g h → zP s0 m_X8_read (d + 1) 66 [none, none, some (.int (Int32.ofNat m)), some (zr x1), some (.long (s_num ((s.cn c).out.take i))), none, some (.int (Int32.ofNat i))] [] h Q E
  | 0, i, h, hi, R => by
    have e : i = m := by omega
    subst e
    exact b_X8_read_66 ⟨fun _ => K h R, fun hh => absurd (Int32.le_refl _) hh⟩
  | k + 1, i, h, hi, R => by
    obtain ⟨y, hy⟩ : ∃ y, (s.cn c).out[i]? = some y := ⟨_, List.getElem?_eq_getElem (by omega)⟩
    have hcn : (s_rdN s c i).cn c = ((s.cn c).w_out ((s.cn c).out.drop i)).w_first (Int32.ofNat (((s.cn c).first.toNatClampNeg + i) % 5000)) := sUp_self
    have hdr : (s.cn c).out.drop i = y :: (s.cn c).out.drop (i + 1) := by
      have h1 := (List.getElem?_eq_some_iff.mp hy).1
      rw [List.drop_eq_getElem_cons h1, (List.getElem?_eq_some_iff.mp hy).2]
    have htk : s_num ((s.cn c).out.take (i + 1)) = s_num ((s.cn c).out.take i) <<< 8 ||| (zx y).toInt64 := by
      rw [List.take_add_one, hy]
      exact num_snoc
    have ih := fun h2 R2 => t_read_66 hc hx hn hm8 hl5 K k (i + 1) h2 (by omega) R2
    have ex : h.1 x1 = some (8, tCn (((s.cn c).w_out ((s.cn c).out.drop i)).w_first (Int32.ofNat (((s.cn c).first.toNatClampNeg + i) % 5000))) g c) := by
      have := R.1.cell hx (by decide)
      rw [← hcn]
      exact this
    have B0 := R.2.2.2.2.2.1 c hc
    have hol := R.2
    rw [hcn] at B0
    have hR : gRing (g.ar 26 c) (Int32.ofNat (((s.cn c).first.toNatClampNeg + i) % 5000)) ((s.cn c).out.drop i) := B0.2.1.2
    rw [hdr] at hR
    have hmod : ((s.cn c).first.toNatClampNeg + i) % 5000 < 5000 := Nat.mod_lt _ (by decide)
    have hv : (g.ar 26 c)[((s.cn c).first.toNatClampNeg + i) % 5000]? = some (.int (sx y)) := by
      have := hR.2.2.2 0 y rfl
      rw [i_nat (by omega), Nat.add_zero, Nat.mod_mod] at this
      exact this
    have hlen : (s.cn c).out.drop i = y :: (s.cn c).out.drop (i + 1) := hdr
    have hrd := ring_drop hR
    rw [i_nat (by omega)] at hrd
    have hmm : (((s.cn c).first.toNatClampNeg + i) % 5000 + 1) % 5000 = ((s.cn c).first.toNatClampNeg + (i + 1)) % 5000 := by omega
    rw [hmm] at hrd
    have e26 : h.1 (g.ref 26 c) = some (1000 + 0, g.ar 26 c) := R.1.cell B0.2.1.1 (by decide)
    rw [hdr] at ex
    have hl : ((s.cn c).out.drop (i + 1)).length < 2147483647 := by
      have := hl5
      rw [List.length_drop]
      omega
    refine b_X8_read_66 ⟨fun hle => ?_, fun _ => e_R ex fun (z1 : gR h x1 11 = g.ref 26 c) => e_I ex fun (z2 : gI h x1 4 = Int32.ofNat (((s.cn c).first.toNatClampNeg + i) % 5000)) => ?_⟩
    · rw [i_le (by omega) (by omega)] at hle
      omega
    rw [z1, z2]
    refine g_EI (t := 0) e26 (zin_of (by rw [hR.1]; exact hmod) (by omega)) (by rw [i_nat (by omega)]; exact hv) fun z3 => e_I ex fun _ => g_C ex ?_
    rw [z3, sx_and, i_succ, show (5000 : Int32) = Int32.ofNat 5000 from rfl, i_mod (by omega) (by decide), hmm, i_succ]
    intro h1 e1
    have ex1 : h1.1 x1 = some (8, (tCn (((s.cn c).w_out (y :: (s.cn c).out.drop (i + 1))).w_first (Int32.ofNat (((s.cn c).first.toNatClampNeg + i) % 5000))) g c).set 4 (.int (Int32.ofNat (((s.cn c).first.toNatClampNeg + (i + 1)) % 5000)))) := by
      rw [e1]
      exact zput_self ex
    refine e_I ex1 fun (z5 : gI h1 x1 5 = Int32.ofNat (y :: (s.cn c).out.drop (i + 1)).length) => g_C ex1 ?_
    rw [z5, i_pred (by rw [List.length_cons]; omega), List.length_cons, Nat.add_sub_cancel]
    intro h2 e2
    have eS : (s_rdN s c i).w_cn (sUp (s_rdN s c i).cn c (((s.cn c).w_out ((s.cn c).out.drop (i + 1))).w_first (Int32.ofNat (((s.cn c).first.toNatClampNeg + (i + 1)) % 5000)))) = s_rdN s c (i + 1) := by
      show s.w_cn (sUp (sUp s.cn c _) c _) = _
      rw [sUp_sUp]
      rfl
    have RR := R.pcnH hx (((s.cn c).w_out ((s.cn c).out.drop (i + 1))).w_first (Int32.ofNat (((s.cn c).first.toNatClampNeg + (i + 1)) % 5000))) (h' := h2) (by rw [e2, e1]; rfl) (fun r hr => by rw [e2, zput_ne hr, e1, zput_ne hr]) (by rw [e2, zput_self ex1]; rfl) (R.2.cn fun _ => ⟨B0.1, hrd⟩)
    rw [eS] at RR
    have := ih h2 RR
    rw [htk] at this
    exact this
theorem mod_first {f : Int32} {m : Nat} (h0 : 0 ≤ f) (h5 : f < 5000) (hm : m ≤ 8) : (f + Int32.ofNat m) % 5000 = Int32.ofNat ((f.toNatClampNeg + m) % 5000) := by
  have e := i_of h0
  have hl := Int32.toNatClampNeg_lt f
  generalize f.toNatClampNeg = a at e hl
  subst e
  have h5 : a < 5000 := (i_lt (by omega) (by decide)).mp h5
  rw [i_add, show (5000 : Int32) = Int32.ofNat 5000 from rfl]
  exact (Int32.ofNat_mod (by omega) (by decide)).symm
theorem rdN_0 (h0 : 0 ≤ (s.cn c).first) (h5 : (s.cn c).first < 5000) : s_rdN s c 0 = s := by
  unfold s_rdN s_cn
  have hk : ((s.cn c).w_out ((s.cn c).out.drop 0)).w_first (Int32.ofNat (((s.cn c).first.toNatClampNeg + 0) % 5000)) = s.cn c := by
    have h4 : (s.cn c).first.toNatClampNeg < 5000 := by
      have e := i_of h0
      have hl := Int32.toNatClampNeg_lt (s.cn c).first
      rw [← e, show (5000 : Int32) = Int32.ofNat 5000 from rfl] at h5
      exact (i_lt (by omega) (by decide)).mp h5
    rw [List.drop_zero, Nat.add_zero, Nat.mod_eq_of_lt h4, i_of h0]
    rfl
  have : (fun k : sCn => (k.w_out (k.out.drop 0)).w_first (Int32.ofNat ((k.first.toNatClampNeg + 0) % 5000))) (s.cn c) = s.cn c := hk
  show s.w_cn (sUp s.cn c ((fun k : sCn => (k.w_out (k.out.drop 0)).w_first (Int32.ofNat ((k.first.toNatClampNeg + 0) % 5000))) (s.cn c))) = s
  rw [this, sUp_same]
  rfl
/-- what is read: no throw, or the kind of one -/
theorem t_read {y : Int32} (Z : tZ s0 F (b + tV s + tY s) s w g h) (hm : g.kind x0 = (1, 0)) (V : sVV n s)
    (K : ∀ h1, tZ s0 F (b + tV (c_read s x y).2.2 + tY (c_read s x y).2.2) (c_read s x y).2.2 (w.w_thr (c_read s x y).1) g h1 → sVV n (c_read s x y).2.2 → sPend (c_read s x y).2.2 ≤ sPend s → Q (.long (c_read s x y).2.1) h1) : zX s0 m_X8_read (d + 1) [zr x0, .int x, .int y] h Q E := by
  obtain ⟨dr, sz, rd, cl, me, thr, u⟩ := w
  unfold c_read at K
  dsimp only at K
  have h41 : ∀ (t1 : Int32) (h2 : zH), tZ s0 F (b + tV s + tY s) s (dr, sz, rd, cl, me, thr, u) g h2 → t1 ≠ 0 → (c_read s x y) = (t1, 0, s) → zP s0 m_X8_read (d + 1) 41 [some (zr x0), some (.int x), some (.int y), none, none, none, none] [.int t1, zr x0] h2 Q E := fun t1 h2 Z2 ht e => by
    unfold c_read at e
    dsimp only at e
    rw [e] at K
    refine b_X8_read_41 (g_Thr Z2 hm fun h3 Z3 => e_I (Z3.r.main hm) fun (z1 : gI h3 x0 28 = t1) => ?_)
    rw [z1]
    exact ⟨fun hh => absurd hh ht, fun _ => K h3 Z3 V (Nat.le_refl _)⟩
  have h19 : (y < 1 ∨ 8 < y ∨ ¬ s_isC x = true) → ∀ h2, tZ s0 F (b + tV s + tY s) s (dr, sz, rd, cl, me, thr, u) g h2 → zP s0 m_X8_read (d + 1) 19 [some (zr x0), some (.int x), some (.int y), none, none, none, none] [zr x0] h2 Q E := fun hb h2 Z2 =>
    b_X8_read_19 (h41 2 h2 Z2 (by decide) (by unfold c_read; dsimp only; rw [if_pos hb]))
  refine c_X8_read ⟨fun h1 => h19 (Or.inl h1) h Z, fun h1 => ⟨fun h8 => h19 (Or.inr (Or.inl h8)) h Z, fun h8 => t_isC ⟨_, rfl, ?_⟩⟩⟩
  rw [sB_0]
  refine ⟨fun ht => ?_, fun hf => h19 (Or.inr (Or.inr (by rw [hf]; decide))) h Z⟩
  rw [Bool.not_eq_false] at ht
  have hno : ¬ (y < 1 ∨ 8 < y ∨ ¬ s_isC x = true) := fun hh => hh.elim h1 fun q => q.elim h8 fun q => q ht
  obtain ⟨c, hc, ec, en⟩ := isC_of ht
  have hy8 : y.toNatClampNeg ≤ 8 := i_clamp (k := 8) (by decide) (Int32.not_lt.mp h8)
  have hy0 : 0 ≤ y := Int32.le_trans (by decide) (Int32.not_lt.mp h1)
  have ey : y = Int32.ofNat y.toNatClampNeg := (i_of hy0).symm
  have ho := (Z.i.cp.cn c hc).2.1
  subst ec
  refine g_Con Z.r hm hc fun z1 => ?_
  rw [z1]
  have hx := Z.r.cn hc
  have ex := Z.r.1.cell hx (by decide)
  refine e_I ex fun (z2 : gI h (g.ref 2 c) 5 = Int32.ofNat (s.cn c).out.length) => ?_
  rw [z2]
  have hcmp : (y ≤ Int32.ofNat (s.cn c).out.length) ↔ y.toNatClampNeg ≤ (s.cn c).out.length := by
    conv => lhs; rw [ey]
    exact i_le (by omega) (by omega)
  refine ⟨fun hle => ?_, fun hle => ?_⟩
  · have hle2 := hcmp.mp hle
    clear hle
    rw [if_neg hno, en, if_neg (by omega)] at K
    try dsimp only at K
    have B0 := Z.r.2.2.2.2.2.1 c hc
    refine b_X8_read_41 (g_Thr Z hm fun h3 Z3 => e_I (Z3.r.main hm) fun (z3 : gI h3 x0 28 = 0) => ?_)
    rw [z3]
    refine ⟨fun _ => ?_, fun hh => absurd rfl hh⟩
    refine g_Con Z3.r hm hc fun z4 => ?_
    rw [z4]
    have e0 := rdN_0 (s := s) (c := c) B0.2.1.2.2.1 B0.2.1.2.2.2.1
    have hR0 := Z3.r
    rw [← e0] at hR0
    generalize hmm : y.toNatClampNeg = m at *
    subst ey
    have := t_read_66 (s0 := s0) (F := F) (Q := Q) (E := E) (w := (dr, sz, rd, cl, me, 0, u)) (b := b + tV s + tY s + tP s) (d := d) (x1 := g.ref 2 c) (m := m) hc hx hle2 hy8 ho (fun h4 R4 => ?_) m 0 h3 (by omega) ?_
    · exact this
    · have eS : s_rdN s c m = s_cn s c (fun k => (k.w_out (k.out.drop m)).w_first ((k.first + Int32.ofNat m) % 5000)) := by
        unfold s_rdN s_cn
        dsimp only
        rw [mod_first B0.2.1.2.2.1 B0.2.1.2.2.2.1 hy8]
      have E9 : sE s (s_rdN s c m) := e_cnUp fun _ => Nat.le_refl _
      have I9 : sI (s_rdN s c m) := Z.i.cnUp ⟨(Z.i.cp.cn c hc).1, by show ((s.cn c).out.drop m).length ≤ 5000; rw [List.length_drop]; omega, (Z.i.cp.cn c hc).2.2⟩
      have D9 : sDn s (s_rdN s c m) := by
        unfold s_rdN s_cn
        exact sDn.cnUp (fun I => ⟨(I.cp.cn c hc).1, by show ((s.cn c).out.drop m).length ≤ 5000; rw [List.length_drop]; omega, (I.cp.cn c hc).2.2⟩) fun e => e
      have hy := tY_cnD D9
      have hy : tY (s_rdN s c m) ≤ tY s := hy
      have hv := tV_e E9
      have hp := pend_e E9
      have V9 := V.eE E9
      have Z9 := Z3.dn' D9 R4
      rw [← eS] at K
      exact K h4 (Z9.le (by omega)) V9 hp
    · rw [e0]
      exact Z3.r
  · have hle : ¬ y.toNatClampNeg ≤ (s.cn c).out.length := fun hh => hle (hcmp.mpr hh)
    exact h41 1 h Z (by decide) (by unfold c_read; dsimp only; rw [if_neg hno, en, if_pos (by omega)])
end NZ
