/-! ===== the twin: channels opened; what is to be published ===== -/
set_option maxRecDepth 100000
section MT
variable {s0 : zE} {F : Nat → Option zC} {b : Nat} {s s' s1 : sSt} {w w' w1 w2 : tW} {g g' g0 : sG} {h h' : zH} {d x0 x1 x2 x3 x5 i j q m n a e ky hd bd : Nat} {Q : Value → zH → Prop} {E : Nat → zH → Prop} {l : List Value} {dr nm key : sBy} {sz cl me code k bits : Int32} {rd : sRd} {u : Int32 × List Nat × (Nat → Nat)} {c : sCont}
/-- a channel's field is written, by what it does to any channel -/
theorem g_Phf {f : sCh → sCh} {v : Value} {k : Nat} {P : zH → Prop} (R : tR s0 F b s w g h) (hn : g.kind x1 = (3, j)) (hv : tCh (f (s.ch j)) w g j = (tCh (s.ch j) w g j).set k v) (hu : tUn (f (s.ch j)) g j = tUn (s.ch j) g j) (hG : tChOk (s.ch j) w g j → tChOk (f (s.ch j)) w g j) (K : ∀ h1, tR s0 F b (s_ch s j f) w g h1 → zOth h h1 x1 → P h1) : fC h x1 9 ∧ ∀ h1, h1 = zput h x1 k v → P h1 :=
  g_Ph R hn (f (s.ch j)) hv hu hG K
def s_opn (s : sSt) (j : Nat) : sSt := s_ch s j (fun k => ((((((((k.w_state 1).w_mode 0).w_active true).w_limit 0).w_coming 0).w_tag 0).w_confirm 0).w_tags 0).w_lastq none)
theorem s_opens_eq : s_opens s j = s_ans (s_opn s j) j 20 11 [] := rfl
theorem opn_rd {k : sCh} : (((((((((k.w_state 1).w_mode 0).w_active true).w_limit 0).w_coming 0).w_tag 0).w_confirm 0).w_tags 0).w_lastq none).sent = k.sent ∧ (((((((((k.w_state 1).w_mode 0).w_active true).w_limit 0).w_coming 0).w_tag 0).w_confirm 0).w_tags 0).w_lastq none).kept = k.kept ∧ (((((((((k.w_state 1).w_mode 0).w_active true).w_limit 0).w_coming 0).w_tag 0).w_confirm 0).w_tags 0).w_lastq none).confs = k.confs := ⟨rfl, rfl, rfl⟩
theorem opn_tx {k : sCh} (hx : sChTx k) : sChTx (((((((((k.w_state 1).w_mode 0).w_active true).w_limit 0).w_coming 0).w_tag 0).w_confirm 0).w_tags 0).w_lastq none) := by
  obtain ⟨k1, k2, k3, k4, k5, k6, k7, k8, k9, k10, k11, k12, k13, k14, k15, k16⟩ := k
  exact ⟨fun _ hb => (nomatch hb), hx.2.1, hx.2.2.1, hx.2.2.2.1, hx.2.2.2.2.1, hx.2.2.2.2.2.1, (by decide : (0 : Int32) ≤ 0), (by decide : (0 : Int32) ≤ 2)⟩
theorem p_opn (I : sI s) (hj : isH j) (hk : (s.ch j).kept = []) : sI (s_opn s j) ∧ tP (s_opn s j) = tP s ∧ sWt (s_opn s j) = sWt s ∧ tY (s_opn s j) = tY s := by
  have hS : s_opn s j = s.w_ch (sUp s.ch j ((((((((((s.ch j).w_state 1).w_mode 0).w_active true).w_limit 0).w_coming 0).w_tag 0).w_confirm 0).w_tags 0).w_lastq none)) := rfl
  obtain ⟨e1, e2, e3⟩ := opn_rd (k := s.ch j)
  have e4 := opn_tx (k := s.ch j)
  rw [hS]
  revert e1 e2 e3 e4
  generalize (((((((((s.ch j).w_state 1).w_mode 0).w_active true).w_limit 0).w_coming 0).w_tag 0).w_confirm 0).w_tags 0).w_lastq none = kk
  intro e1 e2 e3 e4
  refine ⟨I.chUp ⟨by rw [e1]; exact (I.sn.1 j hj).1, fun x hx => by rw [← e1]; exact hx⟩ (fun x hx => by rw [← e2]; exact hx) e4 (by rw [e2]; exact Nat.le_refl _) fun _ y hy => ?_, tP_ch, sWt_chUp (u := 0) hj (by rw [e1, e3]; rfl), tY_ch⟩
  rw [e2, hk] at hy
  cases hy
theorem t_opens (Z : tZ s0 F (b + tY s) s w g h) (hm : g.kind x0 = (1, 0)) (hx : g.kind x1 = (3, j)) (hj : isH j) (hk : (s.ch j).kept = [])
    (K : ∀ w1 g1 h1, tZ s0 F (b + tY (s_opens s j)) (s_opens s j) w1 g1 h1 → tWm w w1 → gL g g1 → Q .null h1) : zX s0 m_X8_opens (d + 72) [zr x0, zr x1] h Q E := by
  rw [s_opens_eq] at K
  refine c_X8_opens (g_Phf (f := fun k => k.w_state 1) Z.r hx rfl rfl (fun ok => ok) fun h1 R1 _ => g_Phf (f := fun k => k.w_mode 0) R1 hx rfl rfl (fun ok => ok) fun h2 R2 _ => g_Phf (f := fun k => k.w_active true) R2 hx rfl rfl (fun ok => ok) fun h3 R3 _ => g_Phf (f := fun k => k.w_limit 0) R3 hx rfl rfl (fun ok => ok) fun h4 R4 _ => g_Phf (f := fun k => k.w_coming 0) R4 hx rfl rfl (fun ok => ok) fun h5 R5 _ => g_Phf (f := fun k => k.w_tag 0) R5 hx rfl rfl (fun ok => ok) fun h6 R6 _ => g_Phf (f := fun k => k.w_confirm 0) R6 hx rfl rfl (fun ok => ok) fun h7 R7 _ => g_Phf (f := fun k => k.w_tags 0) R7 hx rfl rfl (fun ok => ok) fun h8 R8 _ => g_Plq (o := none) R8 hx rfl fun g9 h9 R9 L9 => ?_)
  rw [w_ch_ch, w_ch_ch, w_ch_ch, w_ch_ch, w_ch_ch, w_ch_ch, w_ch_ch, w_ch_ch] at R9
  have R9 : tR s0 F (b + tY s + tP s) (s_opn s j) w g9 h9 := R9
  obtain ⟨p1, p2, p3, p4⟩ := p_opn Z.i hj hk
  have hc := Z.c
  have Z9 : tZ s0 F (b + tY (s_opn s j)) (s_opn s j) w g9 h9 := ⟨by rw [p2, p4]; exact R9, p1, by omega⟩
  generalize s_opn s j = s9 at Z9 K
  exact t_ansJ (d := d) Z9 (L9.m hm) (L9.k hx gSt3) hj fun w3 g3 h3 Z3 W3 L3 => K w3 g3 h3 Z3 W3 (L9.trans L3)
/-! a content that comes -/
theorem gX.un38 (X : gX g g' 38 i) {k : sCh} {j : Nat} (hne : j ≠ i) (G : gUn k g j) : gUn k g' j := fun hj => by
  have := G hj
  revert this
  rw [X.2.2.2.2]
  cases k.cont with
  | none => exact id
  | some x => exact fun ⟨a1, a2, a3, a4, a5, a6⟩ => ⟨by rw [X.2.1 38 j (fun e => hne e.2)]; exact a1, X.1 38 j (by decide) (fun e => hne e.2) a2, X.B a3, X.B a4, X.To a5, fun e => X.Ar (by omega) (a6 e)⟩
theorem gX.un39 (X : gX g g' 39 i) {k : sCh} {j : Nat} (hne : j ≠ i) (G : gUn k g j) : gUn k g' j := fun hj => by
  have := G hj
  revert this
  rw [X.2.2.2.2]
  cases k.cont with
  | none => exact id
  | some x => exact fun ⟨a1, a2, a3, a4, a5, a6⟩ => ⟨by rw [X.2.1 38 j (by omega)]; exact a1, X.1 38 j (by decide) (by omega) a2, X.B a3, X.B a4, X.To a5, fun e => X.Ar (fun e2 => hne e2.2) (a6 e)⟩
/-- the cell of the content is another -/
theorem g_P15 {P : zH → Prop} (R : tR s0 F b s w g h) (hx : g.kind x1 = (3, j)) (hjk : (s.ch j).junk = true) (K : ∀ g1 h1, tR s0 F b s w g1 h1 → gL g g1 → g1.rf 3 j 15 = n → g1.kind = g.kind → zOth h h1 x1 → P h1) : fC h x1 9 ∧ ∀ h1, h1 = zput h x1 15 (zr n) → P h1 := by
  refine ⟨⟨_, R.1.cell hx (by decide)⟩, fun h1 e1 => ?_⟩
  subst e1
  obtain ⟨H, G⟩ := R
  have hne : ∀ a k x, ¬ (a = 3 ∧ k = j ∧ x = 15) → (g.w_rf (fun a k x => if a = 3 ∧ k = j ∧ x = 15 then n else g.rf a k x)).rf a k x = g.rf a k x := fun a k x e => if_neg e
  have hat : (g.w_rf (fun a k x => if a = 3 ∧ k = j ∧ x = 15 then n else g.rf a k x)).rf 3 j 15 = n := if_pos ⟨rfl, rfl, rfl⟩
  refine K (g.w_rf (fun a k x => if a = 3 ∧ k = j ∧ x = 15 then n else g.rf a k x)) _ ⟨H.put hx (by decide) rfl rfl (cc := 9) (fs := tCh (s.ch j) w g j) rfl ?_ (fun m hk hm => ?_), ?_⟩ (fun m _ => ⟨rfl, rfl⟩) hat rfl zOth.put
  · show (9, tCh (s.ch j) w _ j) = _
    unfold tCh
    rw [hat, hne 3 j 14 (fun e => absurd e.2.2 (by decide))]
    rfl
  · generalize hkm : g.kind m = ck at hk hm ⊢
    obtain ⟨a, k⟩ := ck
    have hm : ¬ (a = 3 ∧ k = j) := fun e => hm (Prod.ext e.1 e.2)
    show tcell s w _ a k = tcell s w g a k
    unfold tcell
    split
    · rfl
    · rfl
    · have hkj : k ≠ j := fun e => hm ⟨rfl, e⟩
      simp only [tCh, hne 3 k _ (fun e => hkj e.2.1)]
      rfl
    · rfl
    · rfl
    · rfl
    · rfl
    · rfl
    · rfl
    · rfl
    · rfl
    · rfl
  · obtain ⟨a1, a2, a3, a4, a5, a6, a7⟩ := G
    refine ⟨a1, a2, a3, a4, a5, fun k hk => ?_, a7⟩
    obtain ⟨f1, f2, f3⟩ := a6 k hk
    refine ⟨?_, fun hjk2 => ?_, f3⟩
    · rw [hne 3 k 14 (fun e => absurd e.2.2 (by decide))]
      exact f1
    · have ek : k ≠ j := fun e => by rw [e, hjk] at hjk2; cases hjk2
      have := f2 hjk2
      revert this
      rw [hne 3 k 15 (fun e => ek e.2.1)]
      cases (s.ch k).cont with
      | none => exact id
      | some x => exact id
/-- where the names of a content will stand -/
theorem tR.rf38 (R : tR s0 F b s w g h) (hjk : (s.ch j).junk = true) (hno : ∀ m, g.kind m ≠ (38, j)) (r : Nat → Nat) : tR s0 F b s w (gRf g 38 j r) h := by
  have hne : ∀ k x, k ≠ j → (gRf g 38 j r).rf 38 k x = g.rf 38 k x := fun k x e => if_neg fun e1 => e e1.2
  obtain ⟨⟨a1, a2, a3⟩, p1, p2, p3, p4, p5, p6, p7⟩ := R
  refine ⟨⟨fun m hm => ?_, a2, a3⟩, p1, p2, p3, p4, p5, fun k hk => ?_, p7⟩
  · obtain ⟨e1, e2⟩ := a1 m hm
    refine ⟨?_, e2⟩
    show h.1 m = some (tcell s w (gRf g 38 j r) (g.kind m).1 (g.kind m).2)
    rw [e1]
    have hnm := hno m
    generalize g.kind m = ck at hnm
    obtain ⟨a, k⟩ := ck
    show some (tcell s w g a k) = some (tcell s w (gRf g 38 j r) a k)
    unfold tcell
    split
    · rfl
    · rfl
    · rfl
    · rfl
    · rfl
    · rfl
    · rfl
    · rfl
    · rfl
    · have hkj : k ≠ j := fun e => hnm (by rw [e])
      simp only [tUn, hne k _ hkj]
      rfl
    · rfl
    · rfl
  · obtain ⟨f1, f2, f3⟩ := p6 k hk
    refine ⟨f1, fun hjk2 => ?_, f3⟩
    have ek : k ≠ j := fun e => by rw [e, hjk] at hjk2; cases hjk2
    have := f2 hjk2
    revert this
    rw [hne k 0 ek, hne k 1 ek, hne k 6 ek]
    cases (s.ch k).cont with
    | none => exact id
    | some x => exact id
/-- what was written becomes the content that comes to a channel -/
theorem tR.cont (R : tR s0 F b s w g h) (hjk : (s.ch j).junk = true) (hno : ∀ m, g.kind m ≠ (38, j)) (U : zUn s0 F g h n 40 [zr e, zr ky, vZ c.mand, vZ c.pers, .int c.prio, .long c.expi, zr hd, zr bd, vI c.body.length]) (h15 : g.rf 3 j 15 = n) (B1 : gB g e c.exch) (B2 : gB g ky c.key) (B3 : gTo g hd c.heads)
    (hbd : bd = if (s.ch j).due = 3 then g.ref 39 j else 0) (h3 : (s.ch j).due = 3 → gAr g 39 j (s.ch j).want (vB c.body)) : ∃ g1, tR s0 F b (s_ch s j (fun k => (k.w_cont (some c)).w_junk false)) w g1 h ∧ gL g g1 ∧ g1.kind n = (38, j) := by
  have Ra := R.rf38 hjk hno (fun k => if k = 0 then e else if k = 1 then ky else hd)
  have La : gL g (gRf g 38 j (fun k => if k = 0 then e else if k = 1 then ky else hd)) := gRf.l
  have r0 : (gRf g 38 j (fun k => if k = 0 then e else if k = 1 then ky else hd)).rf 38 j 0 = e := gRf_at
  have r1 : (gRf g 38 j (fun k => if k = 0 then e else if k = 1 then ky else hd)).rf 38 j 1 = ky := gRf_at
  have r6 : (gRf g 38 j (fun k => if k = 0 then e else if k = 1 then ky else hd)).rf 38 j 6 = hd := gRf_at
  have U1 : zUn s0 F (gRf g 38 j (fun k => if k = 0 then e else if k = 1 then ky else hd)) h n 40 [zr e, zr ky, vZ c.mand, vZ c.pers, .int c.prio, .long c.expi, zr hd, zr bd, vI c.body.length] := U
  have hno1 : ∀ m, (gRf g 38 j (fun k => if k = 0 then e else if k = 1 then ky else hd)).kind m ≠ (38, j) := hno
  have h151 : (gRf g 38 j (fun k => if k = 0 then e else if k = 1 then ky else hd)).rf 3 j 15 = n := h15
  have hbd1 : bd = if (s.ch j).due = 3 then (gRf g 38 j (fun k => if k = 0 then e else if k = 1 then ky else hd)).ref 39 j else 0 := hbd
  have h31 : (s.ch j).due = 3 → gAr (gRf g 38 j (fun k => if k = 0 then e else if k = 1 then ky else hd)) 39 j (s.ch j).want (vB c.body) := h3
  have B11 := La.B B1
  have B21 := La.B B2
  have B31 : gTo (gRf g 38 j (fun k => if k = 0 then e else if k = 1 then ky else hd)) hd c.heads := by
    revert B3
    cases c.heads with
    | none => exact id
    | some t => exact fun T => La.Tab T
  revert Ra La r0 r1 r6 U1 hno1 h151 hbd1 h31 B11 B21 B31
  generalize gRf g 38 j (fun k => if k = 0 then e else if k = 1 then ky else hd) = ga
  clear R hno U h15 B1 B2 B3 hbd h3
  intro R La r0 r1 r6 U hno h15 hbd h3 B1 B2 B3
  obtain ⟨hk, hF, hn, hp0, hlt, hold⟩ := U
  have X : gX ga (gNw ga n 38 j []) 38 j := gNw.x hk
  have hkd : ∀ m, (gNw ga n 38 j []).kind m = (if m = n then (38, j) else ga.kind m) := fun m => rfl
  have hch : ∀ k, k ≠ j → (s_ch s j (fun k => (k.w_cont (some c)).w_junk false)).ch k = s.ch k := fun k hk => sUp_ne hk
  have hchj : (s_ch s j (fun k => (k.w_cont (some c)).w_junk false)).ch j = ((s.ch j).w_cont (some c)).w_junk false := s_ch_ch
  have hr : ∀ a k, a ≠ 38 → (gNw ga n 38 j []).ref a k = ga.ref a k := fun a k e => if_neg fun e1 => e e1.1
  have G1 : tG s w (gNw ga n 38 j []) := by
    refine R.2.xth X (Or.inr (Or.inl rfl)) (fun k _ e => absurd e.1 (by decide)) (fun k hk gu => ?_) (fun m a k e h0 h1 => ?_) rfl rfl
    · by_cases ek : k = j
      · subst ek
        exact fun hjk2 => by rw [hjk] at hjk2; cases hjk2
      · exact X.un38 ek gu
    · rw [hkd] at e
      split at e
      · exact absurd (congrArg Prod.fst e).symm h1
      · exact e
  refine ⟨gNw ga n 38 j [], ⟨R.1.take hk hF hn (c := 38) (i := j) (by decide) hp0 hlt (Or.inr hold) rfl gNw.r (fun m hm => if_neg fun e => hno m (Prod.ext e.1 e.2)) ?_ (fun m hm => ?_), ?_⟩, La.trans (gNw.l hk), gNw.at⟩
  · show (40, tUn ((s_ch s j (fun k => (k.w_cont (some c)).w_junk false)).ch j) (gNw ga n 38 j []) j) = _
    rw [hchj]
    show (40, [zr (ga.rf 38 j 0), zr (ga.rf 38 j 1), vZ c.mand, vZ c.pers, .int c.prio, .long c.expi, zr (ga.rf 38 j 6), zr (if (s.ch j).due = 3 then (gNw ga n 38 j []).ref 39 j else 0), vI c.body.length]) = _
    rw [r0, r1, r6, hbd, hr 39 j (by decide)]
  · have hnm := hno m
    generalize ga.kind m = ck at hnm
    obtain ⟨a, k⟩ := ck
    show tcell (s_ch s j (fun k => (k.w_cont (some c)).w_junk false)) w (gNw ga n 38 j []) a k = tcell s w ga a k
    unfold tcell
    split
    · rfl
    · rfl
    · by_cases ek : k = j
      · subst ek
        rw [hchj]
        rfl
      · rw [hch k ek]
        rfl
    · rfl
    · rfl
    · rfl
    · rfl
    · rfl
    · rfl
    · have ek : k ≠ j := fun e => hnm (by rw [e])
      rw [hch k ek]
      rfl
    · rfl
    · show (_, if _ then _ else _) = _
      rw [if_neg (fun e => hnm (Prod.ext e.1 e.2))]
  · have := G1.ch (i := j) (x := ((s.ch j).w_cont (some c)).w_junk false) fun hj => by
      obtain ⟨f1, f2, f3⟩ := G1.chok hj
      refine ⟨f1, fun _ => ?_, f3⟩
      show (gNw ga n 38 j []).rf 3 j 15 = (gNw ga n 38 j []).ref 38 j ∧ gA1 (gNw ga n 38 j []) 38 j ∧ gB (gNw ga n 38 j []) ((gNw ga n 38 j []).rf 38 j 0) c.exch ∧ gB (gNw ga n 38 j []) ((gNw ga n 38 j []).rf 38 j 1) c.key ∧ gTo (gNw ga n 38 j []) ((gNw ga n 38 j []).rf 38 j 6) c.heads ∧ ((s.ch j).due = 3 → gAr (gNw ga n 38 j []) 39 j (s.ch j).want (vB c.body))
      have hrn : (gNw ga n 38 j []).ref 38 j = n := gNw.r
      have hrf : (gNw ga n 38 j []).rf = ga.rf := rfl
      rw [hrn, hrf, h15, r0, r1, r6]
      refine ⟨rfl, ?_, X.B B1, X.B B2, X.To B3, fun e => X.Ar (by omega) (h3 e)⟩
      unfold gA1
      rw [hrn]
      exact gNw.at
    exact this
end MT
