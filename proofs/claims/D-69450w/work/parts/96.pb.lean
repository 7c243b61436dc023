/-! ===== the twin: contents are published, dead ones are buried ===== -/
set_option maxRecDepth 100000
/-- an array that holds the queues of a list -/
def gQs (g : sG) (n : Nat) (l : List Nat) : Prop := ∃ rs : List Nat, gF g n (1013, rs.map zr) ∧ rs.length = l.length ∧ ∀ (j q : Nat), l[j]? = some q → ∃ r, rs[j]? = some r ∧ g.kind r = (33, q)
/-- what is under way stays, but for where the last content went -/
def tWq (w w1 : tW) : Prop := w1.rd = w.rd ∧ w1.cl = w.cl ∧ w1.me = w.me ∧ w1.thr = w.thr ∧ ((∀ h, w.cd h = 0) → ∀ h, w1.cd h = 0)
section PB
variable {s0 : zE} {F : Nat → Option zC} {b : Nat} {s s' s1 : sSt} {w w' w1 w2 : tW} {g g' g0 : sG} {h h' : zH} {d x0 x1 x2 x3 x5 i j q m n e : Nat} {Q : Value → zH → Prop} {E : Nat → zH → Prop} {c : sCont} {ex ky : sBy} {xp : Int64} {dt : Int32}
theorem tWq.refl : tWq w w := ⟨rfl, rfl, rfl, rfl, fun h => h⟩
theorem tWq.trans (A : tWq w w1) (B : tWq w1 w2) : tWq w w2 := ⟨B.1.trans A.1, B.2.1.trans A.2.1, B.2.2.1.trans A.2.2.1, B.2.2.2.1.trans A.2.2.2.1, fun h => B.2.2.2.2 (A.2.2.2.2 h)⟩
theorem tWk.toq (A : tWk s w w1) : tWq w w1 := ⟨A.1, A.2.1, A.2.2.1, A.2.2.2.1, fun h k => (A.2.2.2.2.2 k).elim (fun e => e.trans (h k)) fun e => e.1⟩
theorem tWq.rt {l : List Nat} : tWq w (w.w_rt l) := ⟨rfl, rfl, rfl, rfl, fun h => h⟩
theorem gQs.l {l : List Nat} (H : gQs g n l) (L : gL g g') : gQs g' n l := by
  obtain ⟨rs, h1, h2, h3⟩ := H
  refine ⟨rs, L.fz h1, h2, fun j q hj => ?_⟩
  obtain ⟨r, h4, h5⟩ := h3 j q hj
  exact ⟨r, h4, L.th (by decide) (by decide) h5⟩
theorem come4_qs : (s_come4 s q c ex ky xp dt).qs = s.qs := by
  have h3 : (s_come3 s q c ex ky xp dt).qs = s.qs := by
    unfold s_come3
    rw [in_qs, b36_qs, wr_qs_lastNum]
  unfold s_come4
  split
  · rw [wt_qs]
    exact h3
  · exact h3
theorem comes_qs : (s_comes s q c ex ky xp dt).qs = s.qs := by
  rw [s_comes_eq]
  exact (s_shorten_di _ _).2.2.2.1.trans come4_qs
theorem cpy_refs {l : List Nat} (A : gAr g 24 0 12 (l.map (fun q => zr (g.ref 33 q)))) : cpy (g.ar 24 0) (List.replicate l.length (zr 0)) l.length = (l.map (fun q => g.ref 33 q)).map zr := by
  refine List.ext_getElem? fun j => ?_
  by_cases hj : j < l.length
  · have hx : l[j]? = some l[j] := List.getElem?_eq_getElem hj
    rw [cpy_get _ j hj (by rw [List.length_replicate]; exact Nat.le_refl _), List.getD_eq_getElem?_getD, el_get A.2.2 hx, List.getElem?_map, List.getElem?_map, hx]
    rfl
  · rw [List.getElem?_eq_none (by rw [cpy_len, List.length_replicate]; omega), List.getElem?_eq_none (by rw [List.length_map, List.length_map]; omega)]
/-- a filled array is laid by -/
theorem tR.qsf {l : List Nat} (R : tR s0 F b s w g h) (A : gAr g 24 0 12 (l.map (fun q => zr (g.ref 33 q)))) (hk : ∀ q ∈ l, s.knd q = 33) (U : zUn s0 F g h n 1013 (cpy (g.ar 24 0) (List.replicate l.length (zr 0)) l.length)) :
    ∃ g1, tR s0 F b s w g1 h ∧ gL g g1 ∧ gQs g1 n l := by
  have R1 := R.freeze U
  rw [cpy_refs A] at R1
  have L1 : gL g (gFz g n (1013, (l.map (fun q => g.ref 33 q)).map zr)) := gL.frz U.1
  refine ⟨_, R1, L1, l.map (fun q => g.ref 33 q), gFz_F, List.length_map .., fun j q hj => ⟨g.ref 33 q, by rw [List.getElem?_map, hj]; rfl, L1.th (by decide) (by decide) (R.al (by decide) (by decide) (hk q (List.mem_of_getElem? hj)))⟩⟩
theorem t_pub_93 {l : List Nat} {x5 : Int32} (hl : w.rt = l) (hl12 : l.length ≤ 12) (hk : ∀ q ∈ l, s.knd q = 33) (hm : g.kind x0 = (1, 0))
    (K : ∀ h1, tR s0 F b s w g h1 → zUn s0 F g h1 n 1013 (cpy (g.ar 24 0) (List.replicate l.length (zr 0)) l.length) → zP s0 m_X8_publish (d + 1) 121 [some (zr x0), some (zr x1), some (zr x2), none, some (.int (Int32.ofNat l.length)), some (.int x5), some (zr n), some (.int 0)] [] h1 Q E) :
    ∀ (k i : Nat) (h : zH), i + k = l.length → tR s0 F b s w g h → zUn s0 F g h n 1013 (cpy (g.ar 24 0) (List.replicate l.length (zr 0)) i) → zP s0 m_X8_publish (d + 1) 93 [some (zr x0), some (zr x1), some (zr x2), none, some (.int (Int32.ofNat l.length)), some (.int x5), some (zr n), some (.int (Int32.ofNat i))] [] h Q E
  | k, i, h, hik, R, U => by
    have em := R.main hm
    have A : gAr g 24 0 12 (l.map (fun q => zr (g.ref 33 q))) := by
      rw [← hl]
      exact R.2.ar24
    refine b_X8_publish_93 ?_
    rw [i_le (by omega) (by omega)]
    refine ⟨fun hle => ?_, fun hle => e_R em fun (z1 : gR h x0 44 = g.ref 24 0) => ?_⟩
    · have ei : i = l.length := by omega
      subst ei
      exact K h R U
    · obtain ⟨k', rfl⟩ : ∃ k', k = k' + 1 := ⟨k - 1, by omega⟩
      have hx : l[i]? = some l[i] := List.getElem?_eq_getElem (by omega)
      rw [z1]
      refine g_El R A rfl (by decide) hx (by decide) fun z2 => ?_
      rw [z2]
      refine g_S (t := 13) U.2.2.1 U.2.2.2.2.2 (zin_of (by rw [cpy_len, List.length_replicate]; omega) (by omega)) ⟨Or.inr (zAsg_own (R.1.cell (R.al (by decide) (by decide) (hk _ (List.mem_of_getElem? hx))) (by decide)) zcl_37 rfl), ?_⟩
      rintro h1 rfl
      rw [i_nat (by omega), i_succ]
      refine t_pub_93 hl hl12 hk hm K k' (i + 1) _ (by omega) (R.putF U.1 U.2.1) ⟨U.1, U.2.1, ?_, U.2.2.2⟩
      rw [zput_self U.2.2.1, cpy, List.getD_eq_getElem?_getD, el_get A.2.2 hx]
      rfl
/-- all queues of a list are gone to -/
theorem t_pub_121 {to : List Nat} {S : sSt} {RC : Bool} (hto : to.length ≤ 12) (hm : g0.kind x0 = (1, 0)) (hc : gCont g0 x2 c) (ok : sContOk c) (hQ : gQs g0 n to)
    (K : ∀ g1 h1, tZ s0 F (b + tY S) S w g1 h1 → gL g0 g1 → (¬ Int32.ofNat to.length = 0 → zP s0 m_X8_publish (d + 80) 198 [some (zr x0), some (zr x1), none, none, none, some (.int (sB RC)), none, none] [] h1 Q E) ∧ (Int32.ofNat to.length = 0 → ((fI h1 x2 [40] 2) ∧ ((gI h1 x2 2 = 0 → (zP s0 m_X8_publish (d + 80) 198 [some (zr x0), some (zr x1), none, none, none, some (.int (sB RC)), none, none] [] h1 Q E)) ∧
      (¬ gI h1 x2 2 = 0 → (fC h1 x0 7 ∧ zX s0 m_X8_sendReturn (d + 79) [zr x0, zr x1, zr x2] h1 (fun _ h1 => (zP s0 m_X8_publish (d + 80) 198 [some (zr x0), some (zr x1), none, none, none, some (.int (sB RC)), none, none] [] h1 Q E)) E)))))) :
    ∀ (r pre : List Nat) (s : sSt) (rc : Bool) (g : sG) (h : zH), to = pre ++ r → (∀ q ∈ r, q ∈ s.qs) → tZ s0 F (b + tY s) s w g h → gL g0 g → s_comesAll c c.exch c.key c.expi 0 r s = S → (rc || s_recs c c.exch c.key c.expi 0 r s) = RC →
      zP s0 m_X8_publish (d + 80) 121 [some (zr x0), some (zr x1), some (zr x2), none, some (.int (Int32.ofNat to.length)), some (.int (sB rc)), some (zr n), some (.int (Int32.ofNat pre.length))] [] h Q E
  | [], pre, s, rc, g, h, hp, hq, Z, L, hS, hR => by
    have hlen : to.length = pre.length := by rw [hp, List.append_nil]
    have hS : s = S := hS
    subst hS
    have hR : (rc || false) = RC := hR
    rw [Bool.or_false] at hR
    subst hR
    refine b_X8_publish_121 ⟨fun _ => K g h Z L, fun hh => absurd ?_ hh⟩
    rw [hlen]
    exact Int32.le_refl _
  | q :: r, pre, s, rc, g, h, hp, hq, Z, L, hS, hR => by
    have hlen : to.length = pre.length + (r.length + 1) := by rw [hp, List.length_append, List.length_cons]
    have hm1 := L.m hm
    have hqs := hq q List.mem_cons_self
    have hkq := Z.sc.qs q hqs
    obtain ⟨rs, f1, f2, f3⟩ := hQ.l L
    have hx : to[pre.length]? = some q := by rw [hp, List.getElem?_append_right (Nat.le_refl _), Nat.sub_self]; rfl
    obtain ⟨rf, p1, p2⟩ := f3 _ q hx
    have hsucc : Int32.ofNat pre.length + 1 = Int32.ofNat (pre ++ [q]).length := by rw [i_succ, List.length_append, List.length_singleton]
    have ef := Z.r.fz f1
    have hg : (rs.map zr)[pre.length]? = some (zr rf) := by rw [List.getElem?_map, p1]; rfl
    have hgl : (rs.map zr).length = to.length := by rw [List.length_map]; exact f2
    refine b_X8_publish_121 ⟨fun hh => ?_, fun _ => ⟨⟨_, Z.r.main hm1⟩, t_full Z.r hm1 ⟨_, rfl, ?_⟩⟩⟩
    · rw [i_le (by omega) (by omega)] at hh
      omega
    rw [sB_0, hsucc]
    rw [s_comesAll] at hS
    rw [s_recs] at hR
    refine ⟨fun hf => ?_, fun hf => ?_⟩
    · rw [Bool.not_eq_false] at hf
      rw [if_pos hf] at hS hR
      rw [hf, Bool.not_true, Bool.false_and, Bool.false_or] at hR
      exact t_pub_121 hto hm hc ok hQ K r (pre ++ [q]) s rc g h (by rw [hp, List.append_assoc]; rfl) (fun x hx => hq x (List.mem_cons_of_mem _ hx)) Z L hS hR
    · rw [if_neg (by rw [hf]; decide)] at hS hR
      rw [hf, Bool.not_false, Bool.true_and] at hR
      refine g_ER (t := 13) ef (zin_of (by rw [hgl]; omega) (by omega)) (by rw [i_nat (by omega)]; exact hg) fun z1 => ?_
      rw [z1]
      have hc1 := L.Cont hc
      refine ⟨⟨_, Z.r.main hm1⟩, t_recorded (d := d + 78) Z.r p2 hc1 ⟨_, rfl, ?_⟩⟩
      rw [sB_0]
      have hgo : ∀ rc2 : Bool, (rc || s_rec (s.qu q) c) = rc2 → zP s0 m_X8_publish (d + 80) 151 [some (zr x0), some (zr x1), some (zr x2), none, some (.int (Int32.ofNat to.length)), some (.int (sB rc2)), some (zr n), some (.int (Int32.ofNat pre.length))] [] h Q E := fun rc2 h2 => by
        obtain ⟨e1, k1, hd1, bd1, got1, ec, c1, c2, c3, c4⟩ := hc1.cell Z.r
        refine b_X8_publish_151 (g_ER (t := 13) ef (zin_of (by rw [hgl]; omega) (by omega)) (by rw [i_nat (by omega)]; exact hg) fun z2 => e_R ec fun (z3 : gR h x2 0 = e1) => e_R ec fun (z4 : gR h x2 1 = k1) => e_J ec fun (z5 : gJ h x2 5 = c.expi) => ?_)
        rw [z2, z3, z4, z5]
        refine ⟨⟨_, Z.r.main hm1⟩, t_comesZ (d := d + 73) Z hm1 p2 hqs hc1 c1 c2 ok ok.1.1 ok.1.2.1 ok.1.2.2.2.2.2 hf fun g2 h2' Z2 L2 => ?_⟩
        rw [hsucc]
        refine t_pub_121 hto hm hc ok hQ K r (pre ++ [q]) _ rc2 g2 h2' (by rw [hp, List.append_assoc]; rfl) (fun x hx => ?_) Z2 (L.trans L2) hS ?_
        · rw [comes_qs]
          exact hq x (List.mem_cons_of_mem _ hx)
        · rw [← h2, Bool.or_assoc]
          exact hR
      refine ⟨fun hr => hgo rc (by rw [hr, Bool.or_false]), fun hr => ?_⟩
      rw [Bool.not_eq_false] at hr
      exact hgo true (by rw [hr, Bool.or_true])
theorem tY_confirm (I : sI s) (hj : isH j) {rc : Bool} : tY (s_confirm s j rc) ≤ tY s := by
  have I1 : sI (s_ch s j (fun k => k.w_confirm (k.confirm + 1))) := I.chSame hj rfl rfl (fun hx => hx) rfl
  have Y1 : tY (s_ch s j (fun k => k.w_confirm (k.confirm + 1))) = tY s := tY_ch
  have hS : s_confirm s j rc = if rc then s_ch (s_ch s j (fun k => k.w_confirm (k.confirm + 1))) j (fun k => k.w_confs (k.confs ++ [k.confirm])) else s_ans (s_ch s j (fun k => k.w_confirm (k.confirm + 1))) j 60 80 (w_32 ((s_ch s j (fun k => k.w_confirm (k.confirm + 1))).ch j).confirm ++ w_8 0) := rfl
  rw [hS]
  clear hS
  generalize s_ch s j (fun k => k.w_confirm (k.confirm + 1)) = s1 at I1 Y1 ⊢
  split
  · exact Nat.le_of_eq (tY_ch.trans Y1)
  · exact Nat.le_trans (tY_ans I1 hj) (Nat.le_of_eq Y1)
theorem tY_any (D : sDn s s') (I : sI s) : tY s' ≤ tY s + 900 := by
  have h1 : sRdy s' ≤ 300 := Nat.le_trans rdy_le (D.1 I).ms.2.2.2
  have h2 := D.live
  have h3 : s'.lastNum = s.lastNum := D.2.2.2.2.2.2.2.2.2.2.2.2.2.2.2.2.1
  unfold tY
  rw [h3]
  omega
theorem t_pub_198 {rc : Bool} (Z : tZ s0 F (b + 2 + tY s) s w g h) (hm : g.kind x0 = (1, 0)) (hx : g.kind x1 = (3, j)) (hj : isH j) (hcd : ∀ h, w.cd h = 0)
    (K : ∀ w1 g1 h1, tZ s0 F (b + tY (if (s.ch j).mode = 2 ∧ s_speaks s j then s_confirm s j rc else s)) (if (s.ch j).mode = 2 ∧ s_speaks s j then s_confirm s j rc else s) w1 g1 h1 → tWq w w1 → gL g g1 → Q (.int 1) h1) :
    zP s0 m_X8_publish (d + 80) 198 [some (zr x0), some (zr x1), none, none, none, some (.int (sB rc)), none, none] [] h Q E := by
  refine b_X8_publish_198 (e_I (Z.r.1.cell hx (by decide)) fun (z1 : gI h x1 3 = (s.ch j).mode) => ?_)
  rw [z1]
  refine ⟨fun hne => ?_, fun heq => t_speaks (d := d + 79) Z.r hx hj ⟨_, rfl, ?_⟩⟩
  · rw [if_neg (fun hh => hne hh.1)] at K
    exact K w g h (Z.le (by omega)) tWq.refl (gL.refl g)
  · rw [sB_0]
    refine ⟨fun hs => ?_, fun hs => ?_⟩
    · rw [if_neg (fun hh => by rw [hs] at hh; exact absurd hh.2 (by decide))] at K
      exact K w g h (Z.le (by omega)) tWq.refl (gL.refl g)
    · rw [Bool.not_eq_false] at hs
      rw [if_pos ⟨heq, hs⟩] at K
      have hy := tY_confirm (rc := rc) Z.i hj
      exact ⟨⟨_, Z.r.main hm⟩, t_confirm (b := b + tY s) (d := d + 7) (Z.le (by omega)) hm hx hj (hcd j) fun w1 g1 h1 Z1 W1 L1 => K w1 g1 h1 (Z1.le (Nat.add_le_add_left hy b)) W1.toq L1⟩
/-- from where the queues are known -/
theorem t_pub_78 {to : List Nat} (Z : tZ s0 F (b + 4 + tY s) s w g h) (hw : w.rt = to) (hto : ∀ q ∈ to, q ∈ s.qs) (hlt : to.length ≤ 12) (hm : g.kind x0 = (1, 0)) (hx : g.kind x1 = (3, j)) (hj : isH j) (hc : gCont g x2 c) (ok : sContOk c) (hcd : ∀ h, w.cd h = 0)
    {S2 S3 : sSt} (h2 : S2 = if to = [] ∧ c.mand then s_send (s_comesAll c c.exch c.key c.expi 0 to s) (j / 4) (w_method (Int32.ofNat (j % 4)) 60 50 (w_16 312 ++ w_8 0 ++ w_short c.exch ++ w_short c.key) ++ w_content (Int32.ofNat (j % 4)) c c.expi) else s_comesAll c c.exch c.key c.expi 0 to s)
    (h3 : S3 = if (S2.ch j).mode = 2 ∧ s_speaks S2 j then s_confirm S2 j (s_recs c c.exch c.key c.expi 0 to s) else S2)
    (K : ∀ w1 g1 h1, tZ s0 F (b + tY S3) S3 w1 g1 h1 → tWq w w1 → gL g g1 → Q (.int 1) h1) :
    zP s0 m_X8_publish (d + 80) 78 [some (zr x0), some (zr x1), some (zr x2), none, none, none, none, none] [.int (Int32.ofNat to.length)] h Q E := by
  refine b_X8_publish_78 ⟨i_nn (by omega), ?_⟩
  rw [i_nat (by omega)]
  have R2 : tR s0 F (b + 2 + tY s + tP s + 2) s w g h := Z.r.less (by omega)
  refine g_N (u := 2) R2 (by decide) (by omega) R2.big fun n1 h1 R1 U1 => ?_
  have hk : ∀ q ∈ to, s.knd q = 33 := fun q hq => Z.sc.qs q (hto q hq)
  refine t_pub_93 (d := d + 79) hw hlt hk hm (fun h5 R5 U5 => ?_) to.length 0 h1 (Nat.zero_add _) R1 U1
  obtain ⟨g6, R6, L6, Q6⟩ := R5.qsf (by rw [← hw]; exact R5.2.ar24) hk U5
  have Z6 : tZ s0 F (b + 2 + tY s) s w g6 h5 := ⟨R6, Z.i, by have := Z.c; omega⟩
  refine t_pub_121 (b := b + 2) (S := s_comesAll c c.exch c.key c.expi 0 to s) (RC := s_recs c c.exch c.key c.expi 0 to s) hlt (L6.m hm) (L6.Cont hc) ok Q6 (fun g7 h7 Z7 L7 => ?_) to [] s false g6 h5 rfl hto Z6 (gL.refl _) rfl rfl
  have L67 := L6.trans L7
  have hm7 := L67.m hm
  have hx7 := L67.k hx gSt3
  have hc7 := L67.Cont hc
  have hz : (Int32.ofNat to.length = 0) ↔ to = [] := by
    rw [show (0 : Int32) = Int32.ofNat 0 from rfl, i_inj (by omega) (by decide)]
    exact List.length_eq_zero_iff
  rw [hz]
  have hend : S2 = s_comesAll c c.exch c.key c.expi 0 to s → zP s0 m_X8_publish (d + 80) 198 [some (zr x0), some (zr x1), none, none, none, some (.int (sB (s_recs c c.exch c.key c.expi 0 to s))), none, none] [] h7 Q E := fun e2 => by
    rw [e2] at h3
    rw [h3] at K
    exact t_pub_198 Z7 hm7 hx7 hj hcd fun w8 g8 h8 Z8 W8 L8 => K w8 g8 h8 Z8 W8 (L67.trans L8)
  obtain ⟨e1, k1, hd1, bd1, got1, ec, c1, c2, c3, c4⟩ := hc7.cell Z7.r
  refine ⟨fun hne => hend (by rw [h2, if_neg (fun hh => hne hh.1)]), fun he => e_I ec fun (z1 : gI h7 x2 2 = sB c.mand) => ?_⟩
  rw [z1, sB_0]
  refine ⟨fun hf => hend (by rw [h2, if_neg (fun hh => by rw [hf] at hh; exact absurd hh.2 (by decide))]), fun hf => ?_⟩
  rw [Bool.not_eq_false] at hf
  rw [if_pos ⟨he, hf⟩] at h2
  have hy2 : tY S2 ≤ tY (s_comesAll c c.exch c.key c.expi 0 to s) := by
    rw [h2]
    exact tY_send Z7.i hj.div
  refine ⟨⟨_, Z7.r.main hm7⟩, t_sendReturn (d := d + 9) Z7 hm7 hx7 hj hc7 ok fun w8 g8 h8 Z8 W8 L8 => ?_⟩
  rw [← h2] at Z8
  have Z8' : tZ s0 F (b + 2 + tY S2) S2 w8 g8 h8 := Z8.le (by omega)
  rw [h3] at K
  have L68 := L67.trans L8
  exact t_pub_198 Z8' (L68.m hm) (L68.k hx gSt3) hj (W8.toq.2.2.2.2 hcd) fun w9 g9 h9 Z9 W9 L9 => K w9 g9 h9 Z9 (W8.toq.trans W9) (L68.trans L9)
theorem route_qs {e : Option Nat} {heads : Option sTab} {seen : List Nat} : ∀ (f : Nat) (seen : List Nat) (e : Option Nat), (∀ q ∈ s_routeL s ky heads f seen e, q ∈ s.qs) ∧ (s_routeL s ky heads f seen e).length ≤ s.qs.length
  | 0, _, _ => ⟨fun q hq => (nomatch hq), Nat.zero_le _⟩
  | f + 1, seen, none => ⟨fun q hq => (nomatch hq), Nat.zero_le _⟩
  | f + 1, seen, some e => by
    rw [s_routeL]
    split
    · exact ⟨fun q hq => (nomatch hq), Nat.zero_le _⟩
    · split
      · exact ⟨fun q hq => (List.mem_filter.mp hq).1, List.length_filter_le _ _⟩
      · exact route_qs (e := none) (seen := []) f _ _
theorem queue_qs {nm : sBy} : (∀ q ∈ (s_queue s nm).toList, q ∈ s.qs) ∧ (s_queue s nm).toList.length ≤ 12 := by
  cases hq : s_queue s nm with
  | none => exact ⟨fun q hq => (nomatch hq), by decide⟩
  | some q =>
    refine ⟨fun x hx => ?_, (by decide : 1 ≤ 12)⟩
    rw [List.mem_singleton.mp hx]
    exact List.mem_of_find?_eq_some hq
theorem s_publish_1 (hf : s_full s = false) : (s_publish s j c).1 =
    (let to := s_route s c.exch c.key c.heads
     let s2 := if to = [] ∧ c.mand then s_send (s_comesAll c c.exch c.key c.expi 0 to s) (j / 4) (w_method (Int32.ofNat (j % 4)) 60 50 (w_16 312 ++ w_8 0 ++ w_short c.exch ++ w_short c.key) ++ w_content (Int32.ofNat (j % 4)) c c.expi) else s_comesAll c c.exch c.key c.expi 0 to s
     if (s2.ch j).mode = 2 ∧ s_speaks s2 j then s_confirm s2 j (s_recs c c.exch c.key c.expi 0 to s) else s2) := by
  unfold s_publish
  rw [if_neg (by rw [hf]; decide)]
  rfl
/-- a content is published; where the hall is full, the connection is told -/
theorem t_publish (J : tJs s0 F) (Z : tZ s0 F (b + 906 + tY s) s w g h) (hm : g.kind x0 = (1, 0)) (hx : g.kind x1 = (3, j)) (hj : isH j) (hc : gCont g x2 c) (ok : sContOk c) (hcd : ∀ h, w.cd h = 0)
    (K0 : s_full s = true → ∀ w1 g1 h1, tZ s0 F (b + tY (s_hard s (j / 4) 506 w.cl w.me)) (s_hard s (j / 4) 506 w.cl w.me) w1 g1 h1 → tWq w w1 → gL g g1 → Q (.int 0) h1)
    (K1 : s_full s = false → ∀ w1 g1 h1, tZ s0 F (b + 900 + tY (s_publish s j c).1) (s_publish s j c).1 w1 g1 h1 → tWq w w1 → gL g g1 → Q (.int 1) h1) : zX s0 m_X8_publish (d + 80) [zr x0, zr x1, zr x2] h Q E := by
  have em := Z.r.main hm
  refine c_X8_publish ⟨⟨_, em⟩, t_full (d := d + 79) Z.r hm ⟨_, rfl, ?_⟩⟩
  rw [sB_0]
  obtain ⟨e1, k1, hd1, bd1, got1, ec, c1, c2, c3, c4⟩ := hc.cell Z.r
  refine ⟨fun hf => e_R ec fun (z1 : gR h x2 0 = e1) => ?_, fun hf => e_R (Z.r.1.cell hx (by decide)) fun (z1 : gR h x1 0 = g.ref 2 (j / 4)) => e_I em fun (z2 : gI h x0 32 = w.cl) => e_I em fun (z3 : gI h x0 33 = w.me) => ?_⟩
  · have K1 := K1 hf
    rw [s_publish_1 hf] at K1
    have eb := Z.r.fz c1
    rw [z1, gA_of eb, vB_len]
    have hz : (Int32.ofNat c.exch.length = 0) ↔ c.exch = [] := by
      have := ok.1.1
      rw [show (0 : Int32) = Int32.ofNat 0 from rfl, i_inj (by omega) (by decide)]
      exact List.length_eq_zero_iff
    rw [hz]
    have h65 : ∀ eo : Option Nat, (∀ e, eo = some e → e ∈ s.es) → s_route s c.exch c.key c.heads = (s_rtO s c.key c.heads eo) → zP s0 m_X8_publish (d + 80) 65 [some (zr x0), some (zr x1), some (zr x2), some (zr (gO g 32 eo)), none, none, none, none] [] h Q E := fun eo heo hr => by
      refine b_X8_publish_65 (e_R ec fun (z4 : gR h x2 1 = k1) => e_R ec fun (z5 : gR h x2 6 = hd1) => ?_)
      rw [z4, z5]
      refine ⟨⟨_, em⟩, t_route (b := b + 904 + tY s + tP s) (d := d + 65) (eo := eo) J (Z.r.less (by omega)) Z.sc Z.i.tx Z.i.cp hm c2 c3 ok.1.2.1 ok.1.2.2.1 heo fun g6 h6 R6 L6 => ⟨_, rfl, ?_⟩⟩
      rw [← hr] at R6 ⊢
      have hqs : (∀ q ∈ s_route s c.exch c.key c.heads, q ∈ s.qs) ∧ (s_route s c.exch c.key c.heads).length ≤ 12 := by
        rw [hr]
        unfold s_rtO
        cases eo with
        | none => exact queue_qs
        | some e => exact ⟨(route_qs (e := none) (seen := []) 13 [] (some e)).1, Nat.le_trans (route_qs (e := none) (seen := []) 13 [] (some e)).2 Z.i.cp.2.2.2.2.1⟩
      have Z6 : tZ s0 F (b + 900 + 4 + tY s) s (w.w_rt (s_route s c.exch c.key c.heads)) g6 h6 := ⟨R6.less (by omega), Z.i, by have := Z.c; omega⟩
      exact t_pub_78 Z6 rfl hqs.1 hqs.2 (L6.m hm) (L6.k hx gSt3) hj (L6.Cont hc) ok hcd rfl rfl fun w7 g7 h7 Z7 W7 L7 => K1 w7 g7 h7 Z7 (tWq.rt.trans W7) (L6.trans L7)
    have h48 : ∀ eo : Option Nat, (∀ e, eo = some e → e ∈ s.es) → (c.exch ≠ [] → eo = s_exch s c.exch) → (c.exch = [] → eo = none) → zP s0 m_X8_publish (d + 80) 48 [some (zr x0), some (zr x1), some (zr x2), none, none, none, none, none] [zr (gO g 32 eo)] h Q E := fun eo heo hn hy => by
      refine b_X8_publish_48 (e_R ec fun (z4 : gR h x2 0 = e1) => ?_)
      rw [z4, gA_of eb, vB_len]
      have hle : (Int32.ofNat c.exch.length ≤ 0) ↔ c.exch = [] := by
        have := ok.1.1
        rw [show (0 : Int32) = Int32.ofNat 0 from rfl, i_le (by omega) (by decide), Nat.le_zero]
        exact List.length_eq_zero_iff
      rw [hle]
      refine ⟨⟨_, eb⟩, fun he => h65 eo heo ?_, fun he => ⟨fun hne => h65 eo heo ?_, fun h0 => ?_⟩⟩
      · rw [hy he]
        unfold s_route s_rtO
        rw [if_pos he]
      · have hs := hn he
        cases eo with
        | none => exact absurd rfl hne
        | some e =>
          unfold s_route s_rtO
          rw [if_neg he, ← hs]
      · have hs := hn he
        cases eo with
        | none =>
          have hr : s_route s c.exch c.key c.heads = [] := by
            unfold s_route
            rw [if_neg he, ← hs]
            rfl
          rw [hr] at K1
          have Z6 : tZ s0 F (b + 900 + 4 + tY s) s (w.w_rt []) g h := ⟨(Z.r.less (by omega)).rt0, Z.i, by have := Z.c; omega⟩
          exact t_pub_78 (to := []) Z6 rfl (fun q hq => nomatch hq) (by decide) hm hx hj hc ok hcd rfl rfl fun w7 g7 h7 Z7 W7 L7 => K1 w7 g7 h7 Z7 (tWq.rt.trans W7) L7
        | some e => exact absurd h0 (Z.r.1.pos (Z.r.al (by decide) (by decide) (Z.sc.es e (heo e rfl))) (by decide))
    refine ⟨⟨_, eb⟩, fun hne => e_R ec fun _ => ⟨⟨_, em⟩, t_exchange (d := d + 78) Z.r Z.sc hm c1 (by have := ok.1.1; omega) (fun q hq => by have := (Z.i.tx.1 q (Z.sc.es q hq)).1; omega) ⟨_, rfl, h48 (s_exch s c.exch) (fun e he => exch_mem he) (fun _ => rfl) (fun he => absurd he hne)⟩⟩, fun he => h48 none (fun e he => (nomatch he)) (fun hne => absurd he hne) fun _ => rfl⟩
  · rw [Bool.not_eq_false] at hf
    rw [z1, z2, z3]
    have D := d_hard (s := s) (c := j / 4) (code := 506) (c1 := w.cl) (m1 := w.me) Z.i hj.div
    have hy := tY_any D Z.i
    exact ⟨⟨_, em⟩, t_hard (d := d + 3) Z hm (Z.r.cn hj.div) hj.div fun w8 g8 h8 Z8 W8 L8 => K0 hf w8 g8 h8 (Z8.le (by omega)) W8.toq L8⟩
end PB
