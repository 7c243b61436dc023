/-! ===== the twin: ends ===== -/
set_option maxRecDepth 100000
section FI
variable {s0 : zE} {F : Nat → Option zC} {b B : Nat} {s s' : sSt} {w w' : tW} {g g' : sG} {h h' : zH} {d x0 x1 x2 n k c i j q m : Nat} {l L : List Value} {x : sCh} {Q : Value → zH → Prop} {E : Nat → zH → Prop}
/-- a channel that has nothing any more -/
def s_fin (s : sSt) (j : Nat) : sSt := s_ch s j (fun k => (((((((k.w_kept []).w_confs []).w_due 0).w_cont none).w_mode 0).w_confirm 0).w_tag 0).w_junk false)
theorem s_gone_eq {cl : sSt → Nat → sSt} : s_gone cl s j = s_fin (s_backAll j ((s_cancelAll cl j s.cs.length s).ch j).sent (s_cancelAll cl j s.cs.length s)) j := rfl
theorem t_gone_66l (hj : isH j) (hx : g.kind x1 = (3, j)) (A : gA1 g 29 j) (hk32 : (s.ch j).kept.length ≤ 32)
    (K : ∀ L h1, gH s0 F B (tcell s w (gSet g 29 j L)) (gSet g 29 j L) h1 → L.length = 32 → (fC h1 x1 9) ∧ (∀ h2, h2 = zput h1 x1 9 (.int 0) → (fC h2 x1 9) ∧ (∀ h3, h3 = zput h2 x1 11 (.int 0) → (fC h3 x1 9) ∧ (∀ h4, h4 = zput h3 x1 12 (.int 0) → (fC h4 x1 9) ∧ (∀ h5, h5 = zput h4 x1 15 (zr 0) → (fC h5 x1 9) ∧ (∀ h6, h6 = zput h5 x1 3 (.int 0) → (fC h6 x1 9) ∧ (∀ h7, h7 = zput h6 x1 7 (.int 0) → (fC h7 x1 9) ∧ (∀ h8, h8 = zput h7 x1 6 (.int 0) → Q .null h8)))))))) :
    ∀ (k i : Nat) (L : List Value) (h : zH), (s.ch j).kept.length = i + k → gH s0 F B (tcell s w (gSet g 29 j L)) (gSet g 29 j L) h → L.length = 32 → zP s0 m_X8_gone (d + 1) 66 [none, some (zr x1), some (.int (Int32.ofNat i))] [] h Q E
  | k, i, L, h, hi, H, hL => by
    have hx2 : (gSet g 29 j L).kind x1 = (3, j) := hx
    have e : h.1 x1 = some (9, tCh (s.ch j) w (gSet g 29 j L) j) := H.cell hx2 (by decide)
    refine b_X8_gone_66 (e_I e fun (z1 : gI h x1 9 = Int32.ofNat (s.ch j).kept.length) => ?_)
    rw [z1, i_le (by omega) (by omega)]
    refine ⟨fun _ => K L h H hL, fun hc => ?_⟩
    obtain ⟨k', rfl⟩ : ∃ k', k = k' + 1 := ⟨k - 1, by omega⟩
    have A2 : gA1 (gSet g 29 j L) 29 j := A
    have eA : h.1 (g.ref 29 j) = some (1000 + 21, (gSet g 29 j L).ar 29 j) := H.cell A2 (by decide)
    rw [gSet_self] at eA
    have hA : s0.1.heap.size < g.ref 29 j := H.new A2 (by decide) (by decide)
    refine e_R e fun (z2 : gR h x1 17 = g.ref 29 j) => ?_
    rw [z2]
    refine g_S (t := 21) eA hA (zin_of (by rw [hL]; omega) (by omega)) ⟨Or.inl rfl, ?_⟩
    rintro h8 rfl
    rw [i_nat (by omega), i_succ]
    refine t_gone_66l hj hx A hk32 K k' (i + 1) (L.set i (zr 0)) _ (by omega) ?_ (by rw [List.length_set]; exact hL)
    refine H.put (g' := gSet g 29 j (L.set i (zr 0))) A2 (by decide) rfl rfl (cc := 1000 + 21) (fs := L) ?_ ?_ (fun m hk hne => ?_)
    · show (1000 + tarT 29, (gSet g 29 j L).ar 29 j) = _
      rw [gSet_self]
      rfl
    · show (1000 + tarT 29, (gSet g 29 j (L.set i (zr 0))).ar 29 j) = _
      rw [gSet_self]
      rfl
    · have hne2 : ¬ (((gSet g 29 j L).kind m).1 = 29 ∧ ((gSet g 29 j L).kind m).2 = j) := fun e => hne (Prod.ext e.1 e.2)
      rw [tcell_set hne2, tcell_set hne2]
theorem t_gone_66 (R : tR s0 F b s w g h) (hno : ∀ m, g.kind m ≠ (38, j)) (hjk : (s.ch j).junk = true) (hj : isH j) (hx : g.kind x1 = (3, j))
    (K : ∀ g1 h1, tR s0 F b (s_fin s j) (w.w_cd (sUp w.cd j 0)) g1 h1 → gL g g1 → Q .null h1) : zP s0 m_X8_gone (d + 1) 66 [none, some (zr x1), some (.int (Int32.ofNat 0))] [] h Q E := by
  obtain ⟨f1, f2, f3, f4, f5⟩ := R.2.chok hj
  have hs : gSet g 29 j (g.ar 29 j) = g := by
    unfold gSet
    have e : (fun c' i' => if c' = 29 ∧ i' = j then g.ar 29 j else g.ar c' i') = g.ar := funext fun c' => funext fun i' => by
      split
      · rename_i e
        rw [e.1, e.2]
      · rfl
    rw [e]
    rfl
  refine t_gone_66l (B := b + g.cr) (s := s) (w := w) hj hx f4.1 f4.2.2.1 (fun L h1 H hL => ?_) (s.ch j).kept.length 0 (g.ar 29 j) h (by omega) (by rw [hs]; exact R.1) f4.2.1
  have hx2 : (gSet g 29 j L).kind x1 = (3, j) := hx
  have hno2 : ∀ m, (gSet g 29 j L).kind m ≠ (38, j) := hno
  have e : h1.1 x1 = some (9, tCh (s.ch j) w (gSet g 29 j L) j) := H.cell hx2 (by decide)
  refine ⟨⟨_, e⟩, ?_⟩
  rintro h2 rfl
  have R2 : tR s0 F b (s.w_ch (sUp s.ch j ((s.ch j).w_kept []))) w (gSet g 29 j L) (zput h1 x1 9 (.int 0)) := by
    refine ⟨H.put hx2 (by decide) rfl rfl (cc := 9) (fs := tCh (s.ch j) w (gSet g 29 j L) j) rfl ?_ (fun m hk hne => ?_), R.2.arC (Or.inr (Or.inl rfl)) ?_⟩
    · show (9, tCh (sUp s.ch j _ j) w (gSet g 29 j L) j) = _
      rw [sUp_self]
      rfl
    · by_cases e38 : ((gSet g 29 j L).kind m).1 = 38
      · rw [e38]
        exact tcell_ch2 rfl
      · exact tcell_ch ⟨fun e => hne (Prod.ext e.1 e.2), e38⟩
    · obtain ⟨n5, a1, a2, a3⟩ := f3
      obtain ⟨n6, pre, b1, b2, b3, b4⟩ := f5
      refine ⟨f1, gUn.ne (k := s.ch j) f2 (by decide), ⟨n5, a1, a2, a3.ne (by omega)⟩, ⟨f4.1, by rw [gSet_self]; exact hL, Nat.zero_le _, fun k x hk => nomatch hk⟩, n6, pre, b1, b2, b3, b4.ne (by omega)⟩
  have L2 : gL g (gSet g 29 j L) := gL.set
  revert R2 hx2 hno2 L2
  generalize gSet g 29 j L = g2
  generalize zput h1 x1 9 (.int 0) = h2
  intro hx2 hno2 R2 L2
  have R2 : tR s0 F b (s_ch s j (fun k => k.w_kept [])) w g2 h2 := R2
  refine g_Pcf R2 hx2 fun h3 R3 _ => ?_
  rw [w_ch_ch] at R3
  have j3 : ((s_ch s j (fun k => (k.w_kept []).w_confs [])).ch j).junk = true := by rw [s_ch_ch]; exact hjk
  refine g_Pcj R3 hno2 hx2 (((s_ch s j (fun k => (k.w_kept []).w_confs [])).ch j).w_due 0) rfl (fun ⟨q1, q2, q3⟩ => ⟨q1, fun e => by rw [show (((s_ch s j (fun k => (k.w_kept []).w_confs [])).ch j).w_due 0).junk = ((s_ch s j (fun k => (k.w_kept []).w_confs [])).ch j).junk from rfl, j3] at e; exact absurd e (by decide), q3⟩) fun h4 R4 _ => ?_
  have R4 : tR s0 F b (s_ch (s_ch s j (fun k => (k.w_kept []).w_confs [])) j (fun k => k.w_due 0)) (w.w_cd (sUp w.cd j 0)) g2 h4 := R4
  rw [w_ch_ch] at R4
  refine g_Pct R4 hno2 hx2 fun g5 h5 R5 L5 hno5 _ => ?_
  rw [w_ch_ch] at R5
  have hx5 := L5.k hx2 (Or.inr (Or.inr (Or.inl rfl)))
  refine g_Pcj R5 hno5 hx5 ((_ : sCh).w_mode 0) rfl (fun hok => hok) fun h6 R6 _ => ?_
  have R6 : tR s0 F b (s_ch (s_ch s j (fun k => ((((k.w_kept []).w_confs []).w_due 0).w_cont none).w_junk false)) j (fun k => k.w_mode 0)) (w.w_cd (sUp w.cd j 0)) g5 h6 := R6
  rw [w_ch_ch] at R6
  refine g_Pcj R6 hno5 hx5 ((_ : sCh).w_confirm 0) rfl (fun hok => hok) fun h7 R7 _ => ?_
  have R7 : tR s0 F b (s_ch (s_ch s j (fun k => (((((k.w_kept []).w_confs []).w_due 0).w_cont none).w_junk false).w_mode 0)) j (fun k => k.w_confirm 0)) (w.w_cd (sUp w.cd j 0)) g5 h7 := R7
  rw [w_ch_ch] at R7
  refine g_Pcj R7 hno5 hx5 ((_ : sCh).w_tag 0) rfl (fun hok => hok) fun h8 R8 _ => ?_
  have R8 : tR s0 F b (s_ch (s_ch s j (fun k => ((((((k.w_kept []).w_confs []).w_due 0).w_cont none).w_junk false).w_mode 0).w_confirm 0)) j (fun k => k.w_tag 0)) (w.w_cd (sUp w.cd j 0)) g5 h8 := R8
  rw [w_ch_ch] at R8
  exact K g5 h8 R8 (L2.trans L5)
end FI
