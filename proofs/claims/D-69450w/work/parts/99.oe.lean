/-! ===== the twin: confirms that waited; what is expired ===== -/
set_option maxRecDepth 100000
set_option maxHeartbeats 200000
section OE
variable {s0 : zE} {F : Nat → Option zC} {b : Nat} {s s' S T : sSt} {w w' : tW} {g g' g0 : sG} {h h' : zH} {d x0 x1 x2 x3 n m c i j q e k a : Nat} {Q : Value → zH → Prop} {E : Nat → zH → Prop}
/-! a relation that basic steps keep, ends keep -/
def sPr (P : sSt → sSt → Prop) : Prop := (∀ s s1 s2, P s s1 → P s1 s2 → P s s2) ∧ (∀ s s' : sSt, s'.ch = s.ch → P s s') ∧ (∀ s h l, P s (s_ch s h (fun k => k.w_sent l))) ∧
  (∀ s h, P s (s_ch s h (fun k => (((((((k.w_kept []).w_confs []).w_due 0).w_cont none).w_mode 0).w_confirm 0).w_tag 0).w_junk false))) ∧ (∀ s h v, P s (s_ch s h (fun k => k.w_state v)))
theorem delE_ch : (s_delE s e).ch = s.ch := by
  unfold s_delE s_ex
  dsimp only
  by_cases hd : (s.ex e).dur = true
  · rw [if_pos hd]
    rfl
  · rw [if_neg hd]
    rfl
theorem unbindAll_ch : (s_unbindAll s q e).ch = s.ch := by
  unfold s_unbindAll
  dsimp only
  split
  · exact delE_ch
  · rfl
theorem fold_ch {α : Type} {f : sSt → α → sSt} (H : ∀ s x, (f s x).ch = s.ch) : ∀ (l : List α) (s : sSt), (l.foldl f s).ch = s.ch
  | [], s => rfl
  | x :: l, s => (fold_ch H l (f s x)).trans (H s x)
theorem delQ1_ch : (s_delQ1 s q).ch = s.ch := by
  unfold s_delQ1
  dsimp only
  rw [fold_ch fun _ _ => unbindAll_ch]
  by_cases hk : s_kept (s.qu q) = true
  · rw [if_pos hk]
    rfl
  · rw [if_neg hk]
    rfl
section PP
variable {P : sSt → sSt → Prop} {cl : sSt → Nat → sSt}
theorem P_refl (H : sPr P) : P s s := H.2.1 s s rfl
theorem P_if {p : Prop} [Decidable p] {s1 s2 : sSt} (A : p → P s s1) (B : ¬ p → P s s2) : P s (if p then s1 else s2) := by
  split
  · rename_i hp; exact A hp
  · rename_i hp; exact B hp
theorem P_go (H : sPr P) (hcl : ∀ s c, P s (cl s c)) {b : sBy} : P s (s_go cl s c b) := by
  unfold s_go
  exact P_if (fun _ => P_refl H) fun _ => P_if (fun _ => hcl s c) fun _ => H.2.1 _ _ rfl
theorem P_dropQ (H : sPr P) (hcl : ∀ s c, P s (cl s c)) : ∀ (n : Nat) (s : sSt), P s (s_dropQ cl q n s)
  | 0, s => P_refl H
  | n + 1, s => by
    rw [s_dropQ]
    split
    · exact P_refl H
    · refine H.1 _ _ _ (P_if (fun _ => H.1 _ (s_takeOut s _) _ (H.2.1 _ _ rfl) (P_go H hcl)) fun _ => H.2.1 _ _ rfl) (P_dropQ H hcl n _)
theorem P_delQ (H : sPr P) (hcl : ∀ s c, P s (cl s c)) : P s (s_delQ cl s q) := H.1 _ _ _ (H.2.1 _ _ delQ1_ch) (P_dropQ H hcl _ _)
theorem P_cancel (H : sPr P) (hcl : ∀ s c, P s (cl s c)) : P s (s_cancel cl s i) := by
  unfold s_cancel
  dsimp only
  exact P_if (fun _ => H.1 _ (s_takeOut s i) _ (H.2.1 _ _ rfl) (P_delQ H hcl)) fun _ => H.2.1 _ _ rfl
theorem P_cancelAll (H : sPr P) (hcl : ∀ s c, P s (cl s c)) : ∀ (n : Nat) (s : sSt), P s (s_cancelAll cl j n s)
  | 0, s => P_refl H
  | n + 1, s => by
    rw [s_cancelAll]
    split
    · exact P_refl H
    · exact H.1 _ _ _ (P_cancel H hcl) (P_cancelAll H hcl n _)
theorem P_backAll (H : sPr P) : ∀ (l : List Nat) (s : sSt), P s (s_backAll j l s)
  | [], s => P_refl H
  | x :: r, s => by
    rw [s_backAll]
    exact H.1 _ _ _ (H.1 _ _ _ (H.2.2.1 s j r) (H.2.1 _ _ s_requeue_ch)) (P_backAll H r _)
theorem P_gone (H : sPr P) (hcl : ∀ s c, P s (cl s c)) : P s (s_gone cl s j) := by
  unfold s_gone
  dsimp only
  exact H.1 _ _ _ (H.1 _ _ _ (P_cancelAll H hcl _ s) (P_backAll H _ _)) (H.2.2.2.1 _ _)
theorem P_ownAll (H : sPr P) (hcl : ∀ s c, P s (cl s c)) : ∀ (n : Nat) (s : sSt), P s (s_ownAll cl c n s)
  | 0, s => P_refl H
  | n + 1, s => by
    rw [s_ownAll]
    split
    · exact P_refl H
    · exact H.1 _ _ _ (P_delQ H hcl) (P_ownAll H hcl n _)
theorem P_end (H : sPr P) (hcl : ∀ s c, P s (cl s c)) : P s (s_end cl s c) := by
  unfold s_end
  dsimp only
  refine H.1 _ _ _ ?_ (P_ownAll H hcl _ _)
  refine H.1 _ _ _ ?_ (P_gone H hcl)
  refine H.1 _ _ _ ?_ (P_gone H hcl)
  refine H.1 _ _ _ ?_ (P_gone H hcl)
  exact H.1 _ _ _ (H.1 _ _ _ (H.2.2.2.2 _ _ _) (H.2.2.2.2 _ _ _)) (H.2.2.2.2 _ _ _)
theorem P_closeF (H : sPr P) : ∀ (n : Nat) (s : sSt) (c : Nat), P s (s_closeF n s c)
  | 0, s, c => P_refl H
  | n + 1, s, c => by
    rw [s_closeF]
    dsimp only
    exact P_if (fun _ => P_refl H) fun _ => P_if (fun _ => H.1 _ (s_cn s c (fun k => ((k.w_state 0).w_inp []).w_deaf false)) _ (H.2.1 _ _ rfl) (P_end H (P_closeF H n))) fun _ => H.2.1 _ _ rfl
theorem P_send (H : sPr P) {b : sBy} : P s (s_send s c b) := P_go H fun s c => P_closeF H 5 s c
end PP
/-- confirms that wait stay, or are forgotten -/
def sCf (s s' : sSt) : Prop := ∀ h, (s'.ch h).confs = (s.ch h).confs ∨ (s'.ch h).confs = []
theorem cf_up {f : sCh → sCh} (H : (f (s.ch j)).confs = (s.ch j).confs ∨ (f (s.ch j)).confs = []) : sCf s (s_ch s j f) := fun h => by
  by_cases e : h = j
  · subst e
    rw [s_ch_ch]
    exact H
  · exact Or.inl (by rw [show (s_ch s j f).ch h = s.ch h from sUp_ne e])
theorem cf_pr : sPr sCf := by
  refine ⟨fun s s1 s2 A B h => ?_, fun s s' e h => Or.inl (by rw [e]), fun s h l => cf_up (Or.inl rfl), fun s h => cf_up (Or.inr rfl), fun s h v => cf_up (Or.inl rfl)⟩
  rcases B h with e | e
  · rcases A h with e1 | e1
    · exact Or.inl (e.trans e1)
    · exact Or.inr (e.trans e1)
  · exact Or.inr e
theorem cf_ans {k1 me : Int32} {b : sBy} : sCf s (s_ans s j k1 me b) := P_send cf_pr
/-- one confirm more is told -/
theorem tR.told1 {x : Int32} {r : List Int32} (R : tR s0 F b s w g h) (hc : (s.ch j).confs = x :: r) : tR s0 F b (s_ch s j (fun k => k.w_confs r)) (w.w_cd (sUp w.cd j (w.cd j + 1))) g h := by
  have hcd : ∀ k, k ≠ j → (w.w_cd (sUp w.cd j (w.cd j + 1))).cd k = w.cd k := fun k hk => sUp_ne hk
  have hcj : (w.w_cd (sUp w.cd j (w.cd j + 1))).cd j = w.cd j + 1 := sUp_self
  have hch : ∀ k, k ≠ j → (s_ch s j (fun k => k.w_confs r)).ch k = s.ch k := fun k hk => sUp_ne hk
  have hP : ∀ c i, tcell (s_ch s j (fun k => k.w_confs r)) (w.w_cd (sUp w.cd j (w.cd j + 1))) g c i = tcell s w g c i := fun c i => by
    by_cases e3 : c = 3
    · subst e3
      by_cases e2 : i = j
      · subst e2
        show (9, tCh ((s_ch s i (fun k => k.w_confs r)).ch i) (w.w_cd (sUp w.cd i (w.cd i + 1))) g i) = (9, tCh (s.ch i) w g i)
        rw [s_ch_ch]
        have e : tCh ((s.ch i).w_confs r) (w.w_cd (sUp w.cd i (w.cd i + 1))) g i = (tCh (s.ch i) w g i).set 11 (vI ((w.w_cd (sUp w.cd i (w.cd i + 1))).cd i + r.length)) := rfl
        rw [e, hcj, show w.cd i + 1 + r.length = w.cd i + (s.ch i).confs.length by rw [hc, List.length_cons]; omega]
        rfl
      · show (9, tCh ((s_ch s j (fun k => k.w_confs r)).ch i) (w.w_cd (sUp w.cd j (w.cd j + 1))) g i) = (9, tCh (s.ch i) w g i)
        rw [hch _ e2]
        unfold tCh
        rw [hcd _ e2]
    · by_cases e38 : c = 38
      · subst e38
        show (40, tUn ((s_ch s j (fun k => k.w_confs r)).ch i) g i) = (40, tUn (s.ch i) g i)
        by_cases e2 : i = j
        · rw [e2, s_ch_ch]
          rfl
        · rw [hch _ e2]
      · unfold tcell
        split <;> first | rfl | exact absurd rfl e3 | exact absurd rfl e38
  refine ⟨R.1.re [] rfl rfl rfl (fun _ _ => rfl) (fun n hn => nomatch hn) fun n _ _ => hP _ _, ?_⟩
  obtain ⟨b1, b2, b3, b4, b5, b6, b7⟩ := R.2
  refine ⟨b1, b2, b3, b4, b5, fun k hk => ?_, b7⟩
  by_cases e : k = j
  · subst e
    show tChOk ((s_ch s k (fun k => k.w_confs r)).ch k) (w.w_cd (sUp w.cd k (w.cd k + 1))) g k
    rw [s_ch_ch]
    obtain ⟨f1, f2, f3, f4, n6, pre, f7, f8, f9, f10⟩ := b6 k hk
    have f11 := f10.2.2
    rw [hc] at f8 f11
    rw [List.length_cons] at f8
    refine ⟨f1, f2, f3, f4, n6, pre ++ [.int x], f7, ?_, ?_, f10.1, f10.2.1, ?_⟩
    · rw [hcj]
      show 2 * (w.cd k + 1 + r.length) ≤ _
      omega
    · rw [hcj, List.length_append, f9]
      rfl
    · rw [List.append_assoc]
      exact f11
  · show tChOk ((s_ch s j (fun k => k.w_confs r)).ch k) (w.w_cd (sUp w.cd j (w.cd j + 1))) g k
    rw [hch k e]
    obtain ⟨f1, f2, f3, f4, f5⟩ := b6 k hk
    refine ⟨f1, f2, f3, f4, ?_⟩
    rw [hcd k e]
    exact f5
theorem confH_nil {l : List Int32} (hc : (s.ch j).confs = []) : s_confH j l s = s := by
  cases l with
  | nil => rfl
  | cons x r => rw [s_confH, if_pos hc]
theorem confs_same (hc : (s.ch j).confs = []) : s_ch s j (fun k => k.w_confs []) = s := by
  have e : (s.ch j).w_confs [] = s.ch j := by
    generalize s.ch j = k at hc
    obtain ⟨a1, a2, a3, a4, a5, a6, a7, a8, a9, b1, b2, b3, b4, b5, b6, b7⟩ := k
    cases hc
    rfl
  show s.w_ch (sUp s.ch j ((s.ch j).w_confs [])) = s
  rw [e, show sUp s.ch j (s.ch j) = s.ch from funext fun i => by
    by_cases e : i = j
    · subst e; exact sUp_self
    · exact sUp_ne e]
  rfl
theorem t_cfa_35 {y1 y2 : Int32} (hj : isH j) (hm0 : g0.kind x0 = (1, 0)) (hx0 : g0.kind x3 = (3, j)) {thr : Int32} 
    (K : ∀ w1 g1 h1, tZ s0 F (b + tY T) T w1 g1 h1 → w1.thr = thr → (∀ i, w1.cd i = 0) → gL g0 g1 → zP s0 m_X8_confirmAll (d + 72) 9 [some (zr x0), some (.int y1), some (.int (y2 + 1)), none, none, none] [] h1 Q E) :
    ∀ (l : List Int32) (k : Nat) (s : sSt) (w : tW) (g : sG) (h : zH), s_confH j l s = T → k + l.length ≤ 1000000 → (((s.ch j).confs = l ∧ w.cd j = k) ∨ ((s.ch j).confs = [] ∧ (w.cd j = 0 ∨ w.cd j = k))) → (∀ i, i ≠ j → w.cd i = 0) → w.thr = thr →
      tZ s0 F (b + tY s) s w g h → gL g0 g → zP s0 m_X8_confirmAll (d + 72) 35 [some (zr x0), some (.int y1), some (.int y2), some (zr x3), some (.int (Int32.ofNat (k + l.length))), some (.int (Int32.ofNat k))] [] h Q E := by
  -- the end: nothing waits
  have hend : ∀ (s : sSt) (w : tW) (g : sG) (h : zH), (s.ch j).confs = [] → s = T → (∀ i, i ≠ j → w.cd i = 0) → w.thr = thr → tZ s0 F (b + tY s) s w g h → gL g0 g → (fC h x3 9) ∧ (∀ h1, h1 = zput h x3 11 (.int (0)) → (zP s0 m_X8_confirmAll (d + 72) 9 [some (zr x0), some (.int y1), some (.int (y2 + 1)), none, none, none] [] h1 Q E)) := fun s w g h hc hT hcd ht Z L => by
    refine g_Pcf Z.r (L.k hx0 gSt3) fun h1 R1 _ => ?_
    rw [confs_same hc] at R1
    subst hT
    refine K _ g h1 ⟨R1, Z.2⟩ ht (fun i => ?_) L
    by_cases e : i = j
    · subst e; exact sUp_self
    · exact (sUp_ne e).trans (hcd i e)
  intro l
  induction l with
  | nil =>
    intro k s w g h hT hb9 hc hcd ht Z L
    have hc0 : (s.ch j).confs = [] := hc.elim (fun q => q.1) fun q => q.1
    exact b_X8_confirmAll_35 ⟨fun _ => hend s w g h hc0 hT hcd ht Z L, fun hn => absurd (Int32.le_refl _) hn⟩
  | cons x r ih =>
    intro k s w g h hT hb9 hc hcd ht Z L
    have hx := L.k hx0 gSt3
    have hm := L.m hm0
    have ex := Z.r.1.cell hx (by decide)
    rw [List.length_cons] at hb9
    refine b_X8_confirmAll_35 ⟨fun hle => ?_, fun _ => e_I ex fun (z1 : gI h x3 11 = Int32.ofNat (w.cd j + (s.ch j).confs.length)) => ?_⟩
    · rw [List.length_cons, i_le (by omega) (by omega)] at hle
      omega
    rw [z1]
    rcases hc with ⟨hc, hk⟩ | ⟨hc, hk⟩
    · have hlen : (s.ch j).confs.length = r.length + 1 := by rw [hc]; rfl
      rw [hk, hlen, i_le (by omega) (by omega)]
      refine ⟨fun hle => absurd hle (by omega), fun _ => e_R ex fun (z2 : gR h x3 18 = g.ref 30 j) => ?_⟩
      obtain ⟨f1, f2, f3, f4, n6, pre, f7, f8, f9, f10⟩ := Z.r.2.2.2.2.2.2.1 j hj
      obtain ⟨eA, hA⟩ := Z.r.arr (t := 1) f10 rfl (by decide) (by decide)
      have hget : (g.ar 30 j)[k]? = some (.int x) := by
        refine pre_get f10.2.2 ?_
        rw [List.getElem?_append_right (by omega), f9, hk, Nat.sub_self, hc]
        rfl
      rw [z2]
      refine g_EI (t := 1) eA (zin_of (by rw [f10.2.1]; omega) (by omega)) (by rw [i_nat (by omega)]; exact hget) fun z3 => ?_
      rw [z3]
      have R1 := Z.r.told1 hc
      have hch1 : ((s_ch s j (fun k => k.w_confs r)).ch j).confs = r := by rw [s_ch_ch]; rfl
      have I1 : sI (s_ch s j (fun k => k.w_confs r)) := Z.i.chSame hj rfl rfl (fun hx => hx) rfl
      have hW : sWt (s_ch s j (fun k => k.w_confs r)) ≤ sWt s := sWt_ch fun h => by
        by_cases e : h = j
        · subst e
          rw [sUp_self]
          show (s.ch h).sent.length + r.length ≤ _
          omega
        · rw [sUp_ne e]
          exact Nat.le_refl _
      have hP1 : tP (s_ch s j (fun k => k.w_confs r)) = tP s := rfl
      have hY1 : tY (s_ch s j (fun k => k.w_confs r)) = tY s := tY_ch
      have hT' : s_confH j r (s_ans (s_ch s j (fun k => k.w_confs r)) j 60 80 (w_32 x ++ w_8 0)) = T := by
        rw [← hT, s_confH, if_neg (by rw [hc]; exact fun e => nomatch e)]
      have Z1 : tZ s0 F (b + tY (s_ch s j (fun k => k.w_confs r))) (s_ch s j (fun k => k.w_confs r)) (w.w_cd (sUp w.cd j (w.cd j + 1))) g h := ⟨by rw [hP1, hY1]; exact R1, I1, by
        have := Z.c
        rw [hP1, hY1]
        omega⟩
      have hcd1 : ∀ i, i ≠ j → (w.w_cd (sUp w.cd j (w.cd j + 1))).cd i = 0 := fun i hi => (sUp_ne hi).trans (hcd i hi)
      have hcj1 : (w.w_cd (sUp w.cd j (w.cd j + 1))).cd j = k + 1 := by rw [← hk]; exact sUp_self
      have ht1 : (w.w_cd (sUp w.cd j (w.cd j + 1))).thr = thr := ht
      generalize w.w_cd (sUp w.cd j (w.cd j + 1)) = w1 at Z1 hcd1 hcj1 ht1
      generalize s_ch s j (fun k => k.w_confs r) = s1 at Z1 hT' hch1
      have hcf := cf_ans (s := s1) (j := j) (k1 := 60) (me := 80) (b := w_32 x ++ w_8 0) j
      have hy := tY_ans (b := w_32 x ++ w_8 0) (k1 := 60) (me := 80) Z1.i hj
      refine ⟨⟨_, Z.r.main hm⟩, t_sendConfirm (d := d) Z1 hm hx hj fun w2 g2 h2 Z2 W2 L2 => ?_⟩
      have Z2 := Z2.le (Nat.add_le_add_left hy b)
      generalize s_ans s1 j 60 80 (w_32 x ++ w_8 0) = s2 at Z2 W2 hT' hcf
      rw [List.length_cons, i_succ, show k + (r.length + 1) = k + 1 + r.length by omega]
      refine ih (k + 1) s2 w2 g2 h2 hT' (by omega) ?_ (fun i hi => ?_) (W2.2.2.2.1.trans ht1) Z2 (L.trans L2)
      · rcases hcf with e | e
        · rcases W2.2.2.2.2.2 j with e2 | e2
          · exact Or.inl ⟨e.trans hch1, e2.trans hcj1⟩
          · exact Or.inr ⟨e2.2, Or.inl e2.1⟩
        · refine Or.inr ⟨e, ?_⟩
          rcases W2.2.2.2.2.2 j with e2 | e2
          · exact Or.inr (e2.trans hcj1)
          · exact Or.inl e2.1
      · rcases W2.2.2.2.2.2 i with e2 | e2
        · exact e2.trans (hcd1 i hi)
        · exact e2.1
    · rw [hc]
      have hle : Int32.ofNat (w.cd j + [].length) ≤ Int32.ofNat k := by
        rw [List.length_nil, Nat.add_zero, i_le (by rcases hk with e | e <;> omega) (by omega)]
        rcases hk with e | e <;> omega
      refine ⟨fun _ => hend s w g h hc ?_ hcd ht Z L, fun hn => absurd hle hn⟩
      rw [← hT, confH_nil hc]
/-- one channel's confirms are told -/
theorem t_cfa_ch (Z : tZ s0 F (b + tY s) s w g h) (hm : g.kind x0 = (1, 0)) (hc : c < 4) (hn : 1 ≤ n ∧ n ≤ 3) (hcd : ∀ i, w.cd i = 0)
    (K : ∀ w1 g1 h1, tZ s0 F (b + tY (s_confH (4 * c + n) (s.ch (4 * c + n)).confs s)) (s_confH (4 * c + n) (s.ch (4 * c + n)).confs s) w1 g1 h1 → w1.thr = w.thr → (∀ i, w1.cd i = 0) → gL g g1 → zP s0 m_X8_confirmAll (d + 72) 9 [some (zr x0), some (.int (Int32.ofNat c)), some (.int (Int32.ofNat (n + 1))), none, none, none] [] h1 Q E) :
    zP s0 m_X8_confirmAll (d + 72) 9 [some (zr x0), some (.int (Int32.ofNat c)), some (.int (Int32.ofNat n)), none, none, none] [] h Q E := by
  have hj : isH (4 * c + n) := isH.of hc hn.1 hn.2
  have A := (Z.r.2.2.2.2.2.1 c hc).2.2
  obtain ⟨eA, hA⟩ := Z.r.arr (t := 19) A rfl (by decide) (by decide)
  have hget : (zr 0 :: [1, 2, 3].map (fun k => zr (g.ref 3 (4 * c + k))))[n]? = some (zr (g.ref 3 (4 * c + n))) := by
    have h3 : n = 1 ∨ n = 2 ∨ n = 3 := by omega
    rcases h3 with e | e | e <;> subst e <;> rfl
  refine b_X8_confirmAll_9 ⟨fun h3 => ?_, fun _ => g_Con Z.r hm hc fun z1 => ?_⟩
  · rw [show (3 : Int32) = Int32.ofNat 3 from rfl, i_lt (by decide) (by omega)] at h3
    omega
  rw [z1]
  refine e_R (Z.r.1.cell (Z.r.cn hc) (by decide)) fun (z2 : gR h (g.ref 2 c) 12 = g.ref 27 c) => ?_
  rw [z2]
  refine g_ER (t := 19) eA (zin_of (by rw [A.2.1]; omega) (by omega)) (by rw [i_nat (by omega)]; exact pre_get A.2.2 hget) fun z3 => ?_
  rw [z3]
  have hk3 := Z.r.ch hj
  have hsl := Z.sent hj
  refine e_I (Z.r.1.cell hk3 (by decide)) fun (z4 : gI h (g.ref 3 (4 * c + n)) 11 = Int32.ofNat (w.cd (4 * c + n) + (s.ch (4 * c + n)).confs.length)) => ?_
  rw [z4, hcd]
  refine t_cfa_35 (T := s_confH (4 * c + n) (s.ch (4 * c + n)).confs s) (g0 := g) (thr := w.thr) hj hm hk3 (fun w1 g1 h1 Z1 t1 c1 L1 => ?_) (s.ch (4 * c + n)).confs 0 s w g h rfl (by omega) (Or.inl ⟨rfl, hcd _⟩) (fun i _ => hcd i) rfl Z (gL.refl g)
  rw [i_succ]
  exact K w1 g1 h1 Z1 t1 c1 L1
/-- a connection's -/
def s_confC (c : Nat) (s : sSt) : sSt := [4 * c + 1, 4 * c + 2, 4 * c + 3].foldl (fun s h => s_confH h (s.ch h).confs s) s
theorem confAll_eq : s_confAll s = s_confC 3 (s_confC 2 (s_confC 1 (s_confC 0 s))) := rfl
theorem t_cfa_c (Z : tZ s0 F (b + tY s) s w g h) (hm : g.kind x0 = (1, 0)) (hc : c < 4) (hcd : ∀ i, w.cd i = 0)
    (K : ∀ w1 g1 h1, tZ s0 F (b + tY (s_confC c s)) (s_confC c s) w1 g1 h1 → w1.thr = w.thr → (∀ i, w1.cd i = 0) → gL g g1 → zP s0 m_X8_confirmAll (d + 72) 2 [some (zr x0), some (.int (Int32.ofNat (c + 1))), none, none, none, none] [] h1 Q E) :
    zP s0 m_X8_confirmAll (d + 72) 2 [some (zr x0), some (.int (Int32.ofNat c)), none, none, none, none] [] h Q E := by
  unfold s_confC at K
  rw [List.foldl_cons, List.foldl_cons, List.foldl_cons, List.foldl_nil] at K
  refine b_X8_confirmAll_2 ⟨fun h4 => ?_, fun _ => ?_⟩
  · rw [show (4 : Int32) = Int32.ofNat 4 from rfl, i_le (by decide) (by omega)] at h4
    omega
  refine t_cfa_ch (n := 1) Z hm hc ⟨by decide, by decide⟩ hcd fun w1 g1 h1 Z1 t1 c1 L1 => ?_
  refine t_cfa_ch (n := 2) Z1 (L1.m hm) hc ⟨by decide, by decide⟩ c1 fun w2 g2 h2 Z2 t2 c2 L2 => ?_
  refine t_cfa_ch (n := 3) Z2 ((L1.trans L2).m hm) hc ⟨by decide, by decide⟩ c2 fun w3 g3 h3 Z3 t3 c3 L3 => ?_
  refine b_X8_confirmAll_9 ⟨fun _ => ?_, fun hn => absurd (by decide) hn⟩
  rw [i_succ]
  exact K w3 g3 h3 Z3 (t3.trans (t2.trans t1)) c3 ((L1.trans L2).trans L3)
theorem t_confirmAll (Z : tZ s0 F (b + tY s) s w g h) (hm : g.kind x0 = (1, 0)) (hcd : ∀ i, w.cd i = 0)
    (K : ∀ w1 g1 h1, tZ s0 F (b + tY (s_confAll s)) (s_confAll s) w1 g1 h1 → w1.thr = w.thr → (∀ i, w1.cd i = 0) → gL g g1 → Q .null h1) : zX s0 m_X8_confirmAll (d + 72) [zr x0] h Q E := by
  rw [confAll_eq] at K
  refine c_X8_confirmAll (t_cfa_c (c := 0) Z hm (by decide) hcd fun w1 g1 h1 Z1 t1 c1 L1 => ?_)
  refine t_cfa_c (c := 1) Z1 (L1.m hm) (by decide) c1 fun w2 g2 h2 Z2 t2 c2 L2 => ?_
  refine t_cfa_c (c := 2) Z2 ((L1.trans L2).m hm) (by decide) c2 fun w3 g3 h3 Z3 t3 c3 L3 => ?_
  refine t_cfa_c (c := 3) Z3 (((L1.trans L2).trans L3).m hm) (by decide) c3 fun w4 g4 h4 Z4 t4 c4 L4 => ?_
  exact b_X8_confirmAll_2 ⟨fun _ => K w4 g4 h4 Z4 (t4.trans (t3.trans (t2.trans t1))) c4 (((L1.trans L2).trans L3).trans L4), fun hn => absurd (by decide) hn⟩
/-! what is expired -/
theorem lg_lt {x y : Int64} : lg_cmp x y < 0 ↔ x < y := by
  unfold lg_cmp
  by_cases h1 : y < x
  · rw [if_pos h1]
    exact ⟨fun h => absurd h (by decide), fun h => absurd (Int64.lt_trans h h1) Int64.lt_irrefl⟩
  · rw [if_neg h1]
    by_cases h2 : x = y
    · rw [if_pos h2]
      exact ⟨fun h => absurd h (by decide), fun h => by rw [h2] at h; exact absurd h Int64.lt_irrefl⟩
    · rw [if_neg h2]
      exact ⟨fun _ => Int64.lt_of_le_of_ne (Int64.not_lt.mp h1) h2, fun _ => by decide⟩
theorem lg_ge {x y : Int64} : 0 ≤ lg_cmp x y ↔ ¬ x < y := by
  rw [← lg_lt]
  exact Int32.not_lt.symm
theorem t_expired_43 {l : Int64} (R : tR s0 F b s w g h) (hm : g.kind x0 = (1, 0)) (hx : g.kind x1 = (36, m)) (K : Q (.int (sB (decide (0 ≤ l) && decide (l ≤ (s.clock - (s.en m).came).toInt64)))) h) :
    zP s0 m_X8_expired d 43 [some (zr x0), some (zr x1), some (.long l), none] [] h Q E := by
  refine b_X8_expired_43 ⟨fun h0 => ?_, fun h0 => e_I (R.main hm) fun (z1 : gI h x0 12 = s.clock) => e_I (R.1.cell hx (by decide)) fun (z2 : gI h x1 6 = (s.en m).came) => ?_⟩
  · rw [decide_eq_false (lg_0.mp h0)] at K
    exact K
  · have h1 : 0 ≤ l := Classical.byContradiction fun hn => h0 (lg_0.mpr hn)
    rw [z1, z2, lg_lt]
    rw [decide_eq_true h1, Bool.true_and] at K
    refine ⟨fun hl => ?_, fun hl => ?_⟩
    · rw [decide_eq_false (Int64.not_le.mpr hl)] at K
      exact K
    · rw [decide_eq_true (Int64.not_lt.mp hl)] at K
      exact K
theorem t_expired (R : tR s0 F b s w g h) (I : sScope s) (hm : g.kind x0 = (1, 0)) (hx : g.kind x1 = (36, m)) (K : Q (.int (sB (s_expired s m))) h) : zX s0 m_X8_expired d [zr x0, zr x1] h Q E := by
  have ex := R.1.cell hx (by decide)
  have hkm := R.ak (by decide) (by decide) hx
  have aq := R.al (by decide) (by decide) (I.en m hkm)
  have eq := R.1.cell aq (by decide)
  unfold s_expired at K
  dsimp only at K
  refine c_X8_expired (e_J ex fun (z1 : gJ h x1 3 = (s.en m).expi) => e_R ex fun (z2 : gR h x1 4 = g.ref 33 (s.en m).queue) => ?_)
  rw [z1, z2]
  refine e_I eq fun (z3 : gI h (g.ref 33 (s.en m).queue) 7 = (s.qu (s.en m).queue).ttl) => ?_
  rw [z3]
  refine ⟨fun ht => ?_, fun ht => ⟨fun ha => e_R ex fun _ => e_I eq fun _ => ?_, fun ha => e_R ex fun _ => e_I eq fun _ => ⟨fun hl => ?_, fun hl => e_R ex fun _ => e_I eq fun _ => ?_⟩⟩⟩
  · rw [if_neg (fun hh => absurd hh.1 (Int32.not_le.mpr ht))] at K
    try dsimp only at K
    exact t_expired_43 R hm hx K
  · rw [if_pos ⟨Int32.not_lt.mp ht, Or.inl (lg_lt.mp ha)⟩] at K
    try dsimp only at K
    exact t_expired_43 R hm hx K
  · rw [lg_ge] at hl
    rw [if_neg (fun hh => hh.2.elim (fun q => ha (lg_lt.mpr q)) hl)] at K
    try dsimp only at K
    exact t_expired_43 R hm hx K
  · rw [lg_ge, Classical.not_not] at hl
    rw [if_pos ⟨Int32.not_lt.mp ht, Or.inr hl⟩] at K
    try dsimp only at K
    exact t_expired_43 R hm hx K
/-- what is looked for -/
def s_xpf (s : sSt) (m : Nat) : Bool := (s.en m).state == 0 && s_expired s m
theorem t_xp_29 {y1 : Int32} (R : tR s0 F b s w g h) (I : sScope s) (hm : g.kind x0 = (1, 0)) (hx : g.kind x2 = (33, q))
    (K0 : s_best s q (s_xpf s) = none → zP s0 m_X8_expire (d + 5) 100 [some (zr x0), some (.int y1), some (zr x2), none, some (zr 0), none, none] [.int 0] h Q E)
    (K1 : ∀ m, s_best s q (s_xpf s) = some m → zP s0 m_X8_expire (d + 5) 100 [some (zr x0), some (.int y1), some (zr x2), none, some (zr (g.ref 36 m)), none, none] [.int 1] h Q E) :
    ∀ (rest pre : List Nat) (best : Option Nat), (s.qu q).ents = pre ++ rest → (∀ x, best = some x → s.knd x = 36) → s_best s q (s_xpf s) = rest.foldl (s_bstep s q (s_xpf s)) best →
      zP s0 m_X8_expire (d + 5) 29 [some (zr x0), some (.int y1), some (zr x2), none, some (zr (gO g 36 best)), some (.int (Int32.ofNat pre.length)), none] [] h Q E
  | [], pre, best, hp, hb, hf => by
    have hq := R.ak (by decide) (by decide) hx
    have A := R.ents hq
    have hle := A.le
    rw [List.length_map] at hle
    have e := R.1.cell hx (by decide)
    have hl : (s.qu q).ents.length = pre.length := by rw [hp, List.append_nil]
    refine b_X8_expire_29 (e_I e fun (z1 : gI h x2 12 = Int32.ofNat (s.qu q).ents.length) => ?_)
    rw [z1, i_le (by omega) (by omega)]
    refine ⟨fun _ => ⟨fun h0 => ?_, fun h0 => ?_⟩, fun hn => absurd (Nat.le_of_eq hl) hn⟩
    · cases best with
      | none => exact K0 hf
      | some y => exact absurd h0 (R.1.pos (R.al (by decide) (by decide) (hb y rfl)) (by decide))
    · cases best with
      | none => exact absurd rfl h0
      | some y => exact K1 y hf
  | x :: rest, pre, best, hp, hb, hf => by
    have hq := R.ak (by decide) (by decide) hx
    have A := R.ents hq
    have hle := A.le
    rw [List.length_map] at hle
    have e := R.1.cell hx (by decide)
    have hl : (s.qu q).ents.length = pre.length + rest.length + 1 := by rw [hp]; simp; omega
    have hx5 : (s.qu q).ents[pre.length]? = some x := by rw [hp]; simp
    have hkx := ((I.qu q hq).1 x (List.mem_of_getElem? hx5)).1
    have ax := R.al (by decide) (by decide) hkx
    have hpp : (s.qu q).ents = (pre ++ [x]) ++ rest := by rw [hp, List.append_assoc]; rfl
    have hpl : pre.length + 1 = (pre ++ [x]).length := by simp
    rw [List.foldl_cons] at hf
    refine b_X8_expire_29 (e_I e fun (z1 : gI h x2 12 = Int32.ofNat (s.qu q).ents.length) => ?_)
    rw [z1, i_le (by omega) (by omega)]
    refine ⟨fun hn => absurd hn (by omega), fun _ => e_R e fun z2 => ?_⟩
    rw [z2]
    refine g_El R A rfl (by decide) hx5 (by decide) fun z3 => ?_
    rw [z3]
    refine e_I (R.1.cell ax (by decide)) fun (z4 : gI h (g.ref 36 x) 8 = (s.en x).state) => ?_
    rw [z4, i_succ, hpl]
    refine ⟨fun hs => t_xp_29 R I hm hx K0 K1 rest (pre ++ [x]) best hpp hb ?_, fun hs => ⟨⟨_, R.main hm⟩, t_expired (d := d + 4) R I hm ax ⟨_, rfl, ?_⟩⟩⟩
    · rw [hf, s_bstep_f (f := s_xpf s) (by unfold s_xpf; rw [beq_false_of_ne hs]; rfl)]
    rw [sB_0]
    have hxf : s_xpf s x = s_expired s x := by
      unfold s_xpf
      rw [beq_iff_eq.mpr hs]
      rfl
    constructor
    · intro he
      refine t_xp_29 R I hm hx K0 K1 rest (pre ++ [x]) best hpp hb ?_
      rw [hf, s_bstep_f (f := s_xpf s) (hxf.trans he)]
    · intro he
      rw [Bool.not_eq_false] at he
      have ht : s_xpf s x = true := hxf.trans he
      refine ⟨fun h0 => ?_, fun h0 => ?_⟩
      · have hbn : best = none := by
          cases best with
          | none => rfl
          | some y => exact absurd h0 (R.1.pos (R.al (by decide) (by decide) (hb y rfl)) (by decide))
        refine t_xp_29 R I hm hx K0 K1 rest (pre ++ [x]) (some x) hpp (fun y hy => by cases hy; exact hkx) ?_
        rw [hf, hbn, s_bstep_n ht]
      · obtain ⟨y, rfl⟩ : ∃ y, best = some y := by
          cases best with
          | none => exact absurd rfl h0
          | some y => exact ⟨y, rfl⟩
        refine t_ahead (d := d + 3) R hx ax (R.al (by decide) (by decide) (hb y rfl)) ⟨_, rfl, ?_⟩
        have hst : s_bstep s q (s_xpf s) (some y) x = if s_ahead s q x y then some x else some y := s_bstep_s ht
        rw [sB_0]
        constructor
        · intro ha
          refine t_xp_29 R I hm hx K0 K1 rest (pre ++ [x]) (some y) hpp hb ?_
          rw [hf, hst, ha]
          rfl
        · intro ha
          rw [Bool.not_eq_false] at ha
          refine t_xp_29 R I hm hx K0 K1 rest (pre ++ [x]) (some x) hpp (fun y hy => by cases hy; exact hkx) ?_
          rw [hf, hst, ha]
          rfl
theorem t_diesZ (Z : tZ s0 F (b + tY s) s w g h) (hm : g.kind x0 = (1, 0)) (hx : g.kind x1 = (36, m)) (hk : s.knd m = 36) (hi : m ∈ (s.qu (s.en m).queue).ents) (K : ∀ g1 h1, tZ s0 F (b + tY (s_dies s m)) (s_dies s m) w g1 h1 → gL g g1 → Q .null h1) : zX s0 m_X8_dies (d + 4) [zr x0, zr x1] h Q E := by
  obtain ⟨D, hP⟩ := d_dies Z.i hk hi
  have hy := tY_lf Z.i hk hi lf_dies
  refine t_dies (b := b + tY s + tP (s_dies s m)) (Z.r.less (by omega)) Z.sc hm hx hi (by have := Z.facts; omega) Z.i.cp.2.2.2.2.2.2.2.1 fun g1 h1 R1 L1 => K g1 h1 ?_ L1
  exact (Z.dn D R1).le (Nat.add_le_add_left hy b)
theorem t_xpQ {y1 : Int32} (hx0 : g0.kind x2 = (33, q)) (hm0 : g0.kind x0 = (1, 0)) (K : ∀ g1 h1, tZ s0 F (b + tY T) T w g1 h1 → gL g0 g1 → zP s0 m_X8_expire (d + 5) 2 [some (zr x0), some (.int (y1 + 1)), none, none, none, none, none] [] h1 Q E) :
    ∀ (n : Nat) (s : sSt) (g : sG) (h : zH), s_expireQ q n s = T → (s.qu q).ents.length ≤ n → tZ s0 F (b + tY s) s w g h → gL g0 g → zP s0 m_X8_expire (d + 5) 19 [some (zr x0), some (.int y1), some (zr x2), some (.int 1), none, none, none] [] h Q E
  | n, s, g, h, hT, hn, Z, L => by
    have hm := L.m hm0
    have hx : g.kind x2 = (33, q) := L.th (by decide) (by decide) hx0
    have hbe : s_best s q (fun m => (s.en m).state == 0 && s_expired s m) = s_best s q (s_xpf s) := rfl
    refine b_X8_expire_19 ⟨fun h0 => absurd h0 (by decide), fun _ => t_xp_29 Z.r Z.sc hm hx (fun hb => ?_) (fun m hb => ?_) (s.qu q).ents [] none rfl (fun _ h => nomatch h) rfl⟩
    · refine b_X8_expire_100 ⟨fun _ => b_X8_expire_19 ⟨fun _ => ?_, fun hh => absurd rfl hh⟩, fun hh => absurd rfl hh⟩
      have hTs : s = T := by
        cases n with
        | zero => exact hT
        | succ n =>
          rw [s_expireQ, hbe, hb] at hT
          exact hT
      subst hTs
      exact K g h Z L
    · obtain ⟨hmem, hst⟩ := s_best_mem hb
      have hq := Z.r.ak (by decide) (by decide) hx
      obtain ⟨hkm, hmq⟩ := (Z.sc.qu q hq).1 m hmem
      obtain ⟨n', rfl⟩ : ∃ n', n = n' + 1 := ⟨n - 1, by have := List.length_pos_of_mem hmem; omega⟩
      rw [s_expireQ, hbe, hb] at hT
      have he := s_dies_ents (s := s) (m := m)
      rw [hmq] at he
      refine b_X8_expire_100 ⟨fun hh => absurd hh (by decide), fun _ => ⟨⟨_, Z.r.main hm⟩, t_diesZ (d := d) Z hm (Z.r.al (by decide) (by decide) hkm) hkm (by rw [hmq]; exact hmem) fun g1 h1 Z1 L1 => ?_⟩⟩
      have hT : s_expireQ q n' (s_dies s m) = T := hT
      generalize s_dies s m = s2 at hT he Z1
      exact t_xpQ hx0 hm0 K n' s2 g1 h1 hT (by rw [he, List.length_erase_of_mem hmem]; omega) Z1 (L.trans L1)
theorem expireQ_qs : ∀ (n : Nat) (s : sSt), (s_expireQ q n s).qs = s.qs
  | 0, s => rfl
  | n + 1, s => by
    rw [s_expireQ]
    split
    · rfl
    · rw [expireQ_qs n]
      exact s_dies_di.2.2.2.1
theorem t_xp_2 (hm0 : g0.kind x0 = (1, 0)) (K : ∀ g1 h1, tZ s0 F (b + tY T) T w g1 h1 → gL g0 g1 → Q .null h1) :
    ∀ (k i : Nat) (s : sSt) (g : sG) (h : zH), s.qs.length = i + k → (s.qs.drop i).foldl (fun s q => s_expireQ q (s.qu q).ents.length s) s = T → tZ s0 F (b + tY s) s w g h → gL g0 g → zP s0 m_X8_expire (d + 5) 2 [some (zr x0), some (.int (Int32.ofNat i)), none, none, none, none, none] [] h Q E
  | k, i, s, g, h, hl, hT, Z, L => by
    have hm := L.m hm0
    have em := Z.r.main hm
    have A := Z.r.2.ar6
    have hle := Z.i.cp.2.2.2.2.1
    refine b_X8_expire_2 (e_I em fun (z1 : gI h x0 6 = Int32.ofNat s.qs.length) => ?_)
    rw [z1, i_le (by omega) (by omega)]
    refine ⟨fun hk => ?_, fun hk => e_R em fun (z2 : gR h x0 2 = g.ref 6 0) => ?_⟩
    · rw [List.drop_of_length_le hk] at hT
      have hT : s = T := hT
      subst hT
      exact K g h Z L
    obtain ⟨k', rfl⟩ : ∃ k', k = k' + 1 := ⟨k - 1, by omega⟩
    have hi : i < s.qs.length := by omega
    have hx : s.qs[i]? = some s.qs[i] := List.getElem?_eq_getElem hi
    have hkq := Z.sc.qs _ (List.getElem_mem hi)
    rw [List.drop_eq_getElem_cons hi, List.foldl_cons] at hT
    generalize s.qs[i] = q at hx hkq hT
    rw [z2]
    refine g_El Z.r A rfl (by decide) hx (by omega) fun z3 => ?_
    rw [z3]
    have hqs := expireQ_qs (q := q) (s.qu q).ents.length s
    refine t_xpQ (q := q) (g0 := g) (T := s_expireQ q (s.qu q).ents.length s) (Z.r.al (by decide) (by decide) hkq) hm (fun g1 h1 Z1 L1 => ?_) (s.qu q).ents.length s g h rfl (Nat.le_refl _) Z (gL.refl g)
    rw [← hqs] at hT hl
    generalize s_expireQ q (s.qu q).ents.length s = s2 at hT hl Z1
    rw [i_succ]
    exact t_xp_2 hm0 K k' (i + 1) s2 g1 h1 (by omega) hT Z1 (L.trans L1)
theorem t_expire (Z : tZ s0 F (b + tY s) s w g h) (hm : g.kind x0 = (1, 0)) (K : ∀ g1 h1, tZ s0 F (b + tY (s_expire s)) (s_expire s) w g1 h1 → gL g g1 → Q .null h1) : zX s0 m_X8_expire (d + 5) [zr x0] h Q E :=
  c_X8_expire (t_xp_2 (g0 := g) (T := s_expire s) hm K s.qs.length 0 s g h (by omega) rfl Z (gL.refl g))
end OE
