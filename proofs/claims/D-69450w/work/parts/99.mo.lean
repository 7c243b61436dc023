/-! ===== the twin: arrays that become things; the name of the last queue ===== -/
set_option maxRecDepth 100000
section MO
variable {s0 : zE} {F : Nat → Option zC} {b : Nat} {s s' s1 : sSt} {w w' w1 w2 : tW} {g g' g0 : sG} {h h' : zH} {d x0 x1 x2 x3 x5 x6 x7 i j q m n a e c : Nat} {Q : Value → zH → Prop} {E : Nat → zH → Prop} {l : List Value} {o : Option sBy}
/-- all but a thing of the kinds 31, 38, 39 is as it was -/
theorem tG.xth (X : gX g g' c i) (hc : c = 31 ∨ c = 38 ∨ c = 39) (hQ : ∀ k, s.knd k = 33 → ¬ (31 = c ∧ k = i)) (hU : ∀ k, isH k → gUn (s.ch k) g k → gUn (s.ch k) g' k) (hkd : ∀ m a k, g'.kind m = (a, k) → a ≠ 0 → a ≠ c → g.kind m = (a, k)) (hcf : g'.cf = g.cf) (hcr : g'.cr = g.cr) (G : tG s w g) : tG s w g' := by
  obtain ⟨⟨a1, a2, a3, a4, a5, a6, a7⟩, ⟨b4, b5, b6, b7, b8, b11, b12, b13, b14, b15, b16, b17, b24, bz⟩, b3, ⟨d4, n4, c4, e4, f4⟩, b5', b6', c7, c8, c9, c10, c11, c12⟩ := G
  refine ⟨⟨X.1 1 0 (by decide) (by omega) a1, fun m k e => a2 m k (hkd m 1 k e (by decide) (by omega)), fun m => (X.2.1 40 m (by omega)).trans (a3 m), fun c hc => X.1 2 c (by decide) (by omega) (a4 c hc), fun j hj => X.1 3 j (by decide) (by omega) (a5 j hj), fun a k h1 h2 h3 => X.1 a k (by omega) (by omega) (a6 a k h1 h2 h3), fun a k m h1 h2 e => a7 a k m h1 h2 (hkd m a k e (by omega) (by omega))⟩,
    ⟨X.Am (by omega) (by omega) b4, X.Am (by omega) (by omega) b5, X.Am (by omega) (by omega) b6, X.Am (by omega) (by omega) b7, X.Am (by omega) (by omega) b8, X.Am (by omega) (by omega) b11, X.Am (by omega) (by omega) b12, X.Am (by omega) (by omega) b13, X.Am (by omega) (by omega) b14, X.Ar (by omega) b15, X.Ar (by omega) b16, X.Ar (by omega) b17, X.Am (by omega) (by omega) b24, bz⟩,
    ⟨X.Ar (by omega) b3.1, X.Ar (by omega) b3.2.1, X.Ar (by omega) b3.2.2.1, X.Ar (by omega) b3.2.2.2.1, X.Ar (by omega) b3.2.2.2.2.1, X.Ar (by omega) b3.2.2.2.2.2⟩,
    ⟨X.AF (by omega) (fun r x => X.De (by omega)) d4, n4, c4, by rw [hcf]; exact e4, X.AF (by omega) (fun r x => X.Fa (by omega)) f4⟩, fun k hk => ?_, fun k hk => ?_, X.gex c7, fun k hk => ?_, X.gbi c9, X.gco c10, X.gen c11, ?_⟩
  · obtain ⟨p1, ⟨p2, p3⟩, p4⟩ := b5' k hk
    refine ⟨X.Ar (by omega) p1, ⟨X.1 26 k (by decide) (by omega) p2, by rw [X.2.2.1 26 k (by omega)]; exact p3⟩, ?_⟩
    rw [show (fun j => zr (g'.ref 3 (4 * k + j))) = (fun j => zr (g.ref 3 (4 * k + j))) from funext fun j => by rw [X.2.1 3 _ (by omega)]]
    exact X.Ar (by omega) p4
  · obtain ⟨f1, f2, ⟨n5, f3, f4, f5⟩, f6, n6, pre, f7, f8, f9, f10⟩ := b6' k hk
    exact ⟨by rw [X.2.2.2.2]; exact X.Bo f1, hU k hk f2, ⟨n5, f3, by rw [hcf]; exact f4, X.Am (by omega) (by omega) f5⟩, X.AF (by omega) (fun r x => X.Ke (by omega)) f6, n6, pre, f7, by rw [hcf]; exact f8, f9, X.Ar (by omega) f10⟩
  · obtain ⟨f1, f2, f3, f4⟩ := c8 k hk
    rw [X.2.2.2.2]
    exact ⟨X.B f1, X.Bo f2, X.Bo f3, X.Am (hQ k hk) (by omega) f4⟩
  · unfold tGcr at c12 ⊢
    rw [hcf, hcr]
    exact c12
theorem gX.un31 (X : gX g g' 31 i) {k : sCh} {j : Nat} (G : gUn k g j) : gUn k g' j := fun hj => by
  have := G hj
  revert this
  rw [X.2.2.2.2]
  cases k.cont with
  | none => exact id
  | some x => exact fun ⟨a1, a2, a3, a4, a5, a6⟩ => ⟨by rw [X.2.1 38 j (by omega)]; exact a1, X.1 38 j (by decide) (by omega) a2, X.B a3, X.B a4, X.To a5, fun e => X.Ar (by omega) (a6 e)⟩
theorem tcell_nw31 {k : Nat} (ha : ¬ (c = 31 ∧ k = i)) (h33 : c = 33 → k ≠ i) : tcell s w (gNw g n 31 i l) c k = tcell s w g c k := by
  have hr : ∀ a j, a ≠ 31 → (gNw g n 31 i l).ref a j = g.ref a j := fun a j e => if_neg fun e1 => e e1.1
  unfold tcell
  split
  · rfl
  · rfl
  · rfl
  · rfl
  · have e : (gNw g n 31 i l).ref 31 k = g.ref 31 k := if_neg fun e1 => h33 rfl e1.2
    simp only [tQu, e]
    rfl
  · rfl
  · rfl
  · rfl
  · rfl
  · rfl
  · rfl
  · show (_, if _ then _ else _) = _
    rw [if_neg ha]
/-- a queue's places, ahead of the queue itself -/
theorem tR.n31 (R : tR s0 F b s w g h) (hi : s.knd i = 0) (U : zUn s0 F g h n 1018 l) : ∃ g1, tR s0 F b s w g1 h ∧ gL g g1 ∧ g1.kind n = (31, i) ∧ g1.ref 31 i = n ∧ g1.ar 31 i = l ∧ g1.rf = g.rf ∧ (∀ m, (g.kind m).1 = 0 → m ≠ n → (g1.kind m).1 = 0) ∧ (∀ a k, a ≠ 31 → g1.ref a k = g.ref a k) := by
  have h33 : s.knd i ≠ 33 := by rw [hi]; decide
  have X0 : gX g (gDr g 31 i) 31 i := gDr.x (by decide)
  have hk0 : ∀ m, (gDr g 31 i).kind m = if g.kind m = (31, i) then (0, 0) else g.kind m := fun m => rfl
  have R0 : tR s0 F b s w (gDr g 31 i) h := by
    refine ⟨R.1.drop (fun m => ?_) (fun m hm => ?_) (fun m hm => ?_), R.2.xth X0 (Or.inl rfl) (fun k hk e => h33 (by rw [← e.2]; exact hk)) (fun k _ => X0.un31) (fun m a k e h0 _ => ?_) rfl rfl⟩
    · rw [hk0]
      split
      · exact Or.inr rfl
      · exact Or.inl rfl
    · rw [hk0] at hm ⊢
      split at hm
      · exact absurd rfl hm
      · rename_i hne
        rw [if_neg hne]
        exact R.1.at (i := (g.kind m).2) (c := (g.kind m).1) rfl hm
    · rw [hk0] at hm ⊢
      split at hm
      · exact absurd rfl hm
      · rename_i hne
        rw [if_neg hne]
        unfold tcell
        split <;> rfl
    · rw [hk0] at e
      split at e
      · exact absurd (congrArg Prod.fst e).symm h0
      · exact e
  have hno : ∀ m, (gDr g 31 i).kind m ≠ (31, i) := fun m => gDr.no (by decide)
  have L0 : gL g (gDr g 31 i) := gDr.l (by unfold gSt; omega)
  have U0 : zUn s0 F (gDr g 31 i) h n 1018 l := by
    refine ⟨?_, U.2⟩
    rw [hk0]
    split
    · rfl
    · exact U.1
  have hf0 : (gDr g 31 i).rf = g.rf := rfl
  have hz0 : ∀ m, (g.kind m).1 = 0 → ((gDr g 31 i).kind m).1 = 0 := fun m hm => by
    rw [hk0]
    split
    · rfl
    · exact hm
  have hr0 : ∀ a k, (gDr g 31 i).ref a k = g.ref a k := fun a k => rfl
  revert R0 hno L0 U0 hf0 hz0 hr0
  generalize gDr g 31 i = ga
  intro R0 hno L0 U0 hf0 hz0 hr0
  clear X0 hk0
  obtain ⟨hk, hF, hn, hp0, hlt, hold⟩ := U0
  have X : gX ga (gNw ga n 31 i l) 31 i := gNw.x hk
  have hkd : ∀ m, (gNw ga n 31 i l).kind m = (if m = n then (31, i) else ga.kind m) := fun m => rfl
  refine ⟨gNw ga n 31 i l, ⟨R0.1.take hk hF hn (c := 31) (i := i) (by decide) hp0 hlt (Or.inr hold) rfl gNw.r (fun m hm => if_neg fun e => hno m (Prod.ext e.1 e.2)) ?_ (fun m hm => ?_), R0.2.xth X (Or.inl rfl) (fun k hk e => h33 (by rw [← e.2]; exact hk)) (fun k _ => X.un31) (fun m a k e h0 h1 => ?_) rfl rfl⟩, L0.trans (gNw.l hk), gNw.at, gNw.r, if_pos ⟨rfl, rfl⟩, hf0, fun m hm hne => ?_, fun a k ha => ?_⟩
  · show (1018, if _ then _ else _) = _
    rw [if_pos ⟨rfl, rfl⟩]
  · exact tcell_nw31 (fun e => hno m (Prod.ext e.1 e.2)) fun e1 e2 => h33 (by
      have := R0.ak (c := 33) (i := (ga.kind m).2) (n := m) (by decide) (by decide) (Prod.ext e1 rfl)
      rw [e2] at this
      exact this)
  · rw [hkd] at e
    split at e
    · exact absurd (congrArg Prod.fst e).symm h1
    · exact e
  · rw [hkd, if_neg hne]
    exact hz0 m hm
  · rw [← hr0 a k]
    exact if_neg fun e => ha e.1
/-- the name of the last queue is another -/
theorem g_Plq {P : zH → Prop} (R : tR s0 F b s w g h) (hx : g.kind x1 = (3, j)) (B : gBo g n o) (K : ∀ g1 h1, tR s0 F b (s_ch s j (fun k => k.w_lastq o)) w g1 h1 → gL g g1 → P h1) : fC h x1 9 ∧ ∀ h1, h1 = zput h x1 14 (zr n) → P h1 := by
  refine ⟨⟨_, R.1.cell hx (by decide)⟩, fun h1 e1 => ?_⟩
  subst e1
  have hch : ∀ k, k ≠ j → (s_ch s j (fun k => k.w_lastq o)).ch k = s.ch k := fun k hk => sUp_ne hk
  have hchj : (s_ch s j (fun k => k.w_lastq o)).ch j = (s.ch j).w_lastq o := s_ch_ch
  obtain ⟨H, G⟩ := R
  have hne : ∀ a k x, ¬ (a = 3 ∧ k = j ∧ x = 14) → (g.w_rf (fun a k x => if a = 3 ∧ k = j ∧ x = 14 then n else g.rf a k x)).rf a k x = g.rf a k x := fun a k x e => if_neg e
  have hat : (g.w_rf (fun a k x => if a = 3 ∧ k = j ∧ x = 14 then n else g.rf a k x)).rf 3 j 14 = n := if_pos ⟨rfl, rfl, rfl⟩
  refine K (g.w_rf (fun a k x => if a = 3 ∧ k = j ∧ x = 14 then n else g.rf a k x)) _ ⟨H.put hx (by decide) rfl rfl (cc := 9) (fs := tCh (s.ch j) w g j) rfl ?_ (fun m hk hm => ?_), ?_⟩ fun m _ => ⟨rfl, rfl⟩
  · show (9, tCh ((s_ch s j (fun k => k.w_lastq o)).ch j) w _ j) = _
    rw [hchj]
    unfold tCh
    rw [hat, hne 3 j 15 (fun e => absurd e.2.2 (by decide))]
    rfl
  · generalize hkm : g.kind m = ck at hk hm ⊢
    obtain ⟨a, k⟩ := ck
    have hm : ¬ (a = 3 ∧ k = j) := fun e => hm (Prod.ext e.1 e.2)
    show tcell (s_ch s j (fun k => k.w_lastq o)) w _ a k = tcell s w g a k
    unfold tcell
    split
    · rfl
    · rfl
    · have hkj : k ≠ j := fun e => hm ⟨rfl, e⟩
      rw [hch k hkj]
      simp only [tCh, hne 3 k _ (fun e => hkj e.2.1)]
      rfl
    · rfl
    · rfl
    · rfl
    · rfl
    · rfl
    · rfl
    · by_cases ek : k = j
      · subst ek
        rw [hchj]
        rfl
      · rw [hch k ek]
        rfl
    · rfl
    · rfl
  · obtain ⟨a1, a2, a3, a4, a5, a6, a7⟩ := G
    refine ⟨a1, a2, a3, a4, a5, fun k hk => ?_, a7⟩
    obtain ⟨f1, f2, f3⟩ := a6 k hk
    by_cases ek : k = j
    · subst ek
      rw [hchj]
      refine ⟨?_, fun hjk => ?_, f3⟩
      · rw [hat]
        exact B
      · have := f2 hjk
        revert this
        rw [hne 3 k 15 (fun e => absurd e.2.2 (by decide))]
        show (match (s.ch k).cont with | none => _ | some c => _) → (match (s.ch k).cont with | none => _ | some c => _)
        cases (s.ch k).cont with
        | none => exact id
        | some x => exact id
    · rw [hch k ek]
      refine ⟨?_, fun hjk => ?_, f3⟩
      · rw [hne 3 k 14 (fun e => ek e.2.1)]
        exact f1
      · have := f2 hjk
        revert this
        rw [hne 3 k 15 (fun e => ek e.2.1)]
        cases (s.ch k).cont with
        | none => exact id
        | some x => exact id
theorem pigeon {nm f : Nat → sBy} : ∀ (k : Nat) (l : List Nat), (∀ i j, i < k → j < k → nm i = nm j → i = j) → (∀ i, i < k → ∃ q ∈ l, f q = nm i) → k ≤ l.length
  | 0, _, _, _ => Nat.zero_le _
  | k + 1, l, hi, hh => by
    obtain ⟨q, hq, e⟩ := hh k (Nat.lt_succ_self _)
    have := pigeon (nm := nm) (f := f) k (l.erase q) (fun i j h1 h2 => hi i j (by omega) (by omega)) (fun i h1 => by
      obtain ⟨p, hp, ep⟩ := hh i (by omega)
      refine ⟨p, (List.mem_erase_of_ne fun e2 => ?_).mpr hp, ep⟩
      subst e2
      have := hi i k (by omega) (by omega) (ep.symm.trans e)
      omega)
    rw [List.length_erase_of_mem hq] at this
    have := List.length_pos_of_mem hq
    omega
/-- what digits say -/
def s_val (l : sBy) : Nat := l.foldl (fun v y => 10 * v + (y.toNat - 48)) 0
theorem val_sd : ∀ (f n : Nat), n ≤ f → s_val (s_digits n) = n
  | f, n, hf => by
    by_cases h : n < 10
    · rw [sd_lt h]
      have hh : ∀ d : Fin 10, s_val [UInt8.ofNat (48 + d.val)] = d.val := by decide
      exact hh ⟨n, h⟩
    · cases f with
      | zero => omega
      | succ f =>
        have ih := val_sd f (n / 10) (by omega)
        rw [sd_ge (by omega)]
        unfold s_val at ih ⊢
        rw [List.foldl_append, ih]
        have hh : ∀ d : Fin 10, (UInt8.ofNat (48 + d.val)).toNat - 48 = d.val := by decide
        have := hh ⟨n % 10, Nat.mod_lt _ (by decide)⟩
        show 10 * (n / 10) + ((UInt8.ofNat (48 + n % 10)).toNat - 48) = n
        have this : (UInt8.ofNat (48 + n % 10)).toNat - 48 = n % 10 := this
        rw [this]
        omega
theorem numbered_inj {x : String} {n m : Nat} (hn : n < 2147483648) (hm : m < 2147483648) (h : s_numbered x (Int32.ofNat n) = s_numbered x (Int32.ofNat m)) : n = m := by
  unfold s_numbered at h
  rw [i_nat hn, i_nat hm] at h
  have := congrArg s_val (List.append_cancel_left h)
  rw [val_sd n n (Nat.le_refl _), val_sd m m (Nat.le_refl _)] at this
  exact this
theorem numbered_len {x : String} {n : Nat} (hn : n < 10000000) : (s_numbered x (Int32.ofNat n)).length ≤ (s_txt x).length + 7 := by
  unfold s_numbered
  rw [i_nat (by omega), List.length_append]
  have := sd_len 6 n hn
  omega
theorem numbered_ne {x : String} {n : Int32} : s_numbered x n ≠ [] := by
  unfold s_numbered
  intro h
  have := congrArg List.length h
  rw [List.length_append] at this
  have h2 := sd_pos (n := n.toNatClampNeg)
  simp only [List.length_nil] at this
  omega
end MO
