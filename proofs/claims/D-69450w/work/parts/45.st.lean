/-! ===== the twin: fields of its things written ===== -/
set_option maxRecDepth 100000
theorem m1 {c : Nat} : c ∈ [c] := List.mem_singleton.mpr rfl
section ST
variable {s0 : zE} {F : Nat → Option zC} {b : Nat} {s s' : sSt} {w w' : tW} {g g' : sG} {h h' : zH} {d x0 : Nat}
theorem e_I {h : zH} {n k : Nat} {cs : List Nat} {q : zC} {x : Int32} {P : Prop} (e : h.1 n = some q) (K : gI h n k = x → P) (hc : q.1 ∈ cs := by exact m1) (hv : q.2[k]? = some (.int x) := by rfl) : fI h n cs k ∧ P := g_I e hc hv K
theorem e_J {h : zH} {n k : Nat} {cs : List Nat} {q : zC} {x : Int64} {P : Prop} (e : h.1 n = some q) (K : gJ h n k = x → P) (hc : q.1 ∈ cs := by exact m1) (hv : q.2[k]? = some (.long x) := by rfl) : fJ h n cs k ∧ P := g_J e hc hv K
theorem e_R {h : zH} {n k : Nat} {cs : List Nat} {q : zC} {x : Nat} {P : Prop} (e : h.1 n = some q) (K : gR h n k = x → P) (hc : q.1 ∈ cs := by exact m1) (hv : q.2[k]? = some (zr x) := by rfl) : fR h n cs k ∧ P := g_R e hc hv K
/-- but for the cell m, nothing changes, and nothing is new -/
def zOth (h h1 : zH) (m : Nat) : Prop := h1.2 = h.2 ∧ ∀ n, n ≠ m → h1.1 n = h.1 n
theorem zOth.put {h : zH} {m k : Nat} {v : Value} : zOth h (zput h m k v) m := ⟨rfl, fun n hn => zput_ne hn⟩
/-- a cell that is none of the things as yet -/
def zUn (s0 : zE) (F : Nat → Option zC) (g : sG) (h : zH) (n c : Nat) (fs : List Value) : Prop := (g.kind n).1 = 0 ∧ F n = none ∧ h.1 n = some (c, fs) ∧ 0 < n ∧ n < h.2.1 ∧ s0.1.heap.size < n
theorem zUn.oth {n m c : Nat} {fs : List Value} (U : zUn s0 F g h n c fs) (O : zOth h h' m) (hne : n ≠ m) : zUn s0 F g h' n c fs := by
  obtain ⟨a1, a2, a3, a4, a5, a6⟩ := U
  exact ⟨a1, a2, by rw [O.2 n hne]; exact a3, a4, by rw [O.1]; exact a5, a6⟩
theorem zUn.ne {n m c : Nat} {fs : List Value} (U : zUn s0 F g h n c fs) (hm : (g.kind m).1 ≠ 0) : n ≠ m := fun e => hm (by rw [← e]; exact U.1)
theorem tcell_cn {c i j : Nat} {x : sCn} (hne : ¬ (c = 2 ∧ j = i)) : tcell (s.w_cn (sUp s.cn i x)) w g c j = tcell s w g c j := by
  unfold tcell
  split <;> first | rfl | (rw [show (s.w_cn (sUp s.cn i x)).cn _ = s.cn _ from if_neg fun e => hne ⟨rfl, e⟩])
theorem tR.pcn (R : tR s0 F b s w g h) {n i k : Nat} {v : Value} {x : sCn} (hn : g.kind n = (2, i)) (hv : tCn x g i = (tCn (s.cn i) g i).set k v) (hG : tG (s.w_cn (sUp s.cn i x)) w g) : tR s0 F b (s.w_cn (sUp s.cn i x)) w g (zput h n k v) :=
  ⟨R.1.put hn (by decide) rfl rfl (cc := 8) (fs := tCn (s.cn i) g i) rfl (by show (8, tCn (sUp s.cn i x i) g i) = _; rw [show sUp s.cn i x i = x from if_pos rfl, hv]) (fun m hk hne => tcell_cn fun e => hne (Prod.ext e.1 e.2)), hG⟩
theorem g_Pcn (R : tR s0 F b s w g h) {n i k : Nat} {v : Value} {P : zH → Prop} (hn : g.kind n = (2, i)) (x : sCn) (hv : tCn x g i = (tCn (s.cn i) g i).set k v) (hG : tG (s.w_cn (sUp s.cn i x)) w g) (K : ∀ h1, tR s0 F b (s.w_cn (sUp s.cn i x)) w g h1 → zOth h h1 n → P h1) : fC h n 8 ∧ ∀ h1, h1 = zput h n k v → P h1 :=
  ⟨⟨_, R.1.cell hn (by decide)⟩, fun h1 e => by subst e; exact K _ (R.pcn hn hv hG) zOth.put⟩
theorem tcell_ch {c i j : Nat} {x : sCh} (hne : ¬ (c = 3 ∧ j = i) ∧ c ≠ 38) : tcell (s.w_ch (sUp s.ch i x)) w g c j = tcell s w g c j := by
  unfold tcell
  split <;> first | rfl | (rw [show (s.w_ch (sUp s.ch i x)).ch _ = s.ch _ from if_neg fun e => hne.1 ⟨rfl, e⟩]) | exact absurd rfl hne.2
theorem tcell_ch2 {i j : Nat} {x : sCh} (hu : tUn x g i = tUn (s.ch i) g i) : tcell (s.w_ch (sUp s.ch i x)) w g 38 j = tcell s w g 38 j := by
  show (40, tUn (sUp s.ch i x j) g j) = (40, tUn (s.ch j) g j)
  by_cases e : j = i
  · subst e
    rw [show sUp s.ch j x j = x from if_pos rfl, hu]
  · rw [show sUp s.ch i x j = s.ch j from if_neg e]
theorem tR.pch (R : tR s0 F b s w g h) {n i k : Nat} {v : Value} {x : sCh} (hn : g.kind n = (3, i)) (hv : tCh x w g i = (tCh (s.ch i) w g i).set k v) (hu : tUn x g i = tUn (s.ch i) g i) (hG : tG (s.w_ch (sUp s.ch i x)) w g) : tR s0 F b (s.w_ch (sUp s.ch i x)) w g (zput h n k v) :=
  ⟨R.1.put hn (by decide) rfl rfl (cc := 9) (fs := tCh (s.ch i) w g i) rfl (by show (9, tCh (sUp s.ch i x i) w g i) = _; rw [show sUp s.ch i x i = x from if_pos rfl, hv]) (fun m hk hne => by
    by_cases e : (g.kind m).1 = 38
    · rw [e]
      exact tcell_ch2 hu
    · exact tcell_ch ⟨fun e => hne (Prod.ext e.1 e.2), e⟩), hG⟩
theorem g_Pch (R : tR s0 F b s w g h) {n i k : Nat} {v : Value} {P : zH → Prop} (hn : g.kind n = (3, i)) (x : sCh) (hv : tCh x w g i = (tCh (s.ch i) w g i).set k v) (hu : tUn x g i = tUn (s.ch i) g i) (hG : tG (s.w_ch (sUp s.ch i x)) w g) (K : ∀ h1, tR s0 F b (s.w_ch (sUp s.ch i x)) w g h1 → zOth h h1 n → P h1) : fC h n 9 ∧ ∀ h1, h1 = zput h n k v → P h1 :=
  ⟨⟨_, R.1.cell hn (by decide)⟩, fun h1 e => by subst e; exact K _ (R.pch hn hv hu hG) zOth.put⟩
theorem tcell_ex {c i j : Nat} {x : sEx} (hne : ¬ (c = 32 ∧ j = i)) : tcell (s.w_ex (sUp s.ex i x)) w g c j = tcell s w g c j := by
  unfold tcell
  split <;> first | rfl | (rw [show (s.w_ex (sUp s.ex i x)).ex _ = s.ex _ from if_neg fun e => hne ⟨rfl, e⟩])
theorem tR.pex (R : tR s0 F b s w g h) {n i k : Nat} {v : Value} {x : sEx} (hn : g.kind n = (32, i)) (hv : tEx x g i = (tEx (s.ex i) g i).set k v) (hG : tG (s.w_ex (sUp s.ex i x)) w g) : tR s0 F b (s.w_ex (sUp s.ex i x)) w g (zput h n k v) :=
  ⟨R.1.put hn (by decide) rfl rfl (cc := 36) (fs := tEx (s.ex i) g i) rfl (by show (36, tEx (sUp s.ex i x i) g i) = _; rw [show sUp s.ex i x i = x from if_pos rfl, hv]) (fun m hk hne => tcell_ex fun e => hne (Prod.ext e.1 e.2)), hG⟩
theorem g_Pex (R : tR s0 F b s w g h) {n i k : Nat} {v : Value} {P : zH → Prop} (hn : g.kind n = (32, i)) (x : sEx) (hv : tEx x g i = (tEx (s.ex i) g i).set k v) (hG : tG (s.w_ex (sUp s.ex i x)) w g) (K : ∀ h1, tR s0 F b (s.w_ex (sUp s.ex i x)) w g h1 → zOth h h1 n → P h1) : fC h n 36 ∧ ∀ h1, h1 = zput h n k v → P h1 :=
  ⟨⟨_, R.1.cell hn (by decide)⟩, fun h1 e => by subst e; exact K _ (R.pex hn hv hG) zOth.put⟩
theorem tcell_qu {c i j : Nat} {x : sQu} (hne : ¬ (c = 33 ∧ j = i)) : tcell (s.w_qu (sUp s.qu i x)) w g c j = tcell s w g c j := by
  unfold tcell
  split <;> first | rfl | (rw [show (s.w_qu (sUp s.qu i x)).qu _ = s.qu _ from if_neg fun e => hne ⟨rfl, e⟩])
theorem tR.pqu (R : tR s0 F b s w g h) {n i k : Nat} {v : Value} {x : sQu} (hn : g.kind n = (33, i)) (hv : tQu x g i = (tQu (s.qu i) g i).set k v) (hG : tG (s.w_qu (sUp s.qu i x)) w g) : tR s0 F b (s.w_qu (sUp s.qu i x)) w g (zput h n k v) :=
  ⟨R.1.put hn (by decide) rfl rfl (cc := 37) (fs := tQu (s.qu i) g i) rfl (by show (37, tQu (sUp s.qu i x i) g i) = _; rw [show sUp s.qu i x i = x from if_pos rfl, hv]) (fun m hk hne => tcell_qu fun e => hne (Prod.ext e.1 e.2)), hG⟩
theorem g_Pqu (R : tR s0 F b s w g h) {n i k : Nat} {v : Value} {P : zH → Prop} (hn : g.kind n = (33, i)) (x : sQu) (hv : tQu x g i = (tQu (s.qu i) g i).set k v) (hG : tG (s.w_qu (sUp s.qu i x)) w g) (K : ∀ h1, tR s0 F b (s.w_qu (sUp s.qu i x)) w g h1 → zOth h h1 n → P h1) : fC h n 37 ∧ ∀ h1, h1 = zput h n k v → P h1 :=
  ⟨⟨_, R.1.cell hn (by decide)⟩, fun h1 e => by subst e; exact K _ (R.pqu hn hv hG) zOth.put⟩
theorem tcell_bi {c i j : Nat} {x : sBi} (hne : ¬ (c = 34 ∧ j = i)) : tcell (s.w_bi (sUp s.bi i x)) w g c j = tcell s w g c j := by
  unfold tcell
  split <;> first | rfl | (rw [show (s.w_bi (sUp s.bi i x)).bi _ = s.bi _ from if_neg fun e => hne ⟨rfl, e⟩])
theorem tR.pbi (R : tR s0 F b s w g h) {n i k : Nat} {v : Value} {x : sBi} (hn : g.kind n = (34, i)) (hv : tBi x g i = (tBi (s.bi i) g i).set k v) (hG : tG (s.w_bi (sUp s.bi i x)) w g) : tR s0 F b (s.w_bi (sUp s.bi i x)) w g (zput h n k v) :=
  ⟨R.1.put hn (by decide) rfl rfl (cc := 38) (fs := tBi (s.bi i) g i) rfl (by show (38, tBi (sUp s.bi i x i) g i) = _; rw [show sUp s.bi i x i = x from if_pos rfl, hv]) (fun m hk hne => tcell_bi fun e => hne (Prod.ext e.1 e.2)), hG⟩
theorem g_Pbi (R : tR s0 F b s w g h) {n i k : Nat} {v : Value} {P : zH → Prop} (hn : g.kind n = (34, i)) (x : sBi) (hv : tBi x g i = (tBi (s.bi i) g i).set k v) (hG : tG (s.w_bi (sUp s.bi i x)) w g) (K : ∀ h1, tR s0 F b (s.w_bi (sUp s.bi i x)) w g h1 → zOth h h1 n → P h1) : fC h n 38 ∧ ∀ h1, h1 = zput h n k v → P h1 :=
  ⟨⟨_, R.1.cell hn (by decide)⟩, fun h1 e => by subst e; exact K _ (R.pbi hn hv hG) zOth.put⟩
theorem tcell_co {c i j : Nat} {x : sCo} (hne : ¬ (c = 35 ∧ j = i)) : tcell (s.w_co (sUp s.co i x)) w g c j = tcell s w g c j := by
  unfold tcell
  split <;> first | rfl | (rw [show (s.w_co (sUp s.co i x)).co _ = s.co _ from if_neg fun e => hne ⟨rfl, e⟩])
theorem tR.pco (R : tR s0 F b s w g h) {n i k : Nat} {v : Value} {x : sCo} (hn : g.kind n = (35, i)) (hv : tCo x g i = (tCo (s.co i) g i).set k v) (hG : tG (s.w_co (sUp s.co i x)) w g) : tR s0 F b (s.w_co (sUp s.co i x)) w g (zput h n k v) :=
  ⟨R.1.put hn (by decide) rfl rfl (cc := 39) (fs := tCo (s.co i) g i) rfl (by show (39, tCo (sUp s.co i x i) g i) = _; rw [show sUp s.co i x i = x from if_pos rfl, hv]) (fun m hk hne => tcell_co fun e => hne (Prod.ext e.1 e.2)), hG⟩
theorem g_Pco (R : tR s0 F b s w g h) {n i k : Nat} {v : Value} {P : zH → Prop} (hn : g.kind n = (35, i)) (x : sCo) (hv : tCo x g i = (tCo (s.co i) g i).set k v) (hG : tG (s.w_co (sUp s.co i x)) w g) (K : ∀ h1, tR s0 F b (s.w_co (sUp s.co i x)) w g h1 → zOth h h1 n → P h1) : fC h n 39 ∧ ∀ h1, h1 = zput h n k v → P h1 :=
  ⟨⟨_, R.1.cell hn (by decide)⟩, fun h1 e => by subst e; exact K _ (R.pco hn hv hG) zOth.put⟩
theorem tcell_en {c i j : Nat} {x : sEn} (hne : ¬ (c = 36 ∧ j = i)) : tcell (s.w_en (sUp s.en i x)) w g c j = tcell s w g c j := by
  unfold tcell
  split <;> first | rfl | (rw [show (s.w_en (sUp s.en i x)).en _ = s.en _ from if_neg fun e => hne ⟨rfl, e⟩])
theorem tR.pen (R : tR s0 F b s w g h) {n i k : Nat} {v : Value} {x : sEn} (hn : g.kind n = (36, i)) (hv : tEn x g i = (tEn (s.en i) g i).set k v) (hG : tG (s.w_en (sUp s.en i x)) w g) : tR s0 F b (s.w_en (sUp s.en i x)) w g (zput h n k v) :=
  ⟨R.1.put hn (by decide) rfl rfl (cc := 33) (fs := tEn (s.en i) g i) rfl (by show (33, tEn (sUp s.en i x i) g i) = _; rw [show sUp s.en i x i = x from if_pos rfl, hv]) (fun m hk hne => tcell_en fun e => hne (Prod.ext e.1 e.2)), hG⟩
theorem g_Pen (R : tR s0 F b s w g h) {n i k : Nat} {v : Value} {P : zH → Prop} (hn : g.kind n = (36, i)) (x : sEn) (hv : tEn x g i = (tEn (s.en i) g i).set k v) (hG : tG (s.w_en (sUp s.en i x)) w g) (K : ∀ h1, tR s0 F b (s.w_en (sUp s.en i x)) w g h1 → zOth h h1 n → P h1) : fC h n 33 ∧ ∀ h1, h1 = zput h n k v → P h1 :=
  ⟨⟨_, R.1.cell hn (by decide)⟩, fun h1 e => by subst e; exact K _ (R.pen hn hv hG) zOth.put⟩
theorem tcell_se {c i j : Nat} {x : sSe} (hne : ¬ (c = 37 ∧ j = i)) : tcell (s.w_se (sUp s.se i x)) w g c j = tcell s w g c j := by
  unfold tcell
  split <;> first | rfl | (rw [show (s.w_se (sUp s.se i x)).se _ = s.se _ from if_neg fun e => hne ⟨rfl, e⟩])
theorem tR.pse (R : tR s0 F b s w g h) {n i k : Nat} {v : Value} {x : sSe} (hn : g.kind n = (37, i)) (hv : tSe x g = (tSe (s.se i) g).set k v) (hG : tG (s.w_se (sUp s.se i x)) w g) : tR s0 F b (s.w_se (sUp s.se i x)) w g (zput h n k v) :=
  ⟨R.1.put hn (by decide) rfl rfl (cc := 34) (fs := tSe (s.se i) g) rfl (by show (34, tSe (sUp s.se i x i) g) = _; rw [show sUp s.se i x i = x from if_pos rfl, hv]) (fun m hk hne => tcell_se fun e => hne (Prod.ext e.1 e.2)), hG⟩
theorem g_Pse (R : tR s0 F b s w g h) {n i k : Nat} {v : Value} {P : zH → Prop} (hn : g.kind n = (37, i)) (x : sSe) (hv : tSe x g = (tSe (s.se i) g).set k v) (hG : tG (s.w_se (sUp s.se i x)) w g) (K : ∀ h1, tR s0 F b (s.w_se (sUp s.se i x)) w g h1 → zOth h h1 n → P h1) : fC h n 34 ∧ ∀ h1, h1 = zput h n k v → P h1 :=
  ⟨⟨_, R.1.cell hn (by decide)⟩, fun h1 e => by subst e; exact K _ (R.pse hn hv hG) zOth.put⟩
theorem g_Mmessages (R : tR s0 F b s w g h) {P : zH → Prop} (hm : g.kind x0 = (1, 0)) (v : Int32) (K : ∀ h1, tR s0 F b (s.w_messages v) w g h1 → zOth h h1 x0 → P h1) : fC h x0 7 ∧ ∀ h1, h1 = zput h x0 9 (.int v) → P h1 :=
  ⟨⟨_, R.main hm⟩, fun h1 e => by subst e; exact K _ (R.putM hm rfl R.2 ⟨rfl, rfl, rfl, rfl, rfl, rfl, rfl, rfl, rfl⟩) zOth.put⟩
theorem g_MlastNum (R : tR s0 F b s w g h) {P : zH → Prop} (hm : g.kind x0 = (1, 0)) (v : Int32) (K : ∀ h1, tR s0 F b (s.w_lastNum v) w g h1 → zOth h h1 x0 → P h1) : fC h x0 7 ∧ ∀ h1, h1 = zput h x0 10 (.int v) → P h1 :=
  ⟨⟨_, R.main hm⟩, fun h1 e => by subst e; exact K _ (R.putM hm rfl R.2 ⟨rfl, rfl, rfl, rfl, rfl, rfl, rfl, rfl, rfl⟩) zOth.put⟩
theorem g_Mgener (R : tR s0 F b s w g h) {P : zH → Prop} (hm : g.kind x0 = (1, 0)) (v : Int32) (K : ∀ h1, tR s0 F b (s.w_gener v) w g h1 → zOth h h1 x0 → P h1) : fC h x0 7 ∧ ∀ h1, h1 = zput h x0 11 (.int v) → P h1 :=
  ⟨⟨_, R.main hm⟩, fun h1 e => by subst e; exact K _ (R.putM hm rfl R.2 ⟨rfl, rfl, rfl, rfl, rfl, rfl, rfl, rfl, rfl⟩) zOth.put⟩
theorem g_Mclock (R : tR s0 F b s w g h) {P : zH → Prop} (hm : g.kind x0 = (1, 0)) (v : Int32) (K : ∀ h1, tR s0 F b (s.w_clock v) w g h1 → zOth h h1 x0 → P h1) : fC h x0 7 ∧ ∀ h1, h1 = zput h x0 12 (.int v) → P h1 :=
  ⟨⟨_, R.main hm⟩, fun h1 e => by subst e; exact K _ (R.putM hm rfl R.2 ⟨rfl, rfl, rfl, rfl, rfl, rfl, rfl, rfl, rfl⟩) zOth.put⟩
theorem g_MdeadOnes (R : tR s0 F b s w g h) {P : zH → Prop} (hm : g.kind x0 = (1, 0)) (v : Int32) (K : ∀ h1, tR s0 F b (s.w_deadOnes v) w g h1 → zOth h h1 x0 → P h1) : fC h x0 7 ∧ ∀ h1, h1 = zput h x0 13 (.int v) → P h1 :=
  ⟨⟨_, R.main hm⟩, fun h1 e => by subst e; exact K _ (R.putM hm rfl R.2 ⟨rfl, rfl, rfl, rfl, rfl, rfl, rfl, rfl, rfl⟩) zOth.put⟩
theorem g_Mcrashes (R : tR s0 F b s w g h) {P : zH → Prop} (hm : g.kind x0 = (1, 0)) (v : Int32) (K : ∀ h1, tR s0 F b (s.w_crashes v) w g h1 → zOth h h1 x0 → P h1) : fC h x0 7 ∧ ∀ h1, h1 = zput h x0 45 (.int v) → P h1 :=
  ⟨⟨_, R.main hm⟩, fun h1 e => by subst e; exact K _ (R.putM hm rfl R.2 ⟨rfl, rfl, rfl, rfl, rfl, rfl, rfl, rfl, rfl⟩) zOth.put⟩
theorem g_Mthr (R : tR s0 F b s w g h) {P : zH → Prop} (hm : g.kind x0 = (1, 0)) (v : Int32) (K : ∀ h1, tR s0 F b s (w.w_thr v) g h1 → zOth h h1 x0 → P h1) : fC h x0 7 ∧ ∀ h1, h1 = zput h x0 28 (.int v) → P h1 :=
  ⟨⟨_, R.main hm⟩, fun h1 e => by subst e; exact K _ (R.putM hm rfl R.2 ⟨rfl, rfl, rfl, rfl, rfl, rfl, rfl, rfl, rfl⟩) zOth.put⟩
theorem g_Mcl (R : tR s0 F b s w g h) {P : zH → Prop} (hm : g.kind x0 = (1, 0)) (v : Int32) (K : ∀ h1, tR s0 F b s (w.w_cl v) g h1 → zOth h h1 x0 → P h1) : fC h x0 7 ∧ ∀ h1, h1 = zput h x0 32 (.int v) → P h1 :=
  ⟨⟨_, R.main hm⟩, fun h1 e => by subst e; exact K _ (R.putM hm rfl R.2 ⟨rfl, rfl, rfl, rfl, rfl, rfl, rfl, rfl, rfl⟩) zOth.put⟩
theorem g_Mme (R : tR s0 F b s w g h) {P : zH → Prop} (hm : g.kind x0 = (1, 0)) (v : Int32) (K : ∀ h1, tR s0 F b s (w.w_me v) g h1 → zOth h h1 x0 → P h1) : fC h x0 7 ∧ ∀ h1, h1 = zput h x0 33 (.int v) → P h1 :=
  ⟨⟨_, R.main hm⟩, fun h1 e => by subst e; exact K _ (R.putM hm rfl R.2 ⟨rfl, rfl, rfl, rfl, rfl, rfl, rfl, rfl, rfl⟩) zOth.put⟩
theorem g_Msz (R : tR s0 F b s w g h) {P : zH → Prop} (hm : g.kind x0 = (1, 0)) (v : Int32) (K : ∀ h1, tR s0 F b s (w.w_sz v) g h1 → zOth h h1 x0 → P h1) : fC h x0 7 ∧ ∀ h1, h1 = zput h x0 37 (.int v) → P h1 :=
  ⟨⟨_, R.main hm⟩, fun h1 e => by subst e; exact K _ (R.putM hm rfl R.2 ⟨rfl, rfl, rfl, rfl, rfl, rfl, rfl, rfl, rfl⟩) zOth.put⟩
theorem sUp_self {α : Type} {f : Nat → α} {i : Nat} {v : α} : sUp f i v i = v := if_pos rfl
theorem sUp_ne {α : Type} {f : Nat → α} {i j : Nat} {v : α} (h : j ≠ i) : sUp f i v j = f j := if_neg h
/-- of the main cell -/
theorem g_PM (R : tR s0 F b s w g h) {k : Nat} {v : Value} {P : zH → Prop} (hm : g.kind x0 = (1, 0)) (s' : sSt) (w' : tW) (hv : tMain s' w' g = (tMain s w g).set k v) (hG : tG s' w' g) (hP : tSame s s' w w') (K : ∀ h1, tR s0 F b s' w' g h1 → zOth h h1 x0 → P h1) : fC h x0 7 ∧ ∀ h1, h1 = zput h x0 k v → P h1 :=
  ⟨⟨_, R.main hm⟩, fun h1 e => by subst e; exact K _ (R.putM hm hv hG hP) zOth.put⟩
theorem tR.putF (R : tR s0 F b s w g h) {n k : Nat} {v : Value} (hk : (g.kind n).1 = 0) (hF : F n = none) : tR s0 F b s w g (zput h n k v) := ⟨R.1.putF hk hF, R.2⟩
/-- of a cell that is none of the things as yet -/
theorem g_PF (R : tR s0 F b s w g h) {n k c : Nat} {fs : List Value} {v : Value} {P : zH → Prop} (U : zUn s0 F g h n c fs) (K : ∀ h1, tR s0 F b s w g h1 → zUn s0 F g h1 n c (fs.set k v) → zOth h h1 n → P h1) : fC h n c ∧ ∀ h1, h1 = zput h n k v → P h1 :=
  ⟨⟨_, U.2.2.1⟩, fun h1 e1 => by subst e1; exact K _ (R.putF U.1 U.2.1) ⟨U.1, U.2.1, zput_self U.2.2.1, U.2.2.2⟩ zOth.put⟩
/-- a new cell -/
theorem g_N {u : Nat} (R : tR s0 F (b + u) s w g h) {c wd : Nat} {fs : List Value} {P : Nat → zH → Prop} (hu : 1 ≤ u) (hw : wd ≤ 6 * u) (hs : s0.1.heap.size < h.2.1) (K : ∀ n h1, tR s0 F b s w g h1 → zUn s0 F g h1 n c fs → P n h1) : zroom s0 h wd ∧ ∀ n1, n1 = h.2.1 → ∀ h1, h1 = znew h c fs wd → P n1 h1 := by
  have H := R.1
  rw [show b + u + g.cr = b + g.cr + u by omega] at H
  obtain ⟨a1, a2, a3, a4, -⟩ := H.znew (c := c) (fs := fs) hu hw
  refine ⟨a2, fun n1 e1 h1 e2 => ?_⟩
  subst e1 e2
  exact K _ _ ⟨a1, R.2⟩ ⟨a3, a4, znew_self, by omega, Nat.lt_succ_self _, hs⟩
theorem tR.big (R : tR s0 F b s w g h) : s0.1.heap.size < h.2.1 := by
  have h1 := R.1.new R.2.1.1 (by decide) (by decide)
  have h2 := R.1.lt R.2.1.1 (by decide)
  omega
theorem tG.qu (G : tG s w g) {i : Nat} {x : sQu} (H : s.knd i = 33 → gB g (g.rf 33 i 0) x.name ∧ gBo g (g.rf 33 i 9) x.dlx ∧ gBo g (g.rf 33 i 10) x.dlk ∧ gAr g 31 i 301 (x.ents.map (fun m => zr (g.ref 36 m)))) : tG (s.w_qu (sUp s.qu i x)) w g := by
  obtain ⟨a1, a2, a3, a4, a5, a6, a7, a8, a9⟩ := G
  refine ⟨a1, a2, a3, a4, a5, a6, a7, fun j hj => ?_, a9⟩
  show gB g (g.rf 33 j 0) (sUp s.qu i x j).name ∧ gBo g (g.rf 33 j 9) (sUp s.qu i x j).dlx ∧ gBo g (g.rf 33 j 10) (sUp s.qu i x j).dlk ∧ gAr g 31 j 301 ((sUp s.qu i x j).ents.map (fun m => zr (g.ref 36 m)))
  by_cases e : j = i
  · subst e
    rw [sUp_self]
    exact H hj
  · rw [sUp_ne e]
    exact a8 j hj
theorem tG.en (G : tG s w g) {i : Nat} {x : sEn} (H : s.knd i = 36 → gCont g (g.rf 36 i 0) x.cont ∧ gB g (g.rf 36 i 1) x.exch ∧ gB g (g.rf 36 i 2) x.key) : tG (s.w_en (sUp s.en i x)) w g := by
  obtain ⟨a1, a2, a3, a4, a5, a6, a7, a8, a9, a10, a11, a12⟩ := G
  refine ⟨a1, a2, a3, a4, a5, a6, a7, a8, a9, a10, fun j hj => ?_, a12⟩
  show gCont g (g.rf 36 j 0) (sUp s.en i x j).cont ∧ gB g (g.rf 36 j 1) (sUp s.en i x j).exch ∧ gB g (g.rf 36 j 2) (sUp s.en i x j).key
  by_cases e : j = i
  · subst e
    rw [sUp_self]
    exact H hj
  · rw [sUp_ne e]
    exact a11 j hj
theorem tG.ex (G : tG s w g) {i : Nat} {x : sEx} (H : s.knd i = 32 → gB g (g.rf 32 i 0) x.name ∧ gBo g (g.rf 32 i 6) x.alt) : tG (s.w_ex (sUp s.ex i x)) w g := by
  obtain ⟨a1, a2, a3, a4, a5, a6, a7, a8⟩ := G
  refine ⟨a1, a2, a3, a4, a5, a6, fun j hj => ?_, a8⟩
  show gB g (g.rf 32 j 0) (sUp s.ex i x j).name ∧ gBo g (g.rf 32 j 6) (sUp s.ex i x j).alt
  by_cases e : j = i
  · subst e
    rw [sUp_self]
    exact H hj
  · rw [sUp_ne e]
    exact a7 j hj
theorem tG.se (G : tG s w g) {i : Nat} {x : sSe} : tG (s.w_se (sUp s.se i x)) w g := G
theorem tG.cn (G : tG s w g) {i : Nat} {x : sCn} (H : i < 4 → gAr g 25 i 900 (vB x.inp) ∧ gRing (g.ar 26 i) x.first x.out) : tG (s.w_cn (sUp s.cn i x)) w g := by
  obtain ⟨a1, a2, a3, a4, a5, a6⟩ := G
  refine ⟨a1, a2, a3, a4, fun j hj => ?_, a6⟩
  show gAr g 25 j 900 (vB (sUp s.cn i x j).inp) ∧ (gA1 g 26 j ∧ gRing (g.ar 26 j) (sUp s.cn i x j).first (sUp s.cn i x j).out) ∧ _
  by_cases e : j = i
  · subst e
    rw [sUp_self]
    exact ⟨(H hj).1, ⟨(a5 j hj).2.1.1, (H hj).2⟩, (a5 j hj).2.2⟩
  · rw [sUp_ne e]
    exact a5 j hj
theorem tG.ch (G : tG s w g) {i : Nat} {x : sCh} (H : isH i → gBo g (g.rf 3 i 14) x.lastq ∧ gUn x g i ∧ (∃ n, (16 ≤ n ∧ n < 2000000) ∧ 2 * x.sent.length ≤ n + g.cf 28 i ∧ gAr g 28 i n (x.sent.map (fun i => zr (g.ref 37 i)))) ∧ gArF g 29 i 32 gKe x.kept ∧
  (∃ n pre, (16 ≤ n ∧ n < 2000000) ∧ 2 * (w.cd i + x.confs.length) ≤ n + g.cf 30 i ∧ pre.length = w.cd i ∧ gAr g 30 i n (pre ++ x.confs.map (fun x => .int x)))) : tG (s.w_ch (sUp s.ch i x)) w g := by
  obtain ⟨a1, a2, a3, a4, a5, a6, a7⟩ := G
  refine ⟨a1, a2, a3, a4, a5, fun j hj => ?_, a7⟩
  show gBo g (g.rf 3 j 14) (sUp s.ch i x j).lastq ∧ gUn (sUp s.ch i x j) g j ∧ (∃ n, (16 ≤ n ∧ n < 2000000) ∧ 2 * (sUp s.ch i x j).sent.length ≤ n + g.cf 28 j ∧ gAr g 28 j n ((sUp s.ch i x j).sent.map (fun i => zr (g.ref 37 i)))) ∧ gArF g 29 j 32 gKe (sUp s.ch i x j).kept ∧
  (∃ n pre, (16 ≤ n ∧ n < 2000000) ∧ 2 * (w.cd j + (sUp s.ch i x j).confs.length) ≤ n + g.cf 30 j ∧ pre.length = w.cd j ∧ gAr g 30 j n (pre ++ (sUp s.ch i x j).confs.map (fun x => .int x)))
  by_cases e : j = i
  · subst e
    rw [sUp_self]
    exact H hj
  · rw [sUp_ne e]
    exact a6 j hj
end ST
