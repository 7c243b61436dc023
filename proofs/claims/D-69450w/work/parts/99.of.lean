/-! ===== the twin: ticks ===== -/
set_option maxRecDepth 100000
set_option maxHeartbeats 200000
section OF
variable {s0 : zE} {F : Nat → Option zC} {b : Nat} {s s' S T : sSt} {w w' : tW} {g g' g0 : sG} {h h' : zH} {d x0 x1 x2 x3 n m c i j q e k a : Nat} {Q : Value → zH → Prop} {E : Nat → zH → Prop} {x : Int32}
theorem sI.clock (I : sI s) {v : Int32} : sI (s.w_clock v) := by
  obtain ⟨a1, a2, a3, a4, a5, a6⟩ := I
  exact ⟨a1, a2, a3, a4, a5, a6⟩
theorem tP_clock {v : Int32} : tP (s.w_clock v) = tP s := rfl
theorem tY_clock {v : Int32} : tY (s.w_clock v) = tY s := rfl
theorem sWt_clock {v : Int32} : sWt (s.w_clock v) = sWt s := rfl
theorem e_confH : ∀ (l : List Int32) (s : sSt), sE s (s_confH j l s)
  | [], s => sE.refl s
  | x :: r, s => by
    rw [s_confH]
    refine e_if (fun _ => sE.refl s) fun _ => ?_
    have A : sE s (s_ch s j (fun k => k.w_confs r)) := e_chF (fun _ => rfl) (fun _ => rfl) (fun _ => rfl) (fun _ => rfl) (fun _ => rfl)
    exact (A.trans e_ans).trans (e_confH r _)
theorem e_confAll : sE s (s_confAll s) := e_fold (fun s h => e_confH (j := h) (s.ch h).confs s) _ _
theorem e_expireQ : ∀ (n : Nat) (s : sSt), sE s (s_expireQ q n s)
  | 0, s => sE.refl s
  | n + 1, s => by
    rw [s_expireQ]
    split
    · exact sE.refl s
    · exact e_dies.trans (e_expireQ n _)
theorem e_expire : sE s (s_expire s) := e_fold (fun s q => e_expireQ (q := q) _ s) _ _
theorem e_beat : sE s (s_beat s c) := by
  unfold s_beat
  dsimp only
  have A : sE s (if (s.cn c).state = 6 ∧ 20 ≤ s.clock - (s.cn c).closing then s_close s c else s) := e_if (fun _ => e_close) fun _ => sE.refl s
  generalize (if (s.cn c).state = 6 ∧ 20 ≤ s.clock - (s.cn c).closing then s_close s c else s) = s1 at A ⊢
  exact A.trans (e_if (fun _ => sE.refl s1) fun _ => e_if (fun _ => e_close) fun _ => e_if (fun _ => e_send) fun _ => sE.refl s1)
/-- a tick, ahead of what it sets going -/
def s_tkA (s : sSt) : sSt := s_expire ((s_confAll (s_secure s s.facts.length)).w_clock ((s_confAll (s_secure s s.facts.length)).clock + 1))
def s_tkB (s : sSt) : sSt := s_beat (s_beat (s_beat (s_beat s 0) 1) 2) 3
theorem tick1_eq : s_tick1 s = s_disp (s_tkB (s_tkA s)) := rfl
theorem e_tkA : sE s (s_tkA s) := ((e_secure.trans e_confAll).trans e_clock).trans e_expire
theorem e_tkB : sE s (s_tkB s) := ((e_beat.trans e_beat).trans e_beat).trans e_beat
/-- one connection beats -/
theorem t_tick_64 {y1 y2 : Int32} (Z : tZ s0 F (b + tY s) s w g h) (hm : g.kind x0 = (1, 0)) (hc : c < 4)
    (K : ∀ w1 g1 h1, tZ s0 F (b + tY (s_beat s c)) (s_beat s c) w1 g1 h1 → tWq w w1 → gL g g1 → zP s0 m_X8_tick (d + 73) 64 [some (zr x0), some (.int y1), some (.int y2), some (.int (Int32.ofNat (c + 1)))] [] h1 Q E) :
    zP s0 m_X8_tick (d + 73) 64 [some (zr x0), some (.int y1), some (.int y2), some (.int (Int32.ofNat c))] [] h Q E := by
  refine b_X8_tick_64 ⟨fun h4 => ?_, fun _ => g_Con Z.r hm hc fun z1 => ?_⟩
  · rw [show (4 : Int32) = Int32.ofNat 4 from rfl, i_le (by decide) (by omega)] at h4
    omega
  rw [z1, i_succ]
  exact ⟨⟨_, Z.r.main hm⟩, t_beat (d := d + 1) Z hm (Z.r.cn hc) hc fun w1 g1 h1 Z1 W1 L1 => K w1 g1 h1 Z1 W1 L1⟩
theorem t_tick_31 (J : tJs s0 F) (hn : n ≤ 1000) (hm0 : g0.kind x0 = (1, 0)) {N p0 : Nat} {th : Int32}
    (K : ∀ w1 g1 h1, tZ s0 F (b + tV T + tY T) T w1 g1 h1 → sVV N T → sPend T ≤ p0 → w1.thr = th → (∀ i, w1.cd i = 0) → gL g0 g1 → Q (.int T.clock) h1) :
    ∀ (k i : Nat) (s : sSt) (w : tW) (g : sG) (h : zH), n = i + k → s_tickF k s = T → tZ s0 F (b + tV s + tY s) s w g h → sVV N s → sPend s ≤ p0 → w.thr = th → (∀ i, w.cd i = 0) → gL g0 g →
      zP s0 m_X8_tick (d + 73) 31 [some (zr x0), some (.int (Int32.ofNat n)), some (.int (Int32.ofNat i)), none] [] h Q E
  | k, i, s, w, g, h, hi, hT, Z, V, hp, ht, hcd, L => by
    have hm := L.m hm0
    refine b_X8_tick_31 ⟨fun hle => ?_, fun hle => ?_⟩
    · rw [i_le (by omega) (by omega)] at hle
      obtain rfl : k = 0 := by omega
      have hT : s = T := hT
      subst hT
      refine e_I (Z.r.main hm) fun (z1 : gI h x0 12 = s.clock) => ?_
      rw [z1]
      exact K w g h Z V hp ht hcd L
    rw [i_le (by omega) (by omega)] at hle
    obtain ⟨k', rfl⟩ : ∃ k', k = k' + 1 := ⟨k - 1, by omega⟩
    have hT : s_tickF k' (s_tick1 s) = T := hT
    rw [tick1_eq] at hT
    have EA := e_tkA (s := s)
    unfold s_tkA at hT EA
    have hvA := tV_e EA
    have hpA := pend_e EA
    have VA := V.eE EA
    refine e_I (Z.r.main hm) fun (z1 : gI h x0 17 = Int32.ofNat s.facts.length) => ⟨⟨_, Z.r.main hm⟩, ?_⟩
    rw [z1]
    refine t_secureZ (d := d + 69) Z hm (Nat.le_refl _) fun g1 h1 Z1 L1 => ?_
    have hy1 := tY_secure (s := s) (n := s.facts.length)
    generalize s_secure s s.facts.length = s1 at *
    have Z1 : tZ s0 F (b + tV s + tY s1) s1 w g1 h1 := by rw [hy1]; exact Z1
    have hm1 := L1.m hm
    refine ⟨⟨_, Z1.r.main hm1⟩, t_confirmAll (d := d) Z1 hm1 hcd fun w2 g2 h2 Z2 t2 c2 L2 => ?_⟩
    generalize s_confAll s1 = s2 at *
    have hm2 := L2.m hm1
    refine e_I (Z2.r.main hm2) fun (z2 : gI h2 x0 12 = s2.clock) => ?_
    rw [z2]
    refine g_Mclock Z2.r hm2 (s2.clock + 1) fun h3 R3 _ => ?_
    have Z3 : tZ s0 F (b + tV s + tY (s2.w_clock (s2.clock + 1))) (s2.w_clock (s2.clock + 1)) w2 g2 h3 := ⟨by rw [tP_clock, tY_clock]; exact R3, Z2.i.clock, by rw [tP_clock, tY_clock, sWt_clock]; exact Z2.c⟩
    generalize s2.w_clock (s2.clock + 1) = s3 at *
    refine ⟨⟨_, Z3.r.main hm2⟩, t_expire (d := d + 67) Z3 hm2 fun g4 h4 Z4 L4 => ?_⟩
    generalize s_expire s3 = s4 at *
    have hm4 := L4.m hm2
    have EB := e_tkB (s := s4)
    have hvB := tV_e EB
    have hpB := pend_e EB
    have VB := VA.eE EB
    have L14 := (L1.trans L2).trans L4
    refine t_tick_64 (c := 0) Z4 hm4 (by decide) fun w5 g5 h5 Z5 W5 L5 => ?_
    refine t_tick_64 (c := 1) Z5 (L5.m hm4) (by decide) fun w6 g6 h6 Z6 W6 L6 => ?_
    refine t_tick_64 (c := 2) Z6 (L6.m (L5.m hm4)) (by decide) fun w7 g7 h7 Z7 W7 L7 => ?_
    refine t_tick_64 (c := 3) Z7 (L7.m (L6.m (L5.m hm4))) (by decide) fun w8 g8 h8 Z8 W8 L8 => ?_
    have Z8 : tZ s0 F (b + tV s + tY (s_tkB s4)) (s_tkB s4) w8 g8 h8 := Z8
    have hm8 := L8.m (L7.m (L6.m (L5.m hm4)))
    generalize s_tkB s4 = s8 at *
    refine b_X8_tick_64 ⟨fun _ => ⟨⟨_, Z8.r.main hm8⟩, ?_⟩, fun hn => absurd (by decide) hn⟩
    have D := DR_disp Z8.i VB
    have hpD := disp_pend D
    have hkD := D.tK
    refine t_dispatch (d := d) J Z8 hm8 fun w9 g9 h9 Z9 W9 L9 => ?_
    generalize s_disp s8 = s9 at *
    rw [i_succ]
    have hw9 : tWq w2 w9 := ⟨?_, ?_, ?_, ?_, ?_⟩
    · refine t_tick_31 J hn hm0 K k' (i + 1) s9 w9 g9 h9 (by omega) hT (Z9.le ?_) D.2.1 (by omega) (hw9.2.2.2.1.trans (t2.trans ht)) (hw9.2.2.2.2 c2) (L.trans (L14.trans ((((L5.trans L6).trans L7).trans L8).trans L9)))
      unfold tV at *
      omega
    · exact W9.1.trans (W8.1.trans (W7.1.trans (W6.1.trans W5.1)))
    · exact W9.2.1.trans (W8.2.1.trans (W7.2.1.trans (W6.2.1.trans W5.2.1)))
    · exact W9.2.2.1.trans (W8.2.2.1.trans (W7.2.2.1.trans (W6.2.2.1.trans W5.2.2.1)))
    · exact W9.2.2.2.1.trans (W8.2.2.2.1.trans (W7.2.2.2.1.trans (W6.2.2.2.1.trans W5.2.2.2.1)))
    · exact fun hh => W9.2.2.2.2 (W8.2.2.2.2 (W7.2.2.2.2 (W6.2.2.2.2 (W5.2.2.2.2 hh))))
theorem t_tick (J : tJs s0 F) {N : Nat} (Z : tZ s0 F (b + tV s + tY s) s w g h) (hm : g.kind x0 = (1, 0)) (V : sVV N s) (hcd : ∀ i, w.cd i = 0)
    (K : ∀ w1 g1 h1, tZ s0 F (b + tV (c_tick s x).2.2 + tY (c_tick s x).2.2) (c_tick s x).2.2 w1 g1 h1 → sVV N (c_tick s x).2.2 → sPend (c_tick s x).2.2 ≤ sPend s → w1.thr = (c_tick s x).1 → (∀ i, w1.cd i = 0) → gL g g1 → Q (.int (c_tick s x).2.1) h1) :
    zX s0 m_X8_tick (d + 73) [zr x0, .int x] h Q E := by
  obtain ⟨dr, sz, rd, cl, me, thr, u⟩ := w
  unfold c_tick at K
  have hbad : (x < 1 ∨ 100 < x) → zP s0 m_X8_tick (d + 73) 17 [some (zr x0), some (.int x), none, none] [.int 1, zr x0] h Q E := fun hb => by
    rw [if_pos hb] at K
    try dsimp only at K
    refine b_X8_tick_17 (g_Thr Z hm fun h1 Z1 => e_I (Z1.r.main hm) fun (z1 : gI h1 x0 28 = 1) => ?_)
    rw [z1]
    exact ⟨fun e => absurd e (by decide), fun _ => K _ g h1 Z1 V (Nat.le_refl _) rfl hcd (gL.refl g)⟩
  refine c_X8_tick ⟨fun h1 => b_X8_tick_12 (hbad (Or.inl h1)), fun h1 => ⟨fun h100 => ?_, fun h100 => b_X8_tick_12 (hbad (Or.inr (Int32.not_le.mp h100)))⟩⟩
  rw [if_neg (fun hh => hh.elim h1 (Int32.not_lt.mpr h100))] at K
  try dsimp only at K
  have hx0 : 0 ≤ x := Int32.le_trans (by decide) (Int32.not_lt.mp h1)
  have ex : Int32.ofNat x.toNatClampNeg = x := i_of hx0
  have hxl : x.toNatClampNeg ≤ 100 := i_clamp (k := 100) (by decide) h100
  refine b_X8_tick_17 (g_Thr Z hm fun h2 Z2 => e_I (Z2.r.main hm) fun (z1 : gI h2 x0 28 = 0) => ?_)
  rw [z1]
  refine ⟨fun _ => ?_, fun e => absurd rfl e⟩
  rw [← ex]
  rw [← ex] at K
  generalize x.toNatClampNeg = n at K hxl
  rw [i_nat (by omega)] at K
  exact t_tick_31 (T := s_tickF n s) (n := n) (g0 := g) (N := N) (p0 := sPend s) (th := 0) J (by omega) hm (fun w1 g1 h1 Z1 V1 p1 t1 c1 L1 => K w1 g1 h1 Z1 V1 p1 t1 c1 L1) n 0 s _ g h2 (by omega) rfl Z2 V (Nat.le_refl _) rfl hcd (gL.refl g)
end OF
