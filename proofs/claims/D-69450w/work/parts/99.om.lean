/-! ===== the twin: the call that crashes ===== -/
set_option maxRecDepth 100000
set_option maxHeartbeats 200000
section OM
variable {s0 : zE} {F : Nat → Option zC} {b : Nat} {s s' S T : sSt} {w w' : tW} {g g' g0 : sG} {h h' : zH} {d x0 x1 x2 x3 n m c i j q e k a N0 : Nat} {Q : Value → zH → Prop} {E : Nat → zH → Prop} {x : Int32}
theorem sI.crashes (I : sI s) {v : Int32} : sI (s.w_crashes v) := by
  obtain ⟨a1, a2, a3, a4, a5, a6⟩ := I
  exact ⟨a1, a2, a3, a4, a5, a6⟩
theorem t_cr_44 (Z : tZ s0 F b s w g h) (hm : g.kind x0 = (1, 0)) (hc : c < 4) (hcd : ∀ i, w.cd i = 0)
    (K : ∀ g1 h1, tZ s0 F b (s_forgetC s c) w g1 h1 → gL g g1 → zP s0 m_X8_crash (d + 4) 44 [some (zr x0), some (.int x), some (.int (Int32.ofNat (c + 1))), none, none] [] h1 Q E) :
    zP s0 m_X8_crash (d + 4) 44 [some (zr x0), some (.int x), some (.int (Int32.ofNat c)), none, none] [] h Q E := by
  refine b_X8_crash_44 ⟨fun h4 => ?_, fun _ => g_Con Z.r hm hc fun z1 => ?_⟩
  · rw [show (4 : Int32) = Int32.ofNat 4 from rfl, i_le (by decide) (by omega)] at h4
    omega
  rw [z1, i_succ]
  exact ⟨⟨_, Z.r.main hm⟩, t_forgetAll (d := d + 2) Z hm (Z.r.cn hc) hc hcd fun g1 h1 Z1 L1 => K g1 h1 Z1 L1⟩
theorem forget_facts : (s_forget s).facts = s.facts := rfl
theorem crash_crF : s_crash s n = s_crF (s_secure (s_forget (s.w_crashes (s.crashes + 1))) n) := crash_eq
theorem crF_pend (N : sNone s) : sPend (s_crF s) ≤ s.tape.length ∧ tK (s_crF s) = 0 := by
  obtain ⟨g1, g2, g3, g4, g5, g6, g7, g8, g9, g10, g11, g12, g13, g14, g15, g16, g17, g18, g19⟩ := crF_rows (s := s)
  refine ⟨?_, ?_⟩
  · unfold sPend
    rw [sum4, g14, g17, (N.1 0 (by decide)).2, (N.1 1 (by decide)).2, (N.1 2 (by decide)).2, (N.1 3 (by decide)).2]
    show s.tape.length + (0 + 0 + 0 + 0) ≤ _
    omega
  · unfold tK
    rw [g15]
    have : ∀ (l : List Nat), (∀ h ∈ l, isH h) → (l.map (fun h => (s.ch h).kept.length)).sum = 0 := fun l => by
      induction l with
      | nil => exact fun _ => rfl
      | cons a l ih =>
        intro H
        obtain ⟨n1, n2, n3, -⟩ := N.2 a (H a List.mem_cons_self)
        rw [List.map_cons, List.sum_cons, ih fun h hh => H h (List.mem_cons_of_mem _ hh), n3]
        rfl
    rw [this s_hs fun h hh => ?_]
    have : ∀ h ∈ s_hs, h < 16 ∧ h % 4 ≠ 0 := by decide
    exact this h hh
theorem t_crash (Z : tZ s0 F (b + 4700 + tV s + tY s) s w g h) (hm : g.kind x0 = (1, 0)) (V : sVV N0 s) (hcd : ∀ i, w.cd i = 0)
    (K : ∀ w1 g1 h1, tZ s0 F (b + tV (c_crash s x).2.2 + tY (c_crash s x).2.2) (c_crash s x).2.2 w1 g1 h1 → sVV N0 (c_crash s x).2.2 → sPend (c_crash s x).2.2 ≤ sPend s → w1.thr = (c_crash s x).1 → (∀ i, w1.cd i = 0) → gM g g1 → Q (.int (c_crash s x).2.1) h1) :
    zX s0 m_X8_crash (d + 4) [zr x0, .int x] h Q E := by
  obtain ⟨dr, sz, rd, cl, me, thr, u⟩ := w
  unfold c_crash at K
  have hbad : (x < 0 ∨ s.crashes = 200) → zP s0 m_X8_crash (d + 4) 20 [some (zr x0), some (.int x), none, none, none] [.int 1, zr x0] h Q E := fun hb => by
    rw [if_pos hb] at K
    try dsimp only at K
    refine b_X8_crash_20 (g_Thr Z hm fun h1 Z1 => e_I (Z1.r.main hm) fun (z1 : gI h1 x0 28 = 1) => ?_)
    rw [z1]
    exact ⟨fun e => absurd e (by decide), fun _ => K _ g h1 (Z1.le (by omega)) V (Nat.le_refl _) rfl hcd (gM.refl g)⟩
  refine c_X8_crash ⟨fun h1 => b_X8_crash_15 (hbad (Or.inl h1)), fun h1 => e_I (Z.r.main hm) fun (z0 : gI h x0 45 = s.crashes) => ?_⟩
  rw [z0]
  refine ⟨fun h200 => ?_, fun h200 => b_X8_crash_15 (hbad (Or.inr h200))⟩
  rw [if_neg (fun hh => hh.elim h1 h200)] at K
  dsimp only at K
  refine b_X8_crash_20 (g_Thr Z hm fun h2 Z2 => e_I (Z2.r.main hm) fun (z1 : gI h2 x0 28 = 0) => ?_)
  rw [z1]
  refine ⟨fun _ => e_I (Z2.r.main hm) fun (z2 : gI h2 x0 45 = s.crashes) => ?_, fun e => absurd rfl e⟩
  rw [z2]
  refine g_Mcrashes Z2.r hm (s.crashes + 1) fun h3 R3 _ => ?_
  have Z3 : tZ s0 F (b + 4700 + tV s + tY s) (s.w_crashes (s.crashes + 1)) (dr, sz, rd, cl, me, 0, u) g h3 := ⟨R3, Z2.i.crashes, Z2.c⟩
  rw [crash_crF] at K
  have hf3 : (s.w_crashes (s.crashes + 1)).facts = s.facts := rfl
  have hY3 : tY (s.w_crashes (s.crashes + 1)) = tY s := rfl
  have V3 : sVV N0 (s.w_crashes (s.crashes + 1)) := V
  have hp3 : (s.w_crashes (s.crashes + 1)).tape = s.tape := rfl
  generalize s.w_crashes (s.crashes + 1) = s3 at K Z3 hf3 hY3 V3 hp3
  have Dg := d_forget Z3.i
  have Eg := e_forget (s := s3)
  have hff := forget_facts (s := s3)
  have hno := forget_no (s := s3)
  have Vg := V3.eE Eg
  have hyg : tY (s_forget s3) ≤ tY s3 := by
    have h1 := Dg.live
    unfold tY
    have h2 : (s_forget s3).lastNum = s3.lastNum := rfl
    have h3 : sRdy (s_forget s3) = sRdy s3 := rfl
    rw [h2, h3]
    omega
  unfold s_forget at K Dg Eg hff hno Vg hyg
  refine t_cr_44 (c := 0) Z3 hm (by decide) hcd fun g4 h4 Z4 L4 => ?_
  refine t_cr_44 (c := 1) Z4 (L4.m hm) (by decide) hcd fun g5 h5 Z5 L5 => ?_
  refine t_cr_44 (c := 2) Z5 (L5.m (L4.m hm)) (by decide) hcd fun g6 h6 Z6 L6 => ?_
  refine t_cr_44 (c := 3) Z6 (L6.m (L5.m (L4.m hm))) (by decide) hcd fun g7 h7 Z7 L7 => ?_
  have L47 := ((L4.trans L5).trans L6).trans L7
  have hm7 := L47.m hm
  have htp : (s_forgetC (s_forgetC (s_forgetC (s_forgetC s3 0) 1) 2) 3).tape = s3.tape := Eg.2.2.1.2
  generalize s_forgetC (s_forgetC (s_forgetC (s_forgetC s3 0) 1) 2) 3 = s7 at K Dg Eg hff hno Vg hyg Z7 htp
  have hx0 : 0 ≤ x := Int32.not_lt.mp h1
  have ex : Int32.ofNat x.toNatClampNeg = x := i_of hx0
  have hfl := Z7.facts
  have hgo : ∀ n, n = min x.toNatClampNeg s.facts.length → zP s0 m_X8_crash (d + 4) 82 [some (zr x0), none, none, none, none] [.int (Int32.ofNat n), zr x0] h7 Q E := fun n hn => by
    rw [← hn] at K
    have hnf : n ≤ s7.facts.length := by rw [hff, hf3, hn]; exact Nat.min_le_right _ _
    have Z7' : tZ s0 F (b + 4049 + tV s + tY s + 51 + 2 * 300) s7 (dr, sz, rd, cl, me, 0, u) g7 h7 := Z7.le (by omega)
    refine t_cr_82 Z7' hno (by omega) hnf hm7 fun g8 h8 R8 L8 => ?_
    have I8 := Z7.i.secure hnf
    have N8 : sNone (s_secure s7 n) := by rw [secure_eq]; exact hno
    have V8 := Vg.eE (e_secure (s := s7) (n := n))
    have hP8 := tP_secure (s := s7) (n := n)
    have hY8 := tY_secure (s := s7) (n := n)
    have htp8 : (s_secure s7 n).tape = s7.tape := (e_secure (s := s7) (n := n)).2.2.1.2
    have hc7 := Z7.c
    unfold s_crF at K
    generalize s_secure s7 n = s8 at K R8 I8 N8 V8 hP8 hY8 htp8
    obtain ⟨c1, c2, c3⟩ := crF_cost I8 N8
    obtain ⟨p1, p2⟩ := crF_pend N8
    have I9 := I8.crF N8
    have V9 := V8.crF I8 N8
    have I5 := sScope.cr5 I8 N8
    obtain ⟨r1, r2, r3, r4, r5, r6, r7, r8, r9, r10, r11, -⟩ := cr5_rows (s := s8)
    have F1 := I8.hi.1 0
    rw [safe_0] at F1
    have hlt : ∀ i, s8.knd i ≠ 0 → i < s8.next := fun i hi => Nat.lt_of_not_le fun hh => hi (I8.sc.2.2.2.2.2.2.2.2.2.2.2.2.2.2.2.2 i hh)
    obtain ⟨B, -⟩ := bk_all I5 s8.sen.length s8.sen rfl fun m hm => by
      have h1 := (F1.2.2.2.2.2.2.2.2.2.2.1 m hm).1
      exact ⟨by rw [r2]; exact hlt m (by rw [h1]; decide), by rw [r1]; exact h1⟩
    have hsc : sScope ((s_backs (s_cr5 s8) s8.sen).w_sen (List.range' (s_cr5 s8).next s8.sen.length)) := by
      obtain ⟨b1, b2, b3, b4, b5, b6⟩ := B
      obtain ⟨a1, a2, a3, a4, a5, a6, a7, a8, a9⟩ := b1
      exact ⟨a1, a2, a3, a4, a5, a6, a7, fun m hm => by
        obtain ⟨q1, q2⟩ := List.mem_range'_1.mp hm
        exact b5 m q1 q2, a9⟩
    have hdd : ((s_backs (s_cr5 s8) s8.sen).w_sen (List.range' (s_cr5 s8).next s8.sen.length)).dead = [] := (backs_row (fun x => x.dead) (fun _ _ => rfl) _ _).trans r11
    have hfa : ((s_backs (s_cr5 s8) s8.sen).w_sen (List.range' (s_cr5 s8).next s8.sen.length)).facts = [] := (backs_row (fun x => x.facts) (fun _ _ => rfl) _ _).trans r10
    have hch : ((s_backs (s_cr5 s8) s8.sen).w_sen (List.range' (s_cr5 s8).next s8.sen.length)).ch = s8.ch := (backs_row (fun x => x.ch) (fun _ _ => rfl) _ _).trans r9
    have R9 := R8.gc hsc hdd hfa fun h hh => by rw [hch]; exact N8.2 h hh
    have hmsg : (s_gc ((s_backs (s_cr5 s8) s8.sen).w_sen (List.range' (s_cr5 s8).next s8.sen.length))).messages = (s_backs (s_cr5 s8) s8.sen).messages := rfl
    have hpn : sPend s8 ≤ sPend s8 := Nat.le_refl _
    have hps : s.tape.length ≤ sPend s := Nat.le_add_right _ _
    rw [hmsg] at K
    have c1 : tP (s_gc ((s_backs (s_cr5 s8) s8.sen).w_sen (List.range' (s_cr5 s8).next s8.sen.length))) ≤ tP s8 + 3100 := c1
    have c2 : tY (s_gc ((s_backs (s_cr5 s8) s8.sen).w_sen (List.range' (s_cr5 s8).next s8.sen.length))) ≤ tY s8 + 900 := c2
    have c3 : sWt (s_gc ((s_backs (s_cr5 s8) s8.sen).w_sen (List.range' (s_cr5 s8).next s8.sen.length))) = 0 := c3
    have p1 : sPend (s_gc ((s_backs (s_cr5 s8) s8.sen).w_sen (List.range' (s_cr5 s8).next s8.sen.length))) ≤ s8.tape.length := p1
    have p2 : tK (s_gc ((s_backs (s_cr5 s8) s8.sen).w_sen (List.range' (s_cr5 s8).next s8.sen.length))) = 0 := p2
    have I9 : sI (s_gc ((s_backs (s_cr5 s8) s8.sen).w_sen (List.range' (s_cr5 s8).next s8.sen.length))) := I9
    have V9 : sVV N0 (s_gc ((s_backs (s_cr5 s8) s8.sen).w_sen (List.range' (s_cr5 s8).next s8.sen.length))) := V9
    generalize (s_backs (s_cr5 s8) s8.sen).messages = mm at K
    generalize s_gc ((s_backs (s_cr5 s8) s8.sen).w_sen (List.range' (s_cr5 s8).next s8.sen.length)) = s9 at K R9 c1 c2 c3 p1 p2 I9 V9
    have hv9 : tV s9 ≤ tV s := by
      unfold tV
      rw [p2]
      have : sPend s9 ≤ sPend s := by omega
      omega
    exact K _ _ h8 ⟨R9.less (by omega), I9, by omega⟩ V9 (by omega) rfl hcd ((L47.trans L8).tom.trans gGc_m)
  refine b_X8_crash_44 ⟨fun _ => e_I (Z7.r.main hm7) fun (z3 : gI h7 x0 17 = Int32.ofNat s7.facts.length) => ?_, fun hn => absurd (by decide) hn⟩
  rw [z3, hff, hf3]
  have hlx := x.toNatClampNeg
  have hcmp : Int32.ofNat s.facts.length ≤ x ↔ s.facts.length ≤ x.toNatClampNeg := by
    have h2 : x.toNatClampNeg < 2147483648 := Int32.toNatClampNeg_lt x
    have := i_le (a := s.facts.length) (b := x.toNatClampNeg) (by rw [hff, hf3] at hfl; omega) h2
    rw [ex] at this
    exact this
  rw [hcmp]
  refine ⟨fun hle => e_I (Z7.r.main hm7) fun _ => hgo s.facts.length (by omega), fun hle => ?_⟩
  have := hgo x.toNatClampNeg (by omega)
  rw [ex] at this
  exact this
end OM
