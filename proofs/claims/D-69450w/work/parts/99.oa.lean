/-! ===== the twin: what is seen ===== -/
set_option maxRecDepth 100000
set_option maxHeartbeats 200000
section OA
variable {s0 : zE} {F : Nat → Option zC} {b : Nat} {s s' S : sSt} {w w' : tW} {g g' g0 : sG} {h h' : zH} {d x0 x1 x2 n m c i j q e : Nat} {x y z : Int32} {Q : Value → zH → Prop} {E : Nat → zH → Prop} {dr nm : sBy} {sz cl me thr : Int32} {rd : sRd} {u : List Nat × (Nat → Nat)}
theorem t_total (Z : tZ s0 F b s w g h) (hm : g.kind x0 = (1, 0)) (K : ∀ h1, tZ s0 F b s (w.w_thr 0) g h1 → Q (.int (c_total s x)) h1) : zX s0 m_X8_total d [zr x0, .int x] h Q E := by
  obtain ⟨dr, sz, rd, cl, me, thr, u⟩ := w
  unfold c_total at K
  refine c_X8_total (g_Thr Z hm fun h1 Z1 => ?_)
  have em := Z1.r.main hm
  replace K := K h1 Z1
  refine ⟨fun e => ?_, fun n0 => ⟨fun e => ?_, fun n1 => ⟨fun e => ?_, fun n2 => ⟨fun e => ?_, fun n3 => ⟨fun e => ?_, fun n4 => ⟨fun e => ?_, fun n5 => ⟨fun e => ?_, fun n6 => ⟨fun e => ?_, fun n7 => ?_⟩⟩⟩⟩⟩⟩⟩⟩
  · rw [if_pos e] at K
    try dsimp only at K
    exact e_I em fun z => by rw [z]; exact K
  · rw [if_neg n0, if_pos e] at K
    try dsimp only at K
    exact e_I em fun z => by rw [z]; exact K
  · rw [if_neg n0, if_neg n1, if_pos e] at K
    try dsimp only at K
    exact e_I em fun z => by rw [z]; exact K
  · rw [if_neg n0, if_neg n1, if_neg n2, if_pos e] at K
    try dsimp only at K
    exact e_I em fun z => by rw [z]; exact K
  · rw [if_neg n0, if_neg n1, if_neg n2, if_neg n3, if_pos e] at K
    try dsimp only at K
    exact e_I em fun z => by rw [z]; exact K
  · rw [if_neg n0, if_neg n1, if_neg n2, if_neg n3, if_neg n4, if_pos e] at K
    try dsimp only at K
    exact e_I em fun z => by rw [z]; exact K
  · rw [if_neg n0, if_neg n1, if_neg n2, if_neg n3, if_neg n4, if_neg n5, if_pos e] at K
    try dsimp only at K
    exact e_I em fun z => by rw [z]; exact K
  · rw [if_neg n0, if_neg n1, if_neg n2, if_neg n3, if_neg n4, if_neg n5, if_neg n6, if_pos e] at K
    try dsimp only at K
    exact e_I em fun z => by rw [z]; exact K
  · rw [if_neg n0, if_neg n1, if_neg n2, if_neg n3, if_neg n4, if_neg n5, if_neg n6, if_neg n7] at K
    try dsimp only at K
    exact K
theorem i_100 (hx : (100 : Int32) ≤ x) : ∃ a : Nat, x - 100 = Int32.ofNat a ∧ a < 2147483648 ∧ ¬ x < 100 := by
  have h0 : (0 : Int32) ≤ x := Int32.le_trans (by decide) hx
  have e := i_of h0
  have hl := Int32.toNatClampNeg_lt x
  generalize x.toNatClampNeg = a at e hl
  subst e
  rw [show (100 : Int32) = Int32.ofNat 100 from rfl] at hx ⊢
  have ha := (i_le (by decide) (by omega)).mp hx
  exact ⟨a - 100, i_sub ha, by omega, fun hh => by
    have := (i_lt (by omega) (by decide)).mp hh
    omega⟩
theorem t_byteOf (R : tR s0 F b s w g h) (hB : gB g x1 nm) (hx : (100 : Int32) ≤ x) (hl : nm.length ≤ 1000) (K : Q (.int (s_letter nm x)) h) : zX s0 m_X8_byteOf d [zr x1, .int (x - 100)] h Q E := by
  obtain ⟨a, ea, hal, hn⟩ := i_100 hx
  have en := R.fz hB
  unfold s_letter at K
  rw [if_neg hn] at K
  try dsimp only at K
  rw [ea] at K ⊢
  rw [i_nat hal] at K
  refine c_X8_byteOf ⟨fun h0 => absurd h0 (i_nn hal), fun _ => ⟨⟨_, en⟩, ?_⟩⟩
  rw [gA_of en, vB_len, i_lt hal (by omega)]
  refine ⟨fun hlt => ?_, fun hlt => ?_⟩
  · obtain ⟨y, hy⟩ : ∃ y, nm[a]? = some y := ⟨_, List.getElem?_eq_getElem hlt⟩
    rw [hy] at K
    refine g_EI (t := 0) en (zin_of (by rw [vB_len]; exact hlt) hal) (by rw [i_nat hal]; exact vB_get hy) fun z1 => ?_
    rw [z1, sx_and]
    exact K
  · rw [List.getElem?_eq_none (by omega)] at K
    exact K
/-! connections, channels -/
theorem t_cnn_32 (R : tR s0 F b s w g h) (hx : g.kind x1 = (2, c)) (hc : c < 4) {i a : Nat} (hi : 1 ≤ i ∧ i ≤ 3) (ha : a < 10)
    (K : zP s0 m_X8_connection (d + 1) 32 [none, none, none, some (zr x1), some (.int (Int32.ofNat (a + if (s.ch (4 * c + i)).state = 1 then 1 else 0))), some (.int (Int32.ofNat (i + 1)))] [] h Q E) :
    zP s0 m_X8_connection (d + 1) 32 [none, none, none, some (zr x1), some (.int (Int32.ofNat a)), some (.int (Int32.ofNat i))] [] h Q E := by
  have A := (R.2.2.2.2.2.1 c hc).2.2
  obtain ⟨eA, hA⟩ := R.arr (t := 19) A rfl (by decide) (by decide)
  have hj : isH (4 * c + i) := isH.of hc hi.1 hi.2
  have hget : (zr 0 :: [1, 2, 3].map (fun k => zr (g.ref 3 (4 * c + k))))[i]? = some (zr (g.ref 3 (4 * c + i))) := by
    have h3 : i = 1 ∨ i = 2 ∨ i = 3 := by omega
    rcases h3 with e | e | e <;> subst e <;> rfl
  refine b_X8_connection_32 ⟨fun h3 => ?_, fun _ => e_R (R.1.cell hx (by decide)) fun (z1 : gR h x1 12 = g.ref 27 c) => ?_⟩
  · rw [show (3 : Int32) = Int32.ofNat 3 from rfl, i_lt (by decide) (by omega)] at h3
    omega
  rw [z1]
  refine g_ER (t := 19) eA (zin_of (by rw [A.2.1]; omega) (by omega)) (by rw [i_nat (by omega)]; exact pre_get A.2.2 hget) fun z2 => ?_
  rw [z2]
  refine e_I (R.1.cell (R.ch hj) (by decide)) fun (z3 : gI h (g.ref 3 (4 * c + i)) 2 = (s.ch (4 * c + i)).state) => ?_
  rw [z3, i_succ, i_succ]
  refine ⟨fun hn => ?_, fun he => ?_⟩
  · rw [if_neg hn] at K
    try dsimp only at K
    exact K
  · rw [if_pos he] at K
    try dsimp only at K
    exact K
theorem t_connection (Z : tZ s0 F b s w g h) (hm : g.kind x0 = (1, 0)) (K : ∀ h1, tZ s0 F b s (w.w_thr 0) g h1 → Q (.int (c_connection s x y)) h1) : zX s0 m_X8_connection (d + 1) [zr x0, .int x, .int y] h Q E := by
  obtain ⟨dr, sz, rd, cl, me, thr, u⟩ := w
  unfold c_connection at K
  dsimp only at K
  refine c_X8_connection (g_Thr Z hm fun h1 Z1 => t_isC ⟨_, rfl, ?_⟩)
  replace K := K h1 Z1
  rw [sB_0]
  refine ⟨fun ht => ?_, fun hf => ?_⟩
  · rw [Bool.not_eq_false] at ht
    obtain ⟨c, hc, ec, en⟩ := isC_of ht
    rw [if_neg (fun hh => hh ht), en] at K
    try dsimp only at K
    subst ec
    refine g_Con Z1.r hm hc fun z1 => ?_
    rw [z1]
    have hx := Z1.r.cn hc
    have ex := Z1.r.1.cell hx (by decide)
    refine ⟨fun n2 => ⟨fun n0 => ⟨fun n1 => ⟨fun n3 => ?_, fun e => ?_⟩, fun e => ?_⟩, fun e => ?_⟩, fun e => ?_⟩
    · rw [if_neg n0, if_neg n1, if_neg n2, if_neg n3] at K
      try dsimp only at K
      exact K
    · rw [if_neg n0, if_neg n1, if_neg n2, if_pos e] at K
      try dsimp only at K
      exact e_I ex fun z => by rw [z]; exact K
    · rw [if_neg n0, if_pos e] at K
      try dsimp only at K
      exact e_I ex fun z => by rw [z]; exact K
    · rw [if_pos e] at K
      try dsimp only at K
      exact e_I ex fun z => by rw [z]; exact K
    · subst e
      rw [if_neg (by decide), if_neg (by decide), if_pos rfl] at K
      try dsimp only at K
      have s1 : ∀ v : Int32, ((v == 1) = true) ↔ v = 1 := fun v => beq_iff_eq
      have hcount : ([1, 2, 3].filter (fun k => (s.ch (4 * c + k)).state == 1)).length = 0 + (if (s.ch (4 * c + 1)).state = 1 then 1 else 0) + (if (s.ch (4 * c + 2)).state = 1 then 1 else 0) + (if (s.ch (4 * c + 3)).state = 1 then 1 else 0) := by
        simp only [List.filter_cons, List.filter_nil, s1]
        split <;> split <;> split <;> rfl
      rw [hcount] at K
      have b1 : (if (s.ch (4 * c + 1)).state = 1 then 1 else 0) ≤ 1 := by split <;> decide
      have b2 : (if (s.ch (4 * c + 2)).state = 1 then 1 else 0) ≤ 1 := by split <;> decide
      refine t_cnn_32 (a := 0) (i := 1) Z1.r hx hc ⟨by decide, by decide⟩ (by decide) (t_cnn_32 (i := 2) Z1.r hx hc ⟨by decide, by decide⟩ (by omega) (t_cnn_32 (i := 3) Z1.r hx hc ⟨by decide, by decide⟩ (by omega) ?_))
      exact b_X8_connection_32 ⟨fun _ => K, fun hh => absurd (show (3 : Int32) < 4 by decide) hh⟩
  · rw [if_pos (by rw [hf]; decide)] at K
    try dsimp only at K
    exact K
theorem t_chn_80 (R : tR s0 F b s w g h) (I : sScope s) (hm : g.kind x0 = (1, 0)) (hx : g.kind x1 = (3, j)) (K : Q (.int (Int32.ofNat (s.cs.filter (fun i => (s.co i).chan == j)).length)) h) :
    ∀ (k i : Nat), s.cs.length = i + k → zP s0 m_X8_channel (d + 1) 80 [some (zr x0), none, none, none, some (zr x1), some (.int (Int32.ofNat (cnt s.cs (fun c => (s.co c).chan == j) i))), some (.int (Int32.ofNat i))] [] h Q E
  | k, i, hi => by
    have A := R.2.ar8
    have hle := A.le
    rw [List.length_map] at hle
    refine b_X8_channel_80 (e_I (R.main hm) fun z1 => ?_)
    rw [z1, i_le (by omega) (by omega)]
    refine ⟨fun hl => ?_, fun hl => e_R (R.main hm) fun z2 => ?_⟩
    · rw [cnt_all hl]
      exact K
    · rw [z2]
      obtain ⟨k', rfl⟩ : ∃ k', k = k' + 1 := ⟨k - 1, by omega⟩
      obtain ⟨x, hx5⟩ : ∃ x, s.cs[i]? = some x := ⟨_, List.getElem?_eq_getElem (by omega)⟩
      have hkx := I.cs x (List.mem_of_getElem? hx5)
      refine g_El R A rfl (by decide) hx5 (by decide) fun z3 => ?_
      rw [z3]
      refine e_R (R.1.cell (R.al (by decide) (by decide) hkx) (by decide)) fun z4 => ?_
      rw [z4, R.inj (R.ch (I.co x hkx).2) hx (by decide), i_succ, i_succ]
      have hc := cnt_succ (f := fun c => (s.co c).chan == j) hx5
      constructor
      · intro e
        rw [show ((s.co x).chan == j) = false from beq_false_of_ne e] at hc
        have := t_chn_80 R I hm hx K k' (i + 1) (by omega)
        rw [hc] at this
        exact this
      · intro e
        rw [show ((s.co x).chan == j) = true from beq_iff_eq.mpr e] at hc
        have := t_chn_80 R I hm hx K k' (i + 1) (by omega)
        rw [hc] at this
        exact this
theorem t_channel (Z : tZ s0 F b s w g h) (hm : g.kind x0 = (1, 0)) (hcd : ∀ h, w.cd h = 0) (K : ∀ h1, tZ s0 F b s (w.w_thr 0) g h1 → Q (.int (c_channel s x y z)) h1) : zX s0 m_X8_channel (d + 1) [zr x0, .int x, .int y, .int z] h Q E := by
  obtain ⟨dr, sz, rd, cl, me, thr, u⟩ := w
  unfold c_channel at K
  dsimp only at K
  refine c_X8_channel (g_Thr Z hm fun h1 Z1 => t_isC ⟨_, rfl, ?_⟩)
  replace K := K h1 Z1
  rw [sB_0]
  refine ⟨fun hf => ?_, fun ht => ⟨fun h1' => ?_, fun h1' => ⟨fun h3 => ?_, fun h3 => ⟨fun h0 => ?_, fun h0 => ⟨fun h6 => ?_, fun h6 => ?_⟩⟩⟩⟩⟩
  · rw [if_pos (Or.inl (by rw [hf]; decide))] at K
    try dsimp only at K
    exact K
  · rw [if_pos (Or.inr (Or.inl h1'))] at K
    try dsimp only at K
    exact K
  · rw [if_pos (Or.inr (Or.inr (Or.inl h3)))] at K
    try dsimp only at K
    exact K
  · rw [if_pos (Or.inr (Or.inr (Or.inr (Or.inl h0))))] at K
    try dsimp only at K
    exact K
  · rw [Bool.not_eq_false] at ht
    obtain ⟨c, hc, ec, en⟩ := isC_of ht
    have hk3 : y.toNatClampNeg ≤ 3 := i_clamp (k := 3) (by decide) (Int32.not_lt.mp h3)
    have hy0 : 0 ≤ y := Int32.le_trans (by decide) (Int32.not_lt.mp h1')
    have ey : y = Int32.ofNat y.toNatClampNeg := (i_of hy0).symm
    have hk1 : 1 ≤ y.toNatClampNeg := by
      refine Nat.pos_of_ne_zero fun e => h1' ?_
      rw [ey, e]
      decide
    rw [if_neg (fun hh => hh.elim (fun q => q ht) fun q => q.elim h1' fun q => q.elim h3 fun q => q.elim h0 fun q => absurd h6 (Int32.not_le.mpr q)), en] at K
    try dsimp only at K
    subst ec
    refine g_Con Z1.r hm hc fun z1 => ?_
    rw [z1]
    generalize hkk : y.toNatClampNeg = k at *
    rw [ey]
    have hj : isH (4 * c + k) := isH.of hc hk1 hk3
    have A := (Z1.r.2.2.2.2.2.1 c hc).2.2
    obtain ⟨eA, hA⟩ := Z1.r.arr (t := 19) A rfl (by decide) (by decide)
    refine e_R (Z1.r.1.cell (Z1.r.cn hc) (by decide)) fun (z2 : gR h1 (g.ref 2 c) 12 = g.ref 27 c) => ?_
    rw [z2]
    have hget : (zr 0 :: [1, 2, 3].map (fun k => zr (g.ref 3 (4 * c + k))))[k]? = some (zr (g.ref 3 (4 * c + k))) := by
      have h3 : k = 1 ∨ k = 2 ∨ k = 3 := by omega
      rcases h3 with e | e | e <;> subst e <;> rfl
    refine g_ER (t := 19) eA (zin_of (by rw [A.2.1]; omega) (by omega)) (by rw [i_nat (by omega)]; exact pre_get A.2.2 hget) fun z3 => ?_
    rw [z3]
    have hx := Z1.r.ch hj
    have ex := Z1.r.1.cell hx (by decide)
    generalize 4 * c + k = j at *
    refine ⟨fun n0 => e_I ex fun (z4 : gI h1 (g.ref 3 j) 2 = (s.ch j).state) => ?_, fun e => ?_⟩
    · rw [if_neg n0] at K
      try dsimp only at K
      rw [z4]
      refine ⟨fun hs => ?_, fun hs => ?_⟩
      · rw [if_neg (fun hh => hh hs)] at K
        try dsimp only at K
        refine ⟨fun n6 => ⟨fun n1 => ⟨fun n2 => ⟨fun n3 => ⟨fun n4 => ?_, fun e => ?_⟩, fun e => ?_⟩, fun e => ?_⟩, fun e => ?_⟩, fun e => ?_⟩
        · rw [if_neg n6, if_neg n1, if_neg n2, if_neg n3, if_neg n4] at K
          try dsimp only at K
          exact e_I ex fun z => by rw [z]; exact K
        · rw [if_neg n6, if_neg n1, if_neg n2, if_neg n3, if_pos e] at K
          try dsimp only at K
          exact e_I ex fun z => by rw [z]; exact K
        · rw [if_neg n6, if_neg n1, if_neg n2, if_pos e] at K
          try dsimp only at K
          exact e_I ex fun z => by rw [z]; exact K
        · rw [if_neg n6, if_neg n1, if_pos e] at K
          try dsimp only at K
          exact e_I ex fun z => by rw [z]; exact K
        · rw [if_neg n6, if_pos e] at K
          try dsimp only at K
          exact e_I ex fun z => by rw [z]; exact K
        · rw [if_pos e] at K
          try dsimp only at K
          exact t_chn_80 (d := d) Z1.r Z1.sc hm hx K s.cs.length 0 (by omega)
      · rw [if_pos hs] at K
        try dsimp only at K
        exact K
    · rw [if_pos e] at K
      try dsimp only at K
      exact e_I ex fun z => by rw [z]; exact K
  · rw [if_pos (Or.inr (Or.inr (Or.inr (Or.inr (Int32.not_le.mp h6)))))] at K
    try dsimp only at K
    exact K
/-! queues, exchanges -/
theorem i_bits {p q r : Bool} {t0 t1 : Int32} (h0 : t0 = if p then 2 else 0) (h1 : t1 = if q then 4 else 0) : (t0 + t1) + (if r then 8 else 0) = (if p then 2 else 0) + (if q then 4 else 0) + (if r then 8 else 0) := by rw [h0, h1]
theorem rdy_sub (a c : Nat) (h : c ≤ a) : Int32.ofNat a - Int32.ofNat c = Int32.ofNat (a - c) := i_sub h
theorem t_queue_2 (Z : tZ s0 F b s w g h) (hm : g.kind x0 = (1, 0)) (K : ∀ h1, tZ s0 F b s (w.w_thr 0) g h1 → Q (.int (c_queue s x y)) h1) : zX s0 m_X8_queue_2 (d + 1) [zr x0, .int x, .int y] h Q E := by
  obtain ⟨dr, sz, rd, cl, me, thr, u⟩ := w
  unfold c_queue at K
  refine c_X8_queue_2 (g_Thr Z hm fun h1 Z1 => ?_)
  replace K := K h1 Z1
  have em := Z1.r.main hm
  refine ⟨fun hneg => ?_, fun hneg => e_I em fun (z1 : gI h1 x0 6 = Int32.ofNat s.qs.length) => ?_⟩
  · rw [if_pos hneg] at K
    try dsimp only at K
    exact K
  rw [if_neg hneg] at K
  try dsimp only at K
  have ek := i_of (Int32.not_lt.mp hneg)
  have hkl := Int32.toNatClampNeg_lt x
  generalize x.toNatClampNeg = k at *
  subst ek
  have hq12 := Z1.i.cp.2.2.2.2.1
  rw [z1, i_lt hkl (by omega)]
  refine ⟨fun hlt => e_R em fun (z2 : gR h1 x0 2 = g.ref 6 0) => ?_, fun hlt => ?_⟩
  · obtain ⟨q, hq⟩ : ∃ q, s.qs[k]? = some q := ⟨_, List.getElem?_eq_getElem hlt⟩
    rw [hq] at K
    dsimp only at K
    rw [z2]
    refine g_El Z1.r Z1.r.2.ar6 rfl (by decide) hq (by decide) fun z3 => ?_
    rw [z3]
    have hk := Z1.sc.qs q (List.mem_of_getElem? hq)
    have hx := Z1.r.al (c := 33) (by decide) (by decide) hk
    have ex := Z1.r.1.cell hx (by decide)
    have hB := (Z1.r.2.2.2.2.2.2.2.2.1 q hk).1
    have hnl : (s.qu q).name.length ≤ 40 := (Z1.i.tx.2.1 q hk).1
    have hel : (s_ready s q).length ≤ (s.qu q).ents.length := List.length_filter_le _ _
    refine ⟨fun e => ?_, fun n0 => ⟨fun e => ?_, fun n1 => ⟨fun e => ?_, fun n2 => ⟨fun e => ?_, fun n3 => ⟨fun e => ?_, fun n4 => ⟨fun e => ?_, fun n5 => ⟨fun h100 => ?_, fun h100 => ?_⟩⟩⟩⟩⟩⟩⟩
    · rw [if_pos e] at K
      try dsimp only at K
      exact ⟨⟨_, em⟩, t_ready Z1.r Z1.sc hx ⟨_, rfl, K⟩⟩
    · rw [if_neg n0, if_pos e] at K
      try dsimp only at K
      refine e_I ex fun (z4 : gI h1 (g.ref 33 q) 12 = Int32.ofNat (s.qu q).ents.length) => ⟨⟨_, em⟩, t_ready Z1.r Z1.sc hx ⟨_, rfl, ?_⟩⟩
      rw [z4, i_sub hel]
      exact K
    · rw [if_neg n0, if_neg n1, if_pos e] at K
      try dsimp only at K
      exact ⟨⟨_, em⟩, t_consumersOf Z1.r Z1.sc hm hx ⟨_, rfl, K⟩⟩
    · rw [if_neg n0, if_neg n1, if_neg n2, if_pos e] at K
      try dsimp only at K
      have h111 : ∀ t0 t1 : Int32, t0 = (if (s.qu q).dur = true then 2 else 0) → t1 = (if (s.qu q).exc = true then 4 else 0) → zP s0 m_X8_queue_2 (d + 1) 111 [none, none, none, some (zr (g.ref 33 q))] [.int t1, .int t0] h1 Q E := fun t0 t1 e0 e1 => by
        refine b_X8_queue_2_111 (e_I ex fun (z5 : gI h1 (g.ref 33 q) 3 = sB (s.qu q).auto) => ?_)
        rw [z5, sB_0]
        refine ⟨fun hf => ?_, fun hf => ?_⟩
        · rw [if_neg (show ¬ (s.qu q).auto = true by rw [hf]; decide)] at K
          try dsimp only at K
          rw [e0, e1]
          exact K
        · rw [Bool.not_eq_false] at hf
          rw [if_pos hf] at K
          try dsimp only at K
          rw [e0, e1]
          exact K
      have h99 : ∀ t0 : Int32, t0 = (if (s.qu q).dur = true then 2 else 0) → zP s0 m_X8_queue_2 (d + 1) 99 [none, none, none, some (zr (g.ref 33 q))] [.int t0] h1 Q E := fun t0 e0 => by
        refine b_X8_queue_2_99 (e_I ex fun (z5 : gI h1 (g.ref 33 q) 2 = sB (s.qu q).exc) => ?_)
        rw [z5, sB_0]
        refine ⟨fun hf => h111 t0 0 e0 (by rw [hf]; rfl), fun hf => h111 t0 4 e0 (by rw [Bool.not_eq_false] at hf; rw [hf]; rfl)⟩
      refine e_I ex fun (z4 : gI h1 (g.ref 33 q) 1 = sB (s.qu q).dur) => ?_
      rw [z4, sB_0]
      exact ⟨fun hf => h99 0 (by rw [hf]; rfl), fun hf => h99 2 (by rw [Bool.not_eq_false] at hf; rw [hf]; rfl)⟩
    · rw [if_neg n0, if_neg n1, if_neg n2, if_neg n3, if_pos e] at K
      try dsimp only at K
      refine e_R ex fun (z4 : gR h1 (g.ref 33 q) 0 = g.rf 33 q 0) => ?_
      rw [z4]
      have en := Z1.r.fz hB
      refine ⟨⟨_, en⟩, ?_⟩
      rw [gA_of en, vB_len]
      exact K
    · rw [if_neg n0, if_neg n1, if_neg n2, if_neg n3, if_neg n4, if_pos e] at K
      try dsimp only at K
      refine ⟨⟨_, em⟩, t_bindingsOf (oe := none) (oq := some q) Z1.r Z1.sc hm rfl hx ⟨_, rfl, ?_⟩⟩
      exact K
    · rw [if_neg n0, if_neg n1, if_neg n2, if_neg n3, if_neg n4, if_neg n5] at K
      try dsimp only at K
      refine e_R ex fun (z4 : gR h1 (g.ref 33 q) 0 = g.rf 33 q 0) => ?_
      rw [z4]
      exact t_byteOf Z1.r hB h100 (by omega) ⟨_, rfl, K⟩
    · rw [if_neg n0, if_neg n1, if_neg n2, if_neg n3, if_neg n4, if_neg n5] at K
      try dsimp only at K
      unfold s_letter at K
      rw [if_pos (Int32.not_le.mp h100)] at K
      try dsimp only at K
      exact K
  · rw [List.getElem?_eq_none (by omega)] at K
    exact K
theorem t_exchange_2 (Z : tZ s0 F b s w g h) (hm : g.kind x0 = (1, 0)) (K : ∀ h1, tZ s0 F b s (w.w_thr 0) g h1 → Q (.int (c_exchange s x y)) h1) : zX s0 m_X8_exchange_2 (d + 1) [zr x0, .int x, .int y] h Q E := by
  obtain ⟨dr, sz, rd, cl, me, thr, u⟩ := w
  unfold c_exchange at K
  refine c_X8_exchange_2 (g_Thr Z hm fun h1 Z1 => ?_)
  replace K := K h1 Z1
  have em := Z1.r.main hm
  refine ⟨fun hneg => ?_, fun hneg => e_I em fun (z1 : gI h1 x0 5 = Int32.ofNat s.es.length) => ?_⟩
  · rw [if_pos hneg] at K
    try dsimp only at K
    exact K
  rw [if_neg hneg] at K
  try dsimp only at K
  have ek := i_of (Int32.not_lt.mp hneg)
  have hkl := Int32.toNatClampNeg_lt x
  generalize x.toNatClampNeg = k at *
  subst ek
  have hq12 := Z1.i.cp.2.2.2.1
  rw [z1, i_lt hkl (by omega)]
  refine ⟨fun hlt => e_R em fun (z2 : gR h1 x0 1 = g.ref 5 0) => ?_, fun hlt => ?_⟩
  · obtain ⟨q, hq⟩ : ∃ q, s.es[k]? = some q := ⟨_, List.getElem?_eq_getElem hlt⟩
    rw [hq] at K
    dsimp only at K
    rw [z2]
    refine g_El Z1.r Z1.r.2.ar5 rfl (by decide) hq (by decide) fun z3 => ?_
    rw [z3]
    have hk := Z1.sc.es q (List.mem_of_getElem? hq)
    have hx := Z1.r.al (c := 32) (by decide) (by decide) hk
    have ex := Z1.r.1.cell hx (by decide)
    have hB := (Z1.r.2.2.2.2.2.2.2.1 q hk).1
    have hnl : (s.ex q).name.length ≤ 40 := (Z1.i.tx.1 q hk).1
    refine ⟨fun e => ?_, fun n0 => ⟨fun e => ?_, fun n1 => ⟨fun e => ?_, fun n2 => ⟨fun e => ?_, fun n3 => ⟨fun h100 => ?_, fun h100 => ?_⟩⟩⟩⟩⟩
    · rw [if_pos e] at K
      try dsimp only at K
      exact e_I ex fun z => by rw [z]; exact K
    · rw [if_neg n0, if_pos e] at K
      try dsimp only at K
      have h85 : ∀ t0 t1 : Int32, t0 = (if (s.ex q).dur = true then 2 else 0) → t1 = (if (s.ex q).auto = true then 4 else 0) → zP s0 m_X8_exchange_2 (d + 1) 85 [none, none, none, some (zr (g.ref 32 q))] [.int t1, .int t0] h1 Q E := fun t0 t1 e0 e1 => by
        refine b_X8_exchange_2_85 (e_I ex fun (z5 : gI h1 (g.ref 32 q) 4 = sB (s.ex q).int) => ?_)
        rw [z5, sB_0]
        refine ⟨fun hf => ?_, fun hf => ?_⟩
        · rw [if_neg (show ¬ (s.ex q).int = true by rw [hf]; decide)] at K
          try dsimp only at K
          rw [e0, e1]
          exact K
        · rw [Bool.not_eq_false] at hf
          rw [if_pos hf] at K
          try dsimp only at K
          rw [e0, e1]
          exact K
      have h73 : ∀ t0 : Int32, t0 = (if (s.ex q).dur = true then 2 else 0) → zP s0 m_X8_exchange_2 (d + 1) 73 [none, none, none, some (zr (g.ref 32 q))] [.int t0] h1 Q E := fun t0 e0 => by
        refine b_X8_exchange_2_73 (e_I ex fun (z5 : gI h1 (g.ref 32 q) 3 = sB (s.ex q).auto) => ?_)
        rw [z5, sB_0]
        refine ⟨fun hf => h85 t0 0 e0 (by rw [hf]; rfl), fun hf => h85 t0 4 e0 (by rw [Bool.not_eq_false] at hf; rw [hf]; rfl)⟩
      refine e_I ex fun (z4 : gI h1 (g.ref 32 q) 2 = sB (s.ex q).dur) => ?_
      rw [z4, sB_0]
      exact ⟨fun hf => h73 0 (by rw [hf]; rfl), fun hf => h73 2 (by rw [Bool.not_eq_false] at hf; rw [hf]; rfl)⟩
    · rw [if_neg n0, if_neg n1, if_pos e] at K
      try dsimp only at K
      refine ⟨⟨_, em⟩, t_bindingsOf (oe := some q) (oq := none) Z1.r Z1.sc hm hx rfl ⟨_, rfl, ?_⟩⟩
      have : s.bs.filter (fun x => oeq (some q) (s.bi x).exch && oeq none (s.bi x).queue) = s_bindsE s q := List.filter_congr fun x _ => Bool.and_true _
      rw [this]
      exact K
    · rw [if_neg n0, if_neg n1, if_neg n2, if_pos e] at K
      try dsimp only at K
      refine e_R ex fun (z4 : gR h1 (g.ref 32 q) 0 = g.rf 32 q 0) => ?_
      rw [z4]
      have en := Z1.r.fz hB
      refine ⟨⟨_, en⟩, ?_⟩
      rw [gA_of en, vB_len]
      exact K
    · rw [if_neg n0, if_neg n1, if_neg n2, if_neg n3] at K
      try dsimp only at K
      refine e_R ex fun (z4 : gR h1 (g.ref 32 q) 0 = g.rf 32 q 0) => ?_
      rw [z4]
      exact t_byteOf Z1.r hB h100 (by omega) ⟨_, rfl, K⟩
    · rw [if_neg n0, if_neg n1, if_neg n2, if_neg n3] at K
      try dsimp only at K
      unfold s_letter at K
      rw [if_pos (Int32.not_le.mp h100)] at K
      try dsimp only at K
      exact K
  · rw [List.getElem?_eq_none (by omega)] at K
    exact K
end OA
