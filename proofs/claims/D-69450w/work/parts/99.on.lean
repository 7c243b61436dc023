/-! ===== the twin: how it begins ===== -/
set_option maxRecDepth 100000
/-- cells: number, what it is, what it holds -/
abbrev iL : Type := List (Nat × (Nat × Nat) × zC)
section ON
variable {s0 : zE} {F : Nat → Option zC} {b B u len wd : Nat} {s s' S T : sSt} {w w' : tW} {g g' g0 : sG} {h h' : zH} {d x0 x1 x2 x3 n m c i j q e k a cn cc n0 : Nat} {Q : Value → zH → Prop} {E : Nat → zH → Prop} {x : Int32} {L L' L1 L2 : iL} {fs : List Value} {v : Value} {ci c0 : Nat × Nat} {e0 : Nat × (Nat × Nat) × zC}
/-- these cells are there; F is the rest -/
def hL (s0 : zE) (F : Nat → Option zC) (B : Nat) (L : iL) (h : zH) : Prop := (∀ p ∈ L, h.1 p.1 = some p.2.2 ∧ F p.1 = none ∧ p.1 < h.2.1 ∧ s0.1.heap.size < p.1) ∧ (∀ n q, F n = some q → h.1 n = some q ∧ n < h.2.1) ∧ (L.map (fun p => p.1)).Nodup ∧ zBud s0 h B
theorem hL.perm (R : hL s0 F B L h) (hp : L.Perm L') : hL s0 F B L' h := ⟨fun p h1 => R.1 p (hp.mem_iff.mpr h1), R.2.1, (hp.map _).nodup_iff.mp R.2.2.1, R.2.2.2⟩
theorem hL_new {P : Nat → zH → Prop} (R : hL s0 F (B + u) (e0 :: L) h) (hu : 1 ≤ u) (hw : wd ≤ 6 * u) (ci : Nat × Nat) (K : ∀ n1 h1, hL s0 F B ((n1, ci, (c, fs)) :: e0 :: L) h1 → P n1 h1) : zroom s0 h wd ∧ (∀ n1, n1 = h.2.1 → ∀ h1, h1 = znew h c fs wd → P n1 h1) := by
  obtain ⟨a1, a2, a3, a4, a5⟩ := R
  refine ⟨⟨by omega, by omega⟩, ?_⟩
  rintro n1 rfl h1 rfl
  have hF : F h.2.1 = none := by
    cases hq : F h.2.1 with
    | none => rfl
    | some q => exact absurd (a2 _ q hq).2 (Nat.lt_irrefl _)
  refine K _ _ ⟨fun p hp => ?_, fun n q hq => ?_, ?_, ?_, ?_⟩
  · rcases List.mem_cons.mp hp with e | hp
    · subst e
      have h0 := a1 e0 List.mem_cons_self
      exact ⟨znew_self, hF, Nat.lt_succ_self _, by have := h0.2.2; show s0.1.heap.size < h.2.1; omega⟩
    · obtain ⟨b1, b2, b3, b4⟩ := a1 p hp
      exact ⟨by rw [znew_ne (by omega)]; exact b1, b2, Nat.lt_succ_of_lt b3, b4⟩
  · obtain ⟨b1, b2⟩ := a2 n q hq
    exact ⟨by rw [znew_ne (by omega)]; exact b1, Nat.lt_succ_of_lt b2⟩
  · rw [List.map_cons, List.nodup_cons]
    refine ⟨fun hm => ?_, a3⟩
    obtain ⟨p, hp, e⟩ := List.mem_map.mp hm
    have := (a1 p hp).2.2.1
    omega
  · show h.2.1 + 1 + B ≤ _
    omega
  · show h.2.2 + wd + 6 * B ≤ _
    omega
theorem hL.less {u : Nat} (R : hL s0 F (b + u) L h) : hL s0 F b L h := ⟨R.1, R.2.1, R.2.2.1, by have := R.2.2.2.1; omega, by have := R.2.2.2.2; omega⟩
theorem zcl_8 : zcl[8]? = some (RX9, TX9, 13) := rfl
theorem zcl_9 : zcl[9]? = some (RX10, TX10, 19) := rfl
theorem hL.cell (R : hL s0 F B (L1 ++ (n, ci, (c, fs)) :: L2) h) : h.1 n = some (c, fs) ∧ s0.1.heap.size < n := by
  obtain ⟨b1, b2, b3, b4⟩ := R.1 (n, ci, (c, fs)) (List.mem_append.mpr (Or.inr List.mem_cons_self))
  exact ⟨b1, b4⟩
theorem hL.put (R : hL s0 F B (L1 ++ (n, ci, (c, fs)) :: L2) h) : hL s0 F B (L1 ++ (n, ci, (c, fs.set k v)) :: L2) (zput h n k v) := by
  have e1 := R.cell.1
  obtain ⟨a1, a2, a3, a4⟩ := R
  have hm : (L1 ++ (n, ci, (c, fs.set k v)) :: L2).map (fun p => p.1) = (L1 ++ (n, ci, (c, fs)) :: L2).map (fun p => p.1) := by
    rw [List.map_append, List.map_append, List.map_cons, List.map_cons]
  have hn : ∀ p, p ∈ L1 ∨ p ∈ L2 → p.1 ≠ n := fun p hp e => by
    rw [List.map_append, List.map_cons] at a3
    obtain ⟨b1, b2, b3⟩ := List.nodup_append.mp a3
    rcases hp with hp | hp
    · exact b3 p.1 (List.mem_map.mpr ⟨p, hp, rfl⟩) n List.mem_cons_self e
    · exact (List.nodup_cons.mp b2).1 (by rw [← e]; exact List.mem_map.mpr ⟨p, hp, rfl⟩)
  have hold : ∀ p, p ∈ L1 ∨ p ∈ L2 → (zput h n k v).1 p.1 = some p.2.2 ∧ F p.1 = none ∧ p.1 < h.2.1 ∧ s0.1.heap.size < p.1 := fun p hp => by
    obtain ⟨b1, b2⟩ := a1 p (List.mem_append.mpr (hp.imp id (List.mem_cons_of_mem _)))
    exact ⟨by rw [zput_ne (hn p hp)]; exact b1, b2⟩
  refine ⟨fun p hp => ?_, fun r q hq => ?_, by rw [hm]; exact a3, a4⟩
  · rcases List.mem_append.mp hp with hp | hp
    · exact hold p (Or.inl hp)
    · rcases List.mem_cons.mp hp with e | hp
      · subst e
        obtain ⟨b1, b2⟩ := a1 (n, ci, (c, fs)) (List.mem_append.mpr (Or.inr List.mem_cons_self))
        exact ⟨zput_self e1, b2⟩
      · exact hold p (Or.inr hp)
  · obtain ⟨b1, b2⟩ := a2 r q hq
    have hr : r ≠ n := fun e => by
      have := (a1 (n, ci, (c, fs)) (List.mem_append.mpr (Or.inr List.mem_cons_self))).2.1
      rw [← e, hq] at this
      cases this
    exact ⟨by rw [zput_ne hr]; exact b1, b2⟩
/-- a field of the first cell -/
theorem hL_p0 {P : zH → Prop} (R : hL s0 F B ((n, ci, (c, fs)) :: L) h) (K : ∀ h1, hL s0 F B ((n, ci, (c, fs.set k v)) :: L) h1 → P h1) : fC h n c ∧ (∀ h1, h1 = zput h n k v → P h1) :=
  ⟨⟨_, (R.cell (L1 := [])).1⟩, fun h1 e => by subst e; exact K _ (R.put (L1 := []))⟩
/-- a new array, whose place a field of the first cell tells -/
theorem hL_am {P : zH → Prop} (R : hL s0 F (B + u) ((n0, c0, (cc, fs)) :: L) h) (hx : x.toNatClampNeg = len) (h0 : ¬ x < 0) (hu : 1 ≤ u) (hw : len ≤ 6 * u) (ci : Nat × Nat)
    (K : ∀ n1 h1, hL s0 F B ((n0, c0, (cc, fs.set k (zr n1))) :: (n1, ci, (cn, List.replicate len v)) :: L) h1 → P h1) :
    (¬ x < 0) ∧ ((zroom s0 h x.toNatClampNeg) ∧ (∀ n1, n1 = h.2.1 → (∀ h1, h1 = znew h cn (List.replicate x.toNatClampNeg v) x.toNatClampNeg → ((fC h1 n0 cc) ∧ (∀ h2, h2 = zput h1 n0 k (zr n1) → P h2))))) := by
  rw [hx]
  refine ⟨h0, hL_new R hu hw ci fun n1 h1 R1 => hL_p0 (R1.perm (List.Perm.swap _ _ _)) fun h2 R2 => K n1 h2 R2⟩
/-- a place of an array is written -/
theorem hL_el {P : zH → Prop} {C : String} {t : Nat} (L1 : iL) (R : hL s0 F B (L1 ++ (n, ci, (1000 + t, fs)) :: L2) h) (hk : k < fs.length) (hl : fs.length < 2147483648) (hA : m = 0 ∨ zAsg h m (.object C))
    (K : ∀ h1, hL s0 F B (L1 ++ (n, ci, (1000 + t, fs.set k (zr m))) :: L2) h1 → P h1) : (fS s0 h n t (Int32.ofNat k)) ∧ ((m = 0 ∨ zAsg h m (.object C)) ∧ (∀ h1, h1 = zput h n (Int32.ofNat k).toNatClampNeg (zr m) → P h1)) := by
  refine g_S (t := t) R.cell.1 R.cell.2 (zin_of hk (by omega)) ⟨hA, ?_⟩
  rintro h1 rfl
  rw [i_nat (by omega)]
  exact K _ R.put

/-- a channel's cells -/
def iCh (c n nk nh a28 a29 a30 : Nat) : iL := [(nh, (3, 4 * c + n), (9, [zr nk, vI n, .int 0, .int 0, .int 0, .int 0, .int 0, .int 0, .int 0, .int 0, .int 0, .int 0, .int 0, .int 0, zr 0, zr 0, zr a28, zr a29, zr a30])), (a30, (30, 4 * c + n), (1001, List.replicate 16 (.int 0))), (a29, (29, 4 * c + n), (1021, List.replicate 32 (zr 0))), (a28, (28, 4 * c + n), (1020, List.replicate 16 (zr 0)))]
theorem t_ini_217 {nk n27 : Nat} {y : Int32} {fs8 : List Value} (R : hL s0 F (B + 17) ((nk, (2, c), (8, fs8)) :: (n27, (27, c), (1019, fs)) :: L) h) (hn : 1 ≤ n ∧ n ≤ 3) (hl : fs.length = 4) (hf : fs8[12]? = some (zr n27))
    (K : ∀ nh a28 a29 a30 h1, hL s0 F B ((nk, (2, c), (8, fs8)) :: (n27, (27, c), (1019, fs.set n (zr nh))) :: (iCh c n nk nh a28 a29 a30 ++ L)) h1 → zP s0 m_X8_init (d + 2) 217 [some (zr x0), some (.int y), some (zr nk), some (.int (Int32.ofNat (n + 1))), none] [] h1 Q E) :
    zP s0 m_X8_init (d + 2) 217 [some (zr x0), some (.int y), some (zr nk), some (.int (Int32.ofNat n)), none] [] h Q E := by
  refine b_X8_init_217 ⟨fun h3 => ?_, fun _ => ?_⟩
  · rw [show (3 : Int32) = Int32.ofNat 3 from rfl, i_lt (by decide) (by omega)] at h3
    omega
  refine hL_new (B := B + 13) (u := 4) R (by decide) (by decide) (3, 4 * c + n) fun nh h1 R1 => ⟨⟨9, _, (R1.cell (L1 := [])).1⟩, c_X10_init ⟨⟨9, _, (R1.cell (L1 := [])).1⟩, ?_⟩⟩
  refine hL_am (B := B + 10) (u := 3) (len := 16) R1 (by decide) (by decide) (by decide) (by decide) (28, 4 * c + n) fun a28 h2 R2 => ?_
  refine hL_am (B := B + 4) (u := 6) (len := 32) R2 (by decide) (by decide) (by decide) (by decide) (29, 4 * c + n) fun a29 h3 R3 => ?_
  refine hL_am (B := B) (u := 4) (len := 16) R3 (by decide) (by decide) (by decide) (by decide) (30, 4 * c + n) fun a30 h4 R4 => ?_
  refine hL_p0 R4 fun h5 R5 => hL_p0 R5 fun h6 R6 => ?_
  have R6 : hL s0 F B (iCh c n nk nh a28 a29 a30 ++ (nk, (2, c), (8, fs8)) :: (n27, (27, c), (1019, fs)) :: L) h6 := R6
  have ek := (R6.cell (L1 := iCh c n nk nh a28 a29 a30)).1
  refine e_R ek (fun (z1 : gR h6 nk 12 = n27) => ?_) (hv := hf)
  rw [z1]
  have eh : h6.1 nh = some (9, _) := (hL.cell (L1 := []) (show hL s0 F B ([] ++ (nh, (3, 4 * c + n), (9, [zr nk, vI n, .int 0, .int 0, .int 0, .int 0, .int 0, .int 0, .int 0, .int 0, .int 0, .int 0, .int 0, .int 0, zr 0, zr 0, zr a28, zr a29, zr a30])) :: _) h6 from R6)).1
  refine hL_el (t := 19) (iCh c n nk nh a28 a29 a30 ++ [(nk, (2, c), (8, fs8))]) (L2 := L) (ci := (27, c)) (fs := fs) R6 (by omega) (by omega) (Or.inr (zAsg_own eh zcl_9 rfl)) fun h7 R7 => ?_
  rw [i_succ]
  refine K nh a28 a29 a30 h7 (R7.perm ?_)
  show (iCh c n nk nh a28 a29 a30 ++ ([(nk, (2, c), (8, fs8)), (n27, (27, c), (1019, fs.set n (zr nh)))] ++ L)).Perm ([(nk, (2, c), (8, fs8)), (n27, (27, c), (1019, fs.set n (zr nh)))] ++ (iCh c n nk nh a28 a29 a30 ++ L))
  rw [← List.append_assoc, ← List.append_assoc]
  exact List.perm_append_comm.append_right _
/-- a connection's cells -/
def iCn (c nk a25 a26 a27 h1 p1 p2 p3 h2 q1 q2 q3 h3 r1 r2 r3 : Nat) : iL := (nk, (2, c), (8, [vI c, .int 0, .int 0, .int 0, .int 0, .int 0, .int 0, .int 0, .int 0, .int 0, zr a25, zr a26, zr a27])) :: (a27, (27, c), (1019, [zr 0, zr h1, zr h2, zr h3])) :: (iCh c 3 nk h3 r1 r2 r3 ++ (iCh c 2 nk h2 q1 q2 q3 ++ (iCh c 1 nk h1 p1 p2 p3 ++ [(a26, (26, c), (1000, List.replicate 5000 (.int 0))), (a25, (25, c), (1000, List.replicate 900 (.int 0)))])))
theorem t_ini_190 {M fs4 : List Value} {n4 : Nat} (R : hL s0 F (B + 1040) ((x0, (1, 0), (7, M)) :: (n4, (4, 0), (1011, fs4)) :: L) h) (hc : c < 4) (hl : fs4.length = 4) (hM : M[0]? = some (zr n4))
    (K : ∀ nk a25 a26 a27 h1 p1 p2 p3 h2 q1 q2 q3 h3 r1 r2 r3 hh, hL s0 F B ((x0, (1, 0), (7, M)) :: (n4, (4, 0), (1011, fs4.set c (zr nk))) :: (iCn c nk a25 a26 a27 h1 p1 p2 p3 h2 q1 q2 q3 h3 r1 r2 r3 ++ L)) hh → zP s0 m_X8_init (d + 2) 190 [some (zr x0), some (.int (Int32.ofNat (c + 1))), none, none, none] [] hh Q E) :
    zP s0 m_X8_init (d + 2) 190 [some (zr x0), some (.int (Int32.ofNat c)), none, none, none] [] h Q E := by
  refine b_X8_init_190 ⟨fun h4 => ?_, fun _ => ?_⟩
  · rw [show (4 : Int32) = Int32.ofNat 4 from rfl, i_le (by decide) (by omega)] at h4
    omega
  refine hL_new (B := B + 1037) (u := 3) R (by decide) (by decide) (2, c) fun nk h1 R1 => ⟨⟨8, _, (R1.cell (L1 := [])).1⟩, c_X9_init ⟨⟨8, _, (R1.cell (L1 := [])).1⟩, ?_⟩⟩
  refine hL_am (B := B + 887) (u := 150) (len := 900) R1 (by decide) (by decide) (by decide) (by decide) (25, c) fun a25 h2 R2 => ?_
  refine hL_am (B := B + 53) (u := 834) (len := 5000) R2 (by decide) (by decide) (by decide) (by decide) (26, c) fun a26 h3 R3 => ?_
  refine hL_am (B := B + 52) (u := 1) (len := 4) R3 (by decide) (by decide) (by decide) (by decide) (27, c) fun a27 h4 R4 => ?_
  refine hL_p0 R4 fun h5 R5 => ?_
  have R5 : hL s0 F (B + 52) ([(nk, (2, c), (8, [vI c, .int 0, .int 0, .int 0, .int 0, .int 0, .int 0, .int 0, .int 0, .int 0, zr a25, zr a26, zr a27])), (a27, (27, c), (1019, [zr 0, zr 0, zr 0, zr 0])), (a26, (26, c), (1000, List.replicate 5000 (.int 0))), (a25, (25, c), (1000, List.replicate 900 (.int 0)))] ++ (x0, (1, 0), (7, M)) :: (n4, (4, 0), (1011, fs4)) :: L) h5 := R5
  refine e_R R5.cell.1 (fun (z1 : gR h5 x0 0 = n4) => ?_) (hv := hM)
  rw [z1]
  have eh : h5.1 nk = some (8, _) := (hL.cell (L1 := []) (show hL s0 F (B + 52) ([] ++ (nk, (2, c), (8, [vI c, .int 0, .int 0, .int 0, .int 0, .int 0, .int 0, .int 0, .int 0, .int 0, zr a25, zr a26, zr a27])) :: _) h5 from R5)).1
  refine hL_el (t := 11) [(nk, (2, c), (8, [vI c, .int 0, .int 0, .int 0, .int 0, .int 0, .int 0, .int 0, .int 0, .int 0, zr a25, zr a26, zr a27])), (a27, (27, c), (1019, [zr 0, zr 0, zr 0, zr 0])), (a26, (26, c), (1000, List.replicate 5000 (.int 0))), (a25, (25, c), (1000, List.replicate 900 (.int 0))), (x0, (1, 0), (7, M))] (L2 := L) (ci := (4, 0)) (fs := fs4) R5 (by omega) (by omega) (Or.inr (zAsg_own eh zcl_8 rfl)) fun h6 R6 => ?_
  have R6 : hL s0 F (B + 1 + 17 + 17 + 17) ((nk, (2, c), (8, [vI c, .int 0, .int 0, .int 0, .int 0, .int 0, .int 0, .int 0, .int 0, .int 0, zr a25, zr a26, zr a27])) :: (a27, (27, c), (1019, [zr 0, zr 0, zr 0, zr 0])) :: ([(a26, (26, c), (1000, List.replicate 5000 (.int 0))), (a25, (25, c), (1000, List.replicate 900 (.int 0)))] ++ ((x0, (1, 0), (7, M)) :: (n4, (4, 0), (1011, fs4.set c (zr nk))) :: L))) h6 := R6
  refine t_ini_217 (n := 1) R6 ⟨by decide, by decide⟩ rfl rfl fun g1 p1 p2 p3 h7 R7 => ?_
  refine t_ini_217 (n := 2) R7 ⟨by decide, by decide⟩ rfl rfl fun g2 q1 q2 q3 h8 R8 => ?_
  refine t_ini_217 (n := 3) R8 ⟨by decide, by decide⟩ rfl rfl fun g3 r1 r2 r3 h9 R9 => ?_
  refine b_X8_init_217 ⟨fun _ => ?_, fun hn => absurd (by decide) hn⟩
  rw [i_succ]
  have R9' : hL s0 F (B + 1) (iCn c nk a25 a26 a27 g1 p1 p2 p3 g2 q1 q2 q3 g3 r1 r2 r3 ++ ([(x0, (1, 0), (7, M)), (n4, (4, 0), (1011, fs4.set c (zr nk)))] ++ L)) h9 := by
    have e : iCn c nk a25 a26 a27 g1 p1 p2 p3 g2 q1 q2 q3 g3 r1 r2 r3 ++ ([(x0, (1, 0), (7, M)), (n4, (4, 0), (1011, fs4.set c (zr nk)))] ++ L) = (nk, (2, c), (8, [vI c, .int 0, .int 0, .int 0, .int 0, .int 0, .int 0, .int 0, .int 0, .int 0, zr a25, zr a26, zr a27])) :: (a27, (27, c), (1019, [zr 0, zr g1, zr g2, zr g3])) :: (iCh c 3 nk g3 r1 r2 r3 ++ (iCh c 2 nk g2 q1 q2 q3 ++ (iCh c 1 nk g1 p1 p2 p3 ++ ([(a26, (26, c), (1000, List.replicate 5000 (.int 0))), (a25, (25, c), (1000, List.replicate 900 (.int 0)))] ++ ((x0, (1, 0), (7, M)) :: (n4, (4, 0), (1011, fs4.set c (zr nk))) :: L))))) := by
      unfold iCn
      rw [List.cons_append, List.cons_append, List.append_assoc, List.append_assoc, List.append_assoc]
      rfl
    rw [e]
    exact R9
  refine K nk a25 a26 a27 g1 p1 p2 p3 g2 q1 q2 q3 g3 r1 r2 r3 h9 (hL.less (B := 1) (hL.perm R9' ?_))
  show (iCn c nk a25 a26 a27 g1 p1 p2 p3 g2 q1 q2 q3 g3 r1 r2 r3 ++ ([(x0, (1, 0), (7, M)), (n4, (4, 0), (1011, fs4.set c (zr nk)))] ++ L)).Perm ([(x0, (1, 0), (7, M)), (n4, (4, 0), (1011, fs4.set c (zr nk)))] ++ (iCn c nk a25 a26 a27 g1 p1 p2 p3 g2 q1 q2 q3 g3 r1 r2 r3 ++ L))
  rw [← List.append_assoc, ← List.append_assoc]
  exact List.perm_append_comm.append_right _

/-- the hall as it begins -/
def s_init : sSt := (fun _ => ([], false, false, false, false, none, 0, 0, 0, none, none, [], none), fun _ => ([], 0, false, false, false, false, none), fun _ => (0, 0, [], ([], [])), fun _ => ([], 0, 0, false, false, 0), fun _ => (([], [], false, false, 0, 0, none, []), [], [], 0, 0, 0, 0, 0, 0, false), fun _ => (0, 0, none, false), fun _ => (0, 0, 0, 0, 0, false, [], [], 0), fun _ => (0, 0, 0, 0, 0, 0, 0, false, none, none, 0, 0, [], [], [], false), [], [], [], [], [], [], [], [], [], [], 0, 0, 0, 0, 0, 0, [], 0, fun _ => 0)
def w_init : tW := ([], 0, ([], 0, false), 0, 0, 0, [], fun _ => 0)
/-- the things' ghost, from a list of cells -/
def iG (L : iL) (E1 E2 : Nat) : sG := (fun n => match L.find? (fun p => p.1 == n) with
  | some p => p.2.1
  | none => if n = E1 ∨ n = E2 then (40, n) else (0, 0), fun c i => if c = 40 then i else match L.find? (fun p => p.2.1 == (c, i)) with
  | some p => p.1
  | none => 0, fun c i => match L.find? (fun p => p.2.1 == (c, i)) with
  | some p => p.2.2.2
  | none => [], fun n => if n = E1 then (1000, vB []) else (1000, vB s_greets), fun _ _ _ => 0, 0, fun _ _ => 0)
theorem find_key {α β : Type} {eqv : β → β → Bool} (hq : ∀ a b, eqv a b = true ↔ a = b) {f : α → β} : ∀ {L : List α}, (L.map f).Nodup → ∀ {p : α}, p ∈ L → L.find? (fun y => eqv (f y) (f p)) = some p
  | [], _, p, hp => nomatch hp
  | y :: L, hn, p, hp => by
    rw [List.map_cons, List.nodup_cons] at hn
    rw [List.find?_cons]
    rcases List.mem_cons.mp hp with e | hp
    · subst e
      rw [(hq _ _).mpr rfl]
    · have hne : ¬ f y = f p := fun e => hn.1 (by rw [e]; exact List.mem_map.mpr ⟨p, hp, rfl⟩)
      cases hb : eqv (f y) (f p) with
      | true => exact absurd ((hq _ _).mp hb) hne
      | false => exact find_key hq hn.2 hp
theorem iG_kind {E1 E2 : Nat} (hN : (L.map (fun p => p.1)).Nodup) {p : Nat × (Nat × Nat) × zC} (hp : p ∈ L) : (iG L E1 E2).kind p.1 = p.2.1 := by
  have := find_key (eqv := fun a b => a == b) (fun a b => beq_iff_eq) (f := fun p : Nat × (Nat × Nat) × zC => p.1) hN hp
  show (match L.find? (fun y => y.1 == p.1) with
    | some p => p.2.1
    | none => _) = _
  rw [this]
theorem iG_ref {E1 E2 : Nat} (hC : (L.map (fun p => p.2.1)).Nodup) {p : Nat × (Nat × Nat) × zC} (hp : p ∈ L) (h40 : p.2.1.1 ≠ 40) : (iG L E1 E2).ref p.2.1.1 p.2.1.2 = p.1 := by
  have := find_key (eqv := fun a b => a == b) (fun a b => beq_iff_eq) (f := fun p : Nat × (Nat × Nat) × zC => p.2.1) hC hp
  show (if p.2.1.1 = 40 then _ else match L.find? (fun y => y.2.1 == (p.2.1.1, p.2.1.2)) with
    | some p => p.1
    | none => 0) = _
  rw [if_neg h40, show (p.2.1.1, p.2.1.2) = p.2.1 from rfl, this]
theorem iG_inv {E1 E2 : Nat} (hk : (iG L E1 E2).kind n = (c, i)) (hc : c ≠ 0) : (∃ p ∈ L, p.1 = n ∧ p.2.1 = (c, i)) ∨ (c = 40 ∧ i = n ∧ (n = E1 ∨ n = E2)) := by
  have hk : (match L.find? (fun p => p.1 == n) with
    | some p => p.2.1
    | none => if n = E1 ∨ n = E2 then (40, n) else (0, 0)) = (c, i) := hk
  split at hk
  · rename_i p hp
    exact Or.inl ⟨p, List.mem_of_find?_eq_some hp, by have := List.find?_some hp; exact beq_iff_eq.mp this, hk⟩
  · split at hk
    · rename_i h1
      cases hk
      exact Or.inr ⟨rfl, rfl, h1⟩
    · cases hk
      exact absurd rfl hc
theorem all_nil {P : Nat × (Nat × Nat) × zC → Prop} : ∀ p ∈ ([] : iL), P p := fun _ h => nomatch h
theorem all_cons {P : Nat × (Nat × Nat) × zC → Prop} {y : Nat × (Nat × Nat) × zC} (h : P y) (H : ∀ p ∈ L, P p) : ∀ p ∈ y :: L, P p := fun p hp => by
  rcases List.mem_cons.mp hp with e | e
  · subst e; exact h
  · exact H p e
theorem alln_cons {P : Nat → Prop} {y : Nat} {l : List Nat} (h : P y) (H : ∀ p ∈ l, P p) : ∀ p ∈ y :: l, P p := fun p hp => by
  rcases List.mem_cons.mp hp with e | e
  · subst e; exact h
  · exact H p e
theorem alln_nil {P : Nat → Prop} : ∀ p ∈ ([] : List Nat), P p := fun _ h => nomatch h

/-- what is there -/
def iCodes : List (Nat × Nat) := [(1, 0), (4, 0), (2, 3), (27, 3), (3, 15), (30, 15), (29, 15), (28, 15), (3, 14), (30, 14), (29, 14), (28, 14), (3, 13), (30, 13), (29, 13), (28, 13), (26, 3), (25, 3), (2, 2), (27, 2), (3, 11), (30, 11), (29, 11), (28, 11), (3, 10), (30, 10), (29, 10), (28, 10), (3, 9), (30, 9), (29, 9), (28, 9), (26, 2), (25, 2), (2, 1), (27, 1), (3, 7), (30, 7), (29, 7), (28, 7), (3, 6), (30, 6), (29, 6), (28, 6), (3, 5), (30, 5), (29, 5), (28, 5), (26, 1), (25, 1), (2, 0), (27, 0), (3, 3), (30, 3), (29, 3), (28, 3), (3, 2), (30, 2), (29, 2), (28, 2), (3, 1), (30, 1), (29, 1), (28, 1), (26, 0), (25, 0), (24, 0), (23, 0), (22, 0), (21, 0), (20, 0), (19, 0), (18, 0), (17, 0), (16, 0), (15, 0), (14, 0), (13, 0), (12, 0), (11, 0), (10, 0), (9, 0), (8, 0), (7, 0), (6, 0), (5, 0)]
theorem iCodes_nd : iCodes.Nodup := by decide +kernel
theorem iCodes_lt : ∀ q ∈ iCodes, q.1 < 32 ∧ q.1 ≠ 0 ∧ (q.1 = 1 → q.2 = 0) := by decide +kernel
def iAll (y0 n1 n2 n3 n4 n5 n6 n7 n8 n9 n10 n11 n12 n13 n14 n15 n16 n17 n18 n19 n20 n21 k0 a0 b0 c0 h0 p0 q0 r0 i0 s0 t0 u0 j0 v0 w0 x0 k1 a1 b1 c1 h1 p1 q1 r1 i1 s1 t1 u1 j1 v1 w1 x1 k2 a2 b2 c2 h2 p2 q2 r2 i2 s2 t2 u2 j2 v2 w2 x2 k3 a3 b3 c3 h3 p3 q3 r3 i3 s3 t3 u3 j3 v3 w3 x3 : Nat) : iL := (y0, (1, 0), (7, [zr n1, zr n2, zr n3, zr n4, zr n5, .int 0, .int 0, .int 0, .int 0, .int 0, .int 0, .int 0, .int 0, .int 0, zr n6, .int 0, zr n7, .int 0, zr n8, zr n9, zr n10, zr n11, .int 0, .int 0, .int 0, .int 0, zr n12, .int 0, .int 0, zr n13, .int 0, .int 0, .int 0, .int 0, .int 0, zr n14, .int 0, .int 0, zr n15, zr n16, zr n17, zr n18, zr n19, zr n20, zr n21, .int 0])) :: (n1, (4, 0), (1011, [zr k0, zr k1, zr k2, zr k3])) :: (iCn 3 k3 a3 b3 c3 h3 p3 q3 r3 i3 s3 t3 u3 j3 v3 w3 x3 ++ (iCn 2 k2 a2 b2 c2 h2 p2 q2 r2 i2 s2 t2 u2 j2 v2 w2 x2 ++ (iCn 1 k1 a1 b1 c1 h1 p1 q1 r1 i1 s1 t1 u1 j1 v1 w1 x1 ++ (iCn 0 k0 a0 b0 c0 h0 p0 q0 r0 i0 s0 t0 u0 j0 v0 w0 x0 ++ [(n21, (24, 0), (1013, List.replicate 12 (zr 0))), (n20, (23, 0), (1003, List.replicate 43 (.int 0))), (n19, (22, 0), (1003, List.replicate 43 (.int 0))), (n18, (21, 0), (1001, List.replicate 42 (.int 0))), (n17, (20, 0), (1001, List.replicate 42 (.int 0))), (n16, (19, 0), (1001, List.replicate 42 (.int 0))), (n15, (18, 0), (1001, List.replicate 42 (.int 0))), (n14, (17, 0), (1000, List.replicate 1200 (.int 0))), (n13, (16, 0), (1000, List.replicate 400 (.int 0))), (n12, (15, 0), (1000, List.replicate 420 (.int 0))), (n11, (14, 0), (1018, List.replicate 301 (zr 0))), (n10, (13, 0), (1014, List.replicate 40 (zr 0))), (n9, (12, 0), (1013, List.replicate 12 (zr 0))), (n8, (11, 0), (1012, List.replicate 12 (zr 0))), (n7, (10, 0), (1017, List.replicate 64 (zr 0))), (n6, (9, 0), (1016, List.replicate 300 (zr 0))), (n5, (8, 0), (1015, List.replicate 16 (zr 0))), (n4, (7, 0), (1014, List.replicate 40 (zr 0))), (n3, (6, 0), (1013, List.replicate 12 (zr 0))), (n2, (5, 0), (1012, List.replicate 12 (zr 0)))]))))
variable {y0 n1 n2 n3 n4 n5 n6 n7 n8 n9 n10 n11 n12 n13 n14 n15 n16 n17 n18 n19 n20 n21 k0 a0 b0 c0 h0 p0 q0 r0 i0 s0 t0 u0 j0 v0 w0 x0 k1 a1 b1 c1 h1 p1 q1 r1 i1 s1 t1 u1 j1 v1 w1 x1 k2 a2 b2 c2 h2 p2 q2 r2 i2 s2 t2 u2 j2 v2 w2 x2 k3 a3 b3 c3 h3 p3 q3 r3 i3 s3 t3 u3 j3 v3 w3 x3 E1 E2 : Nat}
theorem iAll_codes : (iAll y0 n1 n2 n3 n4 n5 n6 n7 n8 n9 n10 n11 n12 n13 n14 n15 n16 n17 n18 n19 n20 n21 k0 a0 b0 c0 h0 p0 q0 r0 i0 s0 t0 u0 j0 v0 w0 x0 k1 a1 b1 c1 h1 p1 q1 r1 i1 s1 t1 u1 j1 v1 w1 x1 k2 a2 b2 c2 h2 p2 q2 r2 i2 s2 t2 u2 j2 v2 w2 x2 k3 a3 b3 c3 h3 p3 q3 r3 i3 s3 t3 u3 j3 v3 w3 x3).map (fun p => p.2.1) = iCodes := rfl
theorem iAll_cells : ∀ p ∈ iAll y0 n1 n2 n3 n4 n5 n6 n7 n8 n9 n10 n11 n12 n13 n14 n15 n16 n17 n18 n19 n20 n21 k0 a0 b0 c0 h0 p0 q0 r0 i0 s0 t0 u0 j0 v0 w0 x0 k1 a1 b1 c1 h1 p1 q1 r1 i1 s1 t1 u1 j1 v1 w1 x1 k2 a2 b2 c2 h2 p2 q2 r2 i2 s2 t2 u2 j2 v2 w2 x2 k3 a3 b3 c3 h3 p3 q3 r3 i3 s3 t3 u3 j3 v3 w3 x3, p.2.2 = tcell s_init w_init (iG (iAll y0 n1 n2 n3 n4 n5 n6 n7 n8 n9 n10 n11 n12 n13 n14 n15 n16 n17 n18 n19 n20 n21 k0 a0 b0 c0 h0 p0 q0 r0 i0 s0 t0 u0 j0 v0 w0 x0 k1 a1 b1 c1 h1 p1 q1 r1 i1 s1 t1 u1 j1 v1 w1 x1 k2 a2 b2 c2 h2 p2 q2 r2 i2 s2 t2 u2 j2 v2 w2 x2 k3 a3 b3 c3 h3 p3 q3 r3 i3 s3 t3 u3 j3 v3 w3 x3) E1 E2) p.2.1.1 p.2.1.2 := by
  unfold iAll iCn iCh
  exact all_cons rfl (all_cons rfl (all_cons rfl (all_cons rfl (all_cons rfl (all_cons rfl (all_cons rfl (all_cons rfl (all_cons rfl (all_cons rfl (all_cons rfl (all_cons rfl (all_cons rfl (all_cons rfl (all_cons rfl (all_cons rfl (all_cons rfl (all_cons rfl (all_cons rfl (all_cons rfl (all_cons rfl (all_cons rfl (all_cons rfl (all_cons rfl (all_cons rfl (all_cons rfl (all_cons rfl (all_cons rfl (all_cons rfl (all_cons rfl (all_cons rfl (all_cons rfl (all_cons rfl (all_cons rfl (all_cons rfl (all_cons rfl (all_cons rfl (all_cons rfl (all_cons rfl (all_cons rfl (all_cons rfl (all_cons rfl (all_cons rfl (all_cons rfl (all_cons rfl (all_cons rfl (all_cons rfl (all_cons rfl (all_cons rfl (all_cons rfl (all_cons rfl (all_cons rfl (all_cons rfl (all_cons rfl (all_cons rfl (all_cons rfl (all_cons rfl (all_cons rfl (all_cons rfl (all_cons rfl (all_cons rfl (all_cons rfl (all_cons rfl (all_cons rfl (all_cons rfl (all_cons rfl (all_cons rfl (all_cons rfl (all_cons rfl (all_cons rfl (all_cons rfl (all_cons rfl (all_cons rfl (all_cons rfl (all_cons rfl (all_cons rfl (all_cons rfl (all_cons rfl (all_cons rfl (all_cons rfl (all_cons rfl (all_cons rfl (all_cons rfl (all_cons rfl (all_cons rfl (all_cons rfl (all_nil))))))))))))))))))))))))))))))))))))))))))))))))))))))))))))))))))))))))))))))))))))))
theorem iAll_tR (R : hL s0 F b (iAll y0 n1 n2 n3 n4 n5 n6 n7 n8 n9 n10 n11 n12 n13 n14 n15 n16 n17 n18 n19 n20 n21 k0 a0 b0 c0 h0 p0 q0 r0 i0 s0 t0 u0 j0 v0 w0 x0 k1 a1 b1 c1 h1 p1 q1 r1 i1 s1 t1 u1 j1 v1 w1 x1 k2 a2 b2 c2 h2 p2 q2 r2 i2 s2 t2 u2 j2 v2 w2 x2 k3 a3 b3 c3 h3 p3 q3 r3 i3 s3 t3 u3 j3 v3 w3 x3) h) (h1 : F E1 = some (1000, vB [])) (h2 : F E2 = some (1000, vB s_greets)) (p1 : 0 < E1) (p2 : 0 < E2) :
    tR s0 (fun n => if n = E1 ∨ n = E2 then none else F n) b s_init w_init (iG (iAll y0 n1 n2 n3 n4 n5 n6 n7 n8 n9 n10 n11 n12 n13 n14 n15 n16 n17 n18 n19 n20 n21 k0 a0 b0 c0 h0 p0 q0 r0 i0 s0 t0 u0 j0 v0 w0 x0 k1 a1 b1 c1 h1 p1 q1 r1 i1 s1 t1 u1 j1 v1 w1 x1 k2 a2 b2 c2 h2 p2 q2 r2 i2 s2 t2 u2 j2 v2 w2 x2 k3 a3 b3 c3 h3 p3 q3 r3 i3 s3 t3 u3 j3 v3 w3 x3) E1 E2) h ∧ (iG (iAll y0 n1 n2 n3 n4 n5 n6 n7 n8 n9 n10 n11 n12 n13 n14 n15 n16 n17 n18 n19 n20 n21 k0 a0 b0 c0 h0 p0 q0 r0 i0 s0 t0 u0 j0 v0 w0 x0 k1 a1 b1 c1 h1 p1 q1 r1 i1 s1 t1 u1 j1 v1 w1 x1 k2 a2 b2 c2 h2 p2 q2 r2 i2 s2 t2 u2 j2 v2 w2 x2 k3 a3 b3 c3 h3 p3 q3 r3 i3 s3 t3 u3 j3 v3 w3 x3) E1 E2).kind y0 = (1, 0) ∧ gB (iG (iAll y0 n1 n2 n3 n4 n5 n6 n7 n8 n9 n10 n11 n12 n13 n14 n15 n16 n17 n18 n19 n20 n21 k0 a0 b0 c0 h0 p0 q0 r0 i0 s0 t0 u0 j0 v0 w0 x0 k1 a1 b1 c1 h1 p1 q1 r1 i1 s1 t1 u1 j1 v1 w1 x1 k2 a2 b2 c2 h2 p2 q2 r2 i2 s2 t2 u2 j2 v2 w2 x2 k3 a3 b3 c3 h3 p3 q3 r3 i3 s3 t3 u3 j3 v3 w3 x3) E1 E2) E1 [] ∧ gB (iG (iAll y0 n1 n2 n3 n4 n5 n6 n7 n8 n9 n10 n11 n12 n13 n14 n15 n16 n17 n18 n19 n20 n21 k0 a0 b0 c0 h0 p0 q0 r0 i0 s0 t0 u0 j0 v0 w0 x0 k1 a1 b1 c1 h1 p1 q1 r1 i1 s1 t1 u1 j1 v1 w1 x1 k2 a2 b2 c2 h2 p2 q2 r2 i2 s2 t2 u2 j2 v2 w2 x2 k3 a3 b3 c3 h3 p3 q3 r3 i3 s3 t3 u3 j3 v3 w3 x3) E1 E2) E2 s_greets := by
  have hC : ((iAll y0 n1 n2 n3 n4 n5 n6 n7 n8 n9 n10 n11 n12 n13 n14 n15 n16 n17 n18 n19 n20 n21 k0 a0 b0 c0 h0 p0 q0 r0 i0 s0 t0 u0 j0 v0 w0 x0 k1 a1 b1 c1 h1 p1 q1 r1 i1 s1 t1 u1 j1 v1 w1 x1 k2 a2 b2 c2 h2 p2 q2 r2 i2 s2 t2 u2 j2 v2 w2 x2 k3 a3 b3 c3 h3 p3 q3 r3 i3 s3 t3 u3 j3 v3 w3 x3).map (fun p => p.2.1)).Nodup := by rw [iAll_codes]; exact iCodes_nd
  have hcells := iAll_cells (y0 := y0) (n1 := n1) (n2 := n2) (n3 := n3) (n4 := n4) (n5 := n5) (n6 := n6) (n7 := n7) (n8 := n8) (n9 := n9) (n10 := n10) (n11 := n11) (n12 := n12) (n13 := n13) (n14 := n14) (n15 := n15) (n16 := n16) (n17 := n17) (n18 := n18) (n19 := n19) (n20 := n20) (n21 := n21) (k0 := k0) (a0 := a0) (b0 := b0) (c0 := c0) (h0 := h0) (p0 := p0) (q0 := q0) (r0 := r0) (i0 := i0) (s0 := s0) (t0 := t0) (u0 := u0) (j0 := j0) (v0 := v0) (w0 := w0) (x0 := x0) (k1 := k1) (a1 := a1) (b1 := b1) (c1 := c1) (h1 := h1) (p1 := p1) (q1 := q1) (r1 := r1) (i1 := i1) (s1 := s1) (t1 := t1) (u1 := u1) (j1 := j1) (v1 := v1) (w1 := w1) (x1 := x1) (k2 := k2) (a2 := a2) (b2 := b2) (c2 := c2) (h2 := h2) (p2 := p2) (q2 := q2) (r2 := r2) (i2 := i2) (s2 := s2) (t2 := t2) (u2 := u2) (j2 := j2) (v2 := v2) (w2 := w2) (x2 := x2) (k3 := k3) (a3 := a3) (b3 := b3) (c3 := c3) (h3 := h3) (p3 := p3) (q3 := q3) (r3 := r3) (i3 := i3) (s3 := s3) (t3 := t3) (u3 := u3) (j3 := j3) (v3 := v3) (w3 := w3) (x3 := x3) (E1 := E1) (E2 := E2)
  obtain ⟨a1, a2, a3, a4⟩ := R
  have hmem : ∀ c i, (c, i) ∈ iCodes → ∃ p ∈ iAll y0 n1 n2 n3 n4 n5 n6 n7 n8 n9 n10 n11 n12 n13 n14 n15 n16 n17 n18 n19 n20 n21 k0 a0 b0 c0 h0 p0 q0 r0 i0 s0 t0 u0 j0 v0 w0 x0 k1 a1 b1 c1 h1 p1 q1 r1 i1 s1 t1 u1 j1 v1 w1 x1 k2 a2 b2 c2 h2 p2 q2 r2 i2 s2 t2 u2 j2 v2 w2 x2 k3 a3 b3 c3 h3 p3 q3 r3 i3 s3 t3 u3 j3 v3 w3 x3, p.2.1 = (c, i) := fun c i hci => by
    rw [← iAll_codes (y0 := y0) (n1 := n1) (n2 := n2) (n3 := n3) (n4 := n4) (n5 := n5) (n6 := n6) (n7 := n7) (n8 := n8) (n9 := n9) (n10 := n10) (n11 := n11) (n12 := n12) (n13 := n13) (n14 := n14) (n15 := n15) (n16 := n16) (n17 := n17) (n18 := n18) (n19 := n19) (n20 := n20) (n21 := n21) (k0 := k0) (a0 := a0) (b0 := b0) (c0 := c0) (h0 := h0) (p0 := p0) (q0 := q0) (r0 := r0) (i0 := i0) (s0 := s0) (t0 := t0) (u0 := u0) (j0 := j0) (v0 := v0) (w0 := w0) (x0 := x0) (k1 := k1) (a1 := a1) (b1 := b1) (c1 := c1) (h1 := h1) (p1 := p1) (q1 := q1) (r1 := r1) (i1 := i1) (s1 := s1) (t1 := t1) (u1 := u1) (j1 := j1) (v1 := v1) (w1 := w1) (x1 := x1) (k2 := k2) (a2 := a2) (b2 := b2) (c2 := c2) (h2 := h2) (p2 := p2) (q2 := q2) (r2 := r2) (i2 := i2) (s2 := s2) (t2 := t2) (u2 := u2) (j2 := j2) (v2 := v2) (w2 := w2) (x2 := x2) (k3 := k3) (a3 := a3) (b3 := b3) (c3 := c3) (h3 := h3) (p3 := p3) (q3 := q3) (r3 := r3) (i3 := i3) (s3 := s3) (t3 := t3) (u3 := u3) (j3 := j3) (v3 := v3) (w3 := w3) (x3 := x3)] at hci
    exact List.mem_map.mp hci
  have hcode : ∀ p ∈ iAll y0 n1 n2 n3 n4 n5 n6 n7 n8 n9 n10 n11 n12 n13 n14 n15 n16 n17 n18 n19 n20 n21 k0 a0 b0 c0 h0 p0 q0 r0 i0 s0 t0 u0 j0 v0 w0 x0 k1 a1 b1 c1 h1 p1 q1 r1 i1 s1 t1 u1 j1 v1 w1 x1 k2 a2 b2 c2 h2 p2 q2 r2 i2 s2 t2 u2 j2 v2 w2 x2 k3 a3 b3 c3 h3 p3 q3 r3 i3 s3 t3 u3 j3 v3 w3 x3, p.2.1 ∈ iCodes := fun p hp => by
    rw [← iAll_codes (y0 := y0) (n1 := n1) (n2 := n2) (n3 := n3) (n4 := n4) (n5 := n5) (n6 := n6) (n7 := n7) (n8 := n8) (n9 := n9) (n10 := n10) (n11 := n11) (n12 := n12) (n13 := n13) (n14 := n14) (n15 := n15) (n16 := n16) (n17 := n17) (n18 := n18) (n19 := n19) (n20 := n20) (n21 := n21) (k0 := k0) (a0 := a0) (b0 := b0) (c0 := c0) (h0 := h0) (p0 := p0) (q0 := q0) (r0 := r0) (i0 := i0) (s0 := s0) (t0 := t0) (u0 := u0) (j0 := j0) (v0 := v0) (w0 := w0) (x0 := x0) (k1 := k1) (a1 := a1) (b1 := b1) (c1 := c1) (h1 := h1) (p1 := p1) (q1 := q1) (r1 := r1) (i1 := i1) (s1 := s1) (t1 := t1) (u1 := u1) (j1 := j1) (v1 := v1) (w1 := w1) (x1 := x1) (k2 := k2) (a2 := a2) (b2 := b2) (c2 := c2) (h2 := h2) (p2 := p2) (q2 := q2) (r2 := r2) (i2 := i2) (s2 := s2) (t2 := t2) (u2 := u2) (j2 := j2) (v2 := v2) (w2 := w2) (x2 := x2) (k3 := k3) (a3 := a3) (b3 := b3) (c3 := c3) (h3 := h3) (p3 := p3) (q3 := q3) (r3 := r3) (i3 := i3) (s3 := s3) (t3 := t3) (u3 := u3) (j3 := j3) (v3 := v3) (w3 := w3) (x3 := x3)]
    exact List.mem_map.mpr ⟨p, hp, rfl⟩
  have hy0 : (y0, (1, 0), (7, [zr n1, zr n2, zr n3, zr n4, zr n5, .int 0, .int 0, .int 0, .int 0, .int 0, .int 0, .int 0, .int 0, .int 0, zr n6, .int 0, zr n7, .int 0, zr n8, zr n9, zr n10, zr n11, .int 0, .int 0, .int 0, .int 0, zr n12, .int 0, .int 0, zr n13, .int 0, .int 0, .int 0, .int 0, .int 0, zr n14, .int 0, .int 0, zr n15, zr n16, zr n17, zr n18, zr n19, zr n20, zr n21, .int 0])) ∈ iAll y0 n1 n2 n3 n4 n5 n6 n7 n8 n9 n10 n11 n12 n13 n14 n15 n16 n17 n18 n19 n20 n21 k0 a0 b0 c0 h0 p0 q0 r0 i0 s0 t0 u0 j0 v0 w0 x0 k1 a1 b1 c1 h1 p1 q1 r1 i1 s1 t1 u1 j1 v1 w1 x1 k2 a2 b2 c2 h2 p2 q2 r2 i2 s2 t2 u2 j2 v2 w2 x2 k3 a3 b3 c3 h3 p3 q3 r3 i3 s3 t3 u3 j3 v3 w3 x3 := List.mem_cons_self
  have hky := iG_kind (E1 := E1) (E2 := E2) a3 hy0
  have hE : ∀ n, (n = E1 ∨ n = E2) → (iG (iAll y0 n1 n2 n3 n4 n5 n6 n7 n8 n9 n10 n11 n12 n13 n14 n15 n16 n17 n18 n19 n20 n21 k0 a0 b0 c0 h0 p0 q0 r0 i0 s0 t0 u0 j0 v0 w0 x0 k1 a1 b1 c1 h1 p1 q1 r1 i1 s1 t1 u1 j1 v1 w1 x1 k2 a2 b2 c2 h2 p2 q2 r2 i2 s2 t2 u2 j2 v2 w2 x2 k3 a3 b3 c3 h3 p3 q3 r3 i3 s3 t3 u3 j3 v3 w3 x3) E1 E2).kind n = (40, n) := fun n hn => by
    have hf : (iAll y0 n1 n2 n3 n4 n5 n6 n7 n8 n9 n10 n11 n12 n13 n14 n15 n16 n17 n18 n19 n20 n21 k0 a0 b0 c0 h0 p0 q0 r0 i0 s0 t0 u0 j0 v0 w0 x0 k1 a1 b1 c1 h1 p1 q1 r1 i1 s1 t1 u1 j1 v1 w1 x1 k2 a2 b2 c2 h2 p2 q2 r2 i2 s2 t2 u2 j2 v2 w2 x2 k3 a3 b3 c3 h3 p3 q3 r3 i3 s3 t3 u3 j3 v3 w3 x3).find? (fun p => p.1 == n) = none := List.find?_eq_none.mpr fun p hp => by
      intro e
      have e := beq_iff_eq.mp e
      have := (a1 p hp).2.1
      rw [e] at this
      rcases hn with e2 | e2
      · rw [e2, h1] at this; cases this
      · rw [e2, h2] at this; cases this
    show (match (iAll y0 n1 n2 n3 n4 n5 n6 n7 n8 n9 n10 n11 n12 n13 n14 n15 n16 n17 n18 n19 n20 n21 k0 a0 b0 c0 h0 p0 q0 r0 i0 s0 t0 u0 j0 v0 w0 x0 k1 a1 b1 c1 h1 p1 q1 r1 i1 s1 t1 u1 j1 v1 w1 x1 k2 a2 b2 c2 h2 p2 q2 r2 i2 s2 t2 u2 j2 v2 w2 x2 k3 a3 b3 c3 h3 p3 q3 r3 i3 s3 t3 u3 j3 v3 w3 x3).find? (fun p => p.1 == n) with
      | some p => p.2.1
      | none => if n = E1 ∨ n = E2 then (40, n) else (0, 0)) = _
    rw [hf]
    exact if_pos hn
  have hfrz1 : (iG (iAll y0 n1 n2 n3 n4 n5 n6 n7 n8 n9 n10 n11 n12 n13 n14 n15 n16 n17 n18 n19 n20 n21 k0 a0 b0 c0 h0 p0 q0 r0 i0 s0 t0 u0 j0 v0 w0 x0 k1 a1 b1 c1 h1 p1 q1 r1 i1 s1 t1 u1 j1 v1 w1 x1 k2 a2 b2 c2 h2 p2 q2 r2 i2 s2 t2 u2 j2 v2 w2 x2 k3 a3 b3 c3 h3 p3 q3 r3 i3 s3 t3 u3 j3 v3 w3 x3) E1 E2).frz E1 = (1000, vB []) := if_pos rfl
  have hfrz2 : (iG (iAll y0 n1 n2 n3 n4 n5 n6 n7 n8 n9 n10 n11 n12 n13 n14 n15 n16 n17 n18 n19 n20 n21 k0 a0 b0 c0 h0 p0 q0 r0 i0 s0 t0 u0 j0 v0 w0 x0 k1 a1 b1 c1 h1 p1 q1 r1 i1 s1 t1 u1 j1 v1 w1 x1 k2 a2 b2 c2 h2 p2 q2 r2 i2 s2 t2 u2 j2 v2 w2 x2 k3 a3 b3 c3 h3 p3 q3 r3 i3 s3 t3 u3 j3 v3 w3 x3) E1 E2).frz E2 = (1000, vB s_greets) := if_neg fun e => by
    rw [e, h1] at h2
    cases h2
  have hB1 : gB (iG (iAll y0 n1 n2 n3 n4 n5 n6 n7 n8 n9 n10 n11 n12 n13 n14 n15 n16 n17 n18 n19 n20 n21 k0 a0 b0 c0 h0 p0 q0 r0 i0 s0 t0 u0 j0 v0 w0 x0 k1 a1 b1 c1 h1 p1 q1 r1 i1 s1 t1 u1 j1 v1 w1 x1 k2 a2 b2 c2 h2 p2 q2 r2 i2 s2 t2 u2 j2 v2 w2 x2 k3 a3 b3 c3 h3 p3 q3 r3 i3 s3 t3 u3 j3 v3 w3 x3) E1 E2) E1 [] := ⟨hE E1 (Or.inl rfl), hfrz1⟩
  have hB2 : gB (iG (iAll y0 n1 n2 n3 n4 n5 n6 n7 n8 n9 n10 n11 n12 n13 n14 n15 n16 n17 n18 n19 n20 n21 k0 a0 b0 c0 h0 p0 q0 r0 i0 s0 t0 u0 j0 v0 w0 x0 k1 a1 b1 c1 h1 p1 q1 r1 i1 s1 t1 u1 j1 v1 w1 x1 k2 a2 b2 c2 h2 p2 q2 r2 i2 s2 t2 u2 j2 v2 w2 x2 k3 a3 b3 c3 h3 p3 q3 r3 i3 s3 t3 u3 j3 v3 w3 x3) E1 E2) E2 s_greets := ⟨hE E2 (Or.inr rfl), hfrz2⟩
  have har4 : (iG (iAll y0 n1 n2 n3 n4 n5 n6 n7 n8 n9 n10 n11 n12 n13 n14 n15 n16 n17 n18 n19 n20 n21 k0 a0 b0 c0 h0 p0 q0 r0 i0 s0 t0 u0 j0 v0 w0 x0 k1 a1 b1 c1 h1 p1 q1 r1 i1 s1 t1 u1 j1 v1 w1 x1 k2 a2 b2 c2 h2 p2 q2 r2 i2 s2 t2 u2 j2 v2 w2 x2 k3 a3 b3 c3 h3 p3 q3 r3 i3 s3 t3 u3 j3 v3 w3 x3) E1 E2).ar 4 0 = [zr k0, zr k1, zr k2, zr k3] ∧ (List.range 4).map (fun c => zr ((iG (iAll y0 n1 n2 n3 n4 n5 n6 n7 n8 n9 n10 n11 n12 n13 n14 n15 n16 n17 n18 n19 n20 n21 k0 a0 b0 c0 h0 p0 q0 r0 i0 s0 t0 u0 j0 v0 w0 x0 k1 a1 b1 c1 h1 p1 q1 r1 i1 s1 t1 u1 j1 v1 w1 x1 k2 a2 b2 c2 h2 p2 q2 r2 i2 s2 t2 u2 j2 v2 w2 x2 k3 a3 b3 c3 h3 p3 q3 r3 i3 s3 t3 u3 j3 v3 w3 x3) E1 E2).ref 2 c)) = [zr k0, zr k1, zr k2, zr k3] := ⟨rfl, rfl⟩

  have hars : ((iG (iAll y0 n1 n2 n3 n4 n5 n6 n7 n8 n9 n10 n11 n12 n13 n14 n15 n16 n17 n18 n19 n20 n21 k0 a0 b0 c0 h0 p0 q0 r0 i0 s0 t0 u0 j0 v0 w0 x0 k1 a1 b1 c1 h1 p1 q1 r1 i1 s1 t1 u1 j1 v1 w1 x1 k2 a2 b2 c2 h2 p2 q2 r2 i2 s2 t2 u2 j2 v2 w2 x2 k3 a3 b3 c3 h3 p3 q3 r3 i3 s3 t3 u3 j3 v3 w3 x3) E1 E2).ar 5 0 = List.replicate 12 (zr 0)) ∧ ((iG (iAll y0 n1 n2 n3 n4 n5 n6 n7 n8 n9 n10 n11 n12 n13 n14 n15 n16 n17 n18 n19 n20 n21 k0 a0 b0 c0 h0 p0 q0 r0 i0 s0 t0 u0 j0 v0 w0 x0 k1 a1 b1 c1 h1 p1 q1 r1 i1 s1 t1 u1 j1 v1 w1 x1 k2 a2 b2 c2 h2 p2 q2 r2 i2 s2 t2 u2 j2 v2 w2 x2 k3 a3 b3 c3 h3 p3 q3 r3 i3 s3 t3 u3 j3 v3 w3 x3) E1 E2).ar 6 0 = List.replicate 12 (zr 0)) ∧ ((iG (iAll y0 n1 n2 n3 n4 n5 n6 n7 n8 n9 n10 n11 n12 n13 n14 n15 n16 n17 n18 n19 n20 n21 k0 a0 b0 c0 h0 p0 q0 r0 i0 s0 t0 u0 j0 v0 w0 x0 k1 a1 b1 c1 h1 p1 q1 r1 i1 s1 t1 u1 j1 v1 w1 x1 k2 a2 b2 c2 h2 p2 q2 r2 i2 s2 t2 u2 j2 v2 w2 x2 k3 a3 b3 c3 h3 p3 q3 r3 i3 s3 t3 u3 j3 v3 w3 x3) E1 E2).ar 7 0 = List.replicate 40 (zr 0)) ∧ ((iG (iAll y0 n1 n2 n3 n4 n5 n6 n7 n8 n9 n10 n11 n12 n13 n14 n15 n16 n17 n18 n19 n20 n21 k0 a0 b0 c0 h0 p0 q0 r0 i0 s0 t0 u0 j0 v0 w0 x0 k1 a1 b1 c1 h1 p1 q1 r1 i1 s1 t1 u1 j1 v1 w1 x1 k2 a2 b2 c2 h2 p2 q2 r2 i2 s2 t2 u2 j2 v2 w2 x2 k3 a3 b3 c3 h3 p3 q3 r3 i3 s3 t3 u3 j3 v3 w3 x3) E1 E2).ar 8 0 = List.replicate 16 (zr 0)) ∧ ((iG (iAll y0 n1 n2 n3 n4 n5 n6 n7 n8 n9 n10 n11 n12 n13 n14 n15 n16 n17 n18 n19 n20 n21 k0 a0 b0 c0 h0 p0 q0 r0 i0 s0 t0 u0 j0 v0 w0 x0 k1 a1 b1 c1 h1 p1 q1 r1 i1 s1 t1 u1 j1 v1 w1 x1 k2 a2 b2 c2 h2 p2 q2 r2 i2 s2 t2 u2 j2 v2 w2 x2 k3 a3 b3 c3 h3 p3 q3 r3 i3 s3 t3 u3 j3 v3 w3 x3) E1 E2).ar 9 0 = List.replicate 300 (zr 0)) ∧ ((iG (iAll y0 n1 n2 n3 n4 n5 n6 n7 n8 n9 n10 n11 n12 n13 n14 n15 n16 n17 n18 n19 n20 n21 k0 a0 b0 c0 h0 p0 q0 r0 i0 s0 t0 u0 j0 v0 w0 x0 k1 a1 b1 c1 h1 p1 q1 r1 i1 s1 t1 u1 j1 v1 w1 x1 k2 a2 b2 c2 h2 p2 q2 r2 i2 s2 t2 u2 j2 v2 w2 x2 k3 a3 b3 c3 h3 p3 q3 r3 i3 s3 t3 u3 j3 v3 w3 x3) E1 E2).ar 10 0 = List.replicate 64 (zr 0)) ∧ ((iG (iAll y0 n1 n2 n3 n4 n5 n6 n7 n8 n9 n10 n11 n12 n13 n14 n15 n16 n17 n18 n19 n20 n21 k0 a0 b0 c0 h0 p0 q0 r0 i0 s0 t0 u0 j0 v0 w0 x0 k1 a1 b1 c1 h1 p1 q1 r1 i1 s1 t1 u1 j1 v1 w1 x1 k2 a2 b2 c2 h2 p2 q2 r2 i2 s2 t2 u2 j2 v2 w2 x2 k3 a3 b3 c3 h3 p3 q3 r3 i3 s3 t3 u3 j3 v3 w3 x3) E1 E2).ar 11 0 = List.replicate 12 (zr 0)) ∧ ((iG (iAll y0 n1 n2 n3 n4 n5 n6 n7 n8 n9 n10 n11 n12 n13 n14 n15 n16 n17 n18 n19 n20 n21 k0 a0 b0 c0 h0 p0 q0 r0 i0 s0 t0 u0 j0 v0 w0 x0 k1 a1 b1 c1 h1 p1 q1 r1 i1 s1 t1 u1 j1 v1 w1 x1 k2 a2 b2 c2 h2 p2 q2 r2 i2 s2 t2 u2 j2 v2 w2 x2 k3 a3 b3 c3 h3 p3 q3 r3 i3 s3 t3 u3 j3 v3 w3 x3) E1 E2).ar 12 0 = List.replicate 12 (zr 0)) ∧ ((iG (iAll y0 n1 n2 n3 n4 n5 n6 n7 n8 n9 n10 n11 n12 n13 n14 n15 n16 n17 n18 n19 n20 n21 k0 a0 b0 c0 h0 p0 q0 r0 i0 s0 t0 u0 j0 v0 w0 x0 k1 a1 b1 c1 h1 p1 q1 r1 i1 s1 t1 u1 j1 v1 w1 x1 k2 a2 b2 c2 h2 p2 q2 r2 i2 s2 t2 u2 j2 v2 w2 x2 k3 a3 b3 c3 h3 p3 q3 r3 i3 s3 t3 u3 j3 v3 w3 x3) E1 E2).ar 13 0 = List.replicate 40 (zr 0)) ∧ ((iG (iAll y0 n1 n2 n3 n4 n5 n6 n7 n8 n9 n10 n11 n12 n13 n14 n15 n16 n17 n18 n19 n20 n21 k0 a0 b0 c0 h0 p0 q0 r0 i0 s0 t0 u0 j0 v0 w0 x0 k1 a1 b1 c1 h1 p1 q1 r1 i1 s1 t1 u1 j1 v1 w1 x1 k2 a2 b2 c2 h2 p2 q2 r2 i2 s2 t2 u2 j2 v2 w2 x2 k3 a3 b3 c3 h3 p3 q3 r3 i3 s3 t3 u3 j3 v3 w3 x3) E1 E2).ar 14 0 = List.replicate 301 (zr 0)) ∧ ((iG (iAll y0 n1 n2 n3 n4 n5 n6 n7 n8 n9 n10 n11 n12 n13 n14 n15 n16 n17 n18 n19 n20 n21 k0 a0 b0 c0 h0 p0 q0 r0 i0 s0 t0 u0 j0 v0 w0 x0 k1 a1 b1 c1 h1 p1 q1 r1 i1 s1 t1 u1 j1 v1 w1 x1 k2 a2 b2 c2 h2 p2 q2 r2 i2 s2 t2 u2 j2 v2 w2 x2 k3 a3 b3 c3 h3 p3 q3 r3 i3 s3 t3 u3 j3 v3 w3 x3) E1 E2).ar 15 0 = List.replicate 420 (.int 0)) ∧ ((iG (iAll y0 n1 n2 n3 n4 n5 n6 n7 n8 n9 n10 n11 n12 n13 n14 n15 n16 n17 n18 n19 n20 n21 k0 a0 b0 c0 h0 p0 q0 r0 i0 s0 t0 u0 j0 v0 w0 x0 k1 a1 b1 c1 h1 p1 q1 r1 i1 s1 t1 u1 j1 v1 w1 x1 k2 a2 b2 c2 h2 p2 q2 r2 i2 s2 t2 u2 j2 v2 w2 x2 k3 a3 b3 c3 h3 p3 q3 r3 i3 s3 t3 u3 j3 v3 w3 x3) E1 E2).ar 16 0 = List.replicate 400 (.int 0)) ∧ ((iG (iAll y0 n1 n2 n3 n4 n5 n6 n7 n8 n9 n10 n11 n12 n13 n14 n15 n16 n17 n18 n19 n20 n21 k0 a0 b0 c0 h0 p0 q0 r0 i0 s0 t0 u0 j0 v0 w0 x0 k1 a1 b1 c1 h1 p1 q1 r1 i1 s1 t1 u1 j1 v1 w1 x1 k2 a2 b2 c2 h2 p2 q2 r2 i2 s2 t2 u2 j2 v2 w2 x2 k3 a3 b3 c3 h3 p3 q3 r3 i3 s3 t3 u3 j3 v3 w3 x3) E1 E2).ar 17 0 = List.replicate 1200 (.int 0)) ∧ ((iG (iAll y0 n1 n2 n3 n4 n5 n6 n7 n8 n9 n10 n11 n12 n13 n14 n15 n16 n17 n18 n19 n20 n21 k0 a0 b0 c0 h0 p0 q0 r0 i0 s0 t0 u0 j0 v0 w0 x0 k1 a1 b1 c1 h1 p1 q1 r1 i1 s1 t1 u1 j1 v1 w1 x1 k2 a2 b2 c2 h2 p2 q2 r2 i2 s2 t2 u2 j2 v2 w2 x2 k3 a3 b3 c3 h3 p3 q3 r3 i3 s3 t3 u3 j3 v3 w3 x3) E1 E2).ar 18 0 = List.replicate 42 (.int 0)) ∧ ((iG (iAll y0 n1 n2 n3 n4 n5 n6 n7 n8 n9 n10 n11 n12 n13 n14 n15 n16 n17 n18 n19 n20 n21 k0 a0 b0 c0 h0 p0 q0 r0 i0 s0 t0 u0 j0 v0 w0 x0 k1 a1 b1 c1 h1 p1 q1 r1 i1 s1 t1 u1 j1 v1 w1 x1 k2 a2 b2 c2 h2 p2 q2 r2 i2 s2 t2 u2 j2 v2 w2 x2 k3 a3 b3 c3 h3 p3 q3 r3 i3 s3 t3 u3 j3 v3 w3 x3) E1 E2).ar 19 0 = List.replicate 42 (.int 0)) ∧ ((iG (iAll y0 n1 n2 n3 n4 n5 n6 n7 n8 n9 n10 n11 n12 n13 n14 n15 n16 n17 n18 n19 n20 n21 k0 a0 b0 c0 h0 p0 q0 r0 i0 s0 t0 u0 j0 v0 w0 x0 k1 a1 b1 c1 h1 p1 q1 r1 i1 s1 t1 u1 j1 v1 w1 x1 k2 a2 b2 c2 h2 p2 q2 r2 i2 s2 t2 u2 j2 v2 w2 x2 k3 a3 b3 c3 h3 p3 q3 r3 i3 s3 t3 u3 j3 v3 w3 x3) E1 E2).ar 20 0 = List.replicate 42 (.int 0)) ∧ ((iG (iAll y0 n1 n2 n3 n4 n5 n6 n7 n8 n9 n10 n11 n12 n13 n14 n15 n16 n17 n18 n19 n20 n21 k0 a0 b0 c0 h0 p0 q0 r0 i0 s0 t0 u0 j0 v0 w0 x0 k1 a1 b1 c1 h1 p1 q1 r1 i1 s1 t1 u1 j1 v1 w1 x1 k2 a2 b2 c2 h2 p2 q2 r2 i2 s2 t2 u2 j2 v2 w2 x2 k3 a3 b3 c3 h3 p3 q3 r3 i3 s3 t3 u3 j3 v3 w3 x3) E1 E2).ar 21 0 = List.replicate 42 (.int 0)) ∧ ((iG (iAll y0 n1 n2 n3 n4 n5 n6 n7 n8 n9 n10 n11 n12 n13 n14 n15 n16 n17 n18 n19 n20 n21 k0 a0 b0 c0 h0 p0 q0 r0 i0 s0 t0 u0 j0 v0 w0 x0 k1 a1 b1 c1 h1 p1 q1 r1 i1 s1 t1 u1 j1 v1 w1 x1 k2 a2 b2 c2 h2 p2 q2 r2 i2 s2 t2 u2 j2 v2 w2 x2 k3 a3 b3 c3 h3 p3 q3 r3 i3 s3 t3 u3 j3 v3 w3 x3) E1 E2).ar 22 0 = List.replicate 43 (.int 0)) ∧ ((iG (iAll y0 n1 n2 n3 n4 n5 n6 n7 n8 n9 n10 n11 n12 n13 n14 n15 n16 n17 n18 n19 n20 n21 k0 a0 b0 c0 h0 p0 q0 r0 i0 s0 t0 u0 j0 v0 w0 x0 k1 a1 b1 c1 h1 p1 q1 r1 i1 s1 t1 u1 j1 v1 w1 x1 k2 a2 b2 c2 h2 p2 q2 r2 i2 s2 t2 u2 j2 v2 w2 x2 k3 a3 b3 c3 h3 p3 q3 r3 i3 s3 t3 u3 j3 v3 w3 x3) E1 E2).ar 23 0 = List.replicate 43 (.int 0)) ∧ ((iG (iAll y0 n1 n2 n3 n4 n5 n6 n7 n8 n9 n10 n11 n12 n13 n14 n15 n16 n17 n18 n19 n20 n21 k0 a0 b0 c0 h0 p0 q0 r0 i0 s0 t0 u0 j0 v0 w0 x0 k1 a1 b1 c1 h1 p1 q1 r1 i1 s1 t1 u1 j1 v1 w1 x1 k2 a2 b2 c2 h2 p2 q2 r2 i2 s2 t2 u2 j2 v2 w2 x2 k3 a3 b3 c3 h3 p3 q3 r3 i3 s3 t3 u3 j3 v3 w3 x3) E1 E2).ar 24 0 = List.replicate 12 (zr 0)) := ⟨rfl, rfl, rfl, rfl, rfl, rfl, rfl, rfl, rfl, rfl, rfl, rfl, rfl, rfl, rfl, rfl, rfl, rfl, rfl, rfl⟩
  have har25 : ∀ c, c < 4 → (iG (iAll y0 n1 n2 n3 n4 n5 n6 n7 n8 n9 n10 n11 n12 n13 n14 n15 n16 n17 n18 n19 n20 n21 k0 a0 b0 c0 h0 p0 q0 r0 i0 s0 t0 u0 j0 v0 w0 x0 k1 a1 b1 c1 h1 p1 q1 r1 i1 s1 t1 u1 j1 v1 w1 x1 k2 a2 b2 c2 h2 p2 q2 r2 i2 s2 t2 u2 j2 v2 w2 x2 k3 a3 b3 c3 h3 p3 q3 r3 i3 s3 t3 u3 j3 v3 w3 x3) E1 E2).ar 25 c = List.replicate 900 (.int 0) ∧ (iG (iAll y0 n1 n2 n3 n4 n5 n6 n7 n8 n9 n10 n11 n12 n13 n14 n15 n16 n17 n18 n19 n20 n21 k0 a0 b0 c0 h0 p0 q0 r0 i0 s0 t0 u0 j0 v0 w0 x0 k1 a1 b1 c1 h1 p1 q1 r1 i1 s1 t1 u1 j1 v1 w1 x1 k2 a2 b2 c2 h2 p2 q2 r2 i2 s2 t2 u2 j2 v2 w2 x2 k3 a3 b3 c3 h3 p3 q3 r3 i3 s3 t3 u3 j3 v3 w3 x3) E1 E2).ar 26 c = List.replicate 5000 (.int 0) ∧ (iG (iAll y0 n1 n2 n3 n4 n5 n6 n7 n8 n9 n10 n11 n12 n13 n14 n15 n16 n17 n18 n19 n20 n21 k0 a0 b0 c0 h0 p0 q0 r0 i0 s0 t0 u0 j0 v0 w0 x0 k1 a1 b1 c1 h1 p1 q1 r1 i1 s1 t1 u1 j1 v1 w1 x1 k2 a2 b2 c2 h2 p2 q2 r2 i2 s2 t2 u2 j2 v2 w2 x2 k3 a3 b3 c3 h3 p3 q3 r3 i3 s3 t3 u3 j3 v3 w3 x3) E1 E2).ar 27 c = zr 0 :: [1, 2, 3].map (fun k => zr ((iG (iAll y0 n1 n2 n3 n4 n5 n6 n7 n8 n9 n10 n11 n12 n13 n14 n15 n16 n17 n18 n19 n20 n21 k0 a0 b0 c0 h0 p0 q0 r0 i0 s0 t0 u0 j0 v0 w0 x0 k1 a1 b1 c1 h1 p1 q1 r1 i1 s1 t1 u1 j1 v1 w1 x1 k2 a2 b2 c2 h2 p2 q2 r2 i2 s2 t2 u2 j2 v2 w2 x2 k3 a3 b3 c3 h3 p3 q3 r3 i3 s3 t3 u3 j3 v3 w3 x3) E1 E2).ref 3 (4 * c + k))) := fun c hc => by
    have h4 : c = 0 ∨ c = 1 ∨ c = 2 ∨ c = 3 := by omega
    rcases h4 with e | e | e | e <;> subst e <;> exact ⟨rfl, rfl, rfl⟩
  have har28 : ∀ h, isH h → (iG (iAll y0 n1 n2 n3 n4 n5 n6 n7 n8 n9 n10 n11 n12 n13 n14 n15 n16 n17 n18 n19 n20 n21 k0 a0 b0 c0 h0 p0 q0 r0 i0 s0 t0 u0 j0 v0 w0 x0 k1 a1 b1 c1 h1 p1 q1 r1 i1 s1 t1 u1 j1 v1 w1 x1 k2 a2 b2 c2 h2 p2 q2 r2 i2 s2 t2 u2 j2 v2 w2 x2 k3 a3 b3 c3 h3 p3 q3 r3 i3 s3 t3 u3 j3 v3 w3 x3) E1 E2).ar 28 h = List.replicate 16 (zr 0) ∧ (iG (iAll y0 n1 n2 n3 n4 n5 n6 n7 n8 n9 n10 n11 n12 n13 n14 n15 n16 n17 n18 n19 n20 n21 k0 a0 b0 c0 h0 p0 q0 r0 i0 s0 t0 u0 j0 v0 w0 x0 k1 a1 b1 c1 h1 p1 q1 r1 i1 s1 t1 u1 j1 v1 w1 x1 k2 a2 b2 c2 h2 p2 q2 r2 i2 s2 t2 u2 j2 v2 w2 x2 k3 a3 b3 c3 h3 p3 q3 r3 i3 s3 t3 u3 j3 v3 w3 x3) E1 E2).ar 29 h = List.replicate 32 (zr 0) ∧ (iG (iAll y0 n1 n2 n3 n4 n5 n6 n7 n8 n9 n10 n11 n12 n13 n14 n15 n16 n17 n18 n19 n20 n21 k0 a0 b0 c0 h0 p0 q0 r0 i0 s0 t0 u0 j0 v0 w0 x0 k1 a1 b1 c1 h1 p1 q1 r1 i1 s1 t1 u1 j1 v1 w1 x1 k2 a2 b2 c2 h2 p2 q2 r2 i2 s2 t2 u2 j2 v2 w2 x2 k3 a3 b3 c3 h3 p3 q3 r3 i3 s3 t3 u3 j3 v3 w3 x3) E1 E2).ar 30 h = List.replicate 16 (.int 0) := fun h hh => by
    have : ∀ h ∈ s_hs, (iG (iAll y0 n1 n2 n3 n4 n5 n6 n7 n8 n9 n10 n11 n12 n13 n14 n15 n16 n17 n18 n19 n20 n21 k0 a0 b0 c0 h0 p0 q0 r0 i0 s0 t0 u0 j0 v0 w0 x0 k1 a1 b1 c1 h1 p1 q1 r1 i1 s1 t1 u1 j1 v1 w1 x1 k2 a2 b2 c2 h2 p2 q2 r2 i2 s2 t2 u2 j2 v2 w2 x2 k3 a3 b3 c3 h3 p3 q3 r3 i3 s3 t3 u3 j3 v3 w3 x3) E1 E2).ar 28 h = List.replicate 16 (zr 0) ∧ (iG (iAll y0 n1 n2 n3 n4 n5 n6 n7 n8 n9 n10 n11 n12 n13 n14 n15 n16 n17 n18 n19 n20 n21 k0 a0 b0 c0 h0 p0 q0 r0 i0 s0 t0 u0 j0 v0 w0 x0 k1 a1 b1 c1 h1 p1 q1 r1 i1 s1 t1 u1 j1 v1 w1 x1 k2 a2 b2 c2 h2 p2 q2 r2 i2 s2 t2 u2 j2 v2 w2 x2 k3 a3 b3 c3 h3 p3 q3 r3 i3 s3 t3 u3 j3 v3 w3 x3) E1 E2).ar 29 h = List.replicate 32 (zr 0) ∧ (iG (iAll y0 n1 n2 n3 n4 n5 n6 n7 n8 n9 n10 n11 n12 n13 n14 n15 n16 n17 n18 n19 n20 n21 k0 a0 b0 c0 h0 p0 q0 r0 i0 s0 t0 u0 j0 v0 w0 x0 k1 a1 b1 c1 h1 p1 q1 r1 i1 s1 t1 u1 j1 v1 w1 x1 k2 a2 b2 c2 h2 p2 q2 r2 i2 s2 t2 u2 j2 v2 w2 x2 k3 a3 b3 c3 h3 p3 q3 r3 i3 s3 t3 u3 j3 v3 w3 x3) E1 E2).ar 30 h = List.replicate 16 (.int 0) := alln_cons ⟨rfl, rfl, rfl⟩ (alln_cons ⟨rfl, rfl, rfl⟩ (alln_cons ⟨rfl, rfl, rfl⟩ (alln_cons ⟨rfl, rfl, rfl⟩ (alln_cons ⟨rfl, rfl, rfl⟩ (alln_cons ⟨rfl, rfl, rfl⟩ (alln_cons ⟨rfl, rfl, rfl⟩ (alln_cons ⟨rfl, rfl, rfl⟩ (alln_cons ⟨rfl, rfl, rfl⟩ (alln_cons ⟨rfl, rfl, rfl⟩ (alln_cons ⟨rfl, rfl, rfl⟩ (alln_cons ⟨rfl, rfl, rfl⟩ (alln_nil))))))))))))
    exact this h hh.hs
  have hcr : (iG (iAll y0 n1 n2 n3 n4 n5 n6 n7 n8 n9 n10 n11 n12 n13 n14 n15 n16 n17 n18 n19 n20 n21 k0 a0 b0 c0 h0 p0 q0 r0 i0 s0 t0 u0 j0 v0 w0 x0 k1 a1 b1 c1 h1 p1 q1 r1 i1 s1 t1 u1 j1 v1 w1 x1 k2 a2 b2 c2 h2 p2 q2 r2 i2 s2 t2 u2 j2 v2 w2 x2 k3 a3 b3 c3 h3 p3 q3 r3 i3 s3 t3 u3 j3 v3 w3 x3) E1 E2).cr = 0 := rfl
  have hcf : (iG (iAll y0 n1 n2 n3 n4 n5 n6 n7 n8 n9 n10 n11 n12 n13 n14 n15 n16 n17 n18 n19 n20 n21 k0 a0 b0 c0 h0 p0 q0 r0 i0 s0 t0 u0 j0 v0 w0 x0 k1 a1 b1 c1 h1 p1 q1 r1 i1 s1 t1 u1 j1 v1 w1 x1 k2 a2 b2 c2 h2 p2 q2 r2 i2 s2 t2 u2 j2 v2 w2 x2 k3 a3 b3 c3 h3 p3 q3 r3 i3 s3 t3 u3 j3 v3 w3 x3) E1 E2).cf = fun _ _ => 0 := rfl
  have hrf : (iG (iAll y0 n1 n2 n3 n4 n5 n6 n7 n8 n9 n10 n11 n12 n13 n14 n15 n16 n17 n18 n19 n20 n21 k0 a0 b0 c0 h0 p0 q0 r0 i0 s0 t0 u0 j0 v0 w0 x0 k1 a1 b1 c1 h1 p1 q1 r1 i1 s1 t1 u1 j1 v1 w1 x1 k2 a2 b2 c2 h2 p2 q2 r2 i2 s2 t2 u2 j2 v2 w2 x2 k3 a3 b3 c3 h3 p3 q3 r3 i3 s3 t3 u3 j3 v3 w3 x3) E1 E2).rf = fun _ _ _ => 0 := rfl
  have h40 : ∀ n, (iG (iAll y0 n1 n2 n3 n4 n5 n6 n7 n8 n9 n10 n11 n12 n13 n14 n15 n16 n17 n18 n19 n20 n21 k0 a0 b0 c0 h0 p0 q0 r0 i0 s0 t0 u0 j0 v0 w0 x0 k1 a1 b1 c1 h1 p1 q1 r1 i1 s1 t1 u1 j1 v1 w1 x1 k2 a2 b2 c2 h2 p2 q2 r2 i2 s2 t2 u2 j2 v2 w2 x2 k3 a3 b3 c3 h3 p3 q3 r3 i3 s3 t3 u3 j3 v3 w3 x3) E1 E2).ref 40 n = n := fun n => if_pos rfl
  have hinv := fun n c i => iG_inv (L := iAll y0 n1 n2 n3 n4 n5 n6 n7 n8 n9 n10 n11 n12 n13 n14 n15 n16 n17 n18 n19 n20 n21 k0 a0 b0 c0 h0 p0 q0 r0 i0 s0 t0 u0 j0 v0 w0 x0 k1 a1 b1 c1 h1 p1 q1 r1 i1 s1 t1 u1 j1 v1 w1 x1 k2 a2 b2 c2 h2 p2 q2 r2 i2 s2 t2 u2 j2 v2 w2 x2 k3 a3 b3 c3 h3 p3 q3 r3 i3 s3 t3 u3 j3 v3 w3 x3) (E1 := E1) (E2 := E2) (n := n) (c := c) (i := i)
  have hkind := fun p hp => iG_kind (L := iAll y0 n1 n2 n3 n4 n5 n6 n7 n8 n9 n10 n11 n12 n13 n14 n15 n16 n17 n18 n19 n20 n21 k0 a0 b0 c0 h0 p0 q0 r0 i0 s0 t0 u0 j0 v0 w0 x0 k1 a1 b1 c1 h1 p1 q1 r1 i1 s1 t1 u1 j1 v1 w1 x1 k2 a2 b2 c2 h2 p2 q2 r2 i2 s2 t2 u2 j2 v2 w2 x2 k3 a3 b3 c3 h3 p3 q3 r3 i3 s3 t3 u3 j3 v3 w3 x3) (E1 := E1) (E2 := E2) a3 (p := p) hp
  have href := fun p hp h => iG_ref (L := iAll y0 n1 n2 n3 n4 n5 n6 n7 n8 n9 n10 n11 n12 n13 n14 n15 n16 n17 n18 n19 n20 n21 k0 a0 b0 c0 h0 p0 q0 r0 i0 s0 t0 u0 j0 v0 w0 x0 k1 a1 b1 c1 h1 p1 q1 r1 i1 s1 t1 u1 j1 v1 w1 x1 k2 a2 b2 c2 h2 p2 q2 r2 i2 s2 t2 u2 j2 v2 w2 x2 k3 a3 b3 c3 h3 p3 q3 r3 i3 s3 t3 u3 j3 v3 w3 x3) (E1 := E1) (E2 := E2) hC (p := p) hp h
  generalize iG (iAll y0 n1 n2 n3 n4 n5 n6 n7 n8 n9 n10 n11 n12 n13 n14 n15 n16 n17 n18 n19 n20 n21 k0 a0 b0 c0 h0 p0 q0 r0 i0 s0 t0 u0 j0 v0 w0 x0 k1 a1 b1 c1 h1 p1 q1 r1 i1 s1 t1 u1 j1 v1 w1 x1 k2 a2 b2 c2 h2 p2 q2 r2 i2 s2 t2 u2 j2 v2 w2 x2 k3 a3 b3 c3 h3 p3 q3 r3 i3 s3 t3 u3 j3 v3 w3 x3) E1 E2 = g at *
  have hA : ∀ c i, (c, i) ∈ iCodes → gA1 g c i := fun c i hci => by
    obtain ⟨p, hp, e⟩ := hmem c i hci
    have hlt := iCodes_lt _ hci
    have h3 := href p hp (by rw [e]; show c ≠ 40; have := hlt.1; omega)
    have h4 := hkind p hp
    rw [e] at h3 h4
    show g.kind (g.ref c i) = (c, i)
    rw [show g.ref c i = p.1 from h3]
    exact h4
  have hA2 : ∀ c, c < 4 → gA1 g 2 c ∧ gA1 g 25 c ∧ gA1 g 26 c ∧ gA1 g 27 c := fun c hc => by
    have h4 : c = 0 ∨ c = 1 ∨ c = 2 ∨ c = 3 := by omega
    rcases h4 with e | e | e | e <;> subst e <;> exact ⟨hA _ _ (by decide), hA _ _ (by decide), hA _ _ (by decide), hA _ _ (by decide)⟩
  have hA3 : ∀ h, isH h → gA1 g 3 h ∧ gA1 g 28 h ∧ gA1 g 29 h ∧ gA1 g 30 h := fun h hh => by
    have : ∀ h ∈ s_hs, ((3, h) ∈ iCodes ∧ (28, h) ∈ iCodes) ∧ (29, h) ∈ iCodes ∧ (30, h) ∈ iCodes := by decide
    obtain ⟨⟨q1, q2⟩, q3, q4⟩ := this h hh.hs
    exact ⟨hA _ _ q1, hA _ _ q2, hA _ _ q3, hA _ _ q4⟩
  obtain ⟨hars5, hars6, hars7, hars8, hars9, hars10, hars11, hars12, hars13, hars14, hars15, hars16, hars17, hars18, hars19, hars20, hars21, hars22, hars23, hars24⟩ := hars
  have gn : ∀ {c n : Nat} {v : Value}, (c, 0) ∈ iCodes → g.ar c 0 = List.replicate n v → gAr g c 0 n [] := fun {c n v} hci e => ⟨hA _ _ hci, by rw [e, List.length_replicate], List.nil_prefix⟩
  refine ⟨⟨⟨fun n hk => ?_, fun n q hq => ?_, ?_⟩, ⟨hA _ _ (by decide), fun n i hk => ?_, h40, fun c hc => (hA2 c hc).1, fun h hh => (hA3 h hh).1, fun c i c1 c2 hk => ?_, fun c i n c1 c2 hk => ?_⟩, ⟨?_, gn (by decide) hars5, gn (by decide) hars6, gn (by decide) hars7, gn (by decide) hars8, gn (by decide) hars11, gn (by decide) hars12, gn (by decide) hars13, gn (by decide) hars14, gn (by decide) hars15, gn (by decide) hars16, gn (by decide) hars17, gn (by decide) hars24, Nat.le_refl _⟩, ⟨gn (by decide) hars18, gn (by decide) hars19, gn (by decide) hars20, gn (by decide) hars21, gn (by decide) hars22, gn (by decide) hars23⟩, ⟨⟨hA _ _ (by decide), by rw [hars9, List.length_replicate], Nat.zero_le _, fun j x hj => nomatch hj⟩, 64, ⟨Nat.le_refl _, by decide⟩, Nat.zero_le _, hA _ _ (by decide), by rw [hars10, List.length_replicate], Nat.zero_le _, fun j x hj => nomatch hj⟩, fun c hc => ?_, fun h hh => ?_, fun i hi => absurd hi (by show ¬ (0 = 32); decide), fun i hi => absurd hi (by show ¬ (0 = 33); decide), fun i hi => absurd hi (by show ¬ (0 = 34); decide), fun i hi => absurd hi (by show ¬ (0 = 35); decide), fun i hi => absurd hi (by show ¬ (0 = 36); decide), ?_⟩, hky, hB1, hB2⟩
  · rcases hinv n (g.kind n).1 (g.kind n).2 rfl hk with ⟨p, hp, e1, e2⟩ | ⟨e1, e2, e3⟩
    · obtain ⟨b1, b2, b3, b4⟩ := a1 p hp
      have hc := hcells p hp
      have hlt := iCodes_lt _ (hcode p hp)
      rw [e2] at hc hlt
      have h3 := href p hp (by rw [e2]; show (g.kind n).1 ≠ 40; have := hlt.1; show _ ≠ _; omega)
      rw [e2] at h3
      rw [← e1, b1, hc]
      rw [← e1] at h3
      exact ⟨rfl, h3, by omega, b3, Or.inr b4⟩
    · rw [e1, e2, h40]
      rcases e3 with e | e
      · rw [e]
        exact ⟨by rw [(a2 E1 _ h1).1]; show _ = some (g.frz E1); rw [hfrz1], rfl, p1, (a2 E1 _ h1).2, Or.inl rfl⟩
      · rw [e]
        exact ⟨by rw [(a2 E2 _ h2).1]; show _ = some (g.frz E2); rw [hfrz2], rfl, p2, (a2 E2 _ h2).2, Or.inl rfl⟩
  · have hq : (if n = E1 ∨ n = E2 then none else F n) = some q := hq
    split at hq
    · cases hq
    · rename_i hne
      refine ⟨(a2 n q hq).1, Classical.byContradiction fun h0 => ?_, (a2 n q hq).2⟩
      rcases hinv n (g.kind n).1 (g.kind n).2 rfl h0 with ⟨p, hp, e1, e2⟩ | ⟨e1, e2, e3⟩
      · have := (a1 p hp).2.1
        rw [e1, hq] at this
        cases this
      · exact hne e3
  · rw [hcr]
    exact a4
  · rcases hinv n 1 i hk (by decide) with ⟨p, hp, e1, e2⟩ | ⟨e1, -⟩
    · have := (iCodes_lt _ (hcode p hp)).2.2
      rw [e2] at this
      exact this rfl
    · exact absurd e1 (by decide)
  · have hk : (0 : Nat) = c := hk
    omega
  · rcases hinv n c i hk (by omega) with ⟨p, hp, e1, e2⟩ | ⟨e1, -⟩
    · have := (iCodes_lt _ (hcode p hp)).1
      rw [e2] at this
      have : c < 32 := this
      omega
    · omega
  · refine ⟨hA _ _ (by decide), by rw [har4.1]; rfl, ⟨[], ?_⟩⟩
    rw [List.append_nil, har4.1, har4.2]
  · obtain ⟨q1, q2, q3⟩ := har25 c hc
    obtain ⟨r1, r2, r3, r4⟩ := hA2 c hc
    refine ⟨⟨r2, by rw [q1, List.length_replicate], List.nil_prefix⟩, ⟨r3, by rw [q2, List.length_replicate], by show (0 : Int32) ≤ 0; decide, by show (0 : Int32) < 5000; decide, fun j x hx => nomatch hx⟩, ⟨r4, by rw [q3]; rfl, ⟨[], ?_⟩⟩⟩
    rw [List.append_nil, q3]
  · obtain ⟨q1, q2, q3⟩ := har28 h hh
    obtain ⟨r1, r2, r3, r4⟩ := hA3 h hh
    rw [hrf]
    exact ⟨rfl, fun _ => rfl, ⟨16, ⟨Nat.le_refl _, by decide⟩, Nat.zero_le _, r2, by rw [q1, List.length_replicate], List.nil_prefix⟩, ⟨r3, by rw [q2, List.length_replicate], Nat.zero_le _, fun j x hj => nomatch hj⟩, 16, [], ⟨Nat.le_refl _, by decide⟩, Nat.zero_le _, rfl, r4, by rw [q3, List.length_replicate], List.nil_prefix⟩
  · unfold tGcr
    rw [hcr, hcf]
    decide
/-- the constructor -/
theorem t_init (R : hL s0 F (b + 4681) [(y0, (1, 0), (7, [zr 0, zr 0, zr 0, zr 0, zr 0, .int 0, .int 0, .int 0, .int 0, .int 0, .int 0, .int 0, .int 0, .int 0, zr 0, .int 0, zr 0, .int 0, zr 0, zr 0, zr 0, zr 0, .int 0, .int 0, .int 0, .int 0, zr 0, .int 0, .int 0, zr 0, .int 0, .int 0, .int 0, .int 0, .int 0, zr 0, .int 0, .int 0, zr 0, zr 0, zr 0, zr 0, zr 0, zr 0, zr 0, .int 0]))] h) (h1 : F E1 = some (1000, vB [])) (h2 : F E2 = some (1000, vB s_greets)) (p1 : 0 < E1) (p2 : 0 < E2)
    (K : ∀ g h1, tR s0 (fun n => if n = E1 ∨ n = E2 then none else F n) b s_init w_init g h1 → g.kind y0 = (1, 0) → gB g E1 [] → gB g E2 s_greets → Q .null h1) : zX s0 m_X8_init (d + 2) [zr y0] h Q E := by
  refine c_X8_init ⟨⟨7, _, (R.cell (L1 := [])).1⟩, ?_⟩
  refine hL_am (B := b + 4680) (u := 1) (len := 4) R (by decide) (by decide) (by decide) (by decide) (4, 0) fun n1 h10 R10 => ?_
  refine hL_am (B := b + 4678) (u := 2) (len := 12) R10 (by decide) (by decide) (by decide) (by decide) (5, 0) fun n2 h11 R11 => ?_
  refine hL_am (B := b + 4676) (u := 2) (len := 12) R11 (by decide) (by decide) (by decide) (by decide) (6, 0) fun n3 h12 R12 => ?_
  refine hL_am (B := b + 4669) (u := 7) (len := 40) R12 (by decide) (by decide) (by decide) (by decide) (7, 0) fun n4 h13 R13 => ?_
  refine hL_am (B := b + 4666) (u := 3) (len := 16) R13 (by decide) (by decide) (by decide) (by decide) (8, 0) fun n5 h14 R14 => ?_
  refine hL_am (B := b + 4616) (u := 50) (len := 300) R14 (by decide) (by decide) (by decide) (by decide) (9, 0) fun n6 h15 R15 => ?_
  refine hL_am (B := b + 4605) (u := 11) (len := 64) R15 (by decide) (by decide) (by decide) (by decide) (10, 0) fun n7 h16 R16 => ?_
  refine hL_am (B := b + 4603) (u := 2) (len := 12) R16 (by decide) (by decide) (by decide) (by decide) (11, 0) fun n8 h17 R17 => ?_
  refine hL_am (B := b + 4601) (u := 2) (len := 12) R17 (by decide) (by decide) (by decide) (by decide) (12, 0) fun n9 h18 R18 => ?_
  refine hL_am (B := b + 4594) (u := 7) (len := 40) R18 (by decide) (by decide) (by decide) (by decide) (13, 0) fun n10 h19 R19 => ?_
  refine hL_am (B := b + 4543) (u := 51) (len := 301) R19 (by decide) (by decide) (by decide) (by decide) (14, 0) fun n11 h20 R20 => ?_
  refine hL_am (B := b + 4473) (u := 70) (len := 420) R20 (by decide) (by decide) (by decide) (by decide) (15, 0) fun n12 h21 R21 => ?_
  refine hL_am (B := b + 4406) (u := 67) (len := 400) R21 (by decide) (by decide) (by decide) (by decide) (16, 0) fun n13 h22 R22 => ?_
  refine hL_am (B := b + 4206) (u := 200) (len := 1200) R22 (by decide) (by decide) (by decide) (by decide) (17, 0) fun n14 h23 R23 => ?_
  refine hL_am (B := b + 4199) (u := 7) (len := 42) R23 (by decide) (by decide) (by decide) (by decide) (18, 0) fun n15 h24 R24 => ?_
  refine hL_am (B := b + 4192) (u := 7) (len := 42) R24 (by decide) (by decide) (by decide) (by decide) (19, 0) fun n16 h25 R25 => ?_
  refine hL_am (B := b + 4185) (u := 7) (len := 42) R25 (by decide) (by decide) (by decide) (by decide) (20, 0) fun n17 h26 R26 => ?_
  refine hL_am (B := b + 4178) (u := 7) (len := 42) R26 (by decide) (by decide) (by decide) (by decide) (21, 0) fun n18 h27 R27 => ?_
  refine hL_am (B := b + 4170) (u := 8) (len := 43) R27 (by decide) (by decide) (by decide) (by decide) (22, 0) fun n19 h28 R28 => ?_
  refine hL_am (B := b + 4162) (u := 8) (len := 43) R28 (by decide) (by decide) (by decide) (by decide) (23, 0) fun n20 h29 R29 => ?_
  refine hL_am (B := b + 4160) (u := 2) (len := 12) R29 (by decide) (by decide) (by decide) (by decide) (24, 0) fun n21 h30 R30 => ?_
  have R40 : hL s0 F (b + 4160) ((y0, (1, 0), (7, [zr n1, zr n2, zr n3, zr n4, zr n5, .int 0, .int 0, .int 0, .int 0, .int 0, .int 0, .int 0, .int 0, .int 0, zr n6, .int 0, zr n7, .int 0, zr n8, zr n9, zr n10, zr n11, .int 0, .int 0, .int 0, .int 0, zr n12, .int 0, .int 0, zr n13, .int 0, .int 0, .int 0, .int 0, .int 0, zr n14, .int 0, .int 0, zr n15, zr n16, zr n17, zr n18, zr n19, zr n20, zr n21, .int 0])) :: ([(n21, (24, 0), (1013, List.replicate 12 (zr 0))), (n20, (23, 0), (1003, List.replicate 43 (.int 0))), (n19, (22, 0), (1003, List.replicate 43 (.int 0))), (n18, (21, 0), (1001, List.replicate 42 (.int 0))), (n17, (20, 0), (1001, List.replicate 42 (.int 0))), (n16, (19, 0), (1001, List.replicate 42 (.int 0))), (n15, (18, 0), (1001, List.replicate 42 (.int 0))), (n14, (17, 0), (1000, List.replicate 1200 (.int 0))), (n13, (16, 0), (1000, List.replicate 400 (.int 0))), (n12, (15, 0), (1000, List.replicate 420 (.int 0))), (n11, (14, 0), (1018, List.replicate 301 (zr 0))), (n10, (13, 0), (1014, List.replicate 40 (zr 0))), (n9, (12, 0), (1013, List.replicate 12 (zr 0))), (n8, (11, 0), (1012, List.replicate 12 (zr 0))), (n7, (10, 0), (1017, List.replicate 64 (zr 0))), (n6, (9, 0), (1016, List.replicate 300 (zr 0))), (n5, (8, 0), (1015, List.replicate 16 (zr 0))), (n4, (7, 0), (1014, List.replicate 40 (zr 0))), (n3, (6, 0), (1013, List.replicate 12 (zr 0))), (n2, (5, 0), (1012, List.replicate 12 (zr 0)))] ++ [(n1, (4, 0), (1011, List.replicate 4 (zr 0)))])) h30 := R30
  have R41 : hL s0 F (b + 1040 + 1040 + 1040 + 1040) ((y0, (1, 0), (7, [zr n1, zr n2, zr n3, zr n4, zr n5, .int 0, .int 0, .int 0, .int 0, .int 0, .int 0, .int 0, .int 0, .int 0, zr n6, .int 0, zr n7, .int 0, zr n8, zr n9, zr n10, zr n11, .int 0, .int 0, .int 0, .int 0, zr n12, .int 0, .int 0, zr n13, .int 0, .int 0, .int 0, .int 0, .int 0, zr n14, .int 0, .int 0, zr n15, zr n16, zr n17, zr n18, zr n19, zr n20, zr n21, .int 0])) :: (n1, (4, 0), (1011, [zr 0, zr 0, zr 0, zr 0])) :: [(n21, (24, 0), (1013, List.replicate 12 (zr 0))), (n20, (23, 0), (1003, List.replicate 43 (.int 0))), (n19, (22, 0), (1003, List.replicate 43 (.int 0))), (n18, (21, 0), (1001, List.replicate 42 (.int 0))), (n17, (20, 0), (1001, List.replicate 42 (.int 0))), (n16, (19, 0), (1001, List.replicate 42 (.int 0))), (n15, (18, 0), (1001, List.replicate 42 (.int 0))), (n14, (17, 0), (1000, List.replicate 1200 (.int 0))), (n13, (16, 0), (1000, List.replicate 400 (.int 0))), (n12, (15, 0), (1000, List.replicate 420 (.int 0))), (n11, (14, 0), (1018, List.replicate 301 (zr 0))), (n10, (13, 0), (1014, List.replicate 40 (zr 0))), (n9, (12, 0), (1013, List.replicate 12 (zr 0))), (n8, (11, 0), (1012, List.replicate 12 (zr 0))), (n7, (10, 0), (1017, List.replicate 64 (zr 0))), (n6, (9, 0), (1016, List.replicate 300 (zr 0))), (n5, (8, 0), (1015, List.replicate 16 (zr 0))), (n4, (7, 0), (1014, List.replicate 40 (zr 0))), (n3, (6, 0), (1013, List.replicate 12 (zr 0))), (n2, (5, 0), (1012, List.replicate 12 (zr 0)))]) h30 := R40.perm (List.Perm.cons _ (List.perm_append_comm (l₁ := [(n21, (24, 0), (1013, List.replicate 12 (zr 0))), (n20, (23, 0), (1003, List.replicate 43 (.int 0))), (n19, (22, 0), (1003, List.replicate 43 (.int 0))), (n18, (21, 0), (1001, List.replicate 42 (.int 0))), (n17, (20, 0), (1001, List.replicate 42 (.int 0))), (n16, (19, 0), (1001, List.replicate 42 (.int 0))), (n15, (18, 0), (1001, List.replicate 42 (.int 0))), (n14, (17, 0), (1000, List.replicate 1200 (.int 0))), (n13, (16, 0), (1000, List.replicate 400 (.int 0))), (n12, (15, 0), (1000, List.replicate 420 (.int 0))), (n11, (14, 0), (1018, List.replicate 301 (zr 0))), (n10, (13, 0), (1014, List.replicate 40 (zr 0))), (n9, (12, 0), (1013, List.replicate 12 (zr 0))), (n8, (11, 0), (1012, List.replicate 12 (zr 0))), (n7, (10, 0), (1017, List.replicate 64 (zr 0))), (n6, (9, 0), (1016, List.replicate 300 (zr 0))), (n5, (8, 0), (1015, List.replicate 16 (zr 0))), (n4, (7, 0), (1014, List.replicate 40 (zr 0))), (n3, (6, 0), (1013, List.replicate 12 (zr 0))), (n2, (5, 0), (1012, List.replicate 12 (zr 0)))]) (l₂ := [(n1, (4, 0), (1011, List.replicate 4 (zr 0)))])))
  refine t_ini_190 (c := 0) R41 (by decide) rfl rfl fun k0 a0 b0 c0 h0 p0 q0 r0 i0 s0 t0 u0 j0 v0 w0 x0 hc0 Rc0 => ?_
  refine t_ini_190 (c := 1) Rc0 (by decide) rfl rfl fun k1 a1 b1 c1 h1 p1 q1 r1 i1 s1 t1 u1 j1 v1 w1 x1 hc1 Rc1 => ?_
  refine t_ini_190 (c := 2) Rc1 (by decide) rfl rfl fun k2 a2 b2 c2 h2 p2 q2 r2 i2 s2 t2 u2 j2 v2 w2 x2 hc2 Rc2 => ?_
  refine t_ini_190 (c := 3) Rc2 (by decide) rfl rfl fun k3 a3 b3 c3 h3 p3 q3 r3 i3 s3 t3 u3 j3 v3 w3 x3 hc3 Rc3 => ?_
  refine b_X8_init_190 ⟨fun _ => ?_, fun hn => absurd (by decide) hn⟩
  have Rf : hL s0 F b (iAll y0 n1 n2 n3 n4 n5 n6 n7 n8 n9 n10 n11 n12 n13 n14 n15 n16 n17 n18 n19 n20 n21 k0 a0 b0 c0 h0 p0 q0 r0 i0 s0 t0 u0 j0 v0 w0 x0 k1 a1 b1 c1 h1 p1 q1 r1 i1 s1 t1 u1 j1 v1 w1 x1 k2 a2 b2 c2 h2 p2 q2 r2 i2 s2 t2 u2 j2 v2 w2 x2 k3 a3 b3 c3 h3 p3 q3 r3 i3 s3 t3 u3 j3 v3 w3 x3) hc3 := Rc3
  obtain ⟨f1, f2, f3, f4⟩ := iAll_tR Rf h1 h2 p1 p2
  exact K _ hc3 f1 f2 f3 f4
end ON
