/-! ===== the twin: bytes that come, bytes that go ===== -/
set_option maxRecDepth 100000
section T1
variable {s0 : zE} {F : Nat → Option zC} {b : Nat} {s s' : sSt} {w w' : tW} {dr : sBy} {sz : Int32} {rd : sRd} {u : Int32 × Int32 × Int32 × List Nat × (Nat → Nat)} {g g' : sG} {h h' : zH} {d x0 : Nat} {Q : Value → zH → Prop} {E : Nat → zH → Prop}
theorem gAr.le {c i n : Nat} {xs : List Value} (A : gAr g c i n xs) : xs.length ≤ n := by
  obtain ⟨-, e, t, ht⟩ := A
  rw [← e, ← ht, List.length_append]
  omega
theorem tG.rdw (G : tG s w g) {r : sRd} (h1 : r.1 = w.rd.1) (h2 : r.2.1 ≤ r.1.length) : tG s (w.w_rd r) g := by
  obtain ⟨a1, ⟨b1, b2, b3, b4, b5, b6, b7, b8, b9, b10, b11, b12, b13, b14⟩, a3⟩ := G
  refine ⟨a1, ⟨b1, b2, b3, b4, b5, b6, b7, b8, b9, b10, ?_, b12, b13, h2⟩, a3⟩
  show gAr g 16 0 400 (vB r.1)
  rw [h1]
  exact b11
theorem tG.frame (G : tG s w g) : gAr g 16 0 400 (vB w.rd.1) ∧ w.rd.2.1 ≤ w.rd.1.length := ⟨G.2.1.2.2.2.2.2.2.2.2.2.2.1, G.2.1.2.2.2.2.2.2.2.2.2.2.2.2.2⟩
theorem t_u8 (R : tR s0 F b s (dr, sz, rd, u) g h) (hm : g.kind x0 = (1, 0)) (K : ∀ h1, tR s0 F b s (dr, sz, (r_u8 rd).2, u) g h1 → Q (.int (r_u8 rd).1) h1) : zX s0 m_X8_u8 d [zr x0] h Q E := by
  have e := R.main hm
  obtain ⟨A, hat⟩ : gAr g 16 0 400 (vB rd.1) ∧ rd.2.1 ≤ rd.1.length := R.2.frame
  have hl : rd.1.length ≤ 400 := by have := A.le; rwa [vB_len] at this
  refine c_X8_u8 (g_I e (List.mem_singleton.mpr rfl) rfl fun (z1 : gI h x0 31 = Int32.ofNat rd.2.1) => g_I e (List.mem_singleton.mpr rfl) rfl fun (z2 : gI h x0 30 = Int32.ofNat rd.1.length) => ?_)
  rw [z1, z2]
  obtain ⟨eA, hA⟩ := R.arr A rfl (by decide) (by decide)
  constructor
  · intro hlt
    rw [i_lt (by omega) (by omega)] at hlt
    obtain ⟨x, hx⟩ : ∃ x, rd.1[rd.2.1]? = some x := ⟨_, List.getElem?_eq_getElem hlt⟩
    have er : r_u8 rd = (zx x, (rd.1, rd.2.1 + 1, rd.2.2)) := by unfold r_u8; rw [hx]
    rw [er] at K
    refine g_R e (List.mem_singleton.mpr rfl) rfl fun z3 => ?_
    rw [z3]
    refine g_I e (List.mem_singleton.mpr rfl) rfl fun _ => g_EI eA (zin_of (by rw [A.2.1]; omega) (by omega)) (by rw [i_nat (by omega)]; exact pre_get A.2.2 (vB_get hx)) fun z4 => g_I e (List.mem_singleton.mpr rfl) rfl fun _ => g_C e ?_
    rw [z4]
    rintro h1 rfl
    rw [sx_and]
    refine K _ (R.putM hm ?_ (R.2.rdw rfl hlt) ⟨rfl, rfl, rfl, rfl, rfl, rfl, rfl, rfl, rfl⟩)
    rw [i_succ]
    rfl
  · intro hlt
    rw [i_lt (by omega) (by omega)] at hlt
    have er : r_u8 rd = (0, r_bad rd) := by unfold r_u8; rw [List.getElem?_eq_none (by omega)]
    rw [er] at K
    refine g_C e ?_
    rintro h1 rfl
    exact K _ (R.putM hm rfl (R.2.rdw rfl hat) ⟨rfl, rfl, rfl, rfl, rfl, rfl, rfl, rfl, rfl⟩)
theorem t_u16 (R : tR s0 F b s (dr, sz, rd, u) g h) (hm : g.kind x0 = (1, 0)) (K : ∀ h1, tR s0 F b s (dr, sz, (r_u16 rd).2, u) g h1 → Q (.int (r_u16 rd).1) h1) : zX s0 m_X8_u16 (d + 1) [zr x0] h Q E := by
  refine c_X8_u16 ⟨⟨_, R.main hm⟩, t_u8 R hm fun h1 R1 => ⟨_, rfl, ⟨_, R1.main hm⟩, t_u8 R1 hm fun h2 R2 => ⟨_, rfl, ?_⟩⟩⟩
  exact K _ R2
theorem t_u32 (R : tR s0 F b s (dr, sz, rd, u) g h) (hm : g.kind x0 = (1, 0)) (K : ∀ h1, tR s0 F b s (dr, sz, (r_u32 rd).2, u) g h1 → Q (.int (r_u32 rd).1) h1) : zX s0 m_X8_u32 (d + 2) [zr x0] h Q E := by
  refine c_X8_u32 ⟨⟨_, R.main hm⟩, t_u16 R hm fun h1 R1 => ⟨_, rfl, ⟨_, R1.main hm⟩, t_u16 R1 hm fun h2 R2 => ⟨_, rfl, ?_⟩⟩⟩
  exact K _ R2
/-- what lasts from one picture to the next: the kinds of things, what is frozen -/
def gSt (c : Nat) : Prop := c = 1 ∨ c = 2 ∨ c = 3 ∨ (32 ≤ c ∧ c ≤ 37) ∨ c = 40
def gL (g g1 : sG) : Prop := ∀ n, gSt (g.kind n).1 → g1.kind n = g.kind n ∧ g1.frz n = g.frz n
theorem gL.refl (g : sG) : gL g g := fun n _ => ⟨rfl, rfl⟩
theorem gL.trans {g2 : sG} (a : gL g g') (c : gL g' g2) : gL g g2 := fun n hn => by
  have h1 := a n hn
  have h2 := c n (by rw [h1.1]; exact hn)
  exact ⟨h2.1.trans h1.1, h2.2.trans h1.2⟩
theorem gL.k (a : gL g g') {n c i : Nat} (hk : g.kind n = (c, i)) (hc : gSt c) : g'.kind n = (c, i) := ((a n (by rw [hk]; exact hc)).1).trans hk
theorem gL.m (a : gL g g') (hk : g.kind x0 = (1, 0)) : g'.kind x0 = (1, 0) := a.k hk (Or.inl rfl)
theorem gL.fz (a : gL g g') {n : Nat} {q : zC} (hk : gF g n q) : gF g' n q := ⟨a.k hk.1 (Or.inr (Or.inr (Or.inr (Or.inr rfl)))), ((a n (by rw [hk.1]; exact Or.inr (Or.inr (Or.inr (Or.inr rfl))))).2).trans hk.2⟩
theorem gL.B (a : gL g g') {n : Nat} {x : sBy} (hk : gB g n x) : gB g' n x := a.fz hk
theorem gL.Bo (a : gL g g') {n : Nat} {x : Option sBy} (hk : gBo g n x) : gBo g' n x := by
  cases x with
  | none => exact hk
  | some y => exact a.B hk
theorem gL.set {c i : Nat} {l : List Value} : gL g (gSet g c i l) := fun n _ => ⟨rfl, rfl⟩
theorem kne {m n : Nat} {p q : Nat × Nat} (hm : g.kind m = p) (hn : g.kind n = q) (h : p ≠ q) : m ≠ n := fun e => h (by rw [← hm, ← hn, e])
theorem vB_app (a c : sBy) : vB (a ++ c) = vB a ++ vB c := List.map_append ..
/-- one more byte is drafted -/
theorem t_put {x : Int32} (R : tR s0 F b s (dr, sz, rd, u) g h) (hm : g.kind x0 = (1, 0)) (hl : dr.length < 1200) (K : ∀ g1 h1, tR s0 F b s ((dr ++ [lo8 x]), sz, rd, u) g1 h1 → gL g g1 → Q .null h1) : zX s0 m_X8_put d [zr x0, .int x] h Q E := by
  have e := R.main hm
  have A : gAr g 17 0 1200 (vB dr) := R.2.ar17
  obtain ⟨eA, hA⟩ := R.arr A rfl (by decide) (by decide)
  refine c_X8_put (g_R e (List.mem_singleton.mpr rfl) rfl fun z1 => g_I e (List.mem_singleton.mpr rfl) rfl fun (z2 : gI h x0 36 = Int32.ofNat dr.length) => ?_)
  rw [z1, z2, i_nat (by omega), sx_lo2]
  refine g_S eA hA (zin_of (by rw [A.2.1]; omega) (by omega)) ?_
  rintro h1 rfl
  have hne : x0 ≠ g.ref 17 0 := kne hm A.1 (by decide)
  have e1 : (zput h (g.ref 17 0) dr.length (.int (sx (lo8 x)))).1 x0 = some (7, tMain s (dr, sz, rd, u) g) := by rw [zput_ne hne]; exact e
  refine g_I e1 (List.mem_singleton.mpr rfl) rfl fun (z3 : gI _ x0 36 = Int32.ofNat dr.length) => g_C e1 ?_
  rw [z3]
  rintro h2 rfl
  refine K (gSet g 17 0 ((g.ar 17 0).set dr.length (.int (sx (lo8 x))))) _ (R.arM hm A.1 (by decide) rfl ?_ rfl (fun n n1 n2 => by rw [zput_ne n1, zput_ne n2]) ?_ ?_ ⟨rfl, rfl, rfl, rfl, rfl, rfl, rfl, rfl, rfl⟩ (R.2.set17 (by rw [List.length_set]; exact A.2.1) ?_)) gL.set
  · show (1000 + tarT 17, (gSet g 17 0 _).ar 17 0) = _
    rw [gSet_self]
  · have e9 : dr.length + 1 = (dr ++ [lo8 x]).length := by simp
    rw [zput_self e1, i_succ, e9]
    rfl
  · rw [zput_ne hne.symm]
    exact zput_self eA
  · rw [vB_app]
    have := pre_snoc A.2.2 (v := .int (sx (lo8 x))) (by rw [vB_len, A.2.1]; exact hl)
    rw [vB_len] at this
    exact this
theorem t_put16 {x : Int32} (R : tR s0 F b s (dr, sz, rd, u) g h) (hm : g.kind x0 = (1, 0)) (hl : dr.length + 2 ≤ 1200) (K : ∀ g1 h1, tR s0 F b s ((dr ++ w_16 x), sz, rd, u) g1 h1 → gL g g1 → Q .null h1) : zX s0 m_X8_put16 (d + 1) [zr x0, .int x] h Q E := by
  refine c_X8_put16 ⟨⟨_, R.main hm⟩, t_put R hm (by omega) fun g1 h1 R1 L1 => ⟨⟨_, R1.main (L1.m hm)⟩, t_put R1 (L1.m hm) (by simp; omega) fun g2 h2 R2 L2 => ?_⟩⟩
  refine K g2 h2 ?_ (L1.trans L2)
  rw [show dr ++ w_16 x = (dr ++ [lo8 (x >>> 8)]) ++ [lo8 x] by simp [w_16]]
  exact R2
theorem t_put32 {x : Int32} (R : tR s0 F b s (dr, sz, rd, u) g h) (hm : g.kind x0 = (1, 0)) (hl : dr.length + 4 ≤ 1200) (K : ∀ g1 h1, tR s0 F b s ((dr ++ w_32 x), sz, rd, u) g1 h1 → gL g g1 → Q .null h1) : zX s0 m_X8_put32 (d + 2) [zr x0, .int x] h Q E := by
  refine c_X8_put32 ⟨⟨_, R.main hm⟩, t_put16 R hm (by omega) fun g1 h1 R1 L1 => ⟨⟨_, R1.main (L1.m hm)⟩, t_put16 R1 (L1.m hm) (by simp [w_16]; omega) fun g2 h2 R2 L2 => ?_⟩⟩
  refine K g2 h2 ?_ (L1.trans L2)
  rw [show dr ++ w_32 x = (dr ++ w_16 (x >>> 16)) ++ w_16 x by simp [w_32]]
  exact R2
end T1
