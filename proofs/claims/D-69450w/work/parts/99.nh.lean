/-! ===== the twin: a header, its fields read ===== -/
set_option maxRecDepth 100000
def zCt (e ky : Nat) (mand pers : Bool) (prio : Int32) (expi : Int64) (hd : Nat) : List Value := [zr e, zr ky, vZ mand, vZ pers, .int prio, .long expi, zr hd, zr 0, vI 0]
def h_p (marks : Int32) (r : sRd) : Int32 × sRd := if s_bit marks 1 = true then r_u8 r else (0, r)
def h_x (marks : Int32) (r : sRd) : Int64 × sRd := if s_bit marks 4 = true then ((r_u32 r).1.toUInt32.toUInt64.toInt64, (r_u32 r).2) else (-1, r)
def h_q (marks : Int32) (r : sRd) : Int32 × sRd := if s_bit marks 2 = true then r_u8 r else (0, r)
def h_t (marks : Int32) (r : sRd) : Option sTab × sRd := if s_bit marks 8 = true then (some (r_table r).1, (r_table r).2) else (none, r)
section NH
variable {s0 : zE} {F : Nat → Option zC} {b : Nat} {s s' s1 s2 sS : sSt} {w w' w1 w2 : tW} {g g' g0 : sG} {h h' : zH} {d x0 x1 j n c k e ky hd nn : Nat} {Q : Value → zH → Prop} {E : Nat → zH → Prop} {dr : sBy} {sz marks N prio cls : Int32} {expi : Int64} {rd : sRd} {u : Int32 × Int32 × Int32 × List Nat × (Nat → Nat)} {mand pers : Bool} {fs : List Value} {v : Value}
theorem tR.putL1 (R : tR s0 (zF1 F n (c, fs)) b s w g h) : tR s0 (zF1 F n (c, fs.set k v)) b s w g (zput h n k v) :=
  (R.putL zF1_at).sub fun m q hq => by
    unfold zF1 at hq ⊢
    by_cases e : m = n
    · rw [if_pos e] at hq ⊢
      exact hq
    · rw [if_neg e] at hq ⊢
      rw [if_neg e]
      exact hq
theorem g_PL {P : zH → Prop} (R : tR s0 (zF1 F n (c, fs)) b s w g h) (K : ∀ h1, tR s0 (zF1 F n (c, fs.set k v)) b s w g h1 → P h1) : fC h n c ∧ ∀ h1, h1 = zput h n k v → P h1 :=
  ⟨⟨_, R.fc zF1_at⟩, fun h1 e => by subst e; exact K _ R.putL1⟩
theorem mask32 (i : Nat) (hi : i < 64) : (4294967295#64).getLsbD i = decide (i < 32) := by
  have h : ∀ i : Fin 64, (4294967295#64).getLsbD i.val = decide (i.val < 32) := by decide
  exact h ⟨i, hi⟩
theorem u32_long (x : Int32) : x.toInt64 &&& 4294967295 = x.toUInt32.toUInt64.toInt64 := by
  refine Int64.toBitVec_inj.mp ?_
  show x.toBitVec.signExtend 64 &&& 4294967295#64 = x.toBitVec.setWidth 64
  refine BitVec.eq_of_getLsbD_eq fun i hi => ?_
  rw [BitVec.getLsbD_and, BitVec.getLsbD_signExtend, BitVec.getLsbD_setWidth, mask32 i hi]
  by_cases h32 : i < 32
  · rw [if_pos h32, decide_eq_true h32, decide_eq_true hi, Bool.and_true]
  · rw [if_neg h32, decide_eq_false h32, Bool.and_false, BitVec.getLsbD_of_ge _ _ (by omega), Bool.and_false]
theorem t_hd_103 (R : tR s0 (zF1 F nn (40, zCt e ky mand pers prio expi 0)) (b + 12 * rRem rd + 200) s (dr, sz, rd, u) g h) (hm : g.kind x0 = (1, 0)) (hE : gB g (zst s0 "RelayHallModel" "EMPTY" "[B") [])
    (K : ∀ hd9 g1 h1, tR s0 (zF1 F nn (40, zCt e ky mand pers prio expi hd9)) b s (dr, sz, (h_t marks rd).2, u) g1 h1 → gL g g1 → ((h_t marks rd).2.2.2 = false → gTo g1 hd9 (h_t marks rd).1 ∧ ∀ t, (h_t marks rd).1 = some t → sTabOk t) → zP s0 m_X8_header (d + 5) 120 [some (zr x0), some (zr x1), some (.int cls), some (.int N), some (.int marks), some (zr nn)] [] h1 Q E) :
    zP s0 m_X8_header (d + 5) 103 [some (zr x0), some (zr x1), some (.int cls), some (.int N), some (.int marks), some (zr nn)] [] h Q E := by
  refine b_X8_header_103 ⟨fun h8 => ?_, fun h8 => ⟨⟨_, R.main hm⟩, t_table (d := d) R hm hE fun n g1 h1 R1 L1 B1 => ⟨_, rfl, g_PL R1 fun h2 R2 => ?_⟩⟩⟩
  · have e1 : h_t marks rd = (none, rd) := if_neg (by rw [bit_0.mpr h8]; decide)
    rw [e1] at K
    exact K 0 g h (R.less (by omega)) (gL.refl g) fun _ => ⟨rfl, fun t ht => nomatch ht⟩
  · have e1 : h_t marks rd = (some (r_table rd).1, (r_table rd).2) := if_pos (bit_1 h8)
    rw [e1] at K
    exact K n g1 h2 (R2.less (by omega)) L1 fun hb => ⟨(B1 hb).1, fun t ht => by obtain rfl := Option.some.inj ht; exact (B1 hb).2⟩
theorem t_hd_82 (R : tR s0 (zF1 F nn (40, zCt e ky mand pers prio (-1) 0)) b s (dr, sz, rd, u) g h) (hm : g.kind x0 = (1, 0))
    (K : ∀ h1, tR s0 (zF1 F nn (40, zCt e ky mand pers prio (h_x marks rd).1 0)) b s (dr, sz, (h_x marks rd).2, u) g h1 → zP s0 m_X8_header (d + 3) 103 [some (zr x0), some (zr x1), some (.int cls), some (.int N), some (.int marks), some (zr nn)] [] h1 Q E) :
    zP s0 m_X8_header (d + 3) 82 [some (zr x0), some (zr x1), some (.int cls), some (.int N), some (.int marks), some (zr nn)] [] h Q E := by
  refine b_X8_header_82 ⟨fun h4 => ?_, fun h4 => ⟨⟨_, R.main hm⟩, t_u32 (d := d) R hm fun h1 R1 => ⟨_, rfl, ?_⟩⟩⟩
  · have e1 : h_x marks rd = (-1, rd) := if_neg (by rw [bit_0.mpr h4]; decide)
    rw [e1] at K
    exact K h R
  · have e1 : h_x marks rd = ((r_u32 rd).1.toUInt32.toUInt64.toInt64, (r_u32 rd).2) := if_pos (bit_1 h4)
    rw [e1] at K
    rw [u32_long]
    exact g_PL R1 fun h2 R2 => K h2 R2
theorem t_hd_58 (R : tR s0 (zF1 F nn (40, zCt e ky mand false prio (-1) 0)) b s (dr, sz, rd, u) g h) (hm : g.kind x0 = (1, 0))
    (K : ∀ h1, tR s0 (zF1 F nn (40, zCt e ky mand (!((h_q marks rd).1 == 0)) prio (-1) 0)) b s (dr, sz, (h_q marks rd).2, u) g h1 → zP s0 m_X8_header (d + 1) 82 [some (zr x0), some (zr x1), some (.int cls), some (.int N), some (.int marks), some (zr nn)] [] h1 Q E) :
    zP s0 m_X8_header (d + 1) 58 [some (zr x0), some (zr x1), some (.int cls), some (.int N), some (.int marks), some (zr nn)] [] h Q E := by
  refine b_X8_header_58 ⟨fun h2 => ?_, fun h2 => ⟨⟨_, R.main hm⟩, t_u8 (d := d) R hm fun h1 R1 => ⟨_, rfl, fun h0 => g_PL R1 fun h2 R2 => ?_, fun h0 => g_PL R1 fun h2 R2 => ?_⟩⟩⟩
  · have e1 : h_q marks rd = (0, rd) := if_neg (by rw [bit_0.mpr h2]; decide)
    rw [e1] at K
    exact K h R
  · have e1 : h_q marks rd = r_u8 rd := if_pos (bit_1 (by assumption))
    rw [e1, h0] at K
    exact K h2 R2
  · have e1 : h_q marks rd = r_u8 rd := if_pos (bit_1 (by assumption))
    rw [e1, beq_false_of_ne h0] at K
    exact K h2 R2
end NH
