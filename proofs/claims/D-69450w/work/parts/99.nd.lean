/-! ===== the twin: a frame's class and method ===== -/
set_option maxRecDepth 100000
section ND
variable {s0 : zE} {F : Nat → Option zC} {b : Nat} {s s' s1 s2 sS : sSt} {w w' w1 w2 : tW} {g g' g0 : sG} {h h' : zH} {d x0 x1 x2 x3 x5 x7 i j q m p n a e x y c ra t : Nat} {Q : Value → zH → Prop} {E : Nat → zH → Prop} {dr nm key frm bb : sBy} {sz cl me code k bits tag what N : Int32} {rd : sRd} {u : Int32 × List Nat × (Nat → Nat)} {all v : Bool} {l rs : List Nat} {ct : sCont} {kk : sKe} {L0 : List sKe}
theorem t_head_32 {t1 : Int32} (R : tR s0 F b s (dr, sz, rd, cl, me, u) g h) (hm : g.kind x0 = (1, 0))
    (K0 : ¬ (k = 1 ∧ 4 ≤ rd.1.length) → ∀ h1, tR s0 F b s (dr, sz, rd, t1, 0, u) g h1 → Q .null h1)
    (K1 : k = 1 ∧ 4 ≤ rd.1.length → ∀ h1, tR s0 F b s (dr, sz, (r_u16 rd).2, t1, (r_u16 rd).1, u) g h1 → Q .null h1) : zP s0 m_X8_readHead (d + 2) 32 [some (zr x0), some (.int k)] [.int t1, zr x0] h Q E := by
  have hl : rd.1.length ≤ 400 := by
    have := R.2.frame.1.le
    rwa [vB_len] at this
  refine b_X8_readHead_32 (g_PM R hm s (dr, sz, rd, t1, me, u) rfl R.2 ⟨rfl, rfl, rfl, rfl, rfl, rfl, rfl, rfl, rfl⟩ fun h1 R1 _ => ⟨fun hk => ?_, fun hk => e_I (R1.main hm) fun (z1 : gI h1 x0 30 = Int32.ofNat rd.1.length) => ?_⟩)
  · exact g_PM R1 hm s (dr, sz, rd, t1, 0, u) rfl R1.2 ⟨rfl, rfl, rfl, rfl, rfl, rfl, rfl, rfl, rfl⟩ fun h2 R2 _ => K0 (fun hh => hk hh.1) h2 R2
  · rw [z1]
    have h4 : (Int32.ofNat rd.1.length < 4) ↔ rd.1.length < 4 := by
      rw [show (4 : Int32) = Int32.ofNat 4 from rfl]
      exact i_lt (by omega) (by omega)
    refine ⟨fun hh => ?_, fun hh => ⟨⟨_, R1.main hm⟩, t_u16 (d := d) R1 hm fun h3 R3 => ⟨_, rfl, ?_⟩⟩⟩
    · have hh := h4.mp hh
      exact g_PM R1 hm s (dr, sz, rd, t1, 0, u) rfl R1.2 ⟨rfl, rfl, rfl, rfl, rfl, rfl, rfl, rfl, rfl⟩ fun h2 R2 _ => K0 (fun hk => absurd hk.2 (by omega)) h2 R2
    · have hh : ¬ rd.1.length < 4 := fun hq => hh (h4.mpr hq)
      exact g_PM R3 hm s (dr, sz, (r_u16 rd).2, t1, (r_u16 rd).1, u) rfl R3.2 ⟨rfl, rfl, rfl, rfl, rfl, rfl, rfl, rfl, rfl⟩ fun h2 R2 _ => K1 ⟨hk, by omega⟩ h2 R2
theorem t_readHead (R : tR s0 F b s (dr, sz, rd, cl, me, u) g h) (hm : g.kind x0 = (1, 0))
    (K : ∀ h1, tR s0 F b s (dr, sz, (r_head k rd.1).2.2, (r_head k rd.1).1, (r_head k rd.1).2.1, u) g h1 → Q .null h1) : zX s0 m_X8_readHead (d + 2) [zr x0, .int k] h Q E := by
  have hl : rd.1.length ≤ 400 := by
    have := R.2.frame.1.le
    rwa [vB_len] at this
  have h4 : (Int32.ofNat rd.1.length < 4) ↔ rd.1.length < 4 := by
    rw [show (4 : Int32) = Int32.ofNat 4 from rfl]
    exact i_lt (by omega) (by omega)
  refine c_X8_readHead (g_PM R hm s (dr, sz, (rd.1, 0, rd.2.2), cl, me, u) rfl (R.2.rdw rfl (Nat.zero_le _)) ⟨rfl, rfl, rfl, rfl, rfl, rfl, rfl, rfl, rfl⟩ fun h1 R1 _ => g_PM R1 hm s (dr, sz, (rd.1, 0, false), cl, me, u) rfl (R1.2.rdw rfl (Nat.zero_le _)) ⟨rfl, rfl, rfl, rfl, rfl, rfl, rfl, rfl, rfl⟩ fun h2 R2 _ => ?_)
  by_cases hk : k = 1 ∧ 4 ≤ rd.1.length
  · have e : r_head k rd.1 = ((r_u16 (rd.1, 0, false)).1, (r_u16 (r_u16 (rd.1, 0, false)).2).1, (r_u16 (r_u16 (rd.1, 0, false)).2).2) := by
      unfold r_head
      exact if_pos hk
    rw [e] at K
    refine ⟨fun hh => absurd hk.1 hh, fun _ => e_I (R2.main hm) fun (z1 : gI h2 x0 30 = Int32.ofNat rd.1.length) => ?_⟩
    rw [z1]
    refine ⟨fun hh => absurd (h4.mp hh) (by omega), fun _ => ⟨⟨_, R2.main hm⟩, t_u16 (d := d) R2 hm fun h3 R3 => ⟨_, rfl, ?_⟩⟩⟩
    have e1 : (r_u16 (rd.1, 0, false)).2.1 = rd.1 := (rd_u16 (r := (rd.1, 0, false))).1.1
    exact t_head_32 (d := d) R3 hm (fun hh => absurd ⟨hk.1, by rw [e1]; exact hk.2⟩ hh) fun _ h5 R5 => K h5 R5
  · have e : r_head k rd.1 = (0, 0, (rd.1, 0, false)) := by
      unfold r_head
      exact if_neg hk
    rw [e] at K
    have h32 : zP s0 m_X8_readHead (d + 1 + 1) 31 [some (zr x0), some (.int k)] [zr x0] h2 Q E := b_X8_readHead_31 (t_head_32 (d := d) R2 hm (fun _ h5 R5 => K h5 R5) fun hh => absurd hh hk)
    refine ⟨fun _ => h32, fun h1 => e_I (R2.main hm) fun (z1 : gI h2 x0 30 = Int32.ofNat rd.1.length) => ?_⟩
    rw [z1]
    exact ⟨fun _ => h32, fun hh => absurd ⟨h1, by have := mt h4.mpr hh; omega⟩ hk⟩
end ND
