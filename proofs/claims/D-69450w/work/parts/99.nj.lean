/-! ===== the twin: a header, joined ===== -/
set_option maxRecDepth 100000
def rd_h3 (r : sRd) : sRd := (r_u16 (r_u32 (r_u16 r).2).2).2
section NJ
variable {s0 : zE} {F : Nat → Option zC} {b : Nat} {s : sSt} {w : tW} {g g' : sG} {h h' : zH} {d x0 x1 j n c k e ky hd nn : Nat} {Q : Value → zH → Prop} {E : Nat → zH → Prop} {dr : sBy} {sz marks N prio cls cl me : Int32} {expi : Int64} {rd : sRd} {u : Int32 × List Nat × (Nat → Nat)} {mand pers : Bool} {ct : sCont} {o : Option sTab}
theorem tR.lentH (R : tR s0 F b s w g h) (hj : isH j) (hjk : (s.ch j).junk = false) (hc : (s.ch j).cont = some ct) (hd : (s.ch j).due = 2) (hf : ct.body = [] ∧ ct.prio = 0 ∧ ct.pers = false ∧ ct.expi = -1 ∧ ct.heads = none) :
    ∃ g1 e ky, tR s0 F b (s_junk s j) w g1 h ∧ gL g g1 ∧ (∀ m, g1.kind m ≠ (38, j)) ∧ g1.rf = g.rf ∧ zUn s0 F g1 h (g.rf 3 j 15) 40 (zCt e ky ct.mand false 0 (-1) 0) ∧ gB g1 e ct.exch ∧ gB g1 ky ct.key := by
  obtain ⟨f1, f2, f3, f4, f5⟩ := hf
  have hU := (R.2.chok hj).2.1 hjk
  rw [hc] at hU
  obtain ⟨r15, hA, B0, B1, T6, -⟩ := hU
  rw [f5] at T6
  have h6 : g.rf 38 j 6 = 0 := T6
  have R1 : tR s0 F b (s_junk s j) w g h := R.chg (x := (s.ch j).w_junk true) rfl rfl fun ⟨f1, f2, f3⟩ => ⟨f1, fun e => absurd e (by show ¬ (true = false); decide), f3⟩
  have R2 := R1.drop (c := 38) (i := j) (Or.inl rfl) fun k hk e => by subst e; unfold s_junk; rw [s_ch_ch]; rfl
  have hA' : g.kind (g.ref 38 j) = (38, j) := hA
  have k2 : ∀ m, (gDr g 38 j).kind m = if g.kind m = (38, j) then (0, 0) else g.kind m := fun m => rfl
  have kn : (gDr g 38 j).kind (g.ref 38 j) = (0, 0) := by rw [k2, if_pos hA']
  have eu : tUn (s.ch j) g j = zCt (g.rf 38 j 0) (g.rf 38 j 1) ct.mand false 0 (-1) 0 := by
    unfold tUn
    rw [hc]
    dsimp only
    rw [if_neg (by rw [hd]; decide), f1, f2, f3, f4, h6]
    rfl
  have X1 : gX g (gDr g 38 j) 38 j := gDr.x (by decide)
  refine ⟨_, _, _, R2, gDr.l (by unfold gSt; omega), fun m e => gDr.no (by decide) e, rfl, ?_, X1.B B0, X1.B B1⟩
  rw [r15]
  exact R.unOf hA' (by decide) (by decide) (by show (40, tUn (s.ch j) g j) = _; rw [eu]) (by rw [kn])
theorem header_early (hb : (rd_h3 rd).2.2 = true ∨ (r_u16 rd).1 ≠ 60 ∨ 15 < (r_u16 (r_u32 (r_u16 rd).2).2).1) : s_header s j rd = s_at (s_hardF (s_junk s j) 502) 0 0 := by
  unfold s_header
  dsimp only
  exact if_pos hb
theorem header_late (hc : (s.ch j).cont = some ct) (hb : ¬ ((rd_h3 rd).2.2 = true ∨ (r_u16 rd).1 ≠ 60 ∨ 15 < (r_u16 (r_u32 (r_u16 rd).2).2).1)) {p q : Int32 × sRd} {x : Int64 × sRd} {t : Option sTab × sRd} (hp : p = h_p (r_u16 (r_u32 (r_u16 rd).2).2).1 (rd_h3 rd)) (hq : q = h_q (r_u16 (r_u32 (r_u16 rd).2).2).1 p.2) (hx : x = h_x (r_u16 (r_u32 (r_u16 rd).2).2).1 q.2) (ht : t = h_t (r_u16 (r_u32 (r_u16 rd).2).2).1 x.2) :
    s_header s j rd = s_headF s j (r_u16 rd).1 (r_u32 (r_u16 rd).2).1 (r_u16 (r_u32 (r_u16 rd).2).2).1 (r_whole t.2) (ct.exch, ct.key, ct.mand, !(q.1 == 0), p.1, x.1, t.1, []) := by
  subst ht hx hq hp
  have hb' : ¬ ((r_u16 rd).1 ≠ 60 ∨ 15 < (r_u16 (r_u32 (r_u16 rd).2).2).1) := fun hh => hb (Or.inr hh)
  unfold s_header
  dsimp only
  rw [hc]
  refine (if_neg hb).trans ?_
  unfold s_headF
  cases hw : r_whole (h_t (r_u16 (r_u32 (r_u16 rd).2).2).1 (h_x (r_u16 (r_u32 (r_u16 rd).2).2).1 (h_q (r_u16 (r_u32 (r_u16 rd).2).2).1 (h_p (r_u16 (r_u32 (r_u16 rd).2).2).1 (rd_h3 rd)).2).2).2).2 with
  | false =>
    exact (if_pos (fun hh => by
      have := hw.symm.trans hh
      cases this)).trans (if_pos (Or.inl rfl)).symm
  | true => exact (if_neg (fun hh => hh hw)).trans (if_neg (fun hh => hh.elim (fun q => Bool.noConfusion q) hb')).symm
theorem rd_hq : rdOk rd (h_q marks rd).2 := by
  unfold h_q
  split
  · exact rd_u8.1
  · exact rdOk.refl
theorem rd_hp : rdOk rd (h_p marks rd).2 := by
  unfold h_p
  split
  · exact rd_u8.1
  · exact rdOk.refl
theorem rd_hx : rdOk rd (h_x marks rd).2 := by
  unfold h_x
  split
  · exact rd_u32.1
  · exact rdOk.refl
theorem zero_rng : (0 : Int32) ≤ 0 ∧ (0 : Int32) ≤ 255 := ⟨by decide, by decide⟩
theorem zx_rng {y : UInt8} : 0 ≤ zx y ∧ zx y ≤ 255 := by
  unfold zx
  have h : y.toNat < 256 := y.toNat_lt
  refine ⟨i_nn' (by omega), ?_⟩
  rw [show (255 : Int32) = Int32.ofNat 255 from rfl]
  exact (i_le (by omega) (by omega)).mpr (by omega)
theorem u8_rng : 0 ≤ (r_u8 rd).1 ∧ (r_u8 rd).1 ≤ 255 := by
  unfold r_u8
  split
  · exact zero_rng
  · exact zx_rng
theorem hp_rng : 0 ≤ (h_p marks rd).1 ∧ (h_p marks rd).1 ≤ 255 := by
  unfold h_p
  split
  · exact u8_rng
  · exact zero_rng
theorem u64_rng (y : UInt32) : 0 ≤ y.toUInt64.toInt64 ∧ y.toUInt64.toInt64 ≤ 4294967295 := by
  have h := y.toNat_lt
  have e : y.toUInt64.toInt64.toInt = y.toNat := by
    show (y.toUInt64.toBitVec).toInt = _
    rw [BitVec.toInt_eq_toNat_of_lt]
    · show ((y.toUInt64.toNat : Nat) : Int) = _
      rw [UInt32.toNat_toUInt64]
    · show 2 * y.toUInt64.toNat < _
      rw [UInt32.toNat_toUInt64]
      omega
  rw [Int64.le_iff_toInt_le, Int64.le_iff_toInt_le, e]
  exact ⟨by show (0 : Int) ≤ _; omega, by show _ ≤ (4294967295 : Int); omega⟩
theorem hx_rng : (h_x marks rd).1 = -1 ∨ (0 ≤ (h_x marks rd).1 ∧ (h_x marks rd).1 ≤ 4294967295) := by
  unfold h_x
  split
  · exact Or.inr (u64_rng _)
  · exact Or.inl rfl
end NJ
