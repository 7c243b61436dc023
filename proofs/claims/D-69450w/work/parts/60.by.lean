/-! ===== the twin: bytes read ===== -/
set_option maxRecDepth 100000
section BY
variable {s0 : zE} {F : Nat → Option zC} {b : Nat} {s s' : sSt} {w w' : tW} {dr : sBy} {sz : Int32} {rd : sRd} {u : Int32 × Int32 × Int32 × List Nat × (Nat → Nat)} {g g' : sG} {h h' : zH} {d x0 x1 x2 i q m : Nat} {Q : Value → zH → Prop} {E : Nat → zH → Prop}
/-- something is not as told -/
theorem g_Bad (R : tR s0 F b s (dr, sz, rd, u) g h) {P : zH → Prop} (hm : g.kind x0 = (1, 0)) (K : ∀ h1, tR s0 F b s (dr, sz, r_bad rd, u) g h1 → P h1) : fC h x0 7 ∧ ∀ h1, h1 = zput h x0 34 (.int 1) → P h1 :=
  ⟨⟨_, R.main hm⟩, fun h1 e => by subst e; exact K _ (R.putM hm rfl (R.2.rdw rfl R.2.frame.2) ⟨rfl, rfl, rfl, rfl, rfl, rfl, rfl, rfl, rfl⟩)⟩
theorem t_bytes_l {n n1 : Nat} (hn : rd.2.1 + n ≤ rd.1.length)
    (K : ∀ g1 h1, tR s0 F b s (dr, sz, (rd.1, rd.2.1 + n, rd.2.2), u) g1 h1 → gL g g1 → gB g1 n1 ((rd.1.drop rd.2.1).take n) → Q (zr n1) h1) :
    ∀ (k j : Nat) {h : zH}, n = j + k → tR s0 F b s (dr, sz, rd, u) g h → g.kind x0 = (1, 0) → zUn s0 F g h n1 1000 (vB ((rd.1.drop rd.2.1).take j) ++ List.replicate k (.int 0)) →
      zP s0 m_X8_bytes d 32 [some (zr x0), some (.int (Int32.ofNat n)), some (zr n1), some (.int (Int32.ofNat j))] [] h Q E
  | k, j, h, hj, R, hm, U => by
    have e := R.main hm
    obtain ⟨A, hat⟩ : gAr g 16 0 400 (vB rd.1) ∧ rd.2.1 ≤ rd.1.length := R.2.frame
    have hl : rd.1.length ≤ 400 := by have := A.le; rwa [vB_len] at this
    refine b_X8_bytes_32 ⟨fun hle => ?_, fun hle => ?_⟩
    · rw [i_le (by omega) (by omega)] at hle
      have ej : j = n := by omega
      subst ej
      have ek : k = 0 := by omega
      subst ek
      rw [List.replicate_zero, List.append_nil] at U
      refine e_I e fun (z1 : gI h x0 31 = Int32.ofNat rd.2.1) => ⟨⟨_, e⟩, ?_⟩
      rw [z1, i_add]
      rintro h1 rfl
      have R1 := R.freeze U
      have hm1 : (gFz g n1 (1000, vB ((rd.1.drop rd.2.1).take j))).kind x0 = (1, 0) := (gL.frz U.1).m hm
      refine K (gFz g n1 (1000, vB ((rd.1.drop rd.2.1).take j))) _ (R1.putM hm1 rfl (R1.2.rdw rfl hn) ⟨rfl, rfl, rfl, rfl, rfl, rfl, rfl, rfl, rfl⟩) (gL.frz U.1) gFz_F
    · rw [i_le (by omega) (by omega)] at hle
      obtain ⟨k', rfl⟩ : ∃ k', k = k' + 1 := ⟨k - 1, by omega⟩
      obtain ⟨eA, hA⟩ := R.arr (t := 0) A rfl (by decide) (by decide)
      obtain ⟨x, hx⟩ : ∃ x, rd.1[rd.2.1 + j]? = some x := ⟨_, List.getElem?_eq_getElem (by omega)⟩
      have hUl : (vB ((rd.1.drop rd.2.1).take j)).length = j := by rw [vB_len, List.length_take, List.length_drop]; omega
      refine e_R e fun z1 => e_I e fun (z2 : gI h x0 31 = Int32.ofNat rd.2.1) => ?_
      rw [z1, z2, i_add]
      refine g_EI (t := 0) eA (zin_of (by rw [A.2.1]; omega) (by omega)) (by rw [i_nat (by omega)]; exact pre_get A.2.2 (vB_get hx)) fun z3 => ?_
      rw [z3]
      refine g_S (t := 0) U.2.2.1 U.2.2.2.2.2 (zin_of (by rw [List.length_append, hUl, List.length_replicate]; omega) (by omega)) ?_
      rintro h2 rfl
      rw [i_nat (by omega), i_succ, sx_lo]
      have hlo : lo8 (sx x) = x := by
        have h : ∀ n : Fin 256, lo8 (sx (UInt8.ofBitVec (BitVec.ofFin n))) = UInt8.ofBitVec (BitVec.ofFin n) := by decide +kernel
        exact h x.toBitVec.toFin
      rw [hlo]
      refine t_bytes_l hn K k' (j + 1) (by omega) (R.putF U.1 U.2.1) hm ⟨U.1, U.2.1, ?_, U.2.2.2⟩
      rw [zput_self U.2.2.1]
      congr 2
      rw [List.set_append_right _ _ (by omega), hUl, Nat.sub_self, List.replicate_succ, List.set_cons_zero, List.take_add_one, List.getElem?_drop, hx, vB_app, List.append_assoc]
      rfl
theorem t_bytes {x : Int32} (R : tR s0 F (b + 36) s (dr, sz, rd, u) g h) (hm : g.kind x0 = (1, 0)) (hE : gB g (zst s0 "RelayHallModel" "EMPTY" "[B") []) (hx : x.toNatClampNeg ≤ 200)
    (K : ∀ n g1 h1, tR s0 F b s (dr, sz, (r_bytes x rd).2, u) g1 h1 → gL g g1 → gB g1 n (r_bytes x rd).1 → Q (zr n) h1) : zX s0 m_X8_bytes d [zr x0, .int x] h Q E := by
  have e := R.main hm
  obtain ⟨A, hat⟩ : gAr g 16 0 400 (vB rd.1) ∧ rd.2.1 ≤ rd.1.length := R.2.frame
  have hl : rd.1.length ≤ 400 := by have := A.le; rwa [vB_len] at this
  refine c_X8_bytes ⟨fun h0 => ?_, fun h0 => e_I e fun (z1 : gI h x0 30 = Int32.ofNat rd.1.length) => e_I e fun (z2 : gI h x0 31 = Int32.ofNat rd.2.1) => ?_⟩
  · have er : r_bytes x rd = ([], r_bad rd) := if_pos (Or.inl h0)
    rw [er] at K
    exact g_Bad R hm fun h1 R1 => K _ g h1 (R1.less (Nat.le_add_right _ _)) (gL.refl g) hE
  · rw [z1, z2, i_sub hat]
    have hx0 : 0 ≤ x := Int32.not_lt.mp h0
    have ex : x = Int32.ofNat x.toNatClampNeg := (i_of hx0).symm
    generalize x.toNatClampNeg = n at *
    subst ex
    rw [i_le (by omega) (by omega)]
    refine ⟨fun hle => ⟨h0, ?_⟩, fun hle => ?_⟩
    · have hnn : (Int32.ofNat n).toNatClampNeg = n := i_nat (by omega)
      have er : r_bytes (Int32.ofNat n) rd = ((rd.1.drop rd.2.1).take n, (rd.1, rd.2.1 + n, rd.2.2)) := by
        unfold r_bytes
        rw [hnn, if_neg (by rintro (e1 | e1); exact h0 e1; omega)]
      rw [er] at K
      refine g_N (u := 36) R (by omega) (by omega) R.big fun n1 h1 R1 U1 => ?_
      exact t_bytes_l (n := n) (by omega) (fun g1 h2 R2 L2 B2 => K n1 g1 h2 R2 L2 B2) n 0 (by omega) R1 hm U1
    · have er : r_bytes (Int32.ofNat n) rd = ([], r_bad rd) := by
        unfold r_bytes
        rw [i_nat (by omega), if_pos (Or.inr (by omega))]
      rw [er] at K
      exact g_Bad R hm fun h1 R1 => K _ g h1 (R1.less (Nat.le_add_right _ _)) (gL.refl g) hE
theorem i_clamp {x : Int32} {k : Nat} (hk : k < 2147483648) (h : x ≤ Int32.ofNat k) : x.toNatClampNeg ≤ k := by
  have h1 := Int32.le_iff_toInt_le.mp h
  rw [i_int hk] at h1
  show x.toInt.toNat ≤ k
  omega
theorem t_short16 {x : Int32} (R : tR s0 F (b + 36) s (dr, sz, rd, u) g h) (hm : g.kind x0 = (1, 0)) (hE : gB g (zst s0 "RelayHallModel" "EMPTY" "[B") []) (hx : rd.2.2 = false → x.toNatClampNeg ≤ 200)
    (K : ∀ n g1 h1, tR s0 F b s (dr, sz, (r_cut x rd).2, u) g1 h1 → gL g g1 → gB g1 n (r_cut x rd).1 → Q (zr n) h1) : zP s0 m_X8_shortText (d + 1) 16 [some (zr x0), some (.int x)] [] h Q E := by
  have e := R.main hm
  refine b_X8_shortText_16 (e_I e fun (z1 : gI h x0 34 = sB rd.2.2) => ?_)
  rw [z1, sB_0]
  unfold r_cut at K
  constructor
  · intro hb
    rw [hb, if_neg (by decide)] at K
    exact ⟨⟨_, e⟩, t_bytes R hm hE (hx hb) fun n g1 h1 R1 L1 B1 => ⟨n, rfl, K n g1 h1 R1 L1 B1⟩⟩
  · intro hb
    rw [Bool.not_eq_false] at hb
    rw [hb, if_pos rfl] at K
    exact K _ g h (R.less (Nat.le_add_right _ _)) (gL.refl g) hE
theorem t_shortText (R : tR s0 F (b + 36) s (dr, sz, rd, u) g h) (hm : g.kind x0 = (1, 0)) (hE : gB g (zst s0 "RelayHallModel" "EMPTY" "[B") [])
    (K : ∀ n g1 h1, tR s0 F b s (dr, sz, (r_short rd).2, u) g1 h1 → gL g g1 → gB g1 n (r_short rd).1 → Q (zr n) h1) : zX s0 m_X8_shortText (d + 1) [zr x0] h Q E := by
  refine c_X8_shortText ⟨⟨_, R.main hm⟩, t_u8 R hm fun h1 R1 => ⟨_, rfl, ?_⟩⟩
  unfold r_short at K
  revert R1 K
  generalize r_u8 rd = r
  intro K R1
  rw [show (40 : Int32) = Int32.ofNat 40 from rfl] at *
  by_cases hr : r.1 ≤ Int32.ofNat 40
  · rw [if_neg (Int32.not_lt.mpr hr)] at K
    exact ⟨fun _ => t_short16 R1 hm hE (fun _ => Nat.le_trans (i_clamp (by decide) hr) (by decide)) K, fun hn => absurd hr hn⟩
  · rw [if_pos (Int32.not_le.mp hr)] at K
    refine ⟨fun hn => absurd hn hr, fun _ => g_Bad R1 hm fun h2 R2 => t_short16 R2 hm hE (fun hn => ?_) K⟩
    exact nomatch (show true = false from hn)
theorem t_long20 {x : Int32} (R : tR s0 F (b + 36) s (dr, sz, rd, u) g h) (hm : g.kind x0 = (1, 0)) (hE : gB g (zst s0 "RelayHallModel" "EMPTY" "[B") []) (hx : rd.2.2 = false → x.toNatClampNeg ≤ 200)
    (K : ∀ n g1 h1, tR s0 F b s (dr, sz, (r_cut x rd).2, u) g1 h1 → gL g g1 → gB g1 n (r_cut x rd).1 → Q (zr n) h1) : zP s0 m_X8_longText (d + 1) 20 [some (zr x0), some (.int x)] [] h Q E := by
  have e := R.main hm
  refine b_X8_longText_20 (e_I e fun (z1 : gI h x0 34 = sB rd.2.2) => ?_)
  rw [z1, sB_0]
  unfold r_cut at K
  constructor
  · intro hb
    rw [hb, if_neg (by decide)] at K
    exact ⟨⟨_, e⟩, t_bytes R hm hE (hx hb) fun n g1 h1 R1 L1 B1 => ⟨n, rfl, K n g1 h1 R1 L1 B1⟩⟩
  · intro hb
    rw [Bool.not_eq_false] at hb
    rw [hb, if_pos rfl] at K
    exact K _ g h (R.less (Nat.le_add_right _ _)) (gL.refl g) hE
theorem t_longText (R : tR s0 F (b + 36) s (dr, sz, rd, u) g h) (hm : g.kind x0 = (1, 0)) (hE : gB g (zst s0 "RelayHallModel" "EMPTY" "[B") [])
    (K : ∀ n g1 h1, tR s0 F b s (dr, sz, (r_long rd).2, u) g1 h1 → gL g g1 → gB g1 n (r_long rd).1 → Q (zr n) h1) : zX s0 m_X8_longText (d + 3) [zr x0] h Q E := by
  refine c_X8_longText ⟨⟨_, R.main hm⟩, t_u32 R hm fun h1 R1 => ⟨_, rfl, ?_⟩⟩
  unfold r_long at K
  revert R1 K
  generalize r_u32 rd = r
  intro K R1
  have h40 : (40 : Int32) = Int32.ofNat 40 := rfl
  rw [h40] at K ⊢
  by_cases h0 : r.1 < 0
  · rw [if_pos (Or.inl h0)] at K
    exact ⟨fun _ => b_X8_longText_15 (g_Bad R1 hm fun h2 R2 => t_long20 R2 hm hE (fun hn => nomatch (show true = false from hn)) K), fun hn => absurd h0 hn⟩
  · refine ⟨fun hn => absurd hn h0, fun _ => ?_⟩
    by_cases hr : r.1 ≤ Int32.ofNat 40
    · rw [if_neg (by rintro (e1 | e1); exact h0 e1; exact absurd hr (Int32.not_le.mpr e1))] at K
      exact ⟨fun _ => t_long20 R1 hm hE (fun _ => Nat.le_trans (i_clamp (by decide) hr) (by decide)) K, fun hn => absurd hr hn⟩
    · rw [if_pos (Or.inr (Int32.not_le.mp hr))] at K
      exact ⟨fun hn => absurd hn hr, fun _ => b_X8_longText_15 (g_Bad R1 hm fun h2 R2 => t_long20 R2 hm hE (fun hn => nomatch (show true = false from hn)) K)⟩
theorem t_whole (R : tR s0 F b s (dr, sz, rd, u) g h) (hm : g.kind x0 = (1, 0)) (K : Q (.int (sB (r_whole rd))) h) : zX s0 m_X8_whole d [zr x0] h Q E := by
  have e := R.main hm
  obtain ⟨A, hat⟩ : gAr g 16 0 400 (vB rd.1) ∧ rd.2.1 ≤ rd.1.length := R.2.frame
  have hl : rd.1.length ≤ 400 := by have := A.le; rwa [vB_len] at this
  refine c_X8_whole (e_I e fun (z1 : gI h x0 34 = sB rd.2.2) => ?_)
  rw [z1, sB_0]
  unfold r_whole at K
  constructor
  · intro hb
    rw [Bool.not_eq_false] at hb
    rw [hb] at K
    exact K
  · intro hb
    rw [hb] at K
    refine e_I e fun (z2 : gI h x0 31 = Int32.ofNat rd.2.1) => e_I e fun (z3 : gI h x0 30 = Int32.ofNat rd.1.length) => ?_
    rw [z2, z3, i_inj (by omega) (by omega)]
    constructor
    · intro hn
      rw [beq_false_of_ne hn] at K
      exact K
    · intro hn
      rw [beq_iff_eq.mpr hn] at K
      exact K
end BY
