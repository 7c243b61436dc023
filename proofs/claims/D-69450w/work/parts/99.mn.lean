/-! ===== the twin: names with numbers ===== -/
set_option maxRecDepth 100000
section MN
variable {s0 : zE} {F : Nat → Option zC} {b : Nat} {s s' s1 : sSt} {w w' w1 w2 : tW} {g g' g0 : sG} {h h' : zH} {d x0 x1 x3 k n n1 m : Nat} {Q : Value → zH → Prop} {E : Nat → zH → Prop} {x : String}
theorem digit_b {n : Nat} (h : n < 10) : UInt8.ofNat (Nat.digitChar n).toNat = UInt8.ofNat (48 + n) := by
  have hh : ∀ d : Fin 10, UInt8.ofNat (Nat.digitChar d.val).toNat = UInt8.ofNat (48 + d.val) := by decide
  exact hh ⟨n, h⟩
theorem sd_eq : s_digits n = (Nat.toDigits 10 n).map (fun c => UInt8.ofNat c.toNat) := by
  unfold s_digits
  rw [show (toString n).toList = Nat.toDigits 10 n from Nat.toList_repr]
theorem sd_lt (h : n < 10) : s_digits n = [UInt8.ofNat (48 + n)] := by
  rw [sd_eq, Nat.toDigits_of_lt_base h]
  exact congrArg (fun z => [z]) (digit_b h)
theorem sd_ge (h : 10 ≤ n) : s_digits n = s_digits (n / 10) ++ [UInt8.ofNat (48 + n % 10)] := by
  rw [sd_eq, sd_eq, Nat.toDigits_of_base_le (by decide) h, List.map_append]
  exact congrArg (fun z => _ ++ [z]) (digit_b (Nat.mod_lt _ (by decide)))
theorem sd_pos : 1 ≤ (s_digits n).length := by
  by_cases h : n < 10
  · rw [sd_lt h]
    exact Nat.le_refl _
  · rw [sd_ge (by omega), List.length_append]
    exact Nat.le_add_left _ _
theorem sd_len : ∀ (k n : Nat), n < 10 ^ (k + 1) → (s_digits n).length ≤ k + 1
  | 0, n, h => by
    rw [sd_lt (by omega)]
    exact Nat.le_refl _
  | k + 1, n, h => by
    by_cases hn : n < 10
    · rw [sd_lt hn]
      show 1 ≤ _
      omega
    · rw [sd_ge (by omega), List.length_append]
      have := sd_len k (n / 10) (by rw [Nat.pow_succ] at h; omega)
      show _ + 1 ≤ _
      omega
theorem rep_set {A C : List Value} {z v : Value} {L : Nat} : (A ++ (List.replicate (L + 1) z ++ C)).set (A.length + L) v = A ++ (List.replicate L z ++ (v :: C)) := by
  rw [List.set_append_right _ _ (by omega), Nat.add_sub_cancel_left, List.replicate_succ', List.append_assoc, List.set_append_right _ _ (by rw [List.length_replicate]; omega), List.length_replicate, Nat.sub_self]
  rfl
theorem lo_sx (y : UInt8) : lo8 (sx y) = y := by
  have h : ∀ n : Fin 256, lo8 (sx (UInt8.ofBitVec (BitVec.ofFin n))) = UInt8.ofBitVec (BitVec.ofFin n) := by decide +kernel
  exact h y.toBitVec.toFin
theorem lo_dig {d : Nat} (h : d < 10) : lo8 (Int32.ofNat (48 + d)) = UInt8.ofNat (48 + d) := by
  have hh : ∀ d : Fin 10, lo8 (Int32.ofNat (48 + d.val)) = UInt8.ofNat (48 + d.val) := by decide
  exact hh ⟨d, h⟩
theorem i_div10 {m : Nat} (h : m < 2147483648) : Int32.ofNat m / 10 = Int32.ofNat (m / 10) := (Int32.ofNat_div h (by decide)).symm
theorem t_num_68 (J : tJs s0 F) (hk : (k, x) ∈ tLits) (hx : s_txt x ≠ []) (hn : n < 10000000)
    (K : ∀ g1 h1, tR s0 F b s w g1 h1 → gL g g1 → gB g1 n1 (s_txt x ++ s_digits n) → Q (zr n1) h1) :
    ∀ (f m : Nat) (rest : sBy) (h : zH), m ≤ f → m < 10000000 → s_digits n = s_digits m ++ rest → tR s0 F b s w g h → zUn s0 F g h n1 1000 (vB (s_txt x) ++ (List.replicate (s_digits m).length (.int 0) ++ vB rest)) →
      zP s0 m_X8_numbered (d + 10) 68 [some (zr (zls s0 "RelayHallModel" k)), none, none, some (zr n1), some (.int (Int32.ofNat m)), some (.int (Int32.ofNat ((s_txt x).length + (s_digits m).length - 1)))] [] h Q E
  | f, m, rest, h, hf, hm, hd, R, U => by
    have hlit := R.lit J hk
    have hl := lit_len hk
    have hp := sd_pos (n := m)
    have hlen : (s_digits m).length ≤ 7 := sd_len 6 m hm
    have hx1 : 1 ≤ (s_txt x).length := List.length_pos_iff.mpr hx
    have hl2 : (s_txt x).length < 100 := by
      have : ∀ p ∈ tLits, (s_txt p.2).length < 100 := by decide
      exact this _ hk
    refine b_X8_numbered_68 ⟨⟨_, hlit⟩, J.1 _ (vB (s_txt x)) d h _ E hlit ⟨_, rfl, ?_⟩⟩
    rw [vB_len, i_lt (by omega) (by omega)]
    refine ⟨fun hh => absurd hh (by omega), fun _ => ?_⟩
    obtain ⟨L, hL⟩ : ∃ L, (s_digits m).length = L + 1 := ⟨(s_digits m).length - 1, by omega⟩
    rw [hL] at U
    have e1 : (s_txt x).length + (s_digits m).length - 1 = (s_txt x).length + L := by omega
    rw [e1]
    refine g_S (t := 0) U.2.2.1 U.2.2.2.2.2 (zin_of (by rw [List.length_append, List.length_append, vB_len, List.length_replicate]; omega) (by omega)) ?_
    rintro h2 rfl
    rw [i_nat (by omega), sx_lo2, show (10 : Int32) = Int32.ofNat 10 from rfl, i_mod (by omega) (by decide), show (48 : Int32) = Int32.ofNat 48 from rfl, i_add, lo_dig (Nat.mod_lt _ (by decide)), show (Int32.ofNat 10) = 10 from rfl, i_div10 (by omega), i_m1, i_pred (by omega)]
    have R2 := R.putF (k := (s_txt x).length + L) (v := .int (sx (UInt8.ofNat (48 + m % 10)))) U.1 U.2.1
    have U2 : zUn s0 F g (zput h n1 ((s_txt x).length + L) (.int (sx (UInt8.ofNat (48 + m % 10))))) n1 1000 (vB (s_txt x) ++ (List.replicate L (.int 0) ++ vB (UInt8.ofNat (48 + m % 10) :: rest))) := by
      refine ⟨U.1, U.2.1, ?_, U.2.2.2⟩
      rw [zput_self U.2.2.1]
      have := rep_set (A := vB (s_txt x)) (C := vB rest) (z := .int 0) (v := .int (sx (UInt8.ofNat (48 + m % 10)))) (L := L)
      rw [vB_len] at this
      rw [this]
      rfl
    by_cases h10 : m < 10
    · have hL0 : L = 0 := by
        rw [sd_lt h10] at hL
        simpa using hL
      subst hL0
      have hlit2 := R2.lit J hk
      refine b_X8_numbered_68 ⟨⟨_, hlit2⟩, J.1 _ (vB (s_txt x)) d _ _ E hlit2 ⟨_, rfl, ?_⟩⟩
      rw [vB_len, i_lt (by omega) (by omega)]
      refine ⟨fun _ => ?_, fun hh => absurd (by omega) hh⟩
      rw [List.replicate_zero, List.nil_append, ← vB_app] at U2
      have hfin : s_txt x ++ s_digits n = s_txt x ++ UInt8.ofNat (48 + m % 10) :: rest := by
        rw [hd, sd_lt h10, Nat.mod_eq_of_lt h10]
        rfl
      rw [hfin] at K
      exact K _ _ (R2.freeze U2) (gL.frz U2.1) gFz_F
    · have hge := sd_ge (n := m) (by omega)
      have hL1 : (s_digits (m / 10)).length = L := by
        rw [hge, List.length_append] at hL
        simpa using hL
      subst hL1
      cases f with
      | zero => exact absurd hf (by omega)
      | succ f => exact t_num_68 J hk hx hn K f (m / 10) (UInt8.ofNat (48 + m % 10) :: rest) _ (by omega) (by omega) (by rw [hd, hge, List.append_assoc]; rfl) R2 U2
theorem t_num_33 (J : tJs s0 F) (hk : (k, x) ∈ tLits) (hx : s_txt x ≠ []) (hn : n < 10000000)
    (K : ∀ g1 h1, tR s0 F b s w g1 h1 → gL g g1 → gB g1 n1 (s_txt x ++ s_digits n) → Q (zr n1) h1) :
    ∀ (r pre : sBy) (h : zH), s_txt x = pre ++ r → tR s0 F b s w g h → zUn s0 F g h n1 1000 (vB pre ++ List.replicate (r.length + (s_digits n).length) (.int 0)) →
      zP s0 m_X8_numbered (d + 10) 33 [some (zr (zls s0 "RelayHallModel" k)), some (.int (Int32.ofNat n)), none, some (zr n1), some (.int (Int32.ofNat pre.length)), none] [] h Q E
  | [], pre, h, hp, R, U => by
    have hlit := R.lit J hk
    have hl2 : (s_txt x).length < 100 := by
      have : ∀ p ∈ tLits, (s_txt p.2).length < 100 := by decide
      exact this _ hk
    have hlen : (s_digits n).length ≤ 7 := sd_len 6 n hn
    have hp : s_txt x = pre := by rw [hp, List.append_nil]
    subst hp
    rw [List.length_nil, Nat.zero_add] at U
    refine b_X8_numbered_33 ⟨⟨_, hlit⟩, J.1 _ (vB (s_txt x)) d h _ E hlit ⟨_, rfl, ?_⟩⟩
    rw [vB_len, i_le (by omega) (by omega)]
    refine ⟨fun _ => ⟨⟨_, U.2.2.1⟩, ?_⟩, fun hh => absurd (Nat.le_refl _) hh⟩
    have hsd := sd_pos (n := n)
    rw [gA_of U.2.2.1, List.length_append, vB_len, List.length_replicate, i_pred (by omega)]
    exact t_num_68 (d := d) J hk hx hn K n n [] h (Nat.le_refl _) hn (List.append_nil _).symm R (by
      show zUn s0 F g h n1 1000 (vB (s_txt x) ++ (List.replicate (s_digits n).length (.int 0) ++ []))
      rw [List.append_nil]
      exact U)
  | c :: r, pre, h, hp, R, U => by
    have hlit := R.lit J hk
    have hl2 : (s_txt x).length < 100 := by
      have : ∀ p ∈ tLits, (s_txt p.2).length < 100 := by decide
      exact this _ hk
    have hlen : (s_digits n).length ≤ 7 := sd_len 6 n hn
    have hpl : (s_txt x).length = pre.length + (r.length + 1) := by rw [hp, List.length_append]; rfl
    have hc : (vB (s_txt x))[pre.length]? = some (.int (sx c)) := vB_get (by rw [hp, List.getElem?_append_right (Nat.le_refl _), Nat.sub_self]; rfl)
    refine b_X8_numbered_33 ⟨⟨_, hlit⟩, J.1 _ (vB (s_txt x)) d h _ E hlit ⟨_, rfl, ?_⟩⟩
    rw [vB_len, i_le (by omega) (by omega)]
    refine ⟨fun hh => absurd hh (by omega), fun _ => ⟨⟨_, hlit⟩, J.2.1 _ (vB (s_txt x)) pre.length (sx c) d h _ E hlit (by omega) hc ⟨_, rfl, ?_⟩⟩⟩
    refine g_S (t := 0) U.2.2.1 U.2.2.2.2.2 (zin_of (by rw [List.length_append, vB_len, List.length_replicate]; show _ < _ + (r.length + 1 + _); omega) (by omega)) ?_
    rintro h2 rfl
    rw [i_nat (by omega), sx_lo2, lo_sx, i_succ]
    have e2 : (pre ++ [c]).length = pre.length + 1 := by rw [List.length_append]; rfl
    rw [← e2]
    refine t_num_33 J hk hx hn K r (pre ++ [c]) _ (by rw [hp, List.append_assoc]; rfl) (R.putF U.1 U.2.1) ⟨U.1, U.2.1, ?_, U.2.2.2⟩
    rw [zput_self U.2.2.1, List.set_append_right _ _ (by rw [vB_len]; omega), vB_len, Nat.sub_self]
    show some (1000, _ ++ (List.replicate (r.length + 1 + (s_digits n).length) (Value.int 0)).set 0 _) = _
    rw [show r.length + 1 + (s_digits n).length = (r.length + (s_digits n).length) + 1 by omega, List.replicate_succ, List.set_cons_zero, vB_app, List.append_assoc]
    rfl
theorem t_num_4 (J : tJs s0 F) (hk : (k, x) ∈ tLits) (hx : s_txt x ≠ []) (hn : n < 10000000) (R : tR s0 F (b + 18) s w g h)
    (K : ∀ n1 g1 h1, tR s0 F b s w g1 h1 → gL g g1 → gB g1 n1 (s_txt x ++ s_digits n) → Q (zr n1) h1) :
    ∀ (f m c : Nat), m ≤ f → m < 10000000 → c + (s_digits m).length = 1 + (s_digits n).length →
      zP s0 m_X8_numbered (d + 10) 4 [some (zr (zls s0 "RelayHallModel" k)), some (.int (Int32.ofNat n)), some (.int (Int32.ofNat c)), some (.int (Int32.ofNat m)), none, none] [] h Q E
  | f, m, c, hf, hm, hc => by
    have hlit := R.lit J hk
    have hl2 : (s_txt x).length < 100 := by
      have : ∀ p ∈ tLits, (s_txt p.2).length < 100 := by decide
      exact this _ hk
    have hlen : (s_digits n).length ≤ 7 := sd_len 6 n hn
    refine b_X8_numbered_4 ?_
    rw [show (9 : Int32) = Int32.ofNat 9 from rfl, i_le (by omega) (by decide), i_div10 (by omega), i_succ]
    refine ⟨fun h9 => ⟨⟨_, hlit⟩, J.1 _ (vB (s_txt x)) d h _ E hlit ⟨_, rfl, ?_⟩⟩, fun h9 => ?_⟩
    · rw [sd_lt (by omega)] at hc
      have hc : c = (s_digits n).length := by
        have : c + 1 = 1 + (s_digits n).length := hc
        omega
      subst hc
      rw [vB_len, i_add]
      refine ⟨i_nn (by omega), ?_⟩
      rw [i_nat (by omega)]
      refine g_N (u := 18) R (by decide) (by omega) R.big fun n1 h1 R1 U1 => ?_
      exact t_num_33 (d := d) J hk hx hn (K n1) (s_txt x) [] h1 rfl R1 U1
    · cases f with
      | zero => exact absurd hf (by omega)
      | succ f =>
        refine t_num_4 J hk hx hn R K f (m / 10) (c + 1) (by omega) (by omega) ?_
        rw [sd_ge (by omega), List.length_append] at hc
        have : c + ((s_digits (m / 10)).length + 1) = 1 + (s_digits n).length := hc
        omega
theorem t_numbered (J : tJs s0 F) (hk : (k, x) ∈ tLits) (hx : s_txt x ≠ []) (hn : n < 10000000) (R : tR s0 F (b + 18) s w g h)
    (K : ∀ n1 g1 h1, tR s0 F b s w g1 h1 → gL g g1 → gB g1 n1 (s_numbered x (Int32.ofNat n)) → Q (zr n1) h1) : zX s0 m_X8_numbered (d + 10) [zr (zls s0 "RelayHallModel" k), .int (Int32.ofNat n)] h Q E := by
  have e : s_numbered x (Int32.ofNat n) = s_txt x ++ s_digits n := by
    unfold s_numbered
    rw [i_nat (by omega)]
  rw [e] at K
  exact c_X8_numbered (t_num_4 (d := d) J hk hx hn R K n n 1 (Nat.le_refl _) hn rfl)
end MN
