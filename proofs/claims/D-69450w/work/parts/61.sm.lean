/-! ===== the twin: texts compared ===== -/
set_option maxRecDepth 100000
section SM
variable {s0 : zE} {F : Nat → Option zC} {b : Nat} {s s' : sSt} {w w' : tW} {g g' : sG} {h h' : zH} {d x0 x1 x2 i q m : Nat} {Q : Value → zH → Prop} {E : Nat → zH → Prop}
theorem t_same_l {a c : sBy} (R : tR s0 F b s w g h) (ha : gB g x0 a) (hc : gB g x1 c) (hl : a.length = c.length) (hs : a.length < 2147483648) (K : Q (.int (sB (a == c))) h) :
    ∀ (k j : Nat), a.length = j + k → (∀ n, n < j → a[n]? = c[n]?) → zP s0 m_X8_same d 30 [some (zr x0), some (zr x1), some (.int (Int32.ofNat j))] [] h Q E
  | k, j, hj, he => by
    have ea := R.fz ha
    have ec := R.fz hc
    refine b_X8_same_30 ⟨⟨_, ea⟩, ?_⟩
    rw [gA_of ea, vB_len, i_le (by omega) (by omega)]
    refine ⟨fun hle => ?_, fun hle => ?_⟩
    · have : a = c := List.ext_getElem? fun n => by
        by_cases hn : n < j
        · exact he n hn
        · rw [List.getElem?_eq_none (by omega), List.getElem?_eq_none (by omega)]
      rw [beq_iff_eq.mpr this] at K
      exact K
    · obtain ⟨k', rfl⟩ : ∃ k', k = k' + 1 := ⟨k - 1, by omega⟩
      obtain ⟨x, hx⟩ : ∃ x, a[j]? = some x := ⟨_, List.getElem?_eq_getElem (by omega)⟩
      obtain ⟨y, hy⟩ : ∃ y, c[j]? = some y := ⟨_, List.getElem?_eq_getElem (by omega)⟩
      refine g_EI (t := 0) ea (zin_of (by rw [vB_len]; omega) (by omega)) (by rw [i_nat (by omega)]; exact vB_get hx) fun z1 => ?_
      refine g_EI (t := 0) ec (zin_of (by rw [vB_len]; omega) (by omega)) (by rw [i_nat (by omega)]; exact vB_get hy) fun z2 => ?_
      rw [z1, z2, sx_inj, i_succ]
      constructor
      · intro e
        refine t_same_l R ha hc hl hs K k' (j + 1) (by omega) fun n hn => ?_
        by_cases hn2 : n < j
        · exact he n hn2
        · have en : n = j := by omega
          rw [en, hx, hy, e]
      · intro e
        have : a ≠ c := fun e2 => e (by
          rw [e2, hy] at hx
          cases hx
          rfl)
        rw [beq_false_of_ne this] at K
        exact K
theorem t_same {a c : Option sBy} (R : tR s0 F b s w g h) (ha : gBo g x0 a) (hc : gBo g x1 c) (hs : ∀ y, a = some y → y.length < 2147483648) (hs2 : ∀ y, c = some y → y.length < 2147483648) (K : Q (.int (sB (a == c))) h) : zX s0 m_X8_same d [zr x0, zr x1] h Q E := by
  cases a with
  | none =>
    have e0 : x0 = 0 := ha
    subst e0
    refine c_X8_same ⟨fun _ => b_X8_same_8 ⟨fun hne => ?_, fun he => ?_⟩, fun hn => absurd rfl hn⟩
    · cases c with
      | none => exact absurd (show (0 : Nat) = x1 from (show x1 = 0 from hc).symm) hne
      | some y => exact K
    · cases c with
      | none => exact K
      | some y => exact absurd he.symm (R.1.pos hc.1 (by decide))
  | some y =>
    have h0 : x0 ≠ 0 := R.1.pos ha.1 (by decide)
    refine c_X8_same ⟨fun hn => absurd hn h0, fun _ => ⟨fun h1 => ?_, fun h1 => b_X8_same_8 ⟨fun hne => ?_, fun he => ?_⟩⟩⟩
    · cases c with
      | none => exact absurd hc h1
      | some z =>
        have ea := R.fz ha
        have ec := R.fz hc
        refine ⟨⟨_, ea⟩, ⟨_, ec⟩, ?_⟩
        rw [gA_of ea, gA_of ec, vB_len, vB_len, i_inj (hs y rfl) (hs2 z rfl)]
        have hyz : (some y == some z) = (y == z) := rfl
        rw [hyz] at K
        refine ⟨fun hl => t_same_l R ha hc hl (hs y rfl) K y.length 0 (by omega) fun n hn => by omega, fun hl => ?_⟩
        have : y ≠ z := fun e => hl (by rw [e])
        rw [beq_false_of_ne this] at K
        exact K
    · cases c with
      | none => exact K
      | some z => exact absurd h1 (R.1.pos hc.1 (by decide))
    · exact absurd (he.trans h1) h0
end SM
