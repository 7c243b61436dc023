/-! ===== lists shifted in arrays; loops over lists ===== -/
set_option maxRecDepth 100000
/-- m places, from i on, get what stands behind them -/
def shf : Nat → List Value → Nat → List Value
  | 0, L, _ => L
  | m + 1, L, i => shf m (L.set i (L.getD (i + 1) .null)) (i + 1)
theorem shf_len : ∀ (m : Nat) (L : List Value) (i : Nat), (shf m L i).length = L.length
  | 0, L, i => rfl
  | m + 1, L, i => by rw [shf, shf_len m, List.length_set]
theorem pre_set {xs L : List Value} (h : xs <+: L) {i : Nat} {v : Value} (hi : i < xs.length) : xs.set i v <+: L.set i v := by
  obtain ⟨t, rfl⟩ := h
  exact ⟨t, by rw [List.set_append_left _ _ hi]⟩
theorem shf_erase : ∀ (m : Nat) (L xs : List Value) (i : Nat), xs <+: L → xs.length = i + m + 1 → xs.eraseIdx i <+: shf m L i
  | 0, L, xs, i, h, hl => by
    have e : xs.eraseIdx i = xs.take i := by
      rw [List.eraseIdx_eq_take_drop_succ, List.drop_eq_nil_of_le (by omega), List.append_nil]
    rw [e]
    exact (List.take_prefix i xs).trans h
  | m + 1, L, xs, i, h, hl => by
    have hi : i + 1 < xs.length := by omega
    have hg : L.getD (i + 1) .null = xs[i + 1] := by
      obtain ⟨t, rfl⟩ := h
      rw [List.getD_eq_getElem?_getD, List.getElem?_append_left hi, List.getElem?_eq_getElem hi]
      rfl
    have := shf_erase m (L.set i (L.getD (i + 1) .null)) (xs.set i xs[i + 1]) (i + 1) (by rw [hg]; exact pre_set h (by omega)) (by rw [List.length_set]; omega)
    rw [shf]
    have e : xs.eraseIdx i = (xs.set i xs[i + 1]).eraseIdx (i + 1) := by
      apply List.ext_getElem?
      intro j
      rw [List.getElem?_eraseIdx, List.getElem?_eraseIdx]
      rcases Nat.lt_trichotomy j i with hj | hj | hj
      · rw [if_pos hj, if_pos (by omega), List.getElem?_set_ne (by omega)]
      · subst hj
        rw [if_neg (by omega), if_pos (by omega), List.getElem?_set_self (by omega), List.getElem?_eq_getElem hi]
      · rw [if_neg (by omega), if_neg (by omega), List.getElem?_set_ne (by omega)]
    rw [e]
    exact this
theorem pre_set_out {xs L : List Value} (h : xs <+: L) {n : Nat} {v : Value} (hn : xs.length ≤ n) : xs <+: L.set n v := by
  obtain ⟨t, rfl⟩ := h
  exact ⟨t.set (n - xs.length) v, by rw [List.set_append_right _ _ hn]⟩
/-- the first n elements can be stored in arrays of class C -/
def zGd (h : zH) (C : String) (L : List Value) (n : Nat) : Prop := ∀ j, j < n → ∃ r, L[j]? = some (zr r) ∧ (r = 0 ∨ zAsg h r (.object C))
section SH
variable {s0 : zE} {h : zH} {own oc ka kc arr t i n : Nat} {C : String} {fs L : List Value} {P : zH → Prop}
theorem sh_step (e : h.1 own = some (oc, fs)) (hka : fs[ka]? = some (zr arr)) (eA : h.1 arr = some (1000 + t, L)) (hnew : s0.1.heap.size < arr) (hi : i + 1 < n) (hn : n ≤ L.length) (hL : L.length < 2147483648) (G : zGd h C L n)
    (K : ∀ h', h'.2 = h.2 → (∀ m, m ≠ arr → h'.1 m = h.1 m) → h'.1 arr = some (1000 + t, L.set i (L.getD (i + 1) .null)) → P h') :
    fR h own [oc] ka ∧ (fR h own [oc] ka ∧ (fE h (gR h own ka) t (Int32.ofNat i + 1) (zr (eR h (gR h own ka) (Int32.ofNat i + 1))) ∧ (fS s0 h (gR h own ka) t (Int32.ofNat i) ∧ ((eR h (gR h own ka) (Int32.ofNat i + 1) = 0 ∨ zAsg h (eR h (gR h own ka) (Int32.ofNat i + 1)) (.object C)) ∧
      ∀ h2, h2 = zput h (gR h own ka) (Int32.ofNat i).toNatClampNeg (zr (eR h (gR h own ka) (Int32.ofNat i + 1))) → P h2)))) := by
  have e1 : gR h own ka = arr := gR_of e hka
  obtain ⟨r, hr, ha⟩ := G (i + 1) hi
  refine ⟨fR_of e m1 hka, fR_of e m1 hka, ?_⟩
  rw [e1, i_succ]
  refine g_ER eA (zin_of (by omega) (by omega)) (by rw [i_nat (by omega)]; exact hr) fun z => g_S eA hnew (zin_of (by omega) (by omega)) ?_
  rw [z, i_nat (by omega)]
  refine ⟨ha, ?_⟩
  rintro h2 rfl
  refine K _ rfl (fun m hm => zput_ne hm) ?_
  rw [zput_self eA, List.getD_eq_getElem?_getD, hr]
  rfl
theorem sh_fin {ty : FieldType} {k : Nat} (e : h.1 own = some (oc, fs)) (hka : fs[ka]? = some (zr arr)) (hkc : fs[kc]? = some (.int (Int32.ofNat k))) (eA : h.1 arr = some (1000 + t, L)) (hnew : s0.1.heap.size < arr) (hk : k < L.length) (hL : L.length < 2147483648)
    (K : ∀ h', h'.2 = h.2 → (∀ m, m ≠ arr → h'.1 m = h.1 m) → h'.1 arr = some (1000 + t, L.set k .null) → P h') :
    fR h own [oc] ka ∧ (fI h own [oc] kc ∧ (fS s0 h (gR h own ka) t (gI h own kc) ∧ ((0 = 0 ∨ zAsg h 0 ty) ∧ ∀ h1, h1 = zput h (gR h own ka) (gI h own kc).toNatClampNeg (zr 0) → P h1))) := by
  have e1 : gR h own ka = arr := gR_of e hka
  have e2 : gI h own kc = Int32.ofNat k := gI_of e hkc
  refine ⟨fR_of e m1 hka, fI_of e m1 hkc, ?_⟩
  rw [e1, e2]
  refine g_S eA hnew (zin_of (by omega) (by omega)) ⟨Or.inl rfl, ?_⟩
  rw [i_nat (by omega)]
  rintro h1 rfl
  exact K _ rfl (fun m hm => zput_ne hm) (zput_self eA)
theorem zGd.set {v : Value} (G : zGd h C L n) (hi : i + 1 < n) (hn : n ≤ L.length) : zGd h C (L.set i (L.getD (i + 1) .null)) n := fun j hj => by
  by_cases e : j = i
  · subst e
    obtain ⟨r, hr, ha⟩ := G (j + 1) hi
    refine ⟨r, ?_, ha⟩
    rw [List.getElem?_set_self (by omega), List.getD_eq_getElem?_getD, hr]
    rfl
  · rw [List.getElem?_set_ne (fun x => e x.symm)]
    exact G j hj
theorem zGd.mono {h' : zH} {k : Nat} (G : zGd h C L n) (hk : k ≤ n) (ha : ∀ r, (r = 0 ∨ zAsg h r (.object C)) → (r = 0 ∨ zAsg h' r (.object C))) : zGd h' C L k := fun j hj => by
  obtain ⟨r, hr, hx⟩ := G j (by omega)
  exact ⟨r, hr, ha r hx⟩
theorem zAsg.keep {h' : zH} {ty : FieldType} {r : Nat} (hh : ∀ c fs, h.1 r = some (c, fs) → ∃ fs', h'.1 r = some (c, fs')) (x : zAsg h r ty) : zAsg h' r ty := by
  obtain ⟨c, fs, e, x⟩ := x
  obtain ⟨fs', e'⟩ := hh c fs e
  exact ⟨c, fs', e', x⟩
theorem zAsg_own {r c : Nat} {fs : List Value} {q : vw_C} (e : h.1 r = some (c, fs)) (hq : zcl[c]? = some q) (hC : q.1 = C) : zAsg h r (.object C) := ⟨c, fs, e, Or.inl ⟨q, C, hq, rfl, Or.inl hC⟩⟩
/-- the loop that shifts: m places, from i on -/
theorem sh_loop {Z : Nat → zH → Prop} {FIN : zH → Prop} (hown : own ≠ arr) (hka : fs[ka]? = some (zr arr)) (hkc : fs[kc]? = some (.int (Int32.ofNat (n - 1)))) (hnew : s0.1.heap.size < arr)
    (hst : ∀ (i : Nat) (hk : zH), (fI hk own [oc] kc ∧ ((gI hk own kc ≤ Int32.ofNat i → FIN hk) ∧ (¬ gI hk own kc ≤ Int32.ofNat i → (fR hk own [oc] ka ∧ (fR hk own [oc] ka ∧ (fE hk (gR hk own ka) t (Int32.ofNat i + 1) (zr (eR hk (gR hk own ka) (Int32.ofNat i + 1))) ∧ (fS s0 hk (gR hk own ka) t (Int32.ofNat i) ∧
      ((eR hk (gR hk own ka) (Int32.ofNat i + 1) = 0 ∨ zAsg hk (eR hk (gR hk own ka) (Int32.ofNat i + 1)) (.object C)) ∧ ∀ h2, h2 = zput hk (gR hk own ka) (Int32.ofNat i).toNatClampNeg (zr (eR hk (gR hk own ka) (Int32.ofNat i + 1))) → Z (i + 1) h2)))))))) → Z i hk) :
    ∀ (m i : Nat) (hk : zH) (L : List Value), n = i + m + 1 → hk.1 own = some (oc, fs) → hk.1 arr = some (1000 + t, L) → n ≤ L.length → L.length < 2147483648 → zGd hk C L n →
      (∀ h', h'.2 = hk.2 → (∀ r, r ≠ arr → h'.1 r = hk.1 r) → h'.1 arr = some (1000 + t, shf m L i) → FIN h') → Z i hk
  | 0, i, hk, L, hi, e, eA, hn, hL, G, K => hst i hk (g_I e m1 hkc fun z => ⟨fun _ => K hk rfl (fun _ _ => rfl) eA, fun hlt => by
      rw [z, i_le (by omega) (by omega)] at hlt
      exact absurd (show n - 1 ≤ i by omega) hlt⟩)
  | m + 1, i, hk, L, hi, e, eA, hn, hL, G, K => hst i hk (g_I e m1 hkc fun z => ⟨fun hle => by
      rw [z, i_le (by omega) (by omega)] at hle
      omega, fun _ => sh_step e hka eA hnew (n := n) (by omega) hn hL G fun h' o1 o2 o3 => sh_loop hown hka hkc hnew hst m (i + 1) h' _ (by omega) (by rw [o2 _ hown]; exact e) o3 (by rw [List.length_set]; exact hn) (by rw [List.length_set]; exact hL)
        ((G.set (v := .null) (by omega) hn).mono (Nat.le_refl _) fun r hr => hr.imp id fun x => x.keep fun c fs' hc => by
          by_cases er : r = arr
          · subst er
            rw [eA] at hc
            cases hc
            exact ⟨_, o3⟩
          · exact ⟨fs', by rw [o2 _ er]; exact hc⟩) fun h2 p1 p2 p3 => K h2 (p1.trans o1) (fun r hr => (p2 r hr).trans (o2 r hr)) p3⟩)
end SH
