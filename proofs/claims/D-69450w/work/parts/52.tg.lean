/-! ===== the twin: records told, where the array grows ===== -/
set_option maxRecDepth 100000
section TG
variable {s0 : zE} {F : Nat → Option zC} {b : Nat} {s s' : sSt} {w w' : tW} {g g' : sG} {h h' : zH} {d x0 c0 i0 : Nat} {Q : Value → zH → Prop} {E : Nat → zH → Prop}
theorem i_mul2 (n : Nat) : 2 * Int32.ofNat n = Int32.ofNat (2 * n) := (Int32.ofNat_mul 2 n).symm
/-- the first m elements of one array go to another, element by element -/
def cpy (L M : List Value) : Nat → List Value
  | 0 => M
  | j + 1 => (cpy L M j).set j (L.getD j .null)
theorem cpy_len {L M : List Value} : ∀ j, (cpy L M j).length = M.length
  | 0 => rfl
  | j + 1 => by rw [cpy, List.length_set, cpy_len j]
theorem cpy_get {L M : List Value} : ∀ (j k : Nat), k < j → j ≤ M.length → (cpy L M j)[k]? = some (L.getD k .null)
  | 0, k, hk, _ => by omega
  | j + 1, k, hk, hj => by
    rw [cpy]
    by_cases e : k = j
    · subst e
      rw [List.getElem?_set_self (by rw [cpy_len]; omega)]
    · rw [List.getElem?_set_ne (by omega)]
      exact cpy_get j k (by omega) (by omega)
/-- the array (10, 0) of the facts is another from now on -/
def gFn (g : sG) (n : Nat) (L : List Value) (k : Nat) : sG :=
  (((((g.w_kind (fun m => if m = n then (10, 0) else if m = g.ref 10 0 then (0, 0) else g.kind m)).w_ref (fun c i => if c = 10 ∧ i = 0 then n else g.ref c i)).w_ar (fun c i => if c = 10 ∧ i = 0 then L else g.ar c i)).w_cr (g.cr - k))).w_cf (fun c i => if c = 10 ∧ i = 0 then g.cf 10 0 - k else g.cf c i)
theorem gFn.x {n k : Nat} {L : List Value} (hk : (g.kind n).1 = 0) (hA : gA1 g 10 0) : gX g (gFn g n L k) 10 0 := by
  refine ⟨fun c i h0 hne hc => ?_, fun c i hne => if_neg hne, fun c i hne => if_neg hne, fun m q hm => ?_, rfl⟩
  · show (if (if c = 10 ∧ i = 0 then n else g.ref c i) = n then _ else if (if c = 10 ∧ i = 0 then n else g.ref c i) = g.ref 10 0 then _ else g.kind (if c = 10 ∧ i = 0 then n else g.ref c i)) = _
    rw [if_neg hne, if_neg (fun e => by rw [← e, hc] at hk; exact h0 hk), if_neg (fun e => by
      rw [gA1, e, hA] at hc
      exact hne ⟨(congrArg Prod.fst hc).symm, (congrArg Prod.snd hc).symm⟩)]
    exact hc
  · refine ⟨?_, hm.2⟩
    show (if m = n then _ else if m = g.ref 10 0 then _ else g.kind m) = _
    rw [if_neg (fun e => by rw [← e, hm.1] at hk; cases hk), if_neg (fun e => by
      have := hm.1
      rw [e, hA] at this
      cases this)]
    exact hm.1
theorem gFn.l {n k : Nat} {L : List Value} (hk : (g.kind n).1 = 0) (hA : gA1 g 10 0) : gL g (gFn g n L k) := fun m hm => by
  refine ⟨?_, rfl⟩
  show (if m = n then _ else if m = g.ref 10 0 then _ else g.kind m) = _
  rw [if_neg (fun e => by
    rw [e, hk] at hm
    rcases hm with e | e | e | e | e <;> omega), if_neg (fun e => by
    rw [e, hA] at hm
    rcases hm with e | e | e | e | e <;> omega)]
theorem tG.fn {n k n' : Nat} {L : List Value} (G : tG s w g) (hk : (g.kind n).1 = 0) (hL : L.length = n') (h64 : 64 ≤ n' ∧ n' < 2000000) (hf : s.facts.length ≤ n') (hcf : 2 * s.facts.length ≤ n' + (g.cf 10 0 - k)) (hk2 : k ≤ g.cf 10 0) (hr : ∀ (j : Nat) f, s.facts[j]? = some f → ∃ r, L[j]? = some (zr r) ∧ gFa g r f) : tG s w (gFn g n L k) := by
  obtain ⟨⟨a1, a2, a3, a4, a5, a6, a7⟩, b2, b3, ⟨b4, n4, c4, d4, e4⟩, b5, b6, b7, b8, b9, b10, b11, b12⟩ := G
  have X : gX g (gFn g n L k) 10 0 := gFn.x hk e4.1
  have hkind : ∀ m, (gFn g n L k).kind m = (if m = n then (10, 0) else if m = g.ref 10 0 then (0, 0) else g.kind m) := fun m => rfl
  refine ⟨⟨X.1 1 0 (by decide) (by decide) a1, fun m i e => ?_, fun m => (X.2.1 40 m (by omega)).trans (a3 m), fun c hc => X.1 2 c (by decide) (by omega) (a4 c hc), fun j hj => X.1 3 j (by decide) (by omega) (a5 j hj), fun c i h1 h2 h3 => X.1 c i (by omega) (by omega) (a6 c i h1 h2 h3), fun c i m h1 h2 e => ?_⟩,
    X.gar (Or.inr (Or.inl rfl)) b2, X.gsc (Or.inr (Or.inl rfl)) b3, ⟨X.AF (by omega) (fun r x => X.De (by decide)) b4, n', h64, ?_, ?_, ?_, hf, fun j f hj => ?_⟩, X.gcn (Or.inr (Or.inl rfl)) b5, fun j hj => ?_, X.gex b7, X.gqu (Or.inr (Or.inl rfl)) b8, X.gbi b9, X.gco b10, X.gen b11, ?_⟩
  · rw [hkind] at e
    split at e
    · cases e
    · split at e
      · cases e
      · exact a2 m i e
  · rw [hkind] at e
    split at e
    · have := congrArg Prod.fst e
      simp only at this
      omega
    · split at e
      · have := congrArg Prod.fst e
        simp only at this
        omega
      · exact a7 c i m h1 h2 e
  · rw [show (gFn g n L k).cf 10 0 = g.cf 10 0 - k from rfl]
    exact hcf
  · have e : (gFn g n L k).ref 10 0 = n := rfl
    unfold gA1
    rw [e, hkind, if_pos rfl]
  · exact hL
  · obtain ⟨r, h1, h2⟩ := hr j f hj
    exact ⟨r, h1, X.Fa (by decide) h2⟩
  · obtain ⟨f1, f2, ⟨n5, f3, f4, f5⟩, f6, n6, pre, f7, f8, f9, f10⟩ := b6 j hj
    exact ⟨X.Bo f1, X.gun (Or.inr (Or.inl rfl)) f2, ⟨n5, f3, f4, X.Am (by omega) (by omega) f5⟩, X.AF (by omega) (fun r x => X.Ke (by decide)) f6, n6, pre, f7, f8, f9, X.Ar (by omega) f10⟩
  · show g.cf 10 0 - k + (s_hs.map (fun h => g.cf 28 h + g.cf 30 h)).sum ≤ g.cr - k
    unfold tGcr at b12
    omega
theorem tcell_fn {n k : Nat} {L : List Value} {c i : Nat} (hne : ¬ (c = 10 ∧ i = 0)) (hc : c ≠ 1) : tcell s w (gFn g n L k) c i = tcell s w g c i := by
  have hr : ∀ a j, ¬ (a = 10 ∧ j = 0) → (gFn g n L k).ref a j = g.ref a j := fun a j e => if_neg e
  have ho : ∀ a o, a ≠ 10 → gO (gFn g n L k) a o = gO g a o := fun a o e => by
    cases o with
    | none => rfl
    | some x => exact hr a x (by omega)
  unfold tcell
  split
  · exact absurd rfl hc
  · simp only [tCn, hr 25 _ (fun e => absurd e.1 (by decide)), hr 26 _ (fun e => absurd e.1 (by decide)), hr 27 _ (fun e => absurd e.1 (by decide))]
  · simp only [tCh, hr 2 _ (fun e => absurd e.1 (by decide)), hr 28 _ (fun e => absurd e.1 (by decide)), hr 29 _ (fun e => absurd e.1 (by decide)), hr 30 _ (fun e => absurd e.1 (by decide))]
    rfl
  · rfl
  · simp only [tQu, ho _ _ (show 2 ≠ 10 by decide), ho _ _ (show 35 ≠ 10 by decide), hr 31 _ (fun e => absurd e.1 (by decide))]
    rfl
  · simp only [tBi, hr 33 _ (fun e => absurd e.1 (by decide)), hr 32 _ (fun e => absurd e.1 (by decide))]
    rfl
  · simp only [tCo, hr 33 _ (fun e => absurd e.1 (by decide)), hr 3 _ (fun e => absurd e.1 (by decide))]
    rfl
  · simp only [tEn, hr 33 _ (fun e => absurd e.1 (by decide))]
    rfl
  · simp only [tSe, hr 36 _ (fun e => absurd e.1 (by decide)), ho _ _ (show 35 ≠ 10 by decide)]
  · simp only [tUn, hr 39 _ (fun e => absurd e.1 (by decide))]
    rfl
  · rfl
  · show (_, if _ then _ else _) = _
    rw [if_neg hne]
/-- the facts' array is replaced by another -/
theorem tR.fn {n k0 n' : Nat} {L : List Value} (H : gH s0 F (b + (g.cr - k0)) (tcell s w g) g h) (G : tG s w g) (hm : g.kind x0 = (1, 0)) (U : zUn s0 F g h n 1017 L) (hL : L.length = n') (h64 : 64 ≤ n' ∧ n' < 2000000) (hf : s.facts.length ≤ n') (hcf : 2 * s.facts.length ≤ n' + (g.cf 10 0 - k0)) (hk2 : k0 ≤ g.cf 10 0)
    (hr : ∀ (j : Nat) f, s.facts[j]? = some f → ∃ r, L[j]? = some (zr r) ∧ gFa g r f) : tR s0 F b s w (gFn g n L k0) (zput h x0 16 (zr n)) := by
  have A10 := G.2.2.2.1.2.choose_spec.2.2
  have hA := A10.1
  refine ⟨⟨fun m hm0 => ?_, fun m q hq => ?_, H.2.2⟩, G.fn U.1 hL h64 hf hcf hk2 hr⟩
  · have hkind : (gFn g n L k0).kind m = (if m = n then (10, 0) else if m = g.ref 10 0 then (0, 0) else g.kind m) := rfl
    have hnx : n ≠ x0 := U.ne (by rw [hm]; decide)
    by_cases e : m = n
    · subst e
      rw [hkind, if_pos rfl]
      refine ⟨?_, rfl, U.2.2.2.1, U.2.2.2.2.1, Or.inr U.2.2.2.2.2⟩
      rw [zput_ne hnx, U.2.2.1]
      rfl
    · by_cases e2 : m = g.ref 10 0
      · rw [hkind, if_neg e, if_pos e2] at hm0
        exact absurd rfl hm0
      · rw [hkind, if_neg e, if_neg e2] at hm0 ⊢
        obtain ⟨f1, f2, f3, f4, f5⟩ := H.1 m hm0
        have hne : ¬ ((g.kind m).1 = 10 ∧ (g.kind m).2 = 0) := fun e3 => e2 (by
          have e4 : g.kind m = (10, 0) := Prod.ext e3.1 e3.2
          exact (H.at e4 (by decide)).symm)
        refine ⟨?_, (if_neg hne).trans f2, f3, f4, f5⟩
        by_cases e5 : m = x0
        · subst e5
          rw [hm] at f1 ⊢
          have e6 : h.1 m = some (7, tMain s w g) := f1
          rw [zput_self e6]
          rfl
        · rw [zput_ne e5, f1, tcell_fn hne fun e6 => e5 (by
            have e7 : g.kind m = (1, 0) := Prod.ext e6 (G.1.2.1 m _ (Prod.ext e6 rfl))
            rw [← H.at e7 (by decide), H.at hm (by decide)])]
  · obtain ⟨f1, f2, f3⟩ := H.2.1 m q hq
    have hmn : m ≠ n := fun e => by rw [e, U.2.1] at hq; cases hq
    have hmx : m ≠ x0 := fun e => by rw [e, hm] at f2; cases f2
    refine ⟨by rw [zput_ne hmx]; exact f1, ?_, f3⟩
    show (if m = n then _ else if m = g.ref 10 0 then _ else g.kind m).1 = 0
    rw [if_neg hmn]
    split
    · rfl
    · exact f2
theorem zAsg_put {h : zH} {n k r : Nat} {v : Value} {ty : FieldType} (x : zAsg h r ty) : zAsg (zput h n k v) r ty := x.keep fun c fs e => by
  by_cases e1 : r = n
  · subst e1
    exact ⟨_, zput_self e⟩
  · exact ⟨fs, by rw [zput_ne e1]; exact e⟩
theorem t_tell26 {kd : Int32} {e q bb m n1 cap : Nat} {M : List Value} (G : tG s w g) (A : gArF g 10 0 cap gFa s.facts) (hm : g.kind x0 = (1, 0)) (hcap : cap < 2000000) (hM : s.facts.length ≤ M.length) (hM2 : M.length < 2147483648)
    (K : ∀ h1, gH s0 F b (tcell s w g) g h1 → zUn s0 F g h1 n1 1017 (cpy (g.ar 10 0) M s.facts.length) → zP s0 m_X8_tell (d + 1) 59 [some (zr x0), some (.int kd), some (zr e), some (zr q), some (zr bb), some (zr m), none, none] [] (zput h1 x0 16 (zr n1)) Q E) :
    ∀ (k j : Nat) (h : zH), s.facts.length = j + k → gH s0 F b (tcell s w g) g h → zUn s0 F g h n1 1017 (cpy (g.ar 10 0) M j) → zP s0 m_X8_tell (d + 1) 26 [some (zr x0), some (.int kd), some (zr e), some (zr q), some (zr bb), some (zr m), some (zr n1), some (.int (Int32.ofNat j))] [] h Q E
  | k, j, h, hj, H, U => by
    have ex : h.1 x0 = some (7, tMain s w g) := H.cell hm (by decide)
    have hle := A.2.2.1
    refine b_X8_tell_26 (e_I ex fun z1 => ⟨fun hl => ?_, fun hl => ?_⟩)
    · rw [z1, i_le (by omega) (by omega)] at hl
      have ej : j = s.facts.length := by omega
      subst ej
      exact g_C ex fun h1 e1 => by rw [e1]; exact K h H U
    · rw [z1, i_le (by omega) (by omega)] at hl
      obtain ⟨k', rfl⟩ : ∃ k', k = k' + 1 := ⟨k - 1, by omega⟩
      obtain ⟨r, hr, hF⟩ := A.2.2.2 j _ (List.getElem?_eq_getElem (by omega))
      have eA : h.1 (g.ref 10 0) = some (1000 + 17, g.ar 10 0) := H.cell A.1 (by decide)
      refine e_R ex fun z2 => ?_
      rw [z2]
      refine g_ER eA (zin_of (by rw [A.2.1]; omega) (by omega)) (by rw [i_nat (by omega)]; exact hr) fun z3 => ?_
      rw [z3]
      refine g_S (t := 17) U.2.2.1 U.2.2.2.2.2 (zin_of (by rw [cpy_len]; omega) (by omega)) ⟨Or.inr ?_, ?_⟩
      · obtain ⟨e1, e2, e3, e4, f1, f2⟩ := hF
        have := H.cell f1.1 (by decide)
        rw [show tcell s w g 40 r = g.frz r from rfl, f1.2] at this
        exact zAsg_own this zcl_31 rfl
      · rintro h2 rfl
        rw [i_nat (by omega), i_succ]
        refine t_tell26 G A hm hcap hM hM2 K k' (j + 1) _ (by omega) (H.putF U.1 U.2.1) ⟨U.1, U.2.1, ?_, U.2.2.2⟩
        rw [zput_self U.2.2.1, cpy, List.getD_eq_getElem?_getD, hr]
        rfl
/-- a record is told -/
theorem t_tell {kd : Int32} {e q bb m id : Nat} (R : tR s0 F (b + 3) s w g h) (hm : g.kind x0 = (1, 0)) (hcap : s.facts.length < 1000000)
    (hf : (kd = 0 ∨ kd = 1 → e = g.ref 32 id) ∧ (kd = 2 ∨ kd = 3 → q = g.ref 33 id) ∧ (kd = 4 ∨ kd = 5 → bb = g.ref 34 id) ∧ (kd = 6 ∨ kd = 7 → m = g.ref 36 id) ∧ 0 ≤ kd ∧ kd ≤ 7)
    (K : ∀ g1 h1, tR s0 F b (s_tell s kd id) w g1 h1 → gL g g1 → Q .null h1) : zX s0 m_X8_tell (d + 2) [zr x0, .int kd, zr e, zr q, zr bb, zr m] h Q E := by
  have G := R.2
  obtain ⟨-, n, h64, hcf, A⟩ := R.2.2.2.2.1
  have eA : h.1 (g.ref 10 0) = some (1000 + 17, g.ar 10 0) := R.1.cell A.1 (by decide)
  have hle := A.2.2.1
  refine c_X8_tell (e_I (R.main hm) fun z1 => e_R (R.main hm) fun z2 => ?_)
  rw [z1, z2, gA_of eA, A.2.1]
  refine ⟨⟨_, eA⟩, fun hne => ?_, fun heq => ?_⟩
  · rw [i_inj (by omega) (by omega)] at hne
    have R1 : tR s0 F (b + 1) s w (gCr g 10 0 2) h := tR.cred (u := 2) (Or.inl ⟨rfl, rfl⟩) R
    exact t_tell59 (n := n) R1 hm A (by omega) (by rw [gCr_self]; omega) h64 hf fun g1 h1 R2 L2 => K g1 h1 R2 (gL.cr.trans L2)
  · rw [i_inj (by omega) (by omega)] at heq
    refine e_I (R.main hm) fun z3 => ?_
    rw [i_mul2, i_nat (by omega)]
    refine ⟨i_nn (by omega), ?_⟩
    have hcr : n ≤ g.cr := by
      have := G.2.2.2.2.2.2.2.2.2.2.2
      unfold tGcr at this
      omega
    have H := R.1
    rw [show b + 3 + g.cr = b + 3 + (g.cr - n) + n by omega] at H
    obtain ⟨H1, hroom, k1, f1, -⟩ := H.znew (c := 1017) (fs := List.replicate (2 * s.facts.length) (zr 0)) (w := 2 * s.facts.length) (by omega) (by omega)
    refine ⟨hroom, ?_⟩
    rintro n1 rfl h1 rfl
    have U1 : zUn s0 F g (znew h 1017 (List.replicate (2 * s.facts.length) (zr 0)) (2 * s.facts.length)) h.2.1 1017 (cpy (g.ar 10 0) (List.replicate (2 * s.facts.length) (zr 0)) 0) := ⟨k1, f1, znew_self, by have := R.big; omega, Nat.lt_succ_self _, R.big⟩
    refine t_tell26 G A hm h64.2 (by simp; omega) (by simp; omega) (fun h2 H2 U2 => ?_) s.facts.length 0 _ (by omega) H1 U1
    have R3 := tR.fn (b := b + 3) (k0 := n) (n' := 2 * n) H2 G hm U2 (by rw [cpy_len, List.length_replicate]; omega) ⟨by omega, by omega⟩ (by omega) (by omega) (by omega) (fun j f hj => by
      obtain ⟨r, hr, hF⟩ := A.2.2.2 j f hj
      refine ⟨r, ?_, hF⟩
      rw [cpy_get _ j (List.getElem?_eq_some_iff.mp hj).1 (by simp; omega), List.getD_eq_getElem?_getD, hr]
      rfl)
    have L3 : gL g (gFn g h.2.1 (cpy (g.ar 10 0) (List.replicate (2 * s.facts.length) (zr 0)) s.facts.length) n) := gFn.l k1 A.1
    have R4 : tR s0 F (b + 1) s w (gCr (gFn g h.2.1 (cpy (g.ar 10 0) (List.replicate (2 * s.facts.length) (zr 0)) s.facts.length) n) 10 0 2) (zput h2 x0 16 (zr h.2.1)) := tR.cred (u := 2) (Or.inl ⟨rfl, rfl⟩) R3
    obtain ⟨-, n5, h65, hcf5, A5⟩ := R4.2.2.2.2.1
    have hn5 : n5 = 2 * n := by
      rw [← A5.2.1]
      show (cpy (g.ar 10 0) _ _).length = _
      rw [cpy_len, List.length_replicate]
      omega
    refine t_tell59 (n := n5) R4 (L3.m hm) A5 (by omega) (by rw [gCr_self]; omega) h65 ?_ fun g1 h1 R2 L2 => K g1 h1 R2 (L3.trans (gL.cr.trans L2))
    exact hf
end TG
