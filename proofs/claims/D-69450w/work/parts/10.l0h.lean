/-! ===== L0: rows over the heap ===== -/
set_option maxRecDepth 100000
theorem zcl_len : zcl.length = 71 := rfl
/-- a field by its entry in a class's pool: the classes of which the cell may be, its place -/
def zFw (own : String) (idx : Nat) (cs : List Nat) (k : Nat) : Prop :=
  ∃ ref name desc, (Cond.fieldLink own idx ref name desc ∈ lw_all ∨ ∃ host, Cond.fieldLinkNest own idx ref name desc host ∈ lw_tbl) ∧
    ∀ c ∈ cs, ∃ r : vw_C, zcl[c]? = some r ∧ k < r.2.2 ∧ (r.2.1 k).2.1 = name ∧ (r.2.1 k).2.2.1 = desc ∧ ((r.2.1 k).1 = ref ∨ Cond.sameField ref (r.2.1 k).1 name desc ∈ lw_all)
section ZH
variable {s0 : zE} {M : zM} {d pc : Nat} {ls : List (Option Value)} {st : List Value} {h : zH} {Q : Value → zH → Prop} {E : Nat → zH → Prop}
theorem z_getf {idx k : Nat} {cs : List Nat} (hf : zFw M.1.cls idx cs k) (hd : decode M.2.1 pc = .ok (.getfield idx, 3)) {n : Nat} {q : zC} (hn : h.1 n = some q) (hc : q.1 ∈ cs) {v : Value} (hv : q.2[k]? = some v)
    (K : zP s0 M d (pc + 3) ls (v :: st) h Q E) : zP s0 M d pc ls (zr n :: st) h Q E := by
  intro p l e R s m args below meth c H locs LS C hR h1 h2 hL
  have kk := K _ _ _ _ _ _ args below _ _ _ _ _ C hR h1 h2 hL
  obtain ⟨ref, name, desc, hlk, hcs⟩ := hf
  obtain ⟨r, hr, hk, rfl, rfl, hsame⟩ := hcs _ hc
  obtain ⟨a, cell, rfl, hcell, hvm1, -, -, hcase⟩ := (C.ro.at hR hn).1
  have hKn := zKU C.tt C.wm hr
  rcases hcase with ⟨r', hr', hlen, hcls, hsl⟩ | ⟨ty, h9, -⟩ | ⟨r9, h9, -⟩
  · cases hr.symm.trans hr'
    obtain ⟨cf, kf, fi, fd, hi, he⟩ := hKn.1 k hk
    obtain ⟨hfc, kC, hkC, -⟩ := hKn.2
    have hst := (u_facts hfc hkC (u_lays (ws := lw_all) (args := args) (fun w hw => C.tt.w hw C.wm) (zcl_ok _ (List.mem_of_getElem? hr)).1 hk) hi).1
    have hi2 : s.fieldFound? ref (r.2.1 k).2.1 (r.2.1 k).2.2.1 = some (cf, kf, fi, fd) := by
      rcases hsame with e | e
      · rw [← e]; exact hi
      · exact u_same (args := args) (C.tt.w e C.wm) _ hi
    have hslot : cell.slots[fd.slot]? = some v := by rw [he, hsl k hk]; exact hv
    rcases hlk with hlk | ⟨host, hlk⟩
    · exact W.getf C.1 C.2.1 C.own (C.tt.w hlk C.wm) hi2 hst hcell hvm1 hslot rfl rfl hd kk
    · exact va_Wgetf C.1 C.2.1 C.own (va_Nw.use rfl ((C.tt.nw hlk rfl).warmF C.wm)) hi2 hst hcell hvm1 hslot rfl rfl hd kk
  · have h71 := (List.getElem?_eq_some_iff.mp hr).1
    rw [zcl_len] at h71
    omega
  · have h71 := (List.getElem?_eq_some_iff.mp hr).1
    rw [zcl_len] at h71
    omega
end ZH
theorem zcases {c : Nat} {r : vw_C} (hr : zcl[c]? = some r) : c < 71 := by
  have := (List.getElem?_eq_some_iff.mp hr).1
  rw [zcl_len] at this
  exact this
/-- the plain reading of the heap -/
abbrev zE0 (s : State) : zE := (s, zR s)
theorem zAt.kept {s0 : State} {n : Nat} {q : zC} {H H' : Heap} (hA : zAt s0 n q H) (hq : H'[n - 1]? = H[n - 1]?) : zAt s0 n q H' := by
  obtain ⟨a, cell, rfl, h1, h2⟩ := hA
  exact ⟨a, cell, rfl, hq.trans h1, h2⟩
theorem zwt_put {s0 : State} {H H' : Heap} {a : Nat} {cell cell' : Cell} (hcell : H[a]? = some cell) (e1 : H'[a]? = some cell') (hsz : cell'.slots.size = cell.slots.size) (e2 : H'.size = H.size) (e3 : ∀ q, q ≠ a → H'[q]? = H[q]?) : zwt s0 H' = zwt s0 H := by
  unfold zwt
  congr 1
  apply List.ext_getElem?
  intro i
  rw [List.getElem?_map, List.getElem?_map, List.getElem?_drop, List.getElem?_drop, Array.getElem?_toList, Array.getElem?_toList]
  by_cases h : s0.heap.size + i = a
  · rw [h, hcell, e1]
    simp [hsz]
  · rw [e3 _ h]
theorem zwt_new {s0 : State} {H H' : Heap} {cell : Cell} (e1 : H'[H.size]? = some cell) (e2 : H'.size = H.size + 1) (e3 : ∀ q, q < H.size → H'[q]? = H[q]?) (hlo : s0.heap.size ≤ H.size) : zwt s0 H' = zwt s0 H + cell.slots.size := by
  have e : H'.toList = H.toList ++ [cell] := by
    apply List.ext_getElem?
    intro i
    rw [Array.getElem?_toList]
    rcases Nat.lt_trichotomy i H.size with h | h | h
    · rw [e3 i h, List.getElem?_append_left (by simpa using h), Array.getElem?_toList]
    · subst h
      rw [e1, List.getElem?_append_right (by simp)]
      simp
    · rw [Array.getElem?_eq_none (by omega), List.getElem?_eq_none (by simp; omega)]
  unfold zwt
  rw [e, List.drop_append_of_le_length (by simpa using hlo)]
  simp
theorem zR.put {s0 : State} {h h' : zH} {H H' : Heap} {a : Nat} {cell cell' : Cell} (hR : zR s0 h H) (hlo : s0.heap.size ≤ a) (hcell : H[a]? = some cell) (e1 : H'[a]? = some cell') (hsz : cell'.slots.size = cell.slots.size) (e2 : H'.size = H.size) (e3 : ∀ q, q ≠ a → H'[q]? = H[q]?)
    (h2 : h'.2 = h.2) (hh : ∀ n q, h'.1 n = some q → (n ≠ a + 1 ∧ h.1 n = some q) ∨ (n = a + 1 ∧ zAt s0 (a + 1) q H')) : zR s0 h' H' := by
  obtain ⟨r1, r2, r3, r4, r5, r6, r7, r8⟩ := hR
  refine ⟨by rw [e2, h2]; exact r1, by rw [e2]; exact r2, fun x hx => by rw [e3 x (by omega)]; exact r3 x hx, by rw [zwt_put hcell e1 hsz e2 e3, h2]; exact r4, fun n q hn => ?_, fun n q hn hle => ?_, by rw [h2]; exact r7, by rw [h2]; exact r8⟩
  · rcases hh n q hn with ⟨hne, ho⟩ | ⟨rfl, hz⟩
    · refine (r5 n q ho).kept (e3 _ fun e => hne ?_)
      obtain ⟨b, -, rfl, -⟩ := r5 n q ho
      omega
    · exact hz
  · rcases hh n q hn with ⟨hne, ho⟩ | ⟨rfl, hz⟩
    · exact r6 n q ho hle
    · omega
/-- what a field may be written with -/
def zFit (c k : Nat) (v : Value) : Prop := ∃ r ty, zcl[c]? = some r ∧ parseFieldDescriptor (r.2.1 k).2.2.1 = some ty ∧ narrow ty v = v ∧ fits ty v = true
/-- a final field is written in its class's constructor alone -/
def zFin (y : MethodName) (idx c k : Nat) : Prop := ∃ r, zcl[c]? = some r ∧ ((r.2.1 k).2.2.2 = false ∨ ((r.2.1 k).2.2.2 = true ∧ y.name = "<init>" ∧ (r.2.1 k).1 = y.cls ∧ Cond.fieldLink y.cls idx y.cls (r.2.1 k).2.1 (r.2.1 k).2.2.1 ∈ lw_all))
section ZH2
variable {s0 : zE} {M : zM} {d pc : Nat} {ls : List (Option Value)} {st : List Value} {h : zH} {Q : Value → zH → Prop} {E : Nat → zH → Prop}
theorem z_putf {idx k : Nat} {cs : List Nat} (hf : zFw M.1.cls idx cs k) (hd : decode M.2.1 pc = .ok (.putfield idx, 3)) {n : Nat} {q : zC} (hn : h.1 n = some q) (hc : q.1 ∈ cs) (hnew : zold q.1 = false ∨ s0.1.heap.size < n) {v : Value} (hfin : zFin M.1 idx q.1 k) (hfit : zFit q.1 k v)
    (K : zP s0 M d (pc + 3) ls st (zput h n k v) Q E) : zP s0 M d pc ls (v :: zr n :: st) h Q E := by
  intro p l e R s m args below meth c H locs LS C hR h1 h2 hL
  obtain ⟨ref, name, desc, hlk, hcs⟩ := hf
  obtain ⟨r, hr, hk, rfl, rfl, hsame⟩ := hcs _ hc
  obtain ⟨a, cell, rfl, hcell, hvm1, hvm2, hvm3, hcase⟩ := (C.ro.at hR hn).1
  have hKn := zKU C.tt C.wm hr
  have hlo : s0.1.heap.size ≤ a := by
    rcases hnew with e | e
    · by_cases hx : a + 1 ≤ s0.1.heap.size
      · have := (C.ro.at hR hn).2 hx
        rw [e] at this
        cases this
      · omega
    · omega
  have hvm := hvm3 hlo
  obtain ⟨r2, ty, hr2, hty, hnar, hfits⟩ := hfit
  cases hr.symm.trans hr2
  obtain ⟨r3, hr3, hfin⟩ := hfin
  cases hr.symm.trans hr3
  have hok := zcl_ok _ (List.mem_of_getElem? hr)
  have hts : ∀ w ∈ lw_all, w.before args s = true := fun w hw => C.tt.w hw C.wm
  rcases hcase with ⟨r', hr', hlen, hcls, hsl⟩ | ⟨ty, h9, -⟩ | ⟨r9, h9, -⟩
  · cases hr.symm.trans hr'
    obtain ⟨cf, kf, fi, fd, hi, he⟩ := hKn.1 k hk
    have hap : ∀ a b, a < r.2.2 → b < r.2.2 → a ≠ b → (zD s0.1).2 q.1 a ≠ (zD s0.1).2 q.1 b := by
      obtain ⟨hS, -⟩ := hKn
      intro x y hx hy hxy
      obtain ⟨cf1, kf1, fi1, fd1, hi1, he1⟩ := hS x hx
      obtain ⟨cf2, kf2, fi2, fd2, hi2, he2⟩ := hS y hy
      rw [← he1, ← he2]
      refine u_apart (args := args) (u_lays hts hok.1 hx) (u_lays hts hok.1 hy) hi1 hi2 ?_
      obtain ⟨ty1, ht1⟩ := hok.2.2.2.2 x hx
      obtain ⟨ty2, ht2⟩ := hok.2.2.2.2 y hy
      rw [(State.fieldFound?_type hi1 ht1).1, (State.fieldFound?_type hi2 ht2).1]
      exact hok.2.2.2.1 x hx y hy hxy
    obtain ⟨hfc, kC, hkC, hkind⟩ := hKn.2
    have hlays := u_lays hts hok.1 hk
    have hst := (u_facts hfc hkC hlays hi).1
    have hi2 : s.fieldFound? ref (r.2.1 k).2.1 (r.2.1 k).2.2.1 = some (cf, kf, fi, fd) := by
      rcases hsame with e | e
      · rw [← e]; exact hi
      · exact u_same (args := args) (C.tt.w e C.wm) _ hi
    have hkl : k < q.2.length := by rw [hlen]; exact hk
    have hq : cell.slots[fd.slot]? = some (q.2[k]) := by rw [he, hsl k hk]; exact List.getElem?_eq_getElem hkl
    have hlt : fd.slot < cell.slots.size := (Array.getElem?_eq_some_iff.mp hq).1
    have fin : ∀ H' : Heap, H'[a]? = some (cell.setSlot fd.slot v) → H'.size = H.size → (∀ q, q ≠ a → H'[q]? = H[q]?) →
        W p l e R s m args below meth c H' (locs ++ [⟨a, fd.slot⟩]) (H.size - s.heap.size) (zwt s0.1 H - zwt s0.1 s.heap) (vx_MQ below (zQc s0 M.2.2.2.1 Q) (zXc s0 E) args s R.cells R.slots (fun a => s0.1.heap.size ≤ a)) (F0 m (pc + 3) LS st) := by
      intro H' e1 e2 e3
      have hsz : (cell.setSlot fd.slot v).slots.size = cell.slots.size := by simp [Cell.setSlot]
      have hw : zwt s0.1 H' = zwt s0.1 H := zwt_put hcell e1 hsz e2 e3
      have hR' : s0.2 (zput h (a + 1) k v) H' := by
        refine C.ro.2.2.1 h H H' q k v a cell _ hR hn (by have := (List.getElem?_eq_some_iff.mp hr).1; rw [zcl_len] at this; show q.1 < 2000; omega) hlo hcell e1 hsz e2 e3 ?_
        refine ⟨a, _, rfl, e1, hvm1, hvm2, hvm3, Or.inl ⟨r, hr, by rw [List.length_set]; exact hlen, hcls, fun j hj => ?_⟩⟩
        by_cases hjk : j = k
        · subst hjk
          show (cell.setSlot fd.slot v).slots[_]? = _
          rw [← he, List.getElem?_set_self hkl]
          simp [Cell.setSlot, hlt]
        · have hne := hap j k hj hk hjk
          rw [← he] at hne
          show (cell.setSlot fd.slot v).slots[_]? = (q.2.set k v)[j]?
          rw [List.getElem?_set_ne (fun z => hjk z.symm), ← hsl j hj]
          simp only [Cell.setSlot]
          rw [Array.getElem?_setIfInBounds_ne (fun z => hne z.symm)]
      have kk := K p l e R s m args below meth c H' (locs ++ [⟨a, fd.slot⟩]) LS C hR' ⟨by omega, by omega⟩ (fun z hz => by
        rcases List.mem_append.mp hz with hz | hz
        · exact h2 z hz
        · rw [List.mem_singleton.mp hz]; exact hlo) hL
      rw [e2, hw] at kk
      exact kk
    rcases hfin with hfin | ⟨hfin, hin, hdecl, hdir⟩
    · have hlay := hts _ (hok.1 _ (u_in_lay hk))
      unfold u_lay at hlay
      rw [if_neg (by rw [hfin]; decide)] at hlay
      have h6 := u_store hfc hkC hkind hlay hi hty hnar hfits
      rcases hlk with hlk | ⟨host, hlk⟩
      · exact W.putK C.1 C.2.1 (f := fd) ⟨C.own, C.tt.w hlk C.wm, ⟨_, _, _, hi2⟩, hst⟩ (by rw [hcls]; exact h6) hcell hvm hlt rfl rfl hd fin
      · exact va_WputK C.1 C.2.1 C.own (va_Nw.use rfl ((C.tt.nw hlk rfl).warmF C.wm)) hi2 hst (by rw [hcls]; exact h6) hcell hvm hlt rfl rfl hd fin
    · have hlay := hts _ (hok.1 _ (u_in_lay hk))
      unfold u_lay at hlay
      rw [if_pos hfin] at hlay
      have hcf : m.cls = cf := by
        obtain ⟨_, _, c', _, _, _, -, -, hf', -, -, -, hown2, -⟩ := Cond.laysFinal_spec hlay
        have e1 : c' = cf := by have := hi.symm.trans hf'; simp at this; exact this.1.symm
        rw [hdecl] at hown2
        rw [← e1]; exact Option.some.inj (C.own.symm.trans hown2)
      have h6 := u_fits hfc hkC hkind (Or.inr hlay) hi hty hnar hfits
      exact W.putFinK C.1 C.2.1 C.own (C.tt.w hdir C.wm) (by rw [← hdecl]; exact hi) hst hcf (by rw [C.2.2.2.2.2.2.1]; exact hin) (by rw [hcls]; exact h6) hcell hvm hlt rfl rfl hd fin
  · have h71 := (List.getElem?_eq_some_iff.mp hr).1
    rw [zcl_len] at h71
    omega
  · have h71 := (List.getElem?_eq_some_iff.mp hr).1
    rw [zcl_len] at h71
    omega
end ZH2
theorem zR.fresh {s0 : State} {h : zH} {H : Heap} (hR : zR s0 h H) : ∀ n q, h.1 n = some q → n < h.2.1 := by
  intro n q hn
  obtain ⟨a, cell, rfl, hc, -⟩ := hR.2.2.2.2.1 n q hn
  have := (Array.getElem?_eq_some_iff.mp hc).1
  have := hR.1
  omega
theorem zR.new {s0 : State} {h : zH} {H H' : Heap} {cell : Cell} {c : Nat} {fs : List Value} {w : Nat} (hR : zR s0 h H) (hroom : h.2.1 ≤ s0.heap.size + 953997 ∧ h.2.2 + w ≤ 6224387) (e1 : H'[H.size]? = some cell) (e2 : H'.size = H.size + 1) (e3 : ∀ q, q < H.size → H'[q]? = H[q]?) (hw : cell.slots.size = w)
    (hz : zAt s0 h.2.1 (c, fs) H') : zR s0 (znew h c fs w) H' := by
  have hfr := hR.fresh
  obtain ⟨r1, r2, r3, r4, r5, r6, r7, r8⟩ := hR
  refine ⟨by rw [e2, r1]; rfl, by omega, fun x hx => by rw [e3 x (by omega)]; exact r3 x hx, by rw [zwt_new e1 e2 e3 r2, r4, hw]; rfl, fun n q hn => ?_, fun n q hn hle => ?_, Nat.succ_le_succ hroom.1, hroom.2⟩
  · by_cases hx : n = h.2.1
    · subst hx
      rw [znew_self] at hn
      cases hn
      exact hz
    · rw [znew_ne hx] at hn
      have := hfr n q hn
      obtain ⟨b, cb, rfl, h1, -⟩ := r5 n q hn
      exact (r5 _ q hn).kept (e3 _ (by omega))
  · by_cases hx : n = h.2.1
    · omega
    · rw [znew_ne hx] at hn
      exact r6 n q hn hle
theorem zRO0 (s : State) : zRO (zE0 s) := by
  refine ⟨fun h H hR => ⟨hR.1, hR.2.1, hR.2.2.1, hR.2.2.2.1, hR.2.2.2.2.2.2⟩, fun h H n q hR hn => ⟨hR.2.2.2.2.1 n q hn, hR.2.2.2.2.2.1 n q hn⟩, ?_, ?_⟩
  · intro h H H' q k v a cell cell' hR hn hp hlo hcell e1 hsz e2 e3 hz
    refine hR.put hlo hcell e1 hsz e2 e3 rfl fun n q' hn' => ?_
    by_cases hna : n = a + 1
    · subst hna
      rw [zput_self (c := q.1) (fs := q.2) hn] at hn'
      cases hn'
      exact Or.inr ⟨rfl, hz⟩
    · rw [zput_ne hna] at hn'
      exact Or.inl ⟨hna, hn'⟩
  · intro h H H' cell c fs w hR hroom hp e1 e2 e3 hw hz
    exact hR.new hroom e1 e2 e3 hw hz
section ZH3
variable {s0 : zE} {M : zM} {d pc : Nat} {ls : List (Option Value)} {st : List Value} {h : zH} {Q : Value → zH → Prop} {E : Nat → zH → Prop}
/-- 'new' of the class c of zcl: fs its defaults, w its slots -/
theorem z_new {idx c w : Nat} {r : vw_C} {fs : List Value} (hr : zcl[c]? = some r) (hl : Cond.classLink M.1.cls idx r.1 ∈ lw_all) (hw : Cond.instantiable r.1 w ∈ lw_all) (hlen : fs.length = r.2.2) (hfs : ∀ k, k < r.2.2 → ∃ ty, parseFieldDescriptor (r.2.1 k).2.2.1 = some ty ∧ fs[k]? = some (defaultValue ty))
    (hd : decode M.2.1 pc = .ok (.new idx, 3)) (hroom : zroom s0 h w) (K : zP s0 M d (pc + 3) ls (zr h.2.1 :: st) (znew h c fs w) Q E) : zP s0 M d pc ls st h Q E := by
  intro p l e R s m args below meth cd H locs LS C hR h1 h2 hL
  have hKn := zKU C.tt C.wm hr
  have hts : ∀ w ∈ lw_all, w.before args s = true := fun w hw => C.tt.w hw C.wm
  have hok := zcl_ok _ (List.mem_of_getElem? hr)
  obtain ⟨-, -, -, -, -, -, -, -, -, -, -, -, b1, b2, b3, b4⟩ := id C
  have e1 := (C.ro.sz hR).1
  have e4 := (C.ro.sz hR).2.2.2.1
  refine W.newcK C.1 C.2.1 C.own (hts _ hl) (hts _ hw) (hts _ hok.2.2.1) rfl hd (by have := hroom.1; omega) (by have := hroom.2; omega) hKn.2.1 rfl fun H' kC hkC f1 f2 f3 => ?_
  have hn : kC.instanceTypes.size = w := by
    obtain ⟨c1, k1, g1, g2, -, -, -, g3⟩ := Cond.instantiable_spec (hts _ hw)
    cases g1.symm.trans hKn.2.1
    cases g2.symm.trans hkC
    exact g3
  have hz : zAt s0.1 h.2.1 (c, fs) H' := by
    refine ⟨H.size, _, e1.symm, f1, (fun z => by cases z), (fun z q => by cases q), fun _ => rfl, Or.inl ⟨r, hr, hlen, rfl, fun k hk => ?_⟩⟩
    obtain ⟨cf, kf, fi, fd, hi, he⟩ := hKn.1 k hk
    have h3 := (u_facts hKn.2.1 hkC (u_lays hts hok.1 hk) hi).2.2
    obtain ⟨ty, ht1, ht2⟩ := hfs k hk
    rw [(State.fieldFound?_type hi ht1).2] at h3
    rw [← he, ht2]
    exact k2_blank h3
  have hR' := C.ro.2.2.2 h H H' _ c fs w hR hroom (by have := (List.getElem?_eq_some_iff.mp hr).1; rw [zcl_len] at this; show c < 2000; omega) f1 f2 f3 (by simp [blank, hn]) hz
  have kk := K p l e R s m args below meth cd H' locs LS C hR' ⟨by omega, by have := (C.ro.sz hR').2.2.2.1; simp only [znew] at this; omega⟩ h2 hL
  have hx : zr h.2.1 = .ref H.size := by rw [← e1]; rfl
  rw [hx] at kk
  exact zW.tight b4.2.1 kk
end ZH3
