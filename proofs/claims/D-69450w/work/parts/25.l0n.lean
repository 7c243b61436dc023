/-! ===== L0: System.arraycopy ===== -/
set_option maxRecDepth 100000
/-- an array's content is replaced -/
def zblk (h : zH) (n : Nat) (ys : List Value) : zH := (fun x => if x = n then (h.1 n).map (fun q => (q.1, ys)) else h.1 x, h.2)
theorem zblk_self {h : zH} {n c : Nat} {fs ys : List Value} (hn : h.1 n = some (c, fs)) : (zblk h n ys).1 n = some (c, ys) := by simp [zblk, hn]
theorem zblk_ne {h : zH} {n x : Nat} {ys : List Value} (hx : x ≠ n) : (zblk h n ys).1 x = h.1 x := by simp [zblk, hx]
/-- k elements of xs from sp on, put into ys from dp on -/
def zspl (xs : List Value) (sp : Nat) (ys : List Value) (dp k : Nat) : List Value := ys.take dp ++ (xs.drop sp).take k ++ ys.drop (dp + k)
theorem zR_run {s0 : zE} (O : zRO s0) {a t : Nat} {ty : FieldType} (ht : zar[t]? = some ty) (hlo : s0.1.heap.size ≤ a) (at_ : Nat) : ∀ (vs : List (Value × Nat)) (h : zH) (H : Heap) (cl : Cell) (ys : List Value),
    s0.2 h H → h.1 (a + 1) = some (1000 + t, ys) → H[a]? = some cl → cl.vm ≠ .unknown → (∀ z, cl.vm ≠ .statics z) → (s0.1.heap.size ≤ a → cl.vm = .none) → cl.cls = zac s0.1 ty → cl.slots.toList = ys →
    ∃ h' : zH, s0.2 h' (H.setIfInBounds a (cl.storePairs at_ vs)) ∧ h'.2 = h.2 ∧ (∀ x, x ≠ a + 1 → h'.1 x = h.1 x) ∧ h'.1 (a + 1) = some (1000 + t, (cl.storePairs at_ vs).slots.toList)
  | [], h, H, cl, ys, hR, hn, hcell, v1, v2, v3, hcls, hxs => by
    refine ⟨h, ?_, rfl, fun _ _ => rfl, by rw [hn, ← hxs]; rfl⟩
    have e : H.setIfInBounds a (cl.storePairs at_ []) = H := by
      apply Array.ext_getElem?
      intro i
      rw [Array.getElem?_setIfInBounds]
      have hl := (Array.getElem?_eq_some_iff.mp hcell).1
      by_cases hi : a = i
      · subst hi
        rw [if_pos rfl, if_pos hl, hcell]
        rfl
      · rw [if_neg hi]
    rw [e]
    exact hR
  | q :: r, h, H, cl, ys, hR, hn, hcell, v1, v2, v3, hcls, hxs => by
    have hl := (Array.getElem?_eq_some_iff.mp hcell).1
    have hR1 : s0.2 (zput h (a + 1) (at_ + q.2) q.1) (H.setIfInBounds a (cl.setSlot (at_ + q.2) q.1)) :=
      zR_putA O hR ht hn hlo hcell v1 v2 v3 hcls hxs (by simp [Array.getElem?_setIfInBounds, hl]) (by simp) (fun z hz => by simp [Array.getElem?_setIfInBounds, Ne.symm hz])
    obtain ⟨h', k1, k2, k3, k4⟩ := zR_run O ht hlo at_ r (zput h (a + 1) (at_ + q.2) q.1) (H.setIfInBounds a (cl.setSlot (at_ + q.2) q.1)) (cl.setSlot (at_ + q.2) q.1) (ys.set (at_ + q.2) q.1)
      hR1 (zput_self hn) (by simp [Array.getElem?_setIfInBounds, hl]) v1 v2 v3 hcls (by rw [← hxs]; simp [Cell.setSlot])
    refine ⟨h', ?_, k2, fun x hx => (k3 x hx).trans (zput_ne hx), k4⟩
    have e : (H.setIfInBounds a (cl.setSlot (at_ + q.2) q.1)).setIfInBounds a ((cl.setSlot (at_ + q.2) q.1).storePairs at_ r) = H.setIfInBounds a (cl.storePairs at_ (q :: r)) := by
      simp [Array.setIfInBounds_setIfInBounds]
      rfl
    rw [← e]
    exact k1
/-- what System.arraycopy asks -/
def fCpy (s0 : zE) (h : zH) (n0 : Nat) (sp : Int32) (n1 : Nat) (dp k : Int32) : Prop :=
  ∃ t0 t1 ty0 ty1 xs ys, zar[t0]? = some ty0 ∧ zar[t1]? = some ty1 ∧ h.1 n0 = some (1000 + t0, xs) ∧ h.1 n1 = some (1000 + t1, ys) ∧ s0.1.heap.size < n1 ∧ ¬ sp < 0 ∧ ¬ dp < 0 ∧ ¬ k < 0 ∧ sp.toNatClampNeg + k.toNatClampNeg ≤ xs.length ∧ dp.toNatClampNeg + k.toNatClampNeg ≤ ys.length ∧
    ((refKind ty0 != refKind ty1) || (!refKind ty0 && ty0 != ty1)) = false ∧ ∀ i, i < k.toNatClampNeg → ∃ v, xs[sp.toNatClampNeg + i]? = some v ∧ fits ty1 v = true ∧ (refKind ty1 = true → ∃ m, v = zr m ∧ (m = 0 ∨ zAsg h m ty1))
theorem znn {z : Int32} (hz : ¬ z < 0) : z.toInt = (z.toNatClampNeg : Int) := by
  have hz0 : (0 : Int) ≤ z.toInt := by
    have := Int32.not_lt.mp hz
    simpa using Int32.le_iff_toInt_le.mp this
  show z.toInt = ((z.toInt.toNat : Nat) : Int)
  omega
theorem zcopied {cs cd : Cell} {xs ys : List Value} {sp dp k : Nat} (hx : cs.slots.toList = xs) (hy : cd.slots.toList = ys) (h1 : sp + k ≤ xs.length) (h2 : dp + k ≤ ys.length) : (cd.storeRun dp (cs.stretch sp k)).slots.toList = zspl xs sp ys dp k := by
  have hl : (cs.stretch sp k).length = k := by simp [Cell.stretch]
  have hcs : cs.slots.size = xs.length := by rw [← hx, Array.length_toList]
  have hcd : cd.slots.size = ys.length := by rw [← hy, Array.length_toList]
  apply List.ext_getElem?
  intro j
  rw [Array.getElem?_toList, Cell.storeRun_get _ _ _ _ (by rw [hl, hcd]; exact h2), hl]
  unfold zspl
  by_cases hj : dp ≤ j ∧ j < dp + k
  · rw [if_pos hj]
    have e1 : (List.take dp ys).length = dp := by rw [List.length_take]; omega
    have e2 : (List.take k (List.drop sp xs)).length = k := by rw [List.length_take, List.length_drop]; omega
    rw [List.getElem?_append_left (by rw [List.length_append]; omega), List.getElem?_append_right (by omega), e1, List.getElem?_take_of_lt (by omega), List.getElem?_drop]
    simp only [Cell.stretch]
    rw [List.getElem?_map, List.getElem?_range (by omega)]
    have h9 : sp + (j - dp) < cs.slots.size := by omega
    simp only [Option.map_some]
    rw [Array.getD_eq_getD_getElem?, Array.getElem?_eq_getElem h9, Option.getD_some, ← hx, Array.getElem?_toList, Array.getElem?_eq_getElem h9]
  · rw [if_neg hj, ← Array.getElem?_toList, hy]
    have e1 : (List.take dp ys).length = dp := by rw [List.length_take]; omega
    have e2 : (List.take k (List.drop sp xs)).length = k := by rw [List.length_take, List.length_drop]; omega
    by_cases h0 : j < dp
    · rw [List.append_assoc, List.getElem?_append_left (by omega), List.getElem?_take_of_lt h0]
    · rw [List.getElem?_append_right (by rw [List.length_append]; omega), List.length_append, e1, e2, List.getElem?_drop]
      congr 1
      omega
/-- a reference may be stored into an array of references -/
theorem zCx.takes {s0 : zE} {M : zM} {d : Nat} {h : zH} {p : Program} {l : Launch} {e : Env} {R : Room} {s : State} {m9 : MethodId} {meth : Method} {c : Code} {H : Heap} (C : zCx s0 M d p l e R s m9 meth c) (hR : s0.2 h H) {ty : FieldType} {comp : ClassId} {m : Nat}
    (k4 : ∀ C, ty = .object C → s.vm.findClass C = some comp) (k5 : ∀ t, ty = .array t → s.vm.findClass ty.toString = some comp) (hm : m = 0 ∨ zAsg h m ty) {U : State} (hU : U.heap = H) (hal : s.vm.Alike U.vm) : U.takes comp (zr m) := by
  rcases hm with rfl | ⟨cv, fv, hv, hcase⟩
  · exact trivial
  obtain ⟨b, cellv, rfl, w1, w2, w3, -, wc⟩ := (C.ro.at hR hv).1
  have hcomp : ∃ kc, s.vm.classes[comp]? = some kc := by
    rcases hcase with ⟨r, C1, hr, rfl, hcast⟩ | ⟨t2, ty2, rfl, ht2, rfl⟩
    · obtain ⟨kc, hk, -⟩ := Vm.findClass_spec (k4 _ rfl); exact ⟨kc, hk⟩
    · obtain ⟨kc, hk, -⟩ := Vm.findClass_spec (k5 _ rfl); exact ⟨kc, hk⟩
  obtain ⟨kc, hkc⟩ := hcomp
  have hasg : ∃ kv, s.vm.classes[cellv.cls]? = some kv ∧ s.vm.assignable cellv.cls comp = true := by
    rcases hcase with ⟨r, C1, hr, rfl, hcast⟩ | ⟨t2, ty2, rfl, ht2, rfl⟩
    · have hKn := zKU C.tt C.wm hr
      rcases wc with ⟨r', hr', -, wcls, -⟩ | ⟨ty', h9, -⟩ | ⟨r9, h9, -⟩
      · cases hr.symm.trans hr'
        obtain ⟨hfc, kC, hkC, -⟩ := hKn.2
        refine ⟨kC, by rw [wcls]; exact hkC, ?_⟩
        rcases hcast with rfl | hcast
        · cases hfc.symm.trans (k4 _ rfl)
          rw [wcls]
          exact zself _ _
        · obtain ⟨c1, t1, g1, g2, g3⟩ := Cond.castable_spec (va_Nw.use (A := #[]) rfl ((C.tt.nw hcast rfl).warmC C.wm))
          cases g1.symm.trans hfc
          cases g2.symm.trans (k4 _ rfl)
          rw [wcls]
          exact g3
      · have h71 := zcases hr
        omega
      · have h71 := zcases hr
        omega
    · obtain ⟨a', cell', e1, e2, -, -, -, wcls, -⟩ := zAt.arr ((C.ro.at hR hv).1) ht2
      cases e1
      cases w1.symm.trans e2
      obtain ⟨kv, compv, g1, g2, -⟩ := zar_obj C.tt C.wm ht2
      have e3 : s.vm.findClass ("[" ++ ty2.toString) = some comp := k5 ty2 rfl
      cases g1.symm.trans e3
      exact ⟨kv, by rw [wcls]; exact g2, by rw [wcls]; exact zself _ _⟩
  obtain ⟨kv, hkv, hinst⟩ := hasg
  obtain ⟨kc', hkc', -⟩ := hal.2.2 _ _ hkc
  obtain ⟨kv', hkv', -⟩ := hal.2.2 _ _ hkv
  exact ⟨cellv, by rw [hU]; exact w1, w3, ⟨kv', hkv'⟩, ⟨kc', hkc'⟩, by rw [hal.assignable]; exact hinst⟩
section ZN
variable {s0 : zE} {M : zM} {d pc idx : Nat} {ls : List (Option Value)} {st : List Value} {h : zH} {Q : Value → zH → Prop} {E : Nat → zH → Prop}
theorem z_arraycopy {n0 n1 : Nat} {sp dp k : Int32} (hl : Cond.methodLink M.1.cls idx arraycopyName ∈ lw_all) (hnat : Cond.native arraycopyName ∈ lw_all) (hstat : Cond.static arraycopyName ∈ lw_all) (hini : Cond.initialized "java/lang/System" ∈ lw_all)
    (hd : decode M.2.1 pc = .ok (.invokestatic idx, 3)) (hcat : (st.map fun v => v.category).sum ≤ 8) (g : fCpy s0 h n0 sp n1 dp k)
    (K : ∀ h1, h1 = zblk h n1 (zspl (gA h n0) sp.toNatClampNeg (gA h n1) dp.toNatClampNeg k.toNatClampNeg) → zP s0 M (d + 1) (pc + 3) ls st h1 Q E) : zP s0 M (d + 1) pc ls (.int k :: .int dp :: zr n1 :: .int sp :: zr n0 :: st) h Q E := by
  intro p l e R s m9 args below meth c H locs LS C hR h1 h2 hL
  obtain ⟨t0, t1, ty0, ty1, xs, ys, ht0, ht1, hn0, hn1, hnew, s1, s2, s3, s4, s5, hty, hel⟩ := g
  obtain ⟨a, cs, rfl, hcs, u1, u2, u3, ucls, uxs⟩ := zAt.arr ((C.ro.at hR hn0).1) ht0
  obtain ⟨b, cd, rfl, hcd, v1, v2, v3, vcls, vxs⟩ := zAt.arr ((C.ro.at hR hn1).1) ht1
  have hlo : s0.1.heap.size ≤ b := by omega
  obtain ⟨k0, comp0, -, j2, j3, -, -⟩ := zar_obj C.tt C.wm ht0
  obtain ⟨k1, comp1, i1, i2, i3, i4, i5⟩ := zar_obj C.tt C.wm ht1
  have hsx : cs.slots.size = xs.length := by rw [← uxs, Array.length_toList]
  have hsy : cd.slots.size = ys.length := by rw [← vxs, Array.length_toList]
  have gA0 : gA h (a + 1) = xs := by simp [gA, hn0]
  have gA1 : gA h (b + 1) = ys := by simp [gA, hn1]
  rw [gA0, gA1] at K
  have hsum := zcopied (sp := sp.toNatClampNeg) (dp := dp.toNatClampNeg) (k := k.toNatClampNeg) uxs vxs s4 s5
  obtain ⟨h', w1, w2, w3, w4⟩ := zR_run C.ro ht1 hlo dp.toNatClampNeg ((cs.stretch sp.toNatClampNeg k.toNatClampNeg).zipIdx) h H cd ys hR hn1 hcd v1 v2 v3 vcls vxs
  have eh : h' = zblk h (b + 1) (zspl xs sp.toNatClampNeg ys dp.toNatClampNeg k.toNatClampNeg) := by
    refine Prod.ext (funext fun x => ?_) w2
    by_cases hx : x = b + 1
    · subst hx
      rw [w4, zblk_self hn1, ← hsum]
      rfl
    · rw [w3 x hx, zblk_ne hx]
  have hl2 := (Array.getElem?_eq_some_iff.mp hcd).1
  have hsz : (cd.storeRun dp.toNatClampNeg (cs.stretch sp.toNatClampNeg k.toNatClampNeg)).slots.size = cd.slots.size := (Cell.storeRun_facts _ _ _).2.2.1
  have f1 : (H.setIfInBounds b (cd.storeRun dp.toNatClampNeg (cs.stretch sp.toNatClampNeg k.toNatClampNeg)))[b]? = some (cd.storeRun dp.toNatClampNeg (cs.stretch sp.toNatClampNeg k.toNatClampNeg)) := by simp [Array.getElem?_setIfInBounds, hl2]
  have f2 : (H.setIfInBounds b (cd.storeRun dp.toNatClampNeg (cs.stretch sp.toNatClampNeg k.toNatClampNeg))).size = H.size := by simp
  have f3 : ∀ q, q ≠ b → (H.setIfInBounds b (cd.storeRun dp.toNatClampNeg (cs.stretch sp.toNatClampNeg k.toNatClampNeg)))[q]? = H[q]? := fun z hz => by simp [Array.getElem?_setIfInBounds, Ne.symm hz]
  have hw : zwt s0.1 (H.setIfInBounds b (cd.storeRun dp.toNatClampNeg (cs.stretch sp.toNatClampNeg k.toNatClampNeg))) = zwt s0.1 H := zwt_put hcd f1 hsz f2 f3
  rw [eh] at w1
  have w1' : s0.2 (zblk h (b + 1) (zspl xs sp.toNatClampNeg ys dp.toNatClampNeg k.toNatClampNeg)) (H.setIfInBounds b (cd.storeRun dp.toNatClampNeg (cs.stretch sp.toNatClampNeg k.toNatClampNeg))) := w1
  have hb1 := C.2.2.2.2.2.2.2.2.2.2.1
  have hb2 := C.2.2.2.2.2.2.2.2.2.2.2.1
  intro T hT X
  obtain ⟨vm', X', step⟩ := X.arraycopy C.1 C.own (C.tt.w hl C.wm) (C.tt.w hnat C.wm) (C.tt.w hstat C.wm) (C.tt.w hini C.wm) (src := a) (dst := b) (cs := cs) (cd := cd) (srcPos := sp) (destPos := dp) (n := k) (by rw [hT]; exact hcs) (by rw [hT]; exact hcd)
    u2 v2 u1 v1 (by rw [ucls]; exact j2) (by rw [vcls]; exact i2) j3 i3 hty s1 s2 s3 (by rw [znn s1, znn s3, hsx]; omega) (by rw [znn s2, znn s3, hsy]; omega)
    (fun vm1 hal i hi => by
      obtain ⟨v, q1, q2, q3⟩ := hel i hi
      have e : cs.slots.getD (sp.toNatClampNeg + i) .null = v := by
        rw [Array.getD_eq_getD_getElem?, ← Array.getElem?_toList, uxs, q1]
        rfl
      rw [e]
      refine ⟨q2, ?_⟩
      cases hrk : refKind ty1 with
      | false =>
        cases v <;> first | trivial | (exfalso; cases ty1 <;> simp_all [fits, refKind])
      | true =>
        obtain ⟨mm, rfl, hm⟩ := q3 hrk
        exact C.takes hR i4 i5 hm (U := T.setVm vm1) hT hal)
    (g := F0 m9 pc LS (.int k :: .int dp :: .ref b :: .int sp :: .ref a :: st)) rfl (by show LS.size = _; rw [hL.1, C.2.2.2.2.1]) (rest := st) rfl (by rw [C.2.1]; exact hd) (by omega) (by show 2 * 0 + _ + _ ≤ _; have hw2 : nativeFrameWords "java/lang/System" "arraycopy" 5 ≤ 20 := (by decide +kernel); omega)
  have hheap : ((T.setVm vm').setCell b (copied cs cd sp dp k)).heap = H.setIfInBounds b (cd.storeRun dp.toNatClampNeg (cs.stretch sp.toNatClampNeg k.toNatClampNeg)) := by rw [← hT]; rfl
  have kk := K _ rfl p l e R s m9 args below meth c _ (locs ++ (cs.stretch sp.toNatClampNeg k.toNatClampNeg).zipIdx.map fun q => ⟨b, dp.toNatClampNeg + q.2⟩) LS C w1' ⟨by omega, by omega⟩ (fun z hz => by
      rcases List.mem_append.mp hz with hz | hz
      · exact h2 z hz
      · obtain ⟨y, -, rfl⟩ := List.mem_map.mp hz
        exact hlo) hL
  rw [f2, hw] at kk
  obtain ⟨t, a1, b1⟩ := kk _ hheap X'
  exact ⟨t, step t a1, b1⟩
end ZN
