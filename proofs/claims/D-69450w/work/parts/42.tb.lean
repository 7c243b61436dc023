/-! ===== the twin: numbers, bytes, readers ===== -/
set_option maxRecDepth 100000
theorem i_nat {n : Nat} (h : n < 2147483648) : (Int32.ofNat n).toNatClampNeg = n := Int32.toNatClampNeg_ofNat_of_lt h
theorem i_int {n : Nat} (h : n < 2147483648) : (Int32.ofNat n).toInt = n := Int32.toInt_ofNat_of_lt h
theorem i_lt {a b : Nat} (ha : a < 2147483648) (hb : b < 2147483648) : (Int32.ofNat a < Int32.ofNat b) ↔ a < b := Int32.ofNat_lt_iff_lt ha hb
theorem i_le {a b : Nat} (ha : a < 2147483648) (hb : b < 2147483648) : (Int32.ofNat a ≤ Int32.ofNat b) ↔ a ≤ b := Int32.ofNat_le_iff_le ha hb
theorem i_inj {a b : Nat} (ha : a < 2147483648) (hb : b < 2147483648) : (Int32.ofNat a = Int32.ofNat b) ↔ a = b := by
  constructor
  · intro e
    have := congrArg Int32.toNatClampNeg e
    rwa [i_nat ha, i_nat hb] at this
  · rintro rfl; rfl
theorem i_succ (n : Nat) : Int32.ofNat n + 1 = Int32.ofNat (n + 1) := (Int32.ofNat_add n 1).symm
theorem i_add (a b : Nat) : Int32.ofNat a + Int32.ofNat b = Int32.ofNat (a + b) := (Int32.ofNat_add a b).symm
theorem i_sub {a b : Nat} (h : b ≤ a) : Int32.ofNat a - Int32.ofNat b = Int32.ofNat (a - b) := by
  have e : Int32.ofNat a = Int32.ofNat (a - b) + Int32.ofNat b := by rw [i_add]; congr 1; omega
  rw [e, Int32.add_sub_cancel]
theorem i_pred {a : Nat} (h : 1 ≤ a) : Int32.ofNat a - 1 = Int32.ofNat (a - 1) := i_sub h
theorem i_nn {n : Nat} (h : n < 2147483648) : ¬ Int32.ofNat n < 0 := by
  rw [show (0 : Int32) = Int32.ofNat 0 from rfl, i_lt h (by decide)]
  omega
theorem i_nn' {n : Nat} (h : n < 2147483648) : (0 : Int32) ≤ Int32.ofNat n := by
  rw [show (0 : Int32) = Int32.ofNat 0 from rfl, i_le (by decide) h]
  omega
theorem i_of {x : Int32} (h : 0 ≤ x) : Int32.ofNat x.toNatClampNeg = x := by
  apply Int32.toInt_inj.mp
  have h1 : x.toNatClampNeg < 2147483648 := Int32.toNatClampNeg_lt x
  rw [i_int h1]
  have : 0 ≤ x.toInt := Int32.le_iff_toInt_le.mp h
  show ((x.toInt.toNat : Nat) : Int) = x.toInt
  omega
theorem zin_of {j n : Nat} (h : j < n) (hj : j < 2147483648) : zin (Int32.ofNat j) n := by
  unfold zin
  rw [i_nat hj]
  have := i_nn hj
  rintro (e | e)
  · exact this e
  · omega
theorem sx_and (b : UInt8) : sx b &&& 255 = zx b := by
  have h : ∀ n : Fin 256, sx (UInt8.ofBitVec (BitVec.ofFin n)) &&& 255 = zx (UInt8.ofBitVec (BitVec.ofFin n)) := by decide +kernel
  exact h b.toBitVec.toFin
theorem sx_inj {a b : UInt8} : sx a = sx b ↔ a = b := by
  have h : ∀ n : Fin 256, lo8 (sx (UInt8.ofBitVec (BitVec.ofFin n))) = UInt8.ofBitVec (BitVec.ofFin n) := by decide +kernel
  constructor
  · intro e
    have e1 := h a.toBitVec.toFin
    have e2 := h b.toBitVec.toFin
    have e3 := congrArg lo8 e
    exact (e1.symm.trans e3).trans e2
  · rintro rfl; rfl
theorem lo_toInt8 (x : Int32) : x.toInt8 = Int8.ofUInt8 (lo8 x) := by
  apply Int8.toBitVec_inj.mp
  rw [Int32.toBitVec_toInt8, BitVec.signExtend_eq_setWidth_of_le _ (by decide)]
  rfl
theorem sx_lo (x : Int32) : narrow .byte (.int x) = .int (sx (lo8 x)) := by
  show Value.int x.toInt8.toInt32 = _
  rw [lo_toInt8]
  rfl
theorem sx_lo2 (x : Int32) : narrow .byte (.int x.toInt8.toInt32) = .int (sx (lo8 x)) := by
  have h : x.toInt8.toInt32.toInt8 = x.toInt8 := by simp
  show Value.int x.toInt8.toInt32.toInt8.toInt32 = _
  rw [h, lo_toInt8]
  rfl
theorem vB_len (b : sBy) : (vB b).length = b.length := List.length_map ..
theorem vB_get {b : sBy} {j : Nat} {x : UInt8} (h : b[j]? = some x) : (vB b)[j]? = some (.int (sx x)) := by
  unfold vB
  rw [List.getElem?_map, h]
  rfl
theorem pre_get {α : Type} {xs l : List α} (h : xs <+: l) {j : Nat} {x : α} (hx : xs[j]? = some x) : l[j]? = some x := by
  obtain ⟨t, rfl⟩ := h
  rw [List.getElem?_append_left (List.getElem?_eq_some_iff.mp hx).1]
  exact hx
theorem pre_snoc {α : Type} {xs l : List α} (h : xs <+: l) {v : α} (hl : xs.length < l.length) : xs ++ [v] <+: l.set xs.length v := by
  obtain ⟨t, rfl⟩ := h
  cases t with
  | nil => simp at hl
  | cons a t =>
    refine ⟨t, ?_⟩
    rw [List.set_append_right _ _ (Nat.le_refl _)]
    simp
theorem zput_at {h : zH} {n k m : Nat} {v : Value} : (zput h n k v).1 m = if m = n then (h.1 n).map (fun q => (q.1, q.2.set k v)) else h.1 m := rfl
theorem znew_at {h : zH} {c w m : Nat} {fs : List Value} : (znew h c fs w).1 m = if m = h.2.1 then some (c, fs) else h.1 m := rfl
theorem g_I {h : zH} {n k : Nat} {cs : List Nat} {q : zC} {x : Int32} {P : Prop} (e : h.1 n = some q) (hc : q.1 ∈ cs) (hv : q.2[k]? = some (.int x)) (K : gI h n k = x → P) : fI h n cs k ∧ P := ⟨fI_of e hc hv, K (gI_of e hv)⟩
theorem g_J {h : zH} {n k : Nat} {cs : List Nat} {q : zC} {x : Int64} {P : Prop} (e : h.1 n = some q) (hc : q.1 ∈ cs) (hv : q.2[k]? = some (.long x)) (K : gJ h n k = x → P) : fJ h n cs k ∧ P := ⟨fJ_of e hc hv, K (gJ_of e hv)⟩
theorem g_R {h : zH} {n k : Nat} {cs : List Nat} {q : zC} {x : Nat} {P : Prop} (e : h.1 n = some q) (hc : q.1 ∈ cs) (hv : q.2[k]? = some (zr x)) (K : gR h n k = x → P) : fR h n cs k ∧ P := ⟨fR_of e hc hv, K (gR_of e hv)⟩
theorem g_C {h : zH} {n c : Nat} {fs : List Value} {P : Prop} (e : h.1 n = some (c, fs)) (K : P) : fC h n c ∧ P := ⟨⟨fs, e⟩, K⟩
theorem eV_of {h : zH} {n c : Nat} {l : List Value} {j : Int32} {v : Value} (e : h.1 n = some (c, l)) (hv : l[j.toNatClampNeg]? = some v) : eV h n j = v := by
  unfold eV gA
  rw [e]
  show l.getD _ _ = v
  rw [List.getD_eq_getElem?_getD, hv]
  rfl
theorem fE_of {h : zH} {n t : Nat} {l : List Value} {j : Int32} {v : Value} (e : h.1 n = some (1000 + t, l)) (hj : zin j l.length) (hv : l[j.toNatClampNeg]? = some v) : fE h n t j v := by
  refine ⟨⟨l, e⟩, ?_, ?_⟩ <;> (unfold gA; rw [e]; assumption)
theorem g_EI {h : zH} {n t : Nat} {l : List Value} {j : Int32} {x : Int32} {P : Prop} (e : h.1 n = some (1000 + t, l)) (hj : zin j l.length) (hv : l[j.toNatClampNeg]? = some (.int x)) (K : eI h n j = x → P) : fE h n t j (.int (eI h n j)) ∧ P := by
  have e1 : eI h n j = x := by unfold eI; rw [eV_of e hv]; rfl
  exact ⟨by rw [e1]; exact fE_of e hj hv, K e1⟩
theorem g_ER {h : zH} {n t : Nat} {l : List Value} {j : Int32} {x : Nat} {P : Prop} (e : h.1 n = some (1000 + t, l)) (hj : zin j l.length) (hv : l[j.toNatClampNeg]? = some (zr x)) (K : eR h n j = x → P) : fE h n t j (zr (eR h n j)) ∧ P := by
  have e1 : eR h n j = x := by unfold eR; rw [eV_of e hv]; exact zN_zr x
  exact ⟨by rw [e1]; exact fE_of e hj hv, K e1⟩
theorem g_S {s0 : zE} {h : zH} {n t : Nat} {l : List Value} {j : Int32} {P : Prop} (e : h.1 n = some (1000 + t, l)) (hn : s0.1.heap.size < n) (hj : zin j l.length) (K : P) : fS s0 h n t j ∧ P := by
  refine ⟨⟨⟨l, e⟩, hn, ?_⟩, K⟩
  unfold gA
  rw [e]
  exact hj
section TB
variable {s0 : zE} {F : Nat → Option zC} {b : Nat} {s s' : sSt} {w w' : tW} {g g' : sG} {h h' : zH} {d x0 : Nat} {Q : Value → zH → Prop} {E : Nat → zH → Prop}
theorem tR.main (R : tR s0 F b s w g h) (hm : g.kind x0 = (1, 0)) : h.1 x0 = some (7, tMain s w g) := R.1.cell hm (by decide)
/-- an array's cell, by its place among the pictures -/
theorem tR.arr (R : tR s0 F b s w g h) {c i n t : Nat} {xs : List Value} (A : gAr g c i n xs) (ht : tcell s w g c i = (1000 + t, g.ar c i)) (hc : c ≠ 0) (h40 : c ≠ 40) : h.1 (g.ref c i) = some (1000 + t, g.ar c i) ∧ s0.1.heap.size < g.ref c i := by
  have := R.1.cell A.1 hc
  rw [ht] at this
  exact ⟨this, R.1.new A.1 hc h40⟩
/-- the things' pictures are as they were -/
def tSame (s s' : sSt) (w w' : tW) : Prop := s'.cn = s.cn ∧ s'.ch = s.ch ∧ s'.ex = s.ex ∧ s'.qu = s.qu ∧ s'.bi = s.bi ∧ s'.co = s.co ∧ s'.en = s.en ∧ s'.se = s.se ∧ w'.cd = w.cd
theorem tcell_same (e : tSame s s' w w') {c i : Nat} (hc : c ≠ 1) : tcell s' w' g c i = tcell s w g c i := by
  obtain ⟨e1, e2, e3, e4, e5, e6, e7, e8, e9⟩ := e
  unfold tcell
  split
  · exact absurd rfl hc
  all_goals first | rfl | simp only [tCh, e1, e2, e3, e4, e5, e6, e7, e8, e9]
/-- of a field of the main cell alone -/
theorem tR.putM (R : tR s0 F b s w g h) (hm : g.kind x0 = (1, 0)) {k : Nat} {v : Value} (hv : tMain s' w' g = (tMain s w g).set k v) (hG : tG s' w' g) (hP : tSame s s' w w') : tR s0 F b s' w' g (zput h x0 k v) :=
  ⟨R.1.put hm (by decide) rfl rfl (cc := 7) (fs := tMain s w g) rfl (by show (7, _) = _; rw [hv]) (fun m hk hne => tcell_same hP fun e => hne (Prod.ext e (R.2.1.2.1 m _ (Prod.ext e rfl)))), hG⟩
end TB
theorem tMain_0 {s : sSt} {w : tW} {g : sG} : (tMain s w g)[0]? = some (zr (g.ref 4 0)) := rfl
theorem tMain_1 {s : sSt} {w : tW} {g : sG} : (tMain s w g)[1]? = some (zr (g.ref 5 0)) := rfl
theorem tMain_2 {s : sSt} {w : tW} {g : sG} : (tMain s w g)[2]? = some (zr (g.ref 6 0)) := rfl
theorem tMain_3 {s : sSt} {w : tW} {g : sG} : (tMain s w g)[3]? = some (zr (g.ref 7 0)) := rfl
theorem tMain_4 {s : sSt} {w : tW} {g : sG} : (tMain s w g)[4]? = some (zr (g.ref 8 0)) := rfl
theorem tMain_5 {s : sSt} {w : tW} {g : sG} : (tMain s w g)[5]? = some (vI s.es.length) := rfl
theorem tMain_6 {s : sSt} {w : tW} {g : sG} : (tMain s w g)[6]? = some (vI s.qs.length) := rfl
theorem tMain_7 {s : sSt} {w : tW} {g : sG} : (tMain s w g)[7]? = some (vI s.bs.length) := rfl
theorem tMain_8 {s : sSt} {w : tW} {g : sG} : (tMain s w g)[8]? = some (vI s.cs.length) := rfl
theorem tMain_9 {s : sSt} {w : tW} {g : sG} : (tMain s w g)[9]? = some (.int s.messages) := rfl
theorem tMain_10 {s : sSt} {w : tW} {g : sG} : (tMain s w g)[10]? = some (.int s.lastNum) := rfl
theorem tMain_11 {s : sSt} {w : tW} {g : sG} : (tMain s w g)[11]? = some (.int s.gener) := rfl
theorem tMain_12 {s : sSt} {w : tW} {g : sG} : (tMain s w g)[12]? = some (.int s.clock) := rfl
theorem tMain_13 {s : sSt} {w : tW} {g : sG} : (tMain s w g)[13]? = some (.int s.deadOnes) := rfl
theorem tMain_14 {s : sSt} {w : tW} {g : sG} : (tMain s w g)[14]? = some (zr (g.ref 9 0)) := rfl
theorem tMain_15 {s : sSt} {w : tW} {g : sG} : (tMain s w g)[15]? = some (vI s.dead.length) := rfl
theorem tMain_16 {s : sSt} {w : tW} {g : sG} : (tMain s w g)[16]? = some (zr (g.ref 10 0)) := rfl
theorem tMain_17 {s : sSt} {w : tW} {g : sG} : (tMain s w g)[17]? = some (vI s.facts.length) := rfl
theorem tMain_18 {s : sSt} {w : tW} {g : sG} : (tMain s w g)[18]? = some (zr (g.ref 11 0)) := rfl
theorem tMain_19 {s : sSt} {w : tW} {g : sG} : (tMain s w g)[19]? = some (zr (g.ref 12 0)) := rfl
theorem tMain_20 {s : sSt} {w : tW} {g : sG} : (tMain s w g)[20]? = some (zr (g.ref 13 0)) := rfl
theorem tMain_21 {s : sSt} {w : tW} {g : sG} : (tMain s w g)[21]? = some (zr (g.ref 14 0)) := rfl
theorem tMain_22 {s : sSt} {w : tW} {g : sG} : (tMain s w g)[22]? = some (vI s.ses.length) := rfl
theorem tMain_23 {s : sSt} {w : tW} {g : sG} : (tMain s w g)[23]? = some (vI s.sqs.length) := rfl
theorem tMain_24 {s : sSt} {w : tW} {g : sG} : (tMain s w g)[24]? = some (vI s.sbs.length) := rfl
theorem tMain_25 {s : sSt} {w : tW} {g : sG} : (tMain s w g)[25]? = some (vI s.sen.length) := rfl
theorem tMain_26 {s : sSt} {w : tW} {g : sG} : (tMain s w g)[26]? = some (zr (g.ref 15 0)) := rfl
theorem tMain_27 {s : sSt} {w : tW} {g : sG} : (tMain s w g)[27]? = some (vI s.tape.length) := rfl
theorem tMain_28 {s : sSt} {w : tW} {g : sG} : (tMain s w g)[28]? = some (.int w.thr) := rfl
theorem tMain_29 {s : sSt} {w : tW} {g : sG} : (tMain s w g)[29]? = some (zr (g.ref 16 0)) := rfl
theorem tMain_30 {s : sSt} {w : tW} {g : sG} : (tMain s w g)[30]? = some (vI w.rd.1.length) := rfl
theorem tMain_31 {s : sSt} {w : tW} {g : sG} : (tMain s w g)[31]? = some (vI w.rd.2.1) := rfl
theorem tMain_32 {s : sSt} {w : tW} {g : sG} : (tMain s w g)[32]? = some (.int w.cl) := rfl
theorem tMain_33 {s : sSt} {w : tW} {g : sG} : (tMain s w g)[33]? = some (.int w.me) := rfl
theorem tMain_34 {s : sSt} {w : tW} {g : sG} : (tMain s w g)[34]? = some (vZ w.rd.2.2) := rfl
theorem tMain_35 {s : sSt} {w : tW} {g : sG} : (tMain s w g)[35]? = some (zr (g.ref 17 0)) := rfl
theorem tMain_36 {s : sSt} {w : tW} {g : sG} : (tMain s w g)[36]? = some (vI w.dr.length) := rfl
theorem tMain_37 {s : sSt} {w : tW} {g : sG} : (tMain s w g)[37]? = some (.int w.sz) := rfl
theorem tMain_38 {s : sSt} {w : tW} {g : sG} : (tMain s w g)[38]? = some (zr (g.ref 18 0)) := rfl
theorem tMain_39 {s : sSt} {w : tW} {g : sG} : (tMain s w g)[39]? = some (zr (g.ref 19 0)) := rfl
theorem tMain_40 {s : sSt} {w : tW} {g : sG} : (tMain s w g)[40]? = some (zr (g.ref 20 0)) := rfl
theorem tMain_41 {s : sSt} {w : tW} {g : sG} : (tMain s w g)[41]? = some (zr (g.ref 21 0)) := rfl
theorem tMain_42 {s : sSt} {w : tW} {g : sG} : (tMain s w g)[42]? = some (zr (g.ref 22 0)) := rfl
theorem tMain_43 {s : sSt} {w : tW} {g : sG} : (tMain s w g)[43]? = some (zr (g.ref 23 0)) := rfl
theorem tMain_44 {s : sSt} {w : tW} {g : sG} : (tMain s w g)[44]? = some (zr (g.ref 24 0)) := rfl
theorem tMain_45 {s : sSt} {w : tW} {g : sG} : (tMain s w g)[45]? = some (.int s.crashes) := rfl
theorem tMain_len {s : sSt} {w : tW} {g : sG} : (tMain s w g).length = 46 := rfl
theorem tCn_0 {k : sCn} {g : sG} {c : Nat} : (tCn k g c)[0]? = some (vI c) := rfl
theorem tCn_1 {k : sCn} {g : sG} {c : Nat} : (tCn k g c)[1]? = some (.int k.state) := rfl
theorem tCn_2 {k : sCn} {g : sG} {c : Nat} : (tCn k g c)[2]? = some (.int k.beat) := rfl
theorem tCn_3 {k : sCn} {g : sG} {c : Nat} : (tCn k g c)[3]? = some (vI k.inp.length) := rfl
theorem tCn_4 {k : sCn} {g : sG} {c : Nat} : (tCn k g c)[4]? = some (.int k.first) := rfl
theorem tCn_5 {k : sCn} {g : sG} {c : Nat} : (tCn k g c)[5]? = some (vI k.out.length) := rfl
theorem tCn_6 {k : sCn} {g : sG} {c : Nat} : (tCn k g c)[6]? = some (.int k.lastIn) := rfl
theorem tCn_7 {k : sCn} {g : sG} {c : Nat} : (tCn k g c)[7]? = some (.int k.lastOut) := rfl
theorem tCn_8 {k : sCn} {g : sG} {c : Nat} : (tCn k g c)[8]? = some (.int k.closing) := rfl
theorem tCn_9 {k : sCn} {g : sG} {c : Nat} : (tCn k g c)[9]? = some (vZ k.deaf) := rfl
theorem tCn_10 {k : sCn} {g : sG} {c : Nat} : (tCn k g c)[10]? = some (zr (g.ref 25 c)) := rfl
theorem tCn_11 {k : sCn} {g : sG} {c : Nat} : (tCn k g c)[11]? = some (zr (g.ref 26 c)) := rfl
theorem tCn_12 {k : sCn} {g : sG} {c : Nat} : (tCn k g c)[12]? = some (zr (g.ref 27 c)) := rfl
theorem tCn_len {k : sCn} {g : sG} {c : Nat} : (tCn k g c).length = 13 := rfl
theorem tCh_0 {k : sCh} {w : tW} {g : sG} {h : Nat} : (tCh k w g h)[0]? = some (zr (g.ref 2 (h / 4))) := rfl
theorem tCh_1 {k : sCh} {w : tW} {g : sG} {h : Nat} : (tCh k w g h)[1]? = some (vI (h % 4)) := rfl
theorem tCh_2 {k : sCh} {w : tW} {g : sG} {h : Nat} : (tCh k w g h)[2]? = some (.int k.state) := rfl
theorem tCh_3 {k : sCh} {w : tW} {g : sG} {h : Nat} : (tCh k w g h)[3]? = some (.int k.mode) := rfl
theorem tCh_4 {k : sCh} {w : tW} {g : sG} {h : Nat} : (tCh k w g h)[4]? = some (.int k.limit) := rfl
theorem tCh_5 {k : sCh} {w : tW} {g : sG} {h : Nat} : (tCh k w g h)[5]? = some (.int k.coming) := rfl
theorem tCh_6 {k : sCh} {w : tW} {g : sG} {h : Nat} : (tCh k w g h)[6]? = some (.int k.tag) := rfl
theorem tCh_7 {k : sCh} {w : tW} {g : sG} {h : Nat} : (tCh k w g h)[7]? = some (.int k.confirm) := rfl
theorem tCh_8 {k : sCh} {w : tW} {g : sG} {h : Nat} : (tCh k w g h)[8]? = some (.int k.tags) := rfl
theorem tCh_9 {k : sCh} {w : tW} {g : sG} {h : Nat} : (tCh k w g h)[9]? = some (vI k.kept.length) := rfl
theorem tCh_10 {k : sCh} {w : tW} {g : sG} {h : Nat} : (tCh k w g h)[10]? = some (vI k.sent.length) := rfl
theorem tCh_11 {k : sCh} {w : tW} {g : sG} {h : Nat} : (tCh k w g h)[11]? = some (vI (w.cd h + k.confs.length)) := rfl
theorem tCh_12 {k : sCh} {w : tW} {g : sG} {h : Nat} : (tCh k w g h)[12]? = some (.int k.due) := rfl
theorem tCh_13 {k : sCh} {w : tW} {g : sG} {h : Nat} : (tCh k w g h)[13]? = some (vZ k.active) := rfl
theorem tCh_14 {k : sCh} {w : tW} {g : sG} {h : Nat} : (tCh k w g h)[14]? = some (zr (g.rf 3 h 14)) := rfl
theorem tCh_15 {k : sCh} {w : tW} {g : sG} {h : Nat} : (tCh k w g h)[15]? = some (zr (g.rf 3 h 15)) := rfl
theorem tCh_16 {k : sCh} {w : tW} {g : sG} {h : Nat} : (tCh k w g h)[16]? = some (zr (g.ref 28 h)) := rfl
theorem tCh_17 {k : sCh} {w : tW} {g : sG} {h : Nat} : (tCh k w g h)[17]? = some (zr (g.ref 29 h)) := rfl
theorem tCh_18 {k : sCh} {w : tW} {g : sG} {h : Nat} : (tCh k w g h)[18]? = some (zr (g.ref 30 h)) := rfl
theorem tCh_len {k : sCh} {w : tW} {g : sG} {h : Nat} : (tCh k w g h).length = 19 := rfl
theorem tEx_0 {x : sEx} {g : sG} {i : Nat} : (tEx x g i)[0]? = some (zr (g.rf 32 i 0)) := rfl
theorem tEx_1 {x : sEx} {g : sG} {i : Nat} : (tEx x g i)[1]? = some (.int x.kind) := rfl
theorem tEx_2 {x : sEx} {g : sG} {i : Nat} : (tEx x g i)[2]? = some (vZ x.dur) := rfl
theorem tEx_3 {x : sEx} {g : sG} {i : Nat} : (tEx x g i)[3]? = some (vZ x.auto) := rfl
theorem tEx_4 {x : sEx} {g : sG} {i : Nat} : (tEx x g i)[4]? = some (vZ x.int) := rfl
theorem tEx_5 {x : sEx} {g : sG} {i : Nat} : (tEx x g i)[5]? = some (vZ x.there) := rfl
theorem tEx_6 {x : sEx} {g : sG} {i : Nat} : (tEx x g i)[6]? = some (zr (g.rf 32 i 6)) := rfl
theorem tEx_len {x : sEx} {g : sG} {i : Nat} : (tEx x g i).length = 7 := rfl
theorem tQu_0 {x : sQu} {g : sG} {i : Nat} : (tQu x g i)[0]? = some (zr (g.rf 33 i 0)) := rfl
theorem tQu_1 {x : sQu} {g : sG} {i : Nat} : (tQu x g i)[1]? = some (vZ x.dur) := rfl
theorem tQu_2 {x : sQu} {g : sG} {i : Nat} : (tQu x g i)[2]? = some (vZ x.exc) := rfl
theorem tQu_3 {x : sQu} {g : sG} {i : Nat} : (tQu x g i)[3]? = some (vZ x.auto) := rfl
theorem tQu_4 {x : sQu} {g : sG} {i : Nat} : (tQu x g i)[4]? = some (vZ x.there) := rfl
theorem tQu_5 {x : sQu} {g : sG} {i : Nat} : (tQu x g i)[5]? = some (zr (gO g 2 x.owner)) := rfl
theorem tQu_6 {x : sQu} {g : sG} {i : Nat} : (tQu x g i)[6]? = some (.int x.max) := rfl
theorem tQu_7 {x : sQu} {g : sG} {i : Nat} : (tQu x g i)[7]? = some (.int x.ttl) := rfl
theorem tQu_8 {x : sQu} {g : sG} {i : Nat} : (tQu x g i)[8]? = some (.int x.pri) := rfl
theorem tQu_9 {x : sQu} {g : sG} {i : Nat} : (tQu x g i)[9]? = some (zr (g.rf 33 i 9)) := rfl
theorem tQu_10 {x : sQu} {g : sG} {i : Nat} : (tQu x g i)[10]? = some (zr (g.rf 33 i 10)) := rfl
theorem tQu_11 {x : sQu} {g : sG} {i : Nat} : (tQu x g i)[11]? = some (zr (g.ref 31 i)) := rfl
theorem tQu_12 {x : sQu} {g : sG} {i : Nat} : (tQu x g i)[12]? = some (vI x.ents.length) := rfl
theorem tQu_13 {x : sQu} {g : sG} {i : Nat} : (tQu x g i)[13]? = some (zr (gO g 35 x.last)) := rfl
theorem tQu_len {x : sQu} {g : sG} {i : Nat} : (tQu x g i).length = 14 := rfl
theorem tBi_0 {x : sBi} {g : sG} {i : Nat} : (tBi x g i)[0]? = some (zr (g.ref 33 x.queue)) := rfl
theorem tBi_1 {x : sBi} {g : sG} {i : Nat} : (tBi x g i)[1]? = some (zr (g.ref 32 x.exch)) := rfl
theorem tBi_2 {x : sBi} {g : sG} {i : Nat} : (tBi x g i)[2]? = some (zr (g.rf 34 i 2)) := rfl
theorem tBi_3 {x : sBi} {g : sG} {i : Nat} : (tBi x g i)[3]? = some (zr (g.rf 34 i 3)) := rfl
theorem tBi_len {x : sBi} {g : sG} {i : Nat} : (tBi x g i).length = 4 := rfl
theorem tCo_0 {x : sCo} {g : sG} {i : Nat} : (tCo x g i)[0]? = some (zr (g.rf 35 i 0)) := rfl
theorem tCo_1 {x : sCo} {g : sG} {i : Nat} : (tCo x g i)[1]? = some (zr (g.ref 33 x.queue)) := rfl
theorem tCo_2 {x : sCo} {g : sG} {i : Nat} : (tCo x g i)[2]? = some (zr (g.ref 3 x.chan)) := rfl
theorem tCo_3 {x : sCo} {g : sG} {i : Nat} : (tCo x g i)[3]? = some (vZ x.free) := rfl
theorem tCo_4 {x : sCo} {g : sG} {i : Nat} : (tCo x g i)[4]? = some (vZ x.excl) := rfl
theorem tCo_5 {x : sCo} {g : sG} {i : Nat} : (tCo x g i)[5]? = some (.int x.limit) := rfl
theorem tCo_len {x : sCo} {g : sG} {i : Nat} : (tCo x g i).length = 6 := rfl
theorem tEn_0 {x : sEn} {g : sG} {i : Nat} : (tEn x g i)[0]? = some (zr (g.rf 36 i 0)) := rfl
theorem tEn_1 {x : sEn} {g : sG} {i : Nat} : (tEn x g i)[1]? = some (zr (g.rf 36 i 1)) := rfl
theorem tEn_2 {x : sEn} {g : sG} {i : Nat} : (tEn x g i)[2]? = some (zr (g.rf 36 i 2)) := rfl
theorem tEn_3 {x : sEn} {g : sG} {i : Nat} : (tEn x g i)[3]? = some (.long x.expi) := rfl
theorem tEn_4 {x : sEn} {g : sG} {i : Nat} : (tEn x g i)[4]? = some (zr (g.ref 33 x.queue)) := rfl
theorem tEn_5 {x : sEn} {g : sG} {i : Nat} : (tEn x g i)[5]? = some (.int x.number) := rfl
theorem tEn_6 {x : sEn} {g : sG} {i : Nat} : (tEn x g i)[6]? = some (.int x.came) := rfl
theorem tEn_7 {x : sEn} {g : sG} {i : Nat} : (tEn x g i)[7]? = some (.int x.deaths) := rfl
theorem tEn_8 {x : sEn} {g : sG} {i : Nat} : (tEn x g i)[8]? = some (.int x.state) := rfl
theorem tEn_9 {x : sEn} {g : sG} {i : Nat} : (tEn x g i)[9]? = some (vZ x.redel) := rfl
theorem tEn_len {x : sEn} {g : sG} {i : Nat} : (tEn x g i).length = 10 := rfl
theorem tSe_0 {x : sSe} {g : sG} : (tSe x g)[0]? = some (.int x.tag) := rfl
theorem tSe_1 {x : sSe} {g : sG} : (tSe x g)[1]? = some (zr (g.ref 36 x.entry)) := rfl
theorem tSe_2 {x : sSe} {g : sG} : (tSe x g)[2]? = some (zr (gO g 35 x.cons)) := rfl
theorem tSe_3 {x : sSe} {g : sG} : (tSe x g)[3]? = some (vZ x.done) := rfl
theorem tSe_len {x : sSe} {g : sG} : (tSe x g).length = 4 := rfl
