/-! ===== L0: statics, String constants, class objects ===== -/
set_option maxRecDepth 100000
theorem cnl {a b : Cond} {A : Array Value} {s : State} (h : (Cond.and a b).before A s = true) : a.before A s = true := by
  exact Cond.before_left h
theorem cnr {a b : Cond} {A : Array Value} {s : State} (h : (Cond.and a b).before A s = true) : b.before A s = true := by
  simp only [Cond.before_and, Bool.and_eq_true] at h
  exact h.2
/-- what a static field of the tables' holds at the start, as a reference -/
noncomputable def zst (s0 : zE) (C n d : String) : Nat := ((Term.static C n d).eval #[] s0.1 none [] s0.1).elim 0 zN
/-- a String constant -/
noncomputable def zls (s0 : zE) (own : String) (k : Nat) : Nat := ((Term.string own k).eval #[] s0.1 none [] s0.1).elim 0 zN
/-- a class object -/
noncomputable def zmi (s0 : zE) (C : String) : Nat := ((Term.mirror C).eval #[] s0.1 none [] s0.1).elim 0 zN
/-- a static field that holds v at the start, and is not written -/
abbrev zZ (s0 : zE) (C n d : String) (v : Value) : Prop := zT s0.1 → va_Z C n d v (fun q => s0.1.heap.size ≤ q) s0.1 s0.1.heap
abbrev zZs (s0 : zE) (own : String) (k : Nat) : Prop := zT s0.1 → ∃ tx a, zls s0 own k = a + 1 ∧ vk_R own k tx a s0.1
abbrev zZm (s0 : zE) (C : String) : Prop := zT s0.1 → ∃ a, zmi s0 C = a + 1 ∧ va_Mi C a s0.1
theorem zZ_int {s0 : zE} {C n d : String} {z : Int32} (h1 : Cond.laysStatic C n d ∈ lw_tbl) (h2 : Cond.initialized C ∈ lw_tbl)
    (h3 : ∀ {A : Array Value}, narrow_1.before A s0.1 = true → (Cond.eq (.static C n d) (.int z)).before A s0.1 = true) : zZ s0 C n d (.int z) := by
  rintro ⟨b0, ht, hg⟩
  exact va_Zof (ht _ h1) (ht _ h2) (va_eqi (h3 (cnr hg))) (fun a ha => by omega)
theorem zZ_ref {s0 : zE} {C n d : String} (h1 : Cond.laysStatic C n d ∈ lw_tbl) (h2 : Cond.initialized C ∈ lw_tbl)
    (h3 : ∀ {A : Array Value}, narrow_1.before A s0.1 = true → (Cond.isRef (.static C n d)).before A s0.1 = true ∨ ∃ T, (Cond.exactly (.static C n d) T).before A s0.1 = true) : zZ s0 C n d (zr (zst s0 C n d)) := by
  rintro ⟨b0, ht, hg⟩
  have key : ∃ v, (Term.static C n d).eval #[Value.ref b0] s0.1 none [] s0.1 = some v ∧ v = zr (zN v) := by
    rcases h3 (cnr hg) with h | ⟨T, h⟩
    · obtain ⟨v, hv, hr⟩ := Cond.isRef_spec h
      refine ⟨v, hv, ?_⟩
      cases v <;> first | rfl | cases hr
    · obtain ⟨a, c, cA, kA, q1, -⟩ := Cond.exactly_spec (args := #[Value.ref b0]) (first := s0.1) (o := none) (s := s0.1) (idx := []) (t := .static C n d) (cls := T) h
      exact ⟨_, q1, rfl⟩
  obtain ⟨v, hv, e⟩ := key
  have e2 : zst s0 C n d = zN v := by
    have hv2 : (Term.static C n d).eval #[] s0.1 none [] s0.1 = some v := hv
    unfold zst
    rw [hv2]
    rfl
  rw [e2, ← e]
  exact va_Zof (ht _ h1) (ht _ h2) hv (fun a ha => by omega)
theorem zZs_of {s0 : zE} {own tx : String} {k : Nat} (h1 : Cond.stringRef own k tx ∈ lw_tbl)
    (h3 : ∀ {A : Array Value}, narrow_1.before A s0.1 = true → (Cond.exactly (.string own k) "java/lang/String").before A s0.1 = true) : zZs s0 own k := by
  rintro ⟨b0, ht, hg⟩
  obtain ⟨a, c, cA, kA, q1, -⟩ := Cond.exactly_spec (args := #[Value.ref b0]) (first := s0.1) (o := none) (s := s0.1) (idx := []) (t := .string own k) (cls := "java/lang/String") (h3 (cnr hg))
  have hv2 : (Term.string own k).eval #[] s0.1 none [] s0.1 = some (.ref a) := q1
  refine ⟨tx, a, ?_, vk_R.of (A := #[Value.ref b0]) (ht _ h1) q1⟩
  unfold zls
  rw [hv2]
  rfl
theorem zZm_of {s0 : zE} {C : String} (h3 : ∀ {A : Array Value}, narrow_1.before A s0.1 = true → (Cond.isRef (.mirror C)).before A s0.1 = true) : zZm s0 C := by
  rintro ⟨b0, ht, hg⟩
  obtain ⟨a, c, k, m1, m2, m3⟩ := va_Mi.of (h3 (cnr hg))
  refine ⟨a, ?_, c, k, m1, m2, m3⟩
  simp [zmi, Term.eval, m1, m2, m3, zN]
section ZST
variable {s0 : zE} {M : zM} {d pc idx : Nat} {ls : List (Option Value)} {st : List Value} {h : zH} {Q : Value → zH → Prop} {E : Nat → zH → Prop}
theorem z_gets {C n ds : String} {v : Value} (K0 : zZ s0 C n ds v) (hq : Cond.fieldLink M.1.cls idx C n ds ∈ lw_all) (hd : decode M.2.1 pc = .ok (.getstatic idx, 3))
    (K : zP s0 M d (pc + 3) ls (v :: st) h Q E) : zP s0 M d pc ls st h Q E := by
  intro p l e R s m args below meth c H locs LS CC hR h1 h2 hL
  have kk := K _ _ _ _ _ _ args below _ _ _ _ _ CC hR h1 h2 hL
  obtain ⟨cf, kf, fi, f, a, cell, g1, g2, g3, g4, g5, g6, g7, g8⟩ := va_Z.moved CC.wm.alike (K0 CC.tt)
  have hH := (CC.ro.sz hR).2.2.1 a (Array.getElem?_eq_some_iff.mp g5).1
  exact W.gets CC.1 CC.2.1 CC.own (CC.tt.w hq CC.wm) g1 g2 g3 g4 (by rw [hH]; exact g5) (fun e => by rw [e] at g6; cases g6) g7 rfl hd kk
theorem z_getsN {C n ds host : String} {v : Value} (K0 : zZ s0 C n ds v) (hq : Cond.fieldLinkNest M.1.cls idx C n ds host ∈ lw_tbl) (hd : decode M.2.1 pc = .ok (.getstatic idx, 3))
    (K : zP s0 M d (pc + 3) ls (v :: st) h Q E) : zP s0 M d pc ls st h Q E := by
  intro p l e R s m args below meth c H locs LS CC hR h1 h2 hL
  have kk := K _ _ _ _ _ _ args below _ _ _ _ _ CC hR h1 h2 hL
  obtain ⟨cf, kf, fi, f, a, cell, g1, g2, g3, g4, g5, g6, g7, g8⟩ := va_Z.moved CC.wm.alike (K0 CC.tt)
  have hH := (CC.ro.sz hR).2.2.1 a (Array.getElem?_eq_some_iff.mp g5).1
  exact va_WgetsN CC.1 CC.2.1 CC.own (va_Nw.use rfl ((CC.tt.nw hq rfl).warmF CC.wm)) g1 g2 g3 g4 (by rw [hH]; exact g5) (fun e => by rw [e] at g6; cases g6) g7 rfl hd kk
theorem z_ldcS (K0 : zZs s0 M.1.cls idx) (hd : decode M.2.1 pc = .ok (.ldc idx, 2)) (K : zP s0 M d (pc + 2) ls (zr (zls s0 M.1.cls idx) :: st) h Q E) : zP s0 M d pc ls st h Q E := by
  intro p l e R s m args below meth c H locs LS CC hR h1 h2 hL
  have kk := K _ _ _ _ _ _ args below _ _ _ _ _ CC hR h1 h2 hL
  obtain ⟨tx, a, e1, e2⟩ := K0 CC.tt
  rw [e1] at kk
  exact va_ldcS CC.1 CC.2.1 CC.own (e2.warm CC.wm) hd kk
theorem zldcwS {p : Program} {l : Launch} {e : Env} {R : Room} {s : State} {m : MethodId} {args : Array Value} {below : List Frame} {meth : Method} {c : Code} {T : State} {locs : List Loc} {cells slots : Nat}
    (X : Stand p l e R s m args below meth c T locs cells slots) (hexec : p.tables.exec = Jvm.exec) {own text : String} {index : Nat} {a : Addr} (hown : s.vm.findClass own = some m.cls)
    (hconst : (Cond.stringRef own index text).before args s = true) (hev : (Term.string own index).eval args s none [] s = some (.ref a)) {g : JFrame} (hg : g.method = m) (hdg : decode c.code g.pc = .ok (.ldc_w index, 3)) :
    ∀ target, Steps p.tables e below (T.setTop { g with pc := g.pc + 3, stack := .ref a :: g.stack }) target → Steps p.tables e below (T.setTop g) target := by
  obtain ⟨k, cf, i, a', hk, hcf, hcp, -, hr, hev'⟩ := Cond.stringRef_spec hown hconst
  cases hev.symm.trans hev'
  obtain ⟨k', hk', he⟩ := X.warmed.alike.2.2 _ _ hk
  have hr' : k'.resolved[index]? = some (some (.string a)) := by
    rcases X.warmed.entry hk hk' index with h | ⟨h, -⟩
    · rw [h]; exact hr
    · rw [hr] at h; cases h
  intro target hrest
  subst hg
  jvm_step X.here [hexec, hdg, ldc_w.wp_string (e := e) (s := T) (f := g) X.here.top hk' (by rw [he]; exact hcf) hcp hr']
  exact hrest
theorem z_ldc_wS (K0 : zZs s0 M.1.cls idx) (hd : decode M.2.1 pc = .ok (.ldc_w idx, 3)) (K : zP s0 M d (pc + 3) ls (zr (zls s0 M.1.cls idx) :: st) h Q E) : zP s0 M d pc ls st h Q E := by
  intro p l e R s m args below meth c H locs LS CC hR h1 h2 hL
  have kk := K _ _ _ _ _ _ args below _ _ _ _ _ CC hR h1 h2 hL
  obtain ⟨tx, a, e1, e2⟩ := K0 CC.tt
  rw [e1] at kk
  have e3 := e2.warm CC.wm
  intro T hT X
  obtain ⟨t, a1, b1⟩ := kk T hT X
  exact ⟨t, zldcwS X CC.1 CC.own (text := tx) (a := a) e3.1 e3.2 (g := F0 m pc LS st) rfl (by show decode c.code pc = _; rw [CC.2.1]; exact hd) t a1, b1⟩
theorem z_ldcC {C : String} (K0 : zZm s0 C) (hq : Cond.classLink M.1.cls idx C ∈ lw_all) (hd : decode M.2.1 pc = .ok (.ldc idx, 2)) (K : zP s0 M d (pc + 2) ls (zr (zmi s0 C) :: st) h Q E) : zP s0 M d pc ls st h Q E := by
  intro p l e R s m args below meth c H locs LS CC hR h1 h2 hL
  have kk := K _ _ _ _ _ _ args below _ _ _ _ _ CC hR h1 h2 hL
  obtain ⟨a, e1, e2⟩ := K0 CC.tt
  rw [e1] at kk
  exact va_ldcM CC.1 CC.2.1 CC.own (CC.tt.w hq CC.wm) (e2.moved CC.wm.alike) hd kk
end ZST
theorem k_ArrayList_DEFAULTCAPACITY_EMPTY_ELEMENTDATA {s0 : zE} : zZ s0 "java/util/ArrayList" "DEFAULTCAPACITY_EMPTY_ELEMENTDATA" "[Ljava/lang/Object;" (zr (zst s0 "java/util/ArrayList" "DEFAULTCAPACITY_EMPTY_ELEMENTDATA" "[Ljava/lang/Object;")) := zZ_ref q426 (lw_all_tbl q249) (fun hn => Or.inl (cnr (cnr (cnl (cnl (cnl (cnl (cnl (cnl (cnl (cnl (cnl (cnl hn)))))))))))))
theorem k_Throwable_UNASSIGNED_STACK {s0 : zE} : zZ s0 "java/lang/Throwable" "UNASSIGNED_STACK" "[Ljava/lang/StackTraceElement;" (zr (zst s0 "java/lang/Throwable" "UNASSIGNED_STACK" "[Ljava/lang/StackTraceElement;")) := zZ_ref q554 (lw_all_tbl q254) (fun hn => Or.inl (cnl (cnl (cnr (cnl (cnl (cnl (cnl (cnl (cnl (cnl (cnl hn))))))))))))
theorem k_Throwable_SUPPRESSED_SENTINEL {s0 : zE} : zZ s0 "java/lang/Throwable" "SUPPRESSED_SENTINEL" "Ljava/util/List;" (zr (zst s0 "java/lang/Throwable" "SUPPRESSED_SENTINEL" "Ljava/util/List;")) := zZ_ref q556 (lw_all_tbl q254) (fun hn => Or.inl (cnl (cnr (cnl (cnr (cnl (cnl (cnl (cnl (cnl (cnl (cnl (cnl hn)))))))))))))
theorem k_RelayHall_GREETING {s0 : zE} : zZ s0 "RelayHall" "GREETING" "[I" (zr (zst s0 "RelayHall" "GREETING" "[I")) := zZ_ref q862 (lw_all_tbl q243) (fun hn => Or.inl (cnr (cnr (cnl (cnr (cnl (cnl (cnl (cnl (cnl (cnl (cnl (cnl hn)))))))))))))
theorem k_String_COMPACT_STRINGS {s0 : zE} : zZ s0 "java/lang/String" "COMPACT_STRINGS" "Z" (.int 1) := zZ_int q948 (lw_all_tbl q265) (fun hn => (cnl (cnr (cnl (cnr (cnr (cnl (cnl (cnl (cnl (cnl (cnl (cnl hn)))))))))))))
theorem k_Integer_DigitOnes {s0 : zE} : zZ s0 "java/lang/Integer" "DigitOnes" "[B" (zr (zst s0 "java/lang/Integer" "DigitOnes" "[B")) := zZ_ref q1334 (lw_all_tbl q279) (fun hn => Or.inl (cnr (cnr (cnl (cnr (cnr (cnl (cnl (cnl (cnl (cnl (cnl (cnl hn)))))))))))))
theorem k_Integer_DigitTens {s0 : zE} : zZ s0 "java/lang/Integer" "DigitTens" "[B" (zr (zst s0 "java/lang/Integer" "DigitTens" "[B")) := zZ_ref q1336 (lw_all_tbl q279) (fun hn => Or.inl (cnl (cnr (cnr (cnr (cnr (cnl (cnl (cnr (cnl (cnl (cnl (cnl hn)))))))))))))
theorem k_Preconditions_SIOOBE_FORMATTER {s0 : zE} : zZ s0 "jdk/internal/util/Preconditions" "SIOOBE_FORMATTER" "Ljava/util/function/BiFunction;" (zr (zst s0 "jdk/internal/util/Preconditions" "SIOOBE_FORMATTER" "Ljava/util/function/BiFunction;")) := zZ_ref q1350 (lw_all_tbl q264) (fun hn => Or.inl (cnl (cnr (cnl (cnl (cnl (cnr (cnl (cnl (cnr (cnl (cnl (cnl hn)))))))))))))
theorem k_StringUTF16__assertionsDisabled {s0 : zE} : zZ s0 "java/lang/StringUTF16" "$assertionsDisabled" "Z" (.int 1) := zZ_int q1362 (lw_all_tbl q277) (fun hn => (cnr (cnr (cnl (cnl (cnl (cnr (cnl (cnl (cnr (cnl (cnl (cnl hn)))))))))))))
theorem k_StringUTF16_HI_BYTE_SHIFT {s0 : zE} : zZ s0 "java/lang/StringUTF16" "HI_BYTE_SHIFT" "I" (.int 0) := zZ_int q1364 (lw_all_tbl q277) (fun hn => (cnl (cnr (cnl (cnl (cnr (cnl (cnl (cnr (cnl (cnl (cnl hn))))))))))))
theorem k_StringUTF16_LO_BYTE_SHIFT {s0 : zE} : zZ s0 "java/lang/StringUTF16" "LO_BYTE_SHIFT" "I" (.int 8) := zZ_int q1366 (lw_all_tbl q277) (fun hn => (cnl (cnr (cnr (cnl (cnl (cnr (cnl (cnl (cnr (cnl (cnl (cnl hn)))))))))))))
theorem k_ArrayList_EMPTY_ELEMENTDATA {s0 : zE} : zZ s0 "java/util/ArrayList" "EMPTY_ELEMENTDATA" "[Ljava/lang/Object;" (zr (zst s0 "java/util/ArrayList" "EMPTY_ELEMENTDATA" "[Ljava/lang/Object;")) := zZ_ref q1840 (lw_all_tbl q249) (fun hn => Or.inl (cnr (cnr (cnr (cnl (cnl (cnr (cnl (cnl (cnr (cnl (cnl (cnl hn)))))))))))))
theorem k_Unsafe_ARRAY_BYTE_BASE_OFFSET {s0 : zE} : zZ s0 "jdk/internal/misc/Unsafe" "ARRAY_BYTE_BASE_OFFSET" "I" (.int 16) := zZ_int q2029 (lw_all_tbl q292) (fun hn => (cnl (cnr (cnr (cnr (cnl (cnr (cnl (cnl (cnr (cnl (cnl (cnl hn)))))))))))))
theorem k_ArraysSupport_LOG2_ARRAY_BYTE_INDEX_SCALE {s0 : zE} : zZ s0 "jdk/internal/util/ArraysSupport" "LOG2_ARRAY_BYTE_INDEX_SCALE" "I" (.int 0) := zZ_int q2031 (lw_all_tbl q280) (fun hn => (cnr (cnr (cnr (cnr (cnl (cnr (cnl (cnl (cnr (cnl (cnl (cnl hn)))))))))))))
theorem k_ArraysSupport_LOG2_ARRAY_LONG_INDEX_SCALE {s0 : zE} : zZ s0 "jdk/internal/util/ArraysSupport" "LOG2_ARRAY_LONG_INDEX_SCALE" "I" (.int 3) := zZ_int q2036 (lw_all_tbl q280) (fun hn => (cnl (cnl (cnl (cnr (cnr (cnl (cnl (cnr (cnl (cnl (cnl hn))))))))))))
theorem k_ArraysSupport_U {s0 : zE} : zZ s0 "jdk/internal/util/ArraysSupport" "U" "Ljdk/internal/misc/Unsafe;" (zr (zst s0 "jdk/internal/util/ArraysSupport" "U" "Ljdk/internal/misc/Unsafe;")) := zZ_ref q2038 (lw_all_tbl q280) (fun hn => Or.inr ⟨_, (cnl (cnr (cnl (cnl (cnr (cnr (cnl (cnl (cnr (cnl (cnl (cnl hn))))))))))))⟩)
theorem k_UnsafeConstants_BIG_ENDIAN {s0 : zE} : zZ s0 "jdk/internal/misc/UnsafeConstants" "BIG_ENDIAN" "Z" (.int 0) := zZ_int q2065 (lw_all_tbl q293) (fun hn => (cnr (cnr (cnl (cnl (cnr (cnr (cnl (cnl (cnr (cnl (cnl (cnl hn)))))))))))))
theorem k_ArraysSupport_BIG_ENDIAN {s0 : zE} : zZ s0 "jdk/internal/util/ArraysSupport" "BIG_ENDIAN" "Z" (.int 0) := zZ_int q2092 (lw_all_tbl q280) (fun hn => (cnl (cnr (cnl (cnr (cnr (cnl (cnl (cnr (cnl (cnl (cnl hn))))))))))))
theorem k_ArraysSupport_LOG2_BYTE_BIT_SIZE {s0 : zE} : zZ s0 "jdk/internal/util/ArraysSupport" "LOG2_BYTE_BIT_SIZE" "I" (.int 3) := zZ_int q2101 (lw_all_tbl q280) (fun hn => (cnl (cnr (cnr (cnl (cnr (cnr (cnl (cnl (cnr (cnl (cnl (cnl hn)))))))))))))
theorem k_ArraysSupport_LOG2_ARRAY_INT_INDEX_SCALE {s0 : zE} : zZ s0 "jdk/internal/util/ArraysSupport" "LOG2_ARRAY_INT_INDEX_SCALE" "I" (.int 2) := zZ_int q2109 (lw_all_tbl q280) (fun hn => (cnr (cnr (cnr (cnl (cnr (cnr (cnl (cnl (cnr (cnl (cnl (cnl hn)))))))))))))
theorem k_HashMap_TreeNode__assertionsDisabled {s0 : zE} : zZ s0 "java/util/HashMap$TreeNode" "$assertionsDisabled" "Z" (.int 1) := zZ_int q2271 (lw_all_tbl q297) (fun hn => (cnl (cnl (cnr (cnr (cnr (cnl (cnl (cnr (cnl (cnl (cnl hn))))))))))))
theorem k_ArraysSupport_JLA {s0 : zE} : zZ s0 "jdk/internal/util/ArraysSupport" "JLA" "Ljdk/internal/access/JavaLangAccess;" (zr (zst s0 "jdk/internal/util/ArraysSupport" "JLA" "Ljdk/internal/access/JavaLangAccess;")) := zZ_ref q2430 (lw_all_tbl q280) (fun hn => Or.inr ⟨_, (cnl (cnr (cnl (cnr (cnr (cnr (cnl (cnl (cnr (cnl (cnl (cnl hn))))))))))))⟩)
theorem k_Integer_IntegerCache_high {s0 : zE} : zZ s0 "java/lang/Integer$IntegerCache" "high" "I" (.int 127) := zZ_int q2655 (lw_all_tbl q303) (fun hn => (cnr (cnr (cnl (cnr (cnr (cnr (cnl (cnl (cnr (cnl (cnl (cnl hn)))))))))))))
theorem k_Integer_IntegerCache_cache {s0 : zE} : zZ s0 "java/lang/Integer$IntegerCache" "cache" "[Ljava/lang/Integer;" (zr (zst s0 "java/lang/Integer$IntegerCache" "cache" "[Ljava/lang/Integer;")) := zZ_ref q2657 (lw_all_tbl q303) (fun hn => Or.inl (cnl (cnl (cnr (cnr (cnr (cnr (cnl (cnl (cnr (cnl (cnl (cnl hn)))))))))))))
theorem k_RelayHall_Kind__VALUES {s0 : zE} : zZ s0 "RelayHall$Kind" "$VALUES" "[LRelayHall$Kind;" (zr (zst s0 "RelayHall$Kind" "$VALUES" "[LRelayHall$Kind;")) := zZ_ref q3176 (lw_all_tbl q310) (fun hn => Or.inl (cnl (cnl (cnl (cnl (cnl (cnr (cnl (cnr (cnl (cnl (cnl hn))))))))))))
theorem k_RelayHallModel_GREETS {s0 : zE} : zZ s0 "RelayHallModel" "GREETS" "[B" (zr (zst s0 "RelayHallModel" "GREETS" "[B")) := zZ_ref q4714 (lw_all_tbl q260) (fun hn => Or.inl (cnl (cnr (cnr (cnl (cnl (cnr (cnl (cnr (cnl (cnl (cnl hn))))))))))))
theorem k_RelayHallModel_EMPTY {s0 : zE} : zZ s0 "RelayHallModel" "EMPTY" "[B" (zr (zst s0 "RelayHallModel" "EMPTY" "[B")) := zZ_ref q5089 (lw_all_tbl q260) (fun hn => Or.inl (cnr (cnr (cnl (cnr (cnr (cnl (cnr (cnl (cnr (cnl (cnl (cnl hn)))))))))))))
theorem k_RelayHall_Kind_DIRECT {s0 : zE} : zZ s0 "RelayHall$Kind" "DIRECT" "LRelayHall$Kind;" (zr (zst s0 "RelayHall$Kind" "DIRECT" "LRelayHall$Kind;")) := zZ_ref q5813 (lw_all_tbl q310) (fun hn => Or.inr ⟨_, (cnl (cnr (cnr (cnr (cnr (cnl (cnr (cnl (cnr (cnl (cnl (cnl hn))))))))))))⟩)
theorem k_RelayHall_Kind_FANOUT {s0 : zE} : zZ s0 "RelayHall$Kind" "FANOUT" "LRelayHall$Kind;" (zr (zst s0 "RelayHall$Kind" "FANOUT" "LRelayHall$Kind;")) := zZ_ref q5814 (lw_all_tbl q310) (fun hn => Or.inr ⟨_, (cnl (cnr (cnl (cnl (cnl (cnr (cnr (cnl (cnr (cnl (cnl (cnl hn))))))))))))⟩)
theorem k_RelayHall_Kind_TOPIC {s0 : zE} : zZ s0 "RelayHall$Kind" "TOPIC" "LRelayHall$Kind;" (zr (zst s0 "RelayHall$Kind" "TOPIC" "LRelayHall$Kind;")) := zZ_ref q5815 (lw_all_tbl q310) (fun hn => Or.inr ⟨_, (cnr (cnr (cnr (cnl (cnl (cnr (cnr (cnl (cnr (cnl (cnl (cnl hn))))))))))))⟩)
theorem k_RelayHall_Kind_HEADERS {s0 : zE} : zZ s0 "RelayHall$Kind" "HEADERS" "LRelayHall$Kind;" (zr (zst s0 "RelayHall$Kind" "HEADERS" "LRelayHall$Kind;")) := zZ_ref q5816 (lw_all_tbl q310) (fun hn => Or.inr ⟨_, (cnl (cnr (cnr (cnr (cnl (cnr (cnr (cnl (cnr (cnl (cnl (cnl hn))))))))))))⟩)
theorem k_s_RelayHall_Fault_1 {s0 : zE} : zZs s0 "RelayHall$Fault" 1 := zZs_of (tx := "a fault") q575 (fun hn => (cnl (cnr (cnl (cnr (cnl (cnr (cnl (cnr (cnl (cnr (cnr (cnr hn)))))))))))))
theorem k_s_Arrays_337 {s0 : zE} : zZs s0 "java/util/Arrays" 337 := zZs_of (tx := " > ") q1368 (fun hn => (cnl (cnr (cnl (cnl (cnr (cnr (cnl (cnr (cnl (cnr (cnr (cnr hn)))))))))))))
theorem k_s_ArraysSupport_92 {s0 : zE} : zZs s0 "jdk/internal/util/ArraysSupport" 92 := zZs_of (tx := "unrecognized basic type: ") q2460 (fun hn => (cnl (cnl (cnl (cnr (cnr (cnr (cnl (cnr (cnl (cnr (cnr (cnr hn)))))))))))))
theorem k_s_RelayHall_Reader_41 {s0 : zE} : zZs s0 "RelayHall$Reader" 41 := zZs_of (tx := "") q2909 (fun hn => (cnl (cnl (cnr (cnr (cnl (cnl (cnr (cnr (cnl (cnr (cnr (cnr hn)))))))))))))
theorem k_s_RelayHall_710 {s0 : zE} : zZs s0 "RelayHall" 710 := zZs_of (tx := "alt") q3184 (fun hn => (cnr (cnr (cnr (cnr (cnr (cnl (cnl (cnr (cnr (cnl (cnr (cnr (cnr hn))))))))))))))
theorem k_s_RelayHall_Arguments_28 {s0 : zE} : zZs s0 "RelayHall$Arguments" 28 := zZs_of (tx := "max") q3275 (fun hn => (cnr (cnr (cnl (cnr (cnl (cnr (cnl (cnr (cnr (cnl (cnr (cnr (cnr hn))))))))))))))
theorem k_s_RelayHall_Arguments_34 {s0 : zE} : zZs s0 "RelayHall$Arguments" 34 := zZs_of (tx := "ttl") q3288 (fun hn => (cnr (cnr (cnr (cnl (cnr (cnr (cnl (cnr (cnr (cnl (cnr (cnr (cnr hn))))))))))))))
theorem k_s_RelayHall_Arguments_36 {s0 : zE} : zZs s0 "RelayHall$Arguments" 36 := zZs_of (tx := "pri") q3289 (fun hn => (cnl (cnr (cnl (cnl (cnl (cnl (cnr (cnr (cnr (cnl (cnr (cnr (cnr hn))))))))))))))
theorem k_s_RelayHall_Arguments_38 {s0 : zE} : zZs s0 "RelayHall$Arguments" 38 := zZs_of (tx := "dlx") q3290 (fun hn => (cnl (cnr (cnr (cnr (cnl (cnl (cnr (cnr (cnr (cnl (cnr (cnr (cnr hn))))))))))))))
theorem k_s_RelayHall_Arguments_44 {s0 : zE} : zZs s0 "RelayHall$Arguments" 44 := zZs_of (tx := "dlk") q3295 (fun hn => (cnl (cnr (cnl (cnr (cnr (cnl (cnr (cnr (cnr (cnl (cnr (cnr (cnr hn))))))))))))))
theorem k_s_RelayHall_791 {s0 : zE} : zZs s0 "RelayHall" 791 := zZs_of (tx := "gen-") q3322 (fun hn => (cnl (cnr (cnl (cnl (cnr (cnr (cnr (cnr (cnl (cnr (cnr (cnr hn)))))))))))))
theorem k_s_RelayHall_Binding_67 {s0 : zE} : zZs s0 "RelayHall$Binding" 67 := zZs_of (tx := "match") q3570 (fun hn => (cnl (cnr (cnl (cnl (cnr (cnr (cnr (cnr (cnr (cnl (cnr (cnr (cnr hn))))))))))))))
theorem k_s_RelayHall_867 {s0 : zE} : zZs s0 "RelayHall" 867 := zZs_of (tx := "ctag-") q3659 (fun hn => (cnr (cnr (cnr (cnr (cnr (cnr (cnr (cnr (cnr (cnl (cnr (cnr (cnr hn))))))))))))))
theorem k_s_RelayHall_Kind_4_13 {s0 : zE} : zZs s0 "RelayHall$Kind$4" 13 := zZs_of (tx := "match") q3927 (fun hn => (cnl (cnr (cnr (cnr (cnl (cnl (cnl (cnl (cnl (cnr (cnr (cnr (cnr hn))))))))))))))
theorem k_s_RelayHall_Kind_4_21 {s0 : zE} : zZs s0 "RelayHall$Kind$4" 21 := zZs_of (tx := "any") q3929 (fun hn => (cnl (cnr (cnr (cnr (cnr (cnl (cnl (cnl (cnl (cnr (cnr (cnr (cnr hn))))))))))))))
theorem k_s_RelayHall_989 {s0 : zE} : zZs s0 "RelayHall" 989 := zZs_of (tx := "no such connection or number") q4190 (fun hn => (cnl (cnr (cnl (cnr (cnl (cnr (cnl (cnl (cnl (cnr (cnr (cnr (cnr hn))))))))))))))
theorem k_s_RelayHall_994 {s0 : zE} : zZs s0 "RelayHall" 994 := zZs_of (tx := "not so many bytes") q4195 (fun hn => (cnr (cnr (cnr (cnl (cnr (cnl (cnr (cnl (cnl (cnr (cnr (cnr (cnr hn))))))))))))))
theorem k_s_RelayHall_1003 {s0 : zE} : zZs s0 "RelayHall" 1003 := zZs_of (tx := "no such number of ticks") q4213 (fun hn => (cnl (cnr (cnr (cnl (cnr (cnr (cnr (cnl (cnl (cnr (cnr (cnr (cnr hn))))))))))))))
theorem k_s_RelayHall_1012 {s0 : zE} : zZs s0 "RelayHall" 1012 := zZs_of (tx := "no such number") q4362 (fun hn => (cnl (cnr (cnr (cnr (cnl (cnl (cnr (cnl (cnr (cnr (cnr (cnr hn)))))))))))))
theorem k_s_RelayHallModel_587 {s0 : zE} : zZs s0 "RelayHallModel" 587 := zZs_of (tx := "match") q4956 (fun hn => (cnr (cnr (cnr (cnl (cnr (cnr (cnl (cnr (cnl (cnr (cnr (cnr (cnr hn))))))))))))))
theorem k_s_RelayHallModel_593 {s0 : zE} : zZs s0 "RelayHallModel" 593 := zZs_of (tx := "any") q4965 (fun hn => (cnl (cnl (cnr (cnl (cnl (cnr (cnr (cnl (cnr (cnr (cnr (cnr hn)))))))))))))
theorem k_s_RelayHallModel_726 {s0 : zE} : zZs s0 "RelayHallModel" 726 := zZs_of (tx := "direct") q5180 (fun hn => (cnl (cnr (cnr (cnl (cnr (cnl (cnr (cnr (cnl (cnr (cnr (cnr (cnr hn))))))))))))))
theorem k_s_RelayHallModel_728 {s0 : zE} : zZs s0 "RelayHallModel" 728 := zZs_of (tx := "fanout") q5181 (fun hn => (cnl (cnr (cnr (cnl (cnl (cnr (cnr (cnr (cnl (cnr (cnr (cnr (cnr hn))))))))))))))
theorem k_s_RelayHallModel_730 {s0 : zE} : zZs s0 "RelayHallModel" 730 := zZs_of (tx := "topic") q5182 (fun hn => (cnl (cnr (cnr (cnl (cnr (cnr (cnr (cnr (cnl (cnr (cnr (cnr (cnr hn))))))))))))))
theorem k_s_RelayHallModel_731 {s0 : zE} : zZs s0 "RelayHallModel" 731 := zZs_of (tx := "headers") q5183 (fun hn => (cnr (cnr (cnl (cnl (cnl (cnl (cnl (cnl (cnr (cnr (cnr (cnr (cnr hn))))))))))))))
theorem k_s_RelayHallModel_746 {s0 : zE} : zZs s0 "RelayHallModel" 746 := zZs_of (tx := "alt") q5188 (fun hn => (cnl (cnr (cnl (cnr (cnl (cnl (cnl (cnr (cnr (cnr (cnr (cnr hn)))))))))))))
theorem k_s_RelayHallModel_757 {s0 : zE} : zZs s0 "RelayHallModel" 757 := zZs_of (tx := "max") q5293 (fun hn => (cnl (cnr (cnl (cnl (cnl (cnr (cnl (cnl (cnr (cnr (cnr (cnr (cnr hn))))))))))))))
theorem k_s_RelayHallModel_762 {s0 : zE} : zZs s0 "RelayHallModel" 762 := zZs_of (tx := "ttl") q5297 (fun hn => (cnr (cnr (cnr (cnr (cnl (cnr (cnl (cnl (cnr (cnr (cnr (cnr (cnr hn))))))))))))))
theorem k_s_RelayHallModel_763 {s0 : zE} : zZs s0 "RelayHallModel" 763 := zZs_of (tx := "pri") q5298 (fun hn => (cnl (cnr (cnr (cnr (cnr (cnl (cnl (cnr (cnr (cnr (cnr (cnr hn)))))))))))))
theorem k_s_RelayHallModel_764 {s0 : zE} : zZs s0 "RelayHallModel" 764 := zZs_of (tx := "dlx") q5299 (fun hn => (cnl (cnr (cnl (cnr (cnl (cnl (cnr (cnl (cnr (cnr (cnr (cnr (cnr hn))))))))))))))
theorem k_s_RelayHallModel_765 {s0 : zE} : zZs s0 "RelayHallModel" 765 := zZs_of (tx := "dlk") q5300 (fun hn => (cnr (cnr (cnr (cnl (cnr (cnl (cnr (cnl (cnr (cnr (cnr (cnr (cnr hn))))))))))))))
theorem k_s_RelayHallModel_785 {s0 : zE} : zZs s0 "RelayHallModel" 785 := zZs_of (tx := "gen-") q5308 (fun hn => (cnl (cnr (cnl (cnl (cnr (cnr (cnl (cnr (cnr (cnr (cnr (cnr hn)))))))))))))
theorem k_s_RelayHallModel_823 {s0 : zE} : zZs s0 "RelayHallModel" 823 := zZs_of (tx := "ctag-") q5388 (fun hn => (cnr (cnr (cnl (cnl (cnr (cnr (cnr (cnl (cnr (cnr (cnr (cnr (cnr hn))))))))))))))
theorem k_s_RelayHall_Kind_52 {s0 : zE} : zZs s0 "RelayHall$Kind" 52 := zZs_of (tx := "direct") q5817 (fun hn => (cnr (cnr (cnl (cnl (cnl (cnl (cnl (cnr (cnr (cnr (cnr (cnr (cnr hn))))))))))))))
theorem k_s_RelayHall_Kind_60 {s0 : zE} : zZs s0 "RelayHall$Kind" 60 := zZs_of (tx := "fanout") q5818 (fun hn => (cnl (cnr (cnl (cnr (cnl (cnl (cnr (cnr (cnr (cnr (cnr (cnr hn)))))))))))))
theorem k_s_RelayHall_Kind_66 {s0 : zE} : zZs s0 "RelayHall$Kind" 66 := zZs_of (tx := "topic") q5819 (fun hn => (cnl (cnr (cnr (cnl (cnl (cnr (cnl (cnr (cnr (cnr (cnr (cnr (cnr hn))))))))))))))
theorem k_s_RelayHall_Kind_72 {s0 : zE} : zZs s0 "RelayHall$Kind" 72 := zZs_of (tx := "headers") q5820 (fun hn => (cnl (cnr (cnr (cnl (cnr (cnr (cnl (cnr (cnr (cnr (cnr (cnr (cnr hn))))))))))))))
theorem k_m_Object_ {s0 : zE} : zZm s0 "[Ljava/lang/Object;" := zZm_of (fun hn => (cnl (cnl (cnl (cnl (cnr (cnr (cnl (cnr (cnl (cnr (cnr hn))))))))))))
theorem k_m_ArrayList {s0 : zE} : zZm s0 "java/util/ArrayList" := zZm_of (fun hn => (cnl (cnr (cnl (cnl (cnl (cnr (cnr (cnl (cnr (cnl (cnr (cnr hn)))))))))))))
theorem k_m_String {s0 : zE} : zZm s0 "java/lang/String" := zZm_of (fun hn => (cnl (cnr (cnl (cnl (cnr (cnr (cnl (cnr (cnl (cnr (cnr hn))))))))))))
theorem k_m_Enum {s0 : zE} : zZm s0 "java/lang/Enum" := zZm_of (fun hn => (cnl (cnl (cnr (cnl (cnr (cnr (cnl (cnr (cnl (cnr (cnr hn))))))))))))
theorem k_m_RelayHall {s0 : zE} : zZm s0 "RelayHall" := zZm_of (fun hn => (cnl (cnr (cnr (cnr (cnl (cnr (cnr (cnl (cnr (cnl (cnr (cnr hn)))))))))))))
theorem k_m_RelayHall_Arguments {s0 : zE} : zZm s0 "RelayHall$Arguments" := zZm_of (fun hn => (cnl (cnr (cnl (cnr (cnr (cnr (cnl (cnr (cnl (cnr (cnr hn))))))))))))
theorem k_m_RelayHall_Binding {s0 : zE} : zZm s0 "RelayHall$Binding" := zZm_of (fun hn => (cnr (cnr (cnl (cnr (cnr (cnr (cnr (cnl (cnr (cnl (cnr (cnr hn)))))))))))))
theorem k_m_RelayHall_Bound {s0 : zE} : zZm s0 "RelayHall$Bound" := zZm_of (fun hn => (cnl (cnl (cnl (cnl (cnl (cnl (cnr (cnr (cnl (cnr (cnr hn))))))))))))
theorem k_m_RelayHall_Came {s0 : zE} : zZm s0 "RelayHall$Came" := zZm_of (fun hn => (cnr (cnr (cnr (cnl (cnl (cnl (cnl (cnr (cnr (cnl (cnr (cnr hn)))))))))))))
theorem k_m_RelayHall_Channel {s0 : zE} : zZm s0 "RelayHall$Channel" := zZm_of (fun hn => (cnl (cnr (cnr (cnr (cnl (cnl (cnl (cnr (cnr (cnl (cnr (cnr hn)))))))))))))
theorem k_m_RelayHall_Connection {s0 : zE} : zZm s0 "RelayHall$Connection" := zZm_of (fun hn => (cnl (cnr (cnl (cnr (cnl (cnl (cnr (cnr (cnl (cnr (cnr hn))))))))))))
theorem k_m_RelayHall_Consumer {s0 : zE} : zZm s0 "RelayHall$Consumer" := zZm_of (fun hn => (cnr (cnr (cnl (cnr (cnr (cnl (cnl (cnr (cnr (cnl (cnr (cnr hn)))))))))))))
theorem k_m_RelayHall_Content {s0 : zE} : zZm s0 "RelayHall$Content" := zZm_of (fun hn => (cnl (cnl (cnl (cnl (cnr (cnl (cnr (cnr (cnl (cnr (cnr hn))))))))))))
theorem k_m_RelayHall_Dead {s0 : zE} : zZm s0 "RelayHall$Dead" := zZm_of (fun hn => (cnr (cnr (cnr (cnl (cnl (cnr (cnl (cnr (cnr (cnl (cnr (cnr hn)))))))))))))
theorem k_m_RelayHall_Exchange {s0 : zE} : zZm s0 "RelayHall$Exchange" := zZm_of (fun hn => (cnl (cnr (cnr (cnr (cnl (cnr (cnl (cnr (cnr (cnl (cnr (cnr hn)))))))))))))
theorem k_m_RelayHall_ExchangeGone {s0 : zE} : zZm s0 "RelayHall$ExchangeGone" := zZm_of (fun hn => (cnl (cnr (cnl (cnr (cnr (cnl (cnr (cnr (cnl (cnr (cnr hn))))))))))))
theorem k_m_RelayHall_ExchangeMade {s0 : zE} : zZm s0 "RelayHall$ExchangeMade" := zZm_of (fun hn => (cnr (cnr (cnl (cnr (cnr (cnr (cnl (cnr (cnr (cnl (cnr (cnr hn)))))))))))))
theorem k_m_RelayHall_Fault {s0 : zE} : zZm s0 "RelayHall$Fault" := zZm_of (fun hn => (cnl (cnl (cnl (cnl (cnl (cnr (cnr (cnr (cnl (cnr (cnr hn))))))))))))
theorem k_m_RelayHall_Kind_1 {s0 : zE} : zZm s0 "RelayHall$Kind$1" := zZm_of (fun hn => (cnr (cnr (cnr (cnl (cnl (cnl (cnr (cnr (cnr (cnl (cnr (cnr hn)))))))))))))
theorem k_m_RelayHall_Kind_2 {s0 : zE} : zZm s0 "RelayHall$Kind$2" := zZm_of (fun hn => (cnl (cnr (cnr (cnr (cnl (cnl (cnr (cnr (cnr (cnl (cnr (cnr hn)))))))))))))
theorem k_m_RelayHall_Kind_3 {s0 : zE} : zZm s0 "RelayHall$Kind$3" := zZm_of (fun hn => (cnl (cnr (cnl (cnr (cnl (cnr (cnr (cnr (cnl (cnr (cnr hn))))))))))))
theorem k_m_RelayHall_Kind_4 {s0 : zE} : zZm s0 "RelayHall$Kind$4" := zZm_of (fun hn => (cnr (cnr (cnl (cnr (cnr (cnl (cnr (cnr (cnr (cnl (cnr (cnr hn)))))))))))))
theorem k_m_RelayHall_Left {s0 : zE} : zZm s0 "RelayHall$Left" := zZm_of (fun hn => (cnl (cnl (cnl (cnl (cnr (cnr (cnr (cnr (cnl (cnr (cnr hn))))))))))))
theorem k_m_RelayHall_Log {s0 : zE} : zZm s0 "RelayHall$Log" := zZm_of (fun hn => (cnr (cnr (cnr (cnl (cnl (cnr (cnr (cnr (cnr (cnl (cnr (cnr hn)))))))))))))
theorem k_m_RelayHall_Message {s0 : zE} : zZm s0 "RelayHall$Message" := zZm_of (fun hn => (cnl (cnr (cnr (cnr (cnl (cnr (cnr (cnr (cnr (cnl (cnr (cnr hn)))))))))))))
theorem k_m_RelayHall_MessageQueue {s0 : zE} : zZm s0 "RelayHall$MessageQueue" := zZm_of (fun hn => (cnl (cnr (cnl (cnr (cnr (cnr (cnr (cnr (cnl (cnr (cnr hn))))))))))))
theorem k_m_RelayHall_Publishing {s0 : zE} : zZm s0 "RelayHall$Publishing" := zZm_of (fun hn => (cnr (cnr (cnl (cnr (cnr (cnr (cnr (cnr (cnr (cnl (cnr (cnr hn)))))))))))))
theorem k_m_RelayHall_QueueGone {s0 : zE} : zZm s0 "RelayHall$QueueGone" := zZm_of (fun hn => (cnl (cnl (cnl (cnl (cnl (cnl (cnl (cnl (cnl (cnr (cnr (cnr hn)))))))))))))
theorem k_m_RelayHall_QueueMade {s0 : zE} : zZm s0 "RelayHall$QueueMade" := zZm_of (fun hn => (cnr (cnr (cnr (cnl (cnl (cnl (cnl (cnl (cnl (cnl (cnr (cnr (cnr hn))))))))))))))
theorem k_m_RelayHall_Reader {s0 : zE} : zZm s0 "RelayHall$Reader" := zZm_of (fun hn => (cnl (cnr (cnr (cnr (cnl (cnl (cnl (cnl (cnl (cnl (cnr (cnr (cnr hn))))))))))))))
theorem k_m_RelayHall_SafeQueue {s0 : zE} : zZm s0 "RelayHall$SafeQueue" := zZm_of (fun hn => (cnl (cnr (cnl (cnr (cnl (cnl (cnl (cnl (cnl (cnr (cnr (cnr hn)))))))))))))
theorem k_m_RelayHall_Settling {s0 : zE} : zZm s0 "RelayHall$Settling" := zZm_of (fun hn => (cnr (cnr (cnl (cnr (cnr (cnl (cnl (cnl (cnl (cnl (cnr (cnr (cnr hn))))))))))))))
theorem k_m_RelayHall_Table {s0 : zE} : zZm s0 "RelayHall$Table" := zZm_of (fun hn => (cnl (cnl (cnl (cnl (cnr (cnl (cnl (cnl (cnl (cnr (cnr (cnr hn)))))))))))))
theorem k_m_RelayHall_Unacked {s0 : zE} : zZm s0 "RelayHall$Unacked" := zZm_of (fun hn => (cnr (cnr (cnr (cnl (cnl (cnr (cnl (cnl (cnl (cnl (cnr (cnr (cnr hn))))))))))))))
theorem k_m_RelayHall_Unbound {s0 : zE} : zZm s0 "RelayHall$Unbound" := zZm_of (fun hn => (cnl (cnr (cnr (cnr (cnl (cnr (cnl (cnl (cnl (cnl (cnr (cnr (cnr hn))))))))))))))
theorem k_m_RelayHall_Value {s0 : zE} : zZm s0 "RelayHall$Value" := zZm_of (fun hn => (cnl (cnr (cnl (cnr (cnr (cnl (cnl (cnl (cnl (cnr (cnr (cnr hn)))))))))))))
theorem k_m_RelayHall_Writer {s0 : zE} : zZm s0 "RelayHall$Writer" := zZm_of (fun hn => (cnr (cnr (cnl (cnr (cnr (cnr (cnl (cnl (cnl (cnl (cnr (cnr (cnr hn))))))))))))))
theorem k_m_RelayHallModel {s0 : zE} : zZm s0 "RelayHallModel" := zZm_of (fun hn => (cnl (cnl (cnl (cnl (cnl (cnr (cnl (cnl (cnl (cnr (cnr (cnr hn)))))))))))))
theorem k_m_RelayHallModel_Binding {s0 : zE} : zZm s0 "RelayHallModel$Binding" := zZm_of (fun hn => (cnr (cnr (cnr (cnl (cnl (cnl (cnr (cnl (cnl (cnl (cnr (cnr (cnr hn))))))))))))))
theorem k_m_RelayHallModel_Channel {s0 : zE} : zZm s0 "RelayHallModel$Channel" := zZm_of (fun hn => (cnl (cnr (cnr (cnr (cnl (cnl (cnr (cnl (cnl (cnl (cnr (cnr (cnr hn))))))))))))))
theorem k_m_RelayHallModel_Connection {s0 : zE} : zZm s0 "RelayHallModel$Connection" := zZm_of (fun hn => (cnl (cnr (cnl (cnr (cnl (cnr (cnl (cnl (cnl (cnr (cnr (cnr hn)))))))))))))
theorem k_m_RelayHallModel_Consumer {s0 : zE} : zZm s0 "RelayHallModel$Consumer" := zZm_of (fun hn => (cnr (cnr (cnl (cnr (cnr (cnl (cnr (cnl (cnl (cnl (cnr (cnr (cnr hn))))))))))))))
theorem k_m_RelayHallModel_Content {s0 : zE} : zZm s0 "RelayHallModel$Content" := zZm_of (fun hn => (cnl (cnl (cnl (cnl (cnr (cnr (cnl (cnl (cnl (cnr (cnr (cnr hn)))))))))))))
theorem k_m_RelayHallModel_Dead {s0 : zE} : zZm s0 "RelayHallModel$Dead" := zZm_of (fun hn => (cnr (cnr (cnr (cnl (cnl (cnr (cnr (cnl (cnl (cnl (cnr (cnr (cnr hn))))))))))))))
theorem k_m_RelayHallModel_Entry {s0 : zE} : zZm s0 "RelayHallModel$Entry" := zZm_of (fun hn => (cnl (cnr (cnr (cnr (cnl (cnr (cnr (cnl (cnl (cnl (cnr (cnr (cnr hn))))))))))))))
theorem k_m_RelayHallModel_Exchange {s0 : zE} : zZm s0 "RelayHallModel$Exchange" := zZm_of (fun hn => (cnl (cnr (cnl (cnr (cnr (cnr (cnl (cnl (cnl (cnr (cnr (cnr hn)))))))))))))
theorem k_m_RelayHallModel_Fact {s0 : zE} : zZm s0 "RelayHallModel$Fact" := zZm_of (fun hn => (cnr (cnr (cnl (cnr (cnr (cnr (cnr (cnl (cnl (cnl (cnr (cnr (cnr hn))))))))))))))
theorem k_m_RelayHallModel_Kept {s0 : zE} : zZm s0 "RelayHallModel$Kept" := zZm_of (fun hn => (cnl (cnl (cnl (cnl (cnl (cnl (cnr (cnl (cnl (cnr (cnr (cnr hn)))))))))))))
theorem k_m_RelayHallModel_Queue {s0 : zE} : zZm s0 "RelayHallModel$Queue" := zZm_of (fun hn => (cnr (cnr (cnr (cnl (cnl (cnl (cnl (cnr (cnl (cnl (cnr (cnr (cnr hn))))))))))))))
theorem k_m_RelayHallModel_Sent {s0 : zE} : zZm s0 "RelayHallModel$Sent" := zZm_of (fun hn => (cnl (cnr (cnr (cnr (cnl (cnl (cnl (cnr (cnl (cnl (cnr (cnr (cnr hn))))))))))))))
theorem k_m_RelayHallModel_Table {s0 : zE} : zZm s0 "RelayHallModel$Table" := zZm_of (fun hn => (cnl (cnr (cnl (cnr (cnl (cnl (cnr (cnl (cnl (cnr (cnr (cnr hn)))))))))))))
theorem k_m_ArrayIndexOutOfBoundsException {s0 : zE} : zZm s0 "java/lang/ArrayIndexOutOfBoundsException" := zZm_of (fun hn => (cnr (cnr (cnl (cnr (cnr (cnl (cnl (cnr (cnl (cnl (cnr (cnr (cnr hn))))))))))))))
theorem k_m_IllegalArgumentException {s0 : zE} : zZm s0 "java/lang/IllegalArgumentException" := zZm_of (fun hn => (cnl (cnl (cnl (cnl (cnr (cnl (cnr (cnl (cnl (cnr (cnr (cnr hn)))))))))))))
theorem k_m_IllegalStateException {s0 : zE} : zZm s0 "java/lang/IllegalStateException" := zZm_of (fun hn => (cnr (cnr (cnr (cnl (cnl (cnr (cnl (cnr (cnl (cnl (cnr (cnr (cnr hn))))))))))))))
theorem k_m_IndexOutOfBoundsException {s0 : zE} : zZm s0 "java/lang/IndexOutOfBoundsException" := zZm_of (fun hn => (cnl (cnr (cnr (cnr (cnl (cnr (cnl (cnr (cnl (cnl (cnr (cnr (cnr hn))))))))))))))
theorem k_m_Integer {s0 : zE} : zZm s0 "java/lang/Integer" := zZm_of (fun hn => (cnl (cnr (cnl (cnr (cnr (cnl (cnr (cnl (cnl (cnr (cnr (cnr hn)))))))))))))
theorem k_m_StringBuilder {s0 : zE} : zZm s0 "java/lang/StringBuilder" := zZm_of (fun hn => (cnr (cnr (cnl (cnr (cnr (cnr (cnl (cnr (cnl (cnl (cnr (cnr (cnr hn))))))))))))))
theorem k_m_System_2 {s0 : zE} : zZm s0 "java/lang/System$2" := zZm_of (fun hn => (cnl (cnl (cnl (cnl (cnl (cnr (cnr (cnl (cnl (cnr (cnr (cnr hn)))))))))))))
theorem k_m_Throwable {s0 : zE} : zZm s0 "java/lang/Throwable" := zZm_of (fun hn => (cnr (cnr (cnr (cnl (cnl (cnl (cnr (cnr (cnl (cnl (cnr (cnr (cnr hn))))))))))))))
theorem k_m_AbstractMap_SimpleImmutableEntry {s0 : zE} : zZm s0 "java/util/AbstractMap$SimpleImmutableEntry" := zZm_of (fun hn => (cnl (cnr (cnr (cnr (cnl (cnl (cnr (cnr (cnl (cnl (cnr (cnr (cnr hn))))))))))))))
theorem k_m_ArrayDeque {s0 : zE} : zZm s0 "java/util/ArrayDeque" := zZm_of (fun hn => (cnl (cnr (cnl (cnr (cnl (cnr (cnr (cnl (cnl (cnr (cnr (cnr hn)))))))))))))
theorem k_m_ArrayDeque_DeqIterator {s0 : zE} : zZm s0 "java/util/ArrayDeque$DeqIterator" := zZm_of (fun hn => (cnr (cnr (cnl (cnr (cnr (cnl (cnr (cnr (cnl (cnl (cnr (cnr (cnr hn))))))))))))))
theorem k_m_ArrayList_Itr {s0 : zE} : zZm s0 "java/util/ArrayList$Itr" := zZm_of (fun hn => (cnl (cnl (cnl (cnl (cnr (cnr (cnr (cnl (cnl (cnr (cnr (cnr hn)))))))))))))
theorem k_m_ConcurrentModificationException {s0 : zE} : zZm s0 "java/util/ConcurrentModificationException" := zZm_of (fun hn => (cnr (cnr (cnr (cnl (cnl (cnr (cnr (cnr (cnl (cnl (cnr (cnr (cnr hn))))))))))))))
theorem k_m_HashMap_Node {s0 : zE} : zZm s0 "java/util/HashMap$Node" := zZm_of (fun hn => (cnl (cnr (cnr (cnr (cnl (cnr (cnr (cnr (cnl (cnl (cnr (cnr (cnr hn))))))))))))))
theorem k_m_HashMap_TreeNode {s0 : zE} : zZm s0 "java/util/HashMap$TreeNode" := zZm_of (fun hn => (cnl (cnr (cnl (cnr (cnr (cnr (cnr (cnl (cnl (cnr (cnr (cnr hn)))))))))))))
theorem k_m_LinkedHashMap {s0 : zE} : zZm s0 "java/util/LinkedHashMap" := zZm_of (fun hn => (cnr (cnr (cnl (cnr (cnr (cnr (cnr (cnr (cnl (cnl (cnr (cnr (cnr hn))))))))))))))
theorem k_m_LinkedHashMap_Entry {s0 : zE} : zZm s0 "java/util/LinkedHashMap$Entry" := zZm_of (fun hn => (cnl (cnl (cnl (cnl (cnl (cnl (cnl (cnr (cnl (cnr (cnr (cnr hn)))))))))))))
theorem k_m_LinkedHashMap_LinkedEntryIterator {s0 : zE} : zZm s0 "java/util/LinkedHashMap$LinkedEntryIterator" := zZm_of (fun hn => (cnr (cnr (cnr (cnl (cnl (cnl (cnl (cnl (cnr (cnl (cnr (cnr (cnr hn))))))))))))))
theorem k_m_LinkedHashMap_LinkedEntrySet {s0 : zE} : zZm s0 "java/util/LinkedHashMap$LinkedEntrySet" := zZm_of (fun hn => (cnl (cnr (cnr (cnr (cnl (cnl (cnl (cnl (cnr (cnl (cnr (cnr (cnr hn))))))))))))))
theorem k_m_LinkedHashMap_LinkedValueIterator {s0 : zE} : zZm s0 "java/util/LinkedHashMap$LinkedValueIterator" := zZm_of (fun hn => (cnl (cnr (cnl (cnr (cnl (cnl (cnl (cnr (cnl (cnr (cnr (cnr hn)))))))))))))
theorem k_m_LinkedHashMap_LinkedValues {s0 : zE} : zZm s0 "java/util/LinkedHashMap$LinkedValues" := zZm_of (fun hn => (cnr (cnr (cnl (cnr (cnr (cnl (cnl (cnl (cnr (cnl (cnr (cnr (cnr hn))))))))))))))
theorem k_m_NoSuchElementException {s0 : zE} : zZm s0 "java/util/NoSuchElementException" := zZm_of (fun hn => (cnl (cnl (cnl (cnl (cnr (cnl (cnl (cnr (cnl (cnr (cnr (cnr hn)))))))))))))
theorem k_m_TreeMap {s0 : zE} : zZm s0 "java/util/TreeMap" := zZm_of (fun hn => (cnr (cnr (cnr (cnl (cnl (cnr (cnl (cnl (cnr (cnl (cnr (cnr (cnr hn))))))))))))))
theorem k_m_TreeMap_Entry {s0 : zE} : zZm s0 "java/util/TreeMap$Entry" := zZm_of (fun hn => (cnl (cnr (cnr (cnr (cnl (cnr (cnl (cnl (cnr (cnl (cnr (cnr (cnr hn))))))))))))))
theorem k_m_TreeMap_EntryIterator {s0 : zE} : zZm s0 "java/util/TreeMap$EntryIterator" := zZm_of (fun hn => (cnl (cnr (cnl (cnr (cnr (cnl (cnl (cnr (cnl (cnr (cnr (cnr hn)))))))))))))
theorem k_m_TreeMap_EntrySet {s0 : zE} : zZm s0 "java/util/TreeMap$EntrySet" := zZm_of (fun hn => (cnr (cnr (cnl (cnr (cnr (cnr (cnl (cnl (cnr (cnl (cnr (cnr (cnr hn))))))))))))))
theorem k_m_TreeMap_ValueIterator {s0 : zE} : zZm s0 "java/util/TreeMap$ValueIterator" := zZm_of (fun hn => (cnl (cnl (cnl (cnl (cnl (cnr (cnl (cnr (cnl (cnr (cnr (cnr hn)))))))))))))
theorem k_m_TreeMap_Values {s0 : zE} : zZm s0 "java/util/TreeMap$Values" := zZm_of (fun hn => (cnr (cnr (cnr (cnl (cnl (cnl (cnr (cnl (cnr (cnl (cnr (cnr (cnr hn))))))))))))))
theorem k_m_Unsafe {s0 : zE} : zZm s0 "jdk/internal/misc/Unsafe" := zZm_of (fun hn => (cnl (cnr (cnr (cnr (cnl (cnl (cnr (cnl (cnr (cnl (cnr (cnr (cnr hn))))))))))))))
