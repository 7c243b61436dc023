/-! ===== L0: casts, switches, further calls ===== -/
set_option maxRecDepth 100000
/-- stronger ahead, weaker behind -/
theorem zX.mono {s0 : zE} {M : zM} {d : Nat} {a : List Value} {h : zH} {Q Q' : Value → zH → Prop} {E E' : Nat → zH → Prop} (X : zX s0 M d a h Q E) (hQ : ∀ v h1, Q v h1 → Q' v h1) (hE : ∀ n h1, E n h1 → E' n h1) : zX s0 M d a h Q' E' := by
  intro l hl
  refine MetFree.mono (X l hl) (fun a s h => h) (fun p e below s a h => h) fun a s o s' hP h => ?_
  rcases h with ⟨⟨v, h1, q1, q2, q3⟩, h5⟩ | ⟨q, rfl, En, ce, L, ⟨c, fs, r, h1, g1, g2, g3, g4, g5⟩, h6⟩
  · exact Or.inl ⟨⟨v, h1, q1, q2, hQ _ _ q3⟩, h5⟩
  · exact Or.inr ⟨q, rfl, En, ce, L, ⟨c, fs, r, h1, g1, g2, g3, g4, hE _ _ g5⟩, h6⟩
/-- the cell at n can be cast to the class (or array) nm -/
def zCast (h : zH) (n : Nat) (nm : String) : Prop := ∃ c fs, h.1 n = some (c, fs) ∧ ((∃ r, zcl[zrc c]? = some r ∧ (r.1 = nm ∨ Cond.castable r.1 nm ∈ lw_tbl)) ∨ (∃ t ty, c = 1000 + t ∧ zar[t]? = some ty ∧ "[" ++ ty.toString = nm))
/-- .. or it can't -/
def zNot (s0 : zE) (h : zH) (n : Nat) (nm : String) : Prop := ∃ c fs r, h.1 n = some (c, fs) ∧ zcl[zrc c]? = some r ∧ va_Nc r.1 nm s0.1
section ZM
variable {s0 : zE} {M : zM} {d pc idx : Nat} {ls : List (Option Value)} {st : List Value} {h : zH} {Q : Value → zH → Prop} {E : Nat → zH → Prop}
variable {p : Program} {l : Launch} {e : Env} {R : Room} {s : State} {m : MethodId} {args : Array Value} {below : List Frame} {meth : Method} {c : Code}
theorem zCx.cast {H : Heap} (C : zCx s0 M d p l e R s m meth c) (hR : s0.2 h H) {n : Nat} {nm : String} (hc : zCast h n nm) : ∃ b, n = b + 1 ∧ ∃ (cell : Cell) (t : ClassId), H[b]? = some cell ∧ cell.vm.isStatics = false ∧ s.vm.findClass nm = some t ∧ s.vm.assignable cell.cls t = true := by
  obtain ⟨cn, fs, hn, hcase⟩ := hc
  rcases hcase with ⟨r, hr, hcase⟩ | ⟨t, ty, rfl, ht, rfl⟩
  · obtain ⟨b, rfl, cell, h1, h2, h3⟩ := C.recv hR hn hr
    rcases hcase with rfl | hcase
    · exact ⟨b, rfl, cell, _, h1, h2, h3, zself _ _⟩
    · obtain ⟨c1, t1, g1, g2, g3⟩ := Cond.castable_spec (va_Nw.use (A := #[]) rfl ((C.tt.nw hcase rfl).warmC C.wm))
      cases g1.symm.trans h3
      exact ⟨b, rfl, cell, t1, h1, h2, g2, g3⟩
  · obtain ⟨a, cell, rfl, h1, v1, v2, v3, hcls, -⟩ := ((C.ro.at hR hn).1).arr ht
    obtain ⟨k, comp, g1, -⟩ := zar_obj C.tt C.wm ht
    refine ⟨a, rfl, cell, _, h1, ?_, g1, by rw [hcls]; exact zself _ _⟩
    cases hv : cell.vm with
    | statics z => exact absurd hv (v2 z)
    | _ => rfl
theorem z_checkcast {n : Nat} {nm : String} (hl : Cond.classLink M.1.cls idx nm ∈ lw_all) (hd : decode M.2.1 pc = .ok (.checkcast idx, 3)) (hc : n = 0 ∨ zCast h n nm) (K : zP s0 M d (pc + 3) ls (zr n :: st) h Q E) : zP s0 M d pc ls (zr n :: st) h Q E := by
  intro p l e R s m args below meth c H locs LS C hR h1 h2 hL
  have kk := K _ _ _ _ _ _ args below _ _ _ _ _ C hR h1 h2 hL
  rcases hc with rfl | hc
  · exact lv_castN C.1 C.2.1 hd kk
  · obtain ⟨b, rfl, cell, t, g1, g2, g3, g4⟩ := C.cast hR hc
    intro T hT X
    obtain ⟨vm', X', st⟩ := X.checkcastYes C.1 C.own (C.tt.w hl C.wm) (by rw [hT]; exact g1) g2 g3 g4 (g := F0 m pc LS (.ref b :: st)) rfl rfl (by rw [C.2.1]; exact hd)
    obtain ⟨t, a1, b1⟩ := kk (T.setVm vm') hT X'
    exact ⟨t, st t a1, b1⟩
theorem z_instof0 (hd : decode M.2.1 pc = .ok (.instanceof idx, 3)) (K : zP s0 M d (pc + 3) ls (.int 0 :: st) h Q E) : zP s0 M d pc ls (zr 0 :: st) h Q E :=
  zP.step (fun _ _ _ _ _ _ _ _ _ _ _ _ _ _ _ _ C L k => lv_instN C.1 C.2.1 hd (k _ L)) K
theorem z_instof1 {n : Nat} {nm : String} (hl : Cond.classLink M.1.cls idx nm ∈ lw_all) (hd : decode M.2.1 pc = .ok (.instanceof idx, 3)) (hc : zCast h n nm) (K : zP s0 M d (pc + 3) ls (.int 1 :: st) h Q E) : zP s0 M d pc ls (zr n :: st) h Q E := by
  intro p l e R s m args below meth c H locs LS C hR h1 h2 hL
  have kk := K _ _ _ _ _ _ args below _ _ _ _ _ C hR h1 h2 hL
  obtain ⟨b, rfl, cell, t, g1, g2, g3, g4⟩ := C.cast hR hc
  intro T hT X
  obtain ⟨vm', X', st⟩ := X.instanceofYes C.1 C.own (C.tt.w hl C.wm) (by rw [hT]; exact g1) g2 g3 g4 (g := F0 m pc LS (.ref b :: st)) rfl rfl (by rw [C.2.1]; exact hd)
  obtain ⟨t, a1, b1⟩ := kk (T.setVm vm') hT X'
  exact ⟨t, st t a1, b1⟩
theorem z_instofN {n : Nat} {nm : String} (hl : Cond.classLink M.1.cls idx nm ∈ lw_all) (hd : decode M.2.1 pc = .ok (.instanceof idx, 3)) (hc : zNot s0 h n nm) (K : zP s0 M d (pc + 3) ls (.int 0 :: st) h Q E) : zP s0 M d pc ls (zr n :: st) h Q E := by
  intro p l e R s m args below meth c H locs LS C hR h1 h2 hL
  have kk := K _ _ _ _ _ _ args below _ _ _ _ _ C hR h1 h2 hL
  obtain ⟨cn, fs, r, hn, hr, hno⟩ := hc
  obtain ⟨b, rfl, hb⟩ := C.recv hR hn hr
  exact va_instNo C.1 C.2.1 C.own (C.tt.w hl C.wm) (hno.moved C.wm.alike) hb hd kk
/-- a table's switch: x in its range, or not -/
theorem z_tableIn {dflt lo hi : Int} {offs : Array Int} {len : Nat} {x : Int32} {off : Int} (tgt : Nat) (hd : decode M.2.1 pc = .ok (.tableswitch dflt lo hi offs, len)) (h1 : ¬ x.toInt < lo) (h2 : ¬ hi < x.toInt) (ho : offs[(x.toInt - lo).toNat]? = some off) (ht : (pc : Int) + off = (tgt : Int)) (K : zP s0 M d tgt ls st h Q E) : zP s0 M d pc ls (.int x :: st) h Q E :=
  zP.step (fun _ _ _ _ _ _ _ _ _ _ _ _ _ _ _ _ C L k => lv_tableIn C.1 C.2.1 hd h1 h2 ho ht (k _ L)) K
theorem z_tableOut {dflt lo hi : Int} {offs : Array Int} {len : Nat} {x : Int32} (tgt : Nat) (hd : decode M.2.1 pc = .ok (.tableswitch dflt lo hi offs, len)) (hx : x.toInt < lo ∨ hi < x.toInt) (ht : (pc : Int) + dflt = (tgt : Int)) (K : zP s0 M d tgt ls st h Q E) : zP s0 M d pc ls (.int x :: st) h Q E :=
  zP.step (fun _ _ _ _ _ _ _ _ _ _ _ _ _ _ _ _ C L k => lv_tableOut C.1 C.2.1 hd hx ht (k _ L)) K
theorem z_lookup {dflt : Int} {ps : Array (Int × Int)} {len : Nat} {x : Int32} {off : Int} (tgt : Nat) (hd : decode M.2.1 pc = .ok (.lookupswitch dflt ps, len)) (hp : (ps.toList.zip (ps.toList.drop 1)).all (fun (a, next) => a.1 < next.1) = true) (ho : Op.lookupswitch.offset ps.toList dflt x.toInt = off) (ht : (pc : Int) + off = (tgt : Int)) (K : zP s0 M d tgt ls st h Q E) : zP s0 M d pc ls (.int x :: st) h Q E :=
  zP.step (fun _ _ _ _ _ _ _ _ _ _ _ _ _ _ _ _ C L k => lv_lookup C.1 C.2.1 hd hp ho ht (k _ L)) K
/-- a call of an inherited method: x as the pool names it, owner its class, M' what runs -/
theorem z_invU {M' : zM} {d' n cn : Nat} {fs a : List Value} {r : vw_C} {x : MethodName} {owner : String} {Q1 : Value → zH → Prop} {E1 : Nat → zH → Prop} (hok : zMok M' a.length) (hdesc : (parseMethodDescriptor x.desc).map (fun d => d.parameters.length) = some a.length) (hl : Cond.methodLink M.1.cls idx x ∈ lw_all) (hsm : Cond.sameMethod x.cls owner x.name x.desc ∈ lw_all) (how : owner ≠ "java/lang/invoke/MethodHandle" ∧ owner ≠ "java/lang/invoke/VarHandle")
    (hdecl : M'.1 = ⟨owner, x.name, x.desc⟩ ∨ Cond.declares ⟨owner, x.name, x.desc⟩ ∈ lw_tbl) (hi : Cond.instanceMethod M'.1 ∈ lw_all) (hsel : Cond.selects r.1 x M'.1 ∈ lw_all) (hr : zcl[zrc cn]? = some r) (hd : decode M.2.1 pc = .ok (.invokevirtual idx, 3))
    (hn : h.1 n = some (cn, fs)) (hd' : d' + 1 ≤ d) (hcat : (st.map fun v => v.category).sum ≤ 8) {st' : List Value} (hst : st' = a.reverse ++ zr n :: st) (X : zX s0 M' d' (zr n :: a) h Q1 E1)
    (K : ∀ v h1, Q1 v h1 → zP s0 M d (pc + 3) ls ((zret M'.2.2.2.1 v).toList ++ st) h1 Q E) (KE : ∀ n h1, E1 n h1 → zPx s0 M d pc ls n h1 Q E) : zP s0 M d pc ls st' h Q E := by
  intro p l e R s m args below meth c H locs LS C hR h1 h2 hL
  subst hst
  obtain ⟨b, rfl, hb⟩ := C.recv hR hn hr
  refine z_after C h2 hL (mc := (zrm s0 d' h).cells) (ms := (zrm s0 d' h).slots) (r1 := M'.2.2.2.1) (a := (Value.ref b :: a).toArray) ?_ K KE
  have hX := X l C.2.2.2.2.2.2.2.2.1
  rw [hok.code] at hX
  have hrm := C.rm (h := h) hok hd'
  have hdl : va_Decl s ⟨owner, x.name, x.desc⟩ := by
    rcases hdecl with e | hw
    · rw [← e]
      exact va_Decl.of (args := args) (C.tt.w hi C.wm) (C.tt.w hok.2.1 C.wm)
    · exact va_Decl.abs ((C.tt.nw hw rfl).warmD C.wm)
  have hlen : ∀ sig, parseMethodDescriptor x.desc = some sig → a.length = sig.parameters.length := by
    intro sig hs
    rw [hs] at hdesc
    exact (Option.some.inj hdesc).symm
  exact vx_runU (C := r.1) (own := M.1.cls) (owner := owner) (x := x) (nL := M.2.2.1) (Ts := []) (As := a) (b := b) (n := a.length) ⟨C.1, C.2.1, C.2.2.2.2.1, C.own, fun w hw => by cases hw⟩ hX
    ⟨⟨rfl, rfl, hrm.1, hrm.2, C.ws hok.2.1, List.mem_singleton.mpr rfl⟩, C.tt.w hok.2.1 C.wm, C.tt.w hok.2.2.1 C.wm, how, hlen, C.tt.w hl C.wm, C.tt.w hsm C.wm, hdl, C.tt.w hsel C.wm, C.tt.w hi C.wm⟩
    ⟨zblind, hb, fun U hU hW => ⟨rfl, by rw [hU]; exact hR, State.WarmedH.trans C.wm hW, C.tt, C.ro⟩⟩ rfl rfl hL.1 rfl (lv_room hcat) hd (C.fit hR h1)
/-- super.m(..) -/
theorem z_invSU {M' : zM} {d' n cn : Nat} {fs a : List Value} {r : vw_C} {Q1 : Value → zH → Prop} {E1 : Nat → zH → Prop} (hok : zMok M' a.length) (hnm : M'.1.name ≠ "<init>") (hl : Cond.methodLink M.1.cls idx M'.1 ∈ lw_all) (hsm : Cond.sameMethod M'.1.cls M'.1.cls M'.1.name M'.1.desc ∈ lw_all) (hsup : Cond.superclass M.1.cls M'.1.cls ∈ lw_all) (hi : Cond.instanceMethod M'.1 ∈ lw_all) (hr : zcl[zrc cn]? = some r) (hrn : r.1 = M.1.cls) (hd : decode M.2.1 pc = .ok (.invokespecial idx, 3))
    (hn : h.1 n = some (cn, fs)) (hd' : d' + 1 ≤ d) (hcat : (st.map fun v => v.category).sum ≤ 8) {st' : List Value} (hst : st' = a.reverse ++ zr n :: st) (X : zX s0 M' d' (zr n :: a) h Q1 E1)
    (K : ∀ v h1, Q1 v h1 → zP s0 M d (pc + 3) ls ((zret M'.2.2.2.1 v).toList ++ st) h1 Q E) (KE : ∀ n h1, E1 n h1 → zPx s0 M d pc ls n h1 Q E) : zP s0 M d pc ls st' h Q E := by
  intro p l e R s m args below meth c H locs LS C hR h1 h2 hL
  subst hst
  obtain ⟨b, rfl, hb⟩ := C.recv hR hn hr
  refine z_after C h2 hL (mc := (zrm s0 d' h).cells) (ms := (zrm s0 d' h).slots) (r1 := M'.2.2.2.1) (a := (Value.ref b :: a).toArray) ?_ K KE
  have hX := X l C.2.2.2.2.2.2.2.2.1
  rw [hok.code] at hX
  have hrm := C.rm (h := h) hok hd'
  have hat : ClassAt s M.1.cls ((zD s0.1).1 (zrc cn)) := by rw [← hrn]; exact (zKU C.tt C.wm hr).2
  rw [hrn] at hb
  exact vx_runSU (C := M.1.cls) (own := M.1.cls) hat (nL := M.2.2.1) (Ts := []) (As := a) (b := b) (n := a.length) ⟨C.1, C.2.1, C.2.2.2.2.1, C.own, fun w hw => by cases hw⟩ hX
    ⟨⟨rfl, rfl, hrm.1, hrm.2, C.ws hok.2.1, List.mem_singleton.mpr rfl⟩, C.tt.w hl C.wm, C.tt.w hsm C.wm, C.tt.w hsup C.wm, C.tt.w hi C.wm, C.tt.w hok.2.2.1 C.wm, C.tt.w hok.2.1 C.wm, hnm, hok.len⟩
    ⟨zblind, hb, fun U hU hW => ⟨rfl, by rw [hU]; exact hR, State.WarmedH.trans C.wm hW, C.tt, C.ro⟩⟩ rfl rfl hL.1 rfl (lv_room hcat) hd (C.fit hR h1)
/-- a private method of a nest mate's -/
theorem zCx.callN {M' : zM} {d' np : Nat} {host : String} (C : zCx s0 M d p l e R s m meth c) (hok : zMok M' np) (hl : Cond.methodLinkNest M.1.cls idx M'.1 host ∈ lw_tbl) (hd : d' + 1 ≤ d) :
    va_CN R s args M.1.cls idx M'.1 host M'.2.1 M'.2.2.1 M'.2.2.2.1 [zcode M'] (zrm s0 d' h) (zrm s0 d' h).cells (zrm s0 d' h).slots np := by
  have hr := C.rm (h := h) hok hd
  rw [hok.code]
  exact ⟨⟨rfl, rfl, hr.1, hr.2, C.ws hok.2.1, List.mem_singleton.mpr rfl⟩, C.tt.w hok.2.1 C.wm, C.tt.w hok.2.2.1 C.wm, hok.2.2.2.1, hok.len, va_Nw.use rfl ((C.tt.nw hl rfl).warmM C.wm)⟩
theorem z_invVN {M' : zM} {d' n cn : Nat} {fs a : List Value} {r : vw_C} {host : String} {Q1 : Value → zH → Prop} {E1 : Nat → zH → Prop} (hok : zMok M' a.length) (hl : Cond.methodLinkNest M.1.cls idx M'.1 host ∈ lw_tbl) (hi : Cond.instanceMethod M'.1 ∈ lw_all) (hsel : Cond.selects r.1 M'.1 M'.1 ∈ lw_all) (hr : zcl[zrc cn]? = some r) (hd : decode M.2.1 pc = .ok (.invokevirtual idx, 3))
    (hn : h.1 n = some (cn, fs)) (hd' : d' + 1 ≤ d) (hcat : (st.map fun v => v.category).sum ≤ 8) {st' : List Value} (hst : st' = a.reverse ++ zr n :: st) (X : zX s0 M' d' (zr n :: a) h Q1 E1)
    (K : ∀ v h1, Q1 v h1 → zP s0 M d (pc + 3) ls ((zret M'.2.2.2.1 v).toList ++ st) h1 Q E) (KE : ∀ n h1, E1 n h1 → zPx s0 M d pc ls n h1 Q E) : zP s0 M d pc ls st' h Q E := by
  intro p l e R s m args below meth c H locs LS C hR h1 h2 hL
  subst hst
  obtain ⟨b, rfl, hb⟩ := C.recv hR hn hr
  refine z_after C h2 hL (mc := (zrm s0 d' h).cells) (ms := (zrm s0 d' h).slots) (r1 := M'.2.2.2.1) (a := (Value.ref b :: a).toArray) ?_ K KE
  exact vx_runVN (C := r.1) (own := M.1.cls) (nL := M.2.2.1) (Ts := []) (As := a) (b := b) ⟨C.1, C.2.1, C.2.2.2.2.1, C.own, fun w hw => by cases hw⟩ (X l C.2.2.2.2.2.2.2.2.1)
    ⟨C.callN hok hl hd', C.tt.w hi C.wm, C.tt.w hsel C.wm⟩ ⟨zblind, hb, fun U hU hW => ⟨rfl, by rw [hU]; exact hR, State.WarmedH.trans C.wm hW, C.tt, C.ro⟩⟩ rfl rfl hL.1 rfl (lv_room hcat) hd (C.fit hR h1)
theorem z_invSN {M' : zM} {d' : Nat} {a : List Value} {host : String} {Q1 : Value → zH → Prop} {E1 : Nat → zH → Prop} (hok : zMok M' a.length) (hl : Cond.methodLinkNest M.1.cls idx M'.1 host ∈ lw_tbl) (hs : Cond.static M'.1 ∈ lw_all) (hd : decode M.2.1 pc = .ok (.invokestatic idx, 3))
    (hd' : d' + 1 ≤ d) (hcat : (st.map fun v => v.category).sum ≤ 8) {st' : List Value} (hst : st' = a.reverse ++ st) (X : zX s0 M' d' a h Q1 E1)
    (K : ∀ v h1, Q1 v h1 → zP s0 M d (pc + 3) ls ((zret M'.2.2.2.1 v).toList ++ st) h1 Q E) (KE : ∀ n h1, E1 n h1 → zPx s0 M d pc ls n h1 Q E) : zP s0 M d pc ls st' h Q E := by
  intro p l e R s m args below meth c H locs LS C hR h1 h2 hL
  subst hst
  refine z_after C h2 hL (mc := (zrm s0 d' h).cells) (ms := (zrm s0 d' h).slots) (r1 := M'.2.2.2.1) (a := a.toArray) ?_ K KE
  exact vx_runSN (own := M.1.cls) (nL := M.2.2.1) (Ts := []) (As := a) ⟨C.1, C.2.1, C.2.2.2.2.1, C.own, fun w hw => by cases hw⟩ (X l C.2.2.2.2.2.2.2.2.1)
    ⟨C.callN hok hl hd', C.tt.w hs C.wm, trivial⟩ ⟨zblind, fun U hU hW => ⟨rfl, by rw [hU]; exact hR, State.WarmedH.trans C.wm hW, C.tt, C.ro⟩⟩ rfl rfl hL.1 rfl (lv_room hcat) hd (C.fit hR h1)
theorem z_invIN {M' : zM} {d' n : Nat} {a : List Value} {host : String} {Q1 : Value → zH → Prop} {E1 : Nat → zH → Prop} (hok : zMok M' a.length) (hret : M'.2.2.2.1 = none) (hnm : M'.1.name = "<init>") (hl : Cond.methodLinkNest M.1.cls idx M'.1 host ∈ lw_tbl) (hi : Cond.instanceMethod M'.1 ∈ lw_all) (hd : decode M.2.1 pc = .ok (.invokespecial idx, 3)) (hn : n ≠ 0)
    (hd' : d' + 1 ≤ d) (hcat : (st.map fun v => v.category).sum ≤ 8) {st' : List Value} (hst : st' = a.reverse ++ zr n :: st) (X : zX s0 M' d' (zr n :: a) h Q1 E1)
    (K : ∀ v h1, Q1 v h1 → zP s0 M d (pc + 3) ls st h1 Q E) (KE : ∀ n h1, E1 n h1 → zPx s0 M d pc ls n h1 Q E) : zP s0 M d pc ls st' h Q E := by
  intro p l e R s m args below meth c H locs LS C hR h1 h2 hL
  subst hst
  obtain ⟨b, rfl⟩ := Nat.exists_eq_succ_of_ne_zero hn
  refine z_after C h2 hL (mc := (zrm s0 d' h).cells) (ms := (zrm s0 d' h).slots) (r1 := none) (a := (Value.ref b :: a).toArray) ?_ K KE
  have hcb := C.callN (args := args) (h := h) hok hl hd'
  have hX := X l C.2.2.2.2.2.2.2.2.1
  rw [hret] at hcb hX
  exact vx_runIN (own := M.1.cls) (nL := M.2.2.1) (Ts := []) (As := a) (b := b) ⟨C.1, C.2.1, C.2.2.2.2.1, C.own, fun w hw => by cases hw⟩ hX
    ⟨hcb, hnm, C.tt.w hi C.wm⟩ ⟨zblind, fun U hU hW => ⟨rfl, by rw [hU]; exact hR, State.WarmedH.trans C.wm hW, C.tt, C.ro⟩⟩ rfl rfl hL.1 rfl (lv_room hcat) hd (C.fit hR h1)
/-- an interface's call -/
theorem z_invF {M' : zM} {d' n cn count : Nat} {fs a : List Value} {r : vw_C} {x : MethodName} {Q1 : Value → zH → Prop} {E1 : Nat → zH → Prop} (hok : zMok M' a.length) (hdesc : (parseMethodDescriptor x.desc).map (fun d => d.parameters.length) = some a.length) (hx : x.cls ≠ "java/lang/invoke/MethodHandle" ∧ x.cls ≠ "java/lang/invoke/VarHandle") (hl : Cond.methodLink M.1.cls idx x ∈ lw_all)
    (hdc : Cond.declares x ∈ lw_tbl) (hif : Cond.interfaceMethod x.cls x.cls x.name x.desc ∈ lw_tbl) (hpub : Cond.publicMethod M'.1 ∈ lw_tbl) (hun : Cond.unhidden r.1 x.name x.desc ∈ lw_tbl) (hca : Cond.castable r.1 x.cls ∈ lw_tbl)
    (hi : Cond.instanceMethod M'.1 ∈ lw_all) (hsel : Cond.selects r.1 x M'.1 ∈ lw_all) (hr : zcl[zrc cn]? = some r) (hd : decode M.2.1 pc = .ok (.invokeinterface idx count, 5))
    (hn : h.1 n = some (cn, fs)) (hd' : d' + 1 ≤ d) (hcat : (st.map fun v => v.category).sum ≤ 8) {st' : List Value} (hst : st' = a.reverse ++ zr n :: st) (X : zX s0 M' d' (zr n :: a) h Q1 E1)
    (K : ∀ v h1, Q1 v h1 → zP s0 M d (pc + 5) ls ((zret M'.2.2.2.1 v).toList ++ st) h1 Q E) (KE : ∀ n h1, E1 n h1 → zPx s0 M d pc ls n h1 Q E) : zP s0 M d pc ls st' h Q E := by
  intro p l e R s m args below meth c H locs LS C hR h1 h2 hL
  subst hst
  obtain ⟨b, rfl, hb⟩ := C.recv hR hn hr
  refine z_after C h2 hL (mc := (zrm s0 d' h).cells) (ms := (zrm s0 d' h).slots) (r1 := M'.2.2.2.1) (a := (Value.ref b :: a).toArray) ?_ K KE
  have hX := X l C.2.2.2.2.2.2.2.2.1
  rw [hok.code] at hX
  have hrm := C.rm (h := h) hok hd'
  have hlen : ∀ sig, parseMethodDescriptor x.desc = some sig → a.length = sig.parameters.length := by
    intro sig hs
    rw [hs] at hdesc
    exact (Option.some.inj hdesc).symm
  obtain ⟨b0, hw, -⟩ := id C.tt
  have hf : va_Fw r.1 x M'.1 s := va_Fw.moved hx C.wm.alike (va_Fw.of (hw _ hdc) (hw _ hif) (hw _ hpub) (hw _ hun) (hw _ hca))
  obtain ⟨f1, f2, f3, f4, f5⟩ := hf
  exact vx_runF (C := r.1) (own := M.1.cls) (x := x) (zKU C.tt C.wm hr).2 (nL := M.2.2.1) (Ts := []) (As := a) (b := b) (n := a.length) ⟨C.1, C.2.1, C.2.2.2.2.1, C.own, fun w hw => by cases hw⟩ hX
    ⟨⟨rfl, rfl, hrm.1, hrm.2, C.ws hok.2.1, List.mem_singleton.mpr rfl⟩, C.tt.w hl C.wm, va_any rfl f1, va_any rfl f2, C.tt.w hsel C.wm, C.tt.w hi C.wm, va_any rfl f3, va_any rfl f4, va_any rfl f5, C.tt.w hok.2.2.1 C.wm, C.tt.w hok.2.1 C.wm, hx, hlen⟩
    ⟨zblind, hb, fun U hU hW => ⟨rfl, by rw [hU]; exact hR, State.WarmedH.trans C.wm hW, C.tt, C.ro⟩⟩ rfl rfl hL.1 rfl (lv_room hcat) hd (C.fit hR h1)
end ZM
