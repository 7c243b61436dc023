/-! ===== the twin: acknowledgements ===== -/
set_option maxRecDepth 100000
def s_acksF (s : sSt) (h : Nat) (tag : Int32) (all : Bool) (what : Int32) : sRs :=
  let there := (s.ch h).sent.any (fun x => !(s.se x).done && (s.se x).tag == tag)
  if ¬ there ∧ (¬ all ∨ tag ≠ 0) then s_softF s 406 else
  let those := (s.ch h).sent.filter (fun x => s_meant s tag all x)
  if (s.ch h).mode ≠ 1 then s_ok (s_settleAll s h those what) else
  s_bind (s_keep s h (none, what, those)) (fun s1 => s_ok (s1.w_se (fun x => if x ∈ those then (s1.se x).w_done true else s1.se x)))
/-- what is kept is written: a content, or what becomes of some that were sent -/
def gKb (g : sG) (c t : Nat) (k : sKe) : Prop := match k.cont with
  | none => c = 0 ∧ gF g t (1020, k.those.map (fun i => zr (g.ref 37 i)))
  | some x => gCont g c x
section MW
variable {s0 : zE} {F : Nat → Option zC} {b : Nat} {s s' s1 s2 : sSt} {w w' w1 w2 : tW} {g g' g0 : sG} {h h' : zH} {d x0 x1 x2 x3 x5 x7 i j q m p n a e x y : Nat} {Q : Value → zH → Prop} {E : Nat → zH → Prop} {dr nm key frm : sBy} {sz cl me code k bits tag what c4 c5 c6 : Int32} {rd : sRd} {u : Int32 × List Nat × (Nat → Nat)} {all : Bool}
theorem s_acks_eq : s_acks s j tag all what rd = s_then rd s (s_acksF s j tag all what) := rfl
theorem free_lf (hf : sFree s m) (L : sLf s s' p) : sFree s' m := by
  obtain ⟨D, -, h3, h4, -⟩ := L
  intro h1
  rw [h4] at h1
  by_cases e : m = p
  · rw [if_pos e] at h1
    exact absurd h1 (by decide)
  · rw [if_neg e] at h1
    obtain ⟨p1, p2⟩ := hf h1
    have hq : (s'.en m).queue = (s.en m).queue := by
      rw [D.2.2.2.2.2.2.2.2.2.2.2.2 m]
      exact rfl
    refine ⟨?_, fun k hk y hy => ?_⟩
    · rw [hq, h3]
      split
      · rename_i e2
        rw [e2] at p1
        rw [e2]
        exact (List.mem_erase_of_ne e).mpr p1
      · exact p1
    · rw [D.2.2.1] at hy
      rw [D.2.2.2.2.2.2.2.2.2.2.1]
      exact p2 k hk y hy
theorem free_shorten : ∀ (n : Nat) (s : sSt), sFree s m → sFree (s_shorten q n s) m
  | 0, _, hf => hf
  | n + 1, s, hf => by
    rw [s_shorten]
    split
    · split
      · exact hf
      · exact free_shorten n _ (free_lf hf lf_dies)
    · exact hf
theorem again_st : ((s_again s p).en m).state = (if m = p then 0 else (s.en m).state) ∧ ((s_again s p).en m).queue = (s.en m).queue := by
  have e1 : (s_again s p).en m = sUp s.en p (((s.en p).w_state 0).w_redel true) m := rfl
  rw [e1]
  by_cases e : m = p
  · subst e
    rw [sUp_self, if_pos rfl]
    exact ⟨rfl, rfl⟩
  · rw [sUp_ne e, if_neg e]
    exact ⟨rfl, rfl⟩
theorem free_again (hf : sFree s m) : sFree (s_again s p) m := by
  intro h1
  rw [again_st.1] at h1
  by_cases e : m = p
  · rw [if_pos e] at h1
    exact absurd h1 (by decide)
  · rw [if_neg e] at h1
    obtain ⟨p1, p2⟩ := hf h1
    rw [again_st.2]
    exact ⟨p1, p2⟩
theorem free_settle1 (hf : sFree s m) : sFree (s_settle1 what s p) m := by
  unfold s_settle1
  split
  · exact hf
  · split
    · exact free_lf hf lf_leaves
    · split
      · unfold s_requeue
        split
        · exact hf
        · exact free_shorten _ _ (free_again (p := p) hf)
      · exact free_lf hf lf_dies
theorem settle1_se (I : sI s) (hk : s.knd m = 36) (hf : sFree s m) : (s_settle1 what s m).se = s.se := (d_settle1 (what := what) I hk hf).2.2.2.2.2.2.2.2.2.2.2.2.2.2.2.1
theorem settle1_ch : (s_settle1 what s m).ch = s.ch := by
  unfold s_settle1
  split
  · rfl
  · split
    · exact lf_leaves.1.2.2.1
    · split
      · exact s_requeue_ch
      · exact lf_dies.1.2.2.1
/-- those that are settled, one behind the other -/
def s_setl (what : Int32) (l : List Nat) (s : sSt) : sSt := l.foldl (fun s x => s_settle1 what s (s.se x).entry) s
theorem setl_cons {r : List Nat} : s_setl what (x :: r) s = s_setl what r (s_settle1 what s (s.se x).entry) := rfl
theorem d_setl : ∀ (l : List Nat) (s : sSt), sI s → (∀ x ∈ l, s.knd x = 37 ∧ sFree s (s.se x).entry) → sDn s (s_setl what l s)
  | [], s, _, _ => sDn.refl s
  | x :: r, s, I, hf => by
    obtain ⟨hk, hx⟩ := hf x List.mem_cons_self
    have hm := (I.sc.se x hk).1
    have D := d_settle1 (what := what) I hm hx
    have hse := settle1_se (what := what) I hm hx
    rw [setl_cons]
    refine D.trans (d_setl r _ (D.1 I) fun y hy => ?_)
    obtain ⟨ky, fy⟩ := hf y (List.mem_cons_of_mem _ hy)
    rw [hse]
    exact ⟨by rw [D.2.2.2.2.2.2.2.2.2.2.1]; exact ky, free_settle1 fy⟩
theorem setl_eq : ∀ (l : List Nat) (s s2 : sSt), sI s → (∀ x ∈ l, s.knd x = 37 ∧ sFree s (s.se x).entry) → s2.se = s.se → l.foldl (fun s x => s_settle1 what s (s2.se x).entry) s = s_setl what l s
  | [], _, _, _, _, _ => rfl
  | x :: r, s, s2, I, hf, he => by
    obtain ⟨hk, hx⟩ := hf x List.mem_cons_self
    have hm := (I.sc.se x hk).1
    have D := d_settle1 (what := what) I hm hx
    have hse := settle1_se (what := what) I hm hx
    rw [setl_cons, List.foldl_cons, he]
    have := setl_eq r (s_settle1 what s (s.se x).entry) s2 (D.1 I) (fun y hy => by
      obtain ⟨ky, fy⟩ := hf y (List.mem_cons_of_mem _ hy)
      rw [hse]
      exact ⟨by rw [D.2.2.2.2.2.2.2.2.2.2.1]; exact ky, free_settle1 fy⟩) (by rw [hse]; exact he)
    rw [← this, he]
theorem rm_rd : ((s_rm s j x).ch j).sent = (s.ch j).sent.erase x ∧ ((s_rm s j x).ch j).kept = (s.ch j).kept ∧ ((s_rm s j x).ch j).state = (s.ch j).state ∧ (s_rm s j x).se = s.se ∧ (s_rm s j x).en = s.en ∧ (s_rm s j x).qu = s.qu ∧ (s_rm s j x).knd = s.knd := by
  refine ⟨?_, ?_, ?_, rfl, rfl, rfl, rfl⟩ <;> (unfold s_rm; rw [s_ch_ch]; rfl)
def s_rms (j : Nat) (l : List Nat) (s : sSt) : sSt := l.foldl (fun s x => s_rm s j x) s
theorem rms_cons {r : List Nat} : s_rms j (x :: r) s = s_rms j r (s_rm s j x) := rfl
theorem rms_eq : ∀ (l : List Nat) (s : sSt), (s.ch j).sent.Nodup → s_rms j l s = s_ch s j (fun k => k.w_sent (k.sent.filter (fun x => !(l.contains x))))
  | [], s, _ => by
    show s = s_ch s j (fun k => k.w_sent (k.sent.filter (fun x => !(List.contains [] x))))
    refine (s_ch_id ?_).symm
    have : (s.ch j).sent.filter (fun x => !(List.contains [] x)) = (s.ch j).sent := List.filter_eq_self.mpr fun _ _ => rfl
    rw [this]
    exact w_sent_id
  | x :: r, s, hn => by
    have h1 := (rm_rd (s := s) (j := j) (x := x)).1
    rw [rms_cons, rms_eq r (s_rm s j x) (by rw [h1]; exact hn.erase x)]
    unfold s_rm
    rw [w_ch_ch]
    show s.w_ch (sUp s.ch j ((s.ch j).w_sent (((s.ch j).sent.erase x).filter (fun y => !(r.contains y))))) = s.w_ch (sUp s.ch j ((s.ch j).w_sent ((s.ch j).sent.filter (fun y => !((x :: r).contains y)))))
    have : ((s.ch j).sent.erase x).filter (fun y => !(r.contains y)) = (s.ch j).sent.filter (fun y => !((x :: r).contains y)) := by
      rw [erase_ne hn, List.filter_filter]
      refine List.filter_congr fun y _ => ?_
      rw [List.contains_cons, Bool.not_or, Bool.and_comm]
    rw [this]
theorem d_rms (hj : isH j) : ∀ (l : List Nat) (s : sSt), sI s → ((s.ch j).state = 1 → ∀ x ∈ l, ∀ y ∈ (s.ch j).kept, x ∉ y.those) → sDn s (s_rms j l s)
  | [], s, _, _ => sDn.refl s
  | x :: r, s, I, hk => by
    have D := d_rm (x := x) I hj (fun h1 => hk h1 x List.mem_cons_self)
    rw [rms_cons]
    refine D.trans (d_rms hj r _ (D.1 I) fun h1 z hz => ?_)
    obtain ⟨-, e2, e3, -⟩ := rm_rd (s := s) (j := j) (x := x)
    rw [e2]
    rw [e3] at h1
    exact hk h1 z (List.mem_cons_of_mem _ hz)
/-- those that are taken out may be settled -/
theorem rms_free (I : sI s) (hj : isH j) {l : List Nat} (hl : ∀ x ∈ l, x ∈ (s.ch j).sent) : ∀ x ∈ l, (s_rms j l s).knd x = 37 ∧ sFree (s_rms j l s) ((s_rms j l s).se x).entry := fun x hx => by
  have hxm := hl x hx
  rw [rms_eq l s (I.sn.1 j hj).1]
  refine ⟨(I.sc.ch j hj).1 x hxm, fun h1 => ?_⟩
  have h1 : (s.en (s.se x).entry).state = 1 := h1
  refine ⟨((I.sn.1 j hj).2 x hxm).2 h1, fun k hk y hy e => ?_⟩
  have e : (s.se y).entry = (s.se x).entry := e
  by_cases ek : k = j
  · subst ek
    rw [s_ch_ch] at hy
    obtain ⟨hy1, hy2⟩ := List.mem_filter.mp (show y ∈ (s.ch k).sent.filter (fun x => !(l.contains x)) from hy)
    have := (I.sn.2.1 k k hk hk x hxm y hy1 h1 e.symm).2
    subst this
    have hc : l.contains x = true := List.contains_iff_mem.mpr hx
    rw [hc] at hy2
    cases hy2
  · have e2 : (s_ch s j (fun k => k.w_sent (k.sent.filter (fun x => !(l.contains x))))).ch k = s.ch k := sUp_ne ek
    rw [e2] at hy
    exact ek (I.sn.2.1 j k hj hk x hxm y hy h1 e.symm).1.symm
theorem settleAll_eq (I : sI s) (hj : isH j) {l : List Nat} (hl : ∀ x ∈ l, x ∈ (s.ch j).sent) (hk : (s.ch j).state = 1 → ∀ x ∈ l, ∀ y ∈ (s.ch j).kept, x ∉ y.those) : s_settleAll s j l what = s_setl what l (s_rms j l s) := by
  have I1 := (d_rms hj l s I hk).1 I
  have hf := rms_free I hj hl
  have e : s_settleAll s j l what = l.foldl (fun t x => s_settle1 what t ((s_ch s j (fun k => k.w_sent (k.sent.filter (fun x => !(l.contains x))))).se x).entry) (s_ch s j (fun k => k.w_sent (k.sent.filter (fun x => !(l.contains x))))) := rfl
  rw [e, ← rms_eq l s (I.sn.1 j hj).1]
  exact setl_eq l _ _ I1 hf rfl
theorem d_settleAll (I : sI s) (hj : isH j) {l : List Nat} (hl : ∀ x ∈ l, x ∈ (s.ch j).sent) (hk : (s.ch j).state = 1 → ∀ x ∈ l, ∀ y ∈ (s.ch j).kept, x ∉ y.those) : sDn s (s_settleAll s j l what) := by
  rw [settleAll_eq I hj hl hk]
  have D := d_rms hj l s I hk
  exact D.trans (d_setl l _ (D.1 I) (rms_free I hj hl))
theorem tR.oth (R : tR s0 F b s w g h) (hk : (g.kind n).1 = 0) (hF : F n = none) (O : zOth h h' n) : tR s0 F b s w g h' := by
  obtain ⟨⟨a1, a2, a3⟩, G⟩ := R
  refine ⟨⟨fun m hm => ?_, fun m q hq => ?_, ?_⟩, G⟩
  · have hne : m ≠ n := fun e => hm (by rw [e]; exact hk)
    rw [O.2 m hne, O.1]
    exact a1 m hm
  · have hne : m ≠ n := fun e => by rw [e, hF] at hq; cases hq
    rw [O.2 m hne, O.1]
    exact a2 m q hq
  · unfold zBud at a3 ⊢
    rw [O.1]
    exact a3
theorem zOth.trans {h1 h2 : zH} (A : zOth h h1 n) (B : zOth h1 h2 n) : zOth h h2 n := ⟨B.1.trans A.1, fun m hm => (B.2 m hm).trans (A.2 m hm)⟩
theorem zcl_41 : zcl[41]? = some (RX44, TX44, 3) := rfl
theorem t_keeps (Z : tZ s0 F (b + 901 + tY s) s w g h) (hm : g.kind x0 = (1, 0)) (hx : g.kind x1 = (3, j)) (hj : isH j)
    (K0 : (s.ch j).kept.length = 32 → ∀ w1 g1 h1, tZ s0 F (b + tY (s_hard s (j / 4) 506 w.cl w.me)) (s_hard s (j / 4) 506 w.cl w.me) w1 g1 h1 → tWm w w1 → gL g g1 → Q (zr 0) h1)
    (K1 : (s.ch j).kept.length ≠ 32 → ∀ n1 h1, 0 < n1 → h1.1 n1 = some (41, [zr 0, .int 0, zr 0]) → (∀ h2 c t (kk : sKe), zOth h1 h2 n1 → h2.1 n1 = some (41, [zr c, .int kk.what, zr t]) → gKb g c t kk → ∃ g1, tR s0 F (b + 900 + tY s + tP s) (s_ch s j (fun k => k.w_kept (k.kept ++ [kk]))) w g1 h2 ∧ gL g g1) → Q (zr n1) h1) :
    zX s0 m_X8_keeps (d + 77) [zr x0, zr x1] h Q E := by
  have ex := Z.r.1.cell hx (by decide)
  have hkl := Z.i.cp.2.2.2.2.2.2.2.2.2.2.2.1 j hj
  refine c_X8_keeps (e_I ex fun (z1 : gI h x1 9 = Int32.ofNat (s.ch j).kept.length) => ?_)
  rw [z1, show (32 : Int32) = Int32.ofNat 32 from rfl, i_inj (by omega) (by decide)]
  refine ⟨fun h32 => ?_, fun h32 => t_hardJ (d := d) (Z.le (by omega)) hm hx hj (K0 h32)⟩
  refine g_N (u := 1) (b := b + 900 + tY s + tP s) (Z.r.less (by omega)) (by decide) (zle rfl) Z.r.big fun n1 h2 R2 U2 => ⟨⟨_, _, U2.2.2.1⟩, c_X44_init ⟨⟨_, _, U2.2.2.1⟩, ?_⟩⟩
  have A4 := (Z.r.2.chok hj).2.2.2.1
  have ex2 := R2.1.cell hx (by decide)
  have eA : h2.1 (g.ref 29 j) = some (1000 + 21, g.ar 29 j) := R2.1.cell A4.1 (by decide)
  have hA : s0.1.heap.size < g.ref 29 j := R2.1.new A4.1 (by decide) (by decide)
  have hne : x1 ≠ g.ref 29 j := kne hx A4.1 fun e => absurd (congrArg Prod.fst e) (by show ¬ (3 : Nat) = 29; decide)
  have hn1 : n1 ≠ x1 := U2.ne (by rw [hx]; exact (by decide : (3 : Nat) ≠ 0))
  have hn2 : n1 ≠ g.ref 29 j := U2.ne (by rw [A4.1]; exact (by decide : (29 : Nat) ≠ 0))
  refine e_R ex2 fun (z2 : gR h2 x1 17 = g.ref 29 j) => e_I ex2 fun (z3 : gI h2 x1 9 = Int32.ofNat (s.ch j).kept.length) => ?_
  rw [z2, z3]
  refine g_S (t := 21) eA hA (zin_of (by rw [A4.2.1]; omega) (by omega)) ⟨Or.inr (zAsg_own U2.2.2.1 zcl_41 rfl), ?_⟩
  rintro h3 rfl
  rw [i_nat (by omega)]
  have e6 : (zput h2 (g.ref 29 j) (s.ch j).kept.length (zr n1)).1 x1 = some (9, tCh (s.ch j) w g j) := by rw [zput_ne hne]; exact ex2
  refine e_I e6 fun (z4 : gI _ x1 9 = Int32.ofNat (s.ch j).kept.length) => g_C e6 ?_
  rw [z4, i_succ]
  rintro h4 rfl
  refine K1 h32 n1 _ U2.2.2.2.1 ?_ fun h5 c t kk O5 e5 hb => ?_
  · rw [zput_ne hn1, zput_ne hn2]
    exact U2.2.2.1
  have Oa : zOth h2 ((fun m => if m = n1 then some (41, [zr c, .int kk.what, zr t]) else h2.1 m, h2.2) : zH) n1 := ⟨rfl, fun m hm => if_neg hm⟩
  have Ra := R2.oth U2.1 U2.2.1 Oa
  have Ua : zUn s0 F g ((fun m => if m = n1 then some (41, [zr c, .int kk.what, zr t]) else h2.1 m, h2.2) : zH) n1 41 [zr c, .int kk.what, zr t] := ⟨U2.1, U2.2.1, if_pos rfl, U2.2.2.2⟩
  have Rf := Ra.freeze Ua
  have Lf : gL g (gFz g n1 (41, [zr c, .int kk.what, zr t])) := gL.frz U2.1
  have Xf : gX g (gFz g n1 (41, [zr c, .int kk.what, zr t])) 0 0 := gFz.x U2.1
  have hF : gF (gFz g n1 (41, [zr c, .int kk.what, zr t])) n1 (41, [zr c, .int kk.what, zr t]) := gFz_F
  have hrA : (gFz g n1 (41, [zr c, .int kk.what, zr t])).ref = g.ref := rfl
  have haA : (gFz g n1 (41, [zr c, .int kk.what, zr t])).ar = g.ar := rfl
  have hKe : gKe (gFz g n1 (41, [zr c, .int kk.what, zr t])) n1 kk := by
    refine ⟨c, t, hF, ?_⟩
    unfold gKb at hb
    revert hb
    cases kk.cont with
    | none => exact fun hb => ⟨hb.1, Xf.2.2.2.1 _ _ hb.2⟩
    | some z => exact fun hb => Xf.Cont hb
  have hxf := Lf.k hx gSt3
  clear Xf hb
  revert Rf Lf hF hrA haA hKe hxf
  generalize gFz g n1 (41, [zr c, .int kk.what, zr t]) = gf
  intro Rf Lf hF hrA haA hKe hxf
  have B4 := (Rf.2.chok hj).2.2.2.1
  refine ⟨gSet gf 29 j ((gf.ar 29 j).set (s.ch j).kept.length (zr n1)), Rf.arC (x := (s.ch j).w_kept ((s.ch j).kept ++ [kk])) (Or.inr (Or.inl rfl)) hxf ?_ B4.1 (fun m q1 q2 => ?_) ?_ ?_ rfl (Rf.2.arC (Or.inr (Or.inl rfl)) ?_), Lf.trans gL.set⟩
  · rw [O5.1]
    rfl
  · rw [hrA] at q2
    by_cases em : m = n1
    · rw [em, e5]
      exact (if_pos rfl).symm
    · rw [O5.2 m em, zput_ne q1, zput_ne q2]
      exact (if_neg em).symm
  · rw [O5.2 x1 hn1.symm, zput_self e6]
    have e9 : (s.ch j).kept.length + 1 = ((s.ch j).kept ++ [kk]).length := by simp
    have er : tCh (s.ch j) w gf j = tCh (s.ch j) w g j := by
      have h1 : Ra.1.1 = Ra.1.1 := rfl
      have c1 := Rf.1.cell hxf (by decide)
      have c2 : ((fun m => if m = n1 then some (41, [zr c, .int kk.what, zr t]) else h2.1 m, h2.2) : zH).1 x1 = some (9, tCh (s.ch j) w g j) := (if_neg hn1.symm).trans ex2
      have c3 := c1.symm.trans c2
      exact congrArg Prod.snd (Option.some.inj c3)
    rw [e9]
    show _ = some (9, (tCh (s.ch j) w gf j).set 9 (vI ((s.ch j).kept ++ [kk]).length))
    rw [er]
    rfl
  · rw [hrA, haA, O5.2 _ hn2.symm, zput_ne hne.symm]
    exact zput_self eA
  · obtain ⟨f1, f2, ⟨n5, f3, f4, f5⟩, f6, n6, pre, f7, f8, f9, f10⟩ := Rf.2.chok hj
    exact ⟨f1, gUn.ne (k := (s.ch j)) f2 (by decide), ⟨n5, f3, f4, f5.ne (by omega)⟩, f6.snoc (by omega) hKe (fun r' x' hh => hh.ne), n6, pre, f7, f8, f9, f10.ne (by omega)⟩
end MW
