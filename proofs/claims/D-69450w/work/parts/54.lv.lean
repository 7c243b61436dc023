/-! ===== the twin: messages leave ===== -/
set_option maxRecDepth 100000
section LV
variable {s0 : zE} {F : Nat → Option zC} {b : Nat} {s s' : sSt} {w w' : tW} {g g' : sG} {h h' : zH} {d x0 x1 x2 i q m : Nat} {Q : Value → zH → Prop} {E : Nat → zH → Prop}
theorem zcl_33 : zcl[33]? = some (RX36, TX36, 10) := rfl
/-- a queue's cell and its entries' array are written -/
theorem tR.arQ (R : tR s0 F b s w g h) {l : List Value} {x : sQu} (hx : g.kind x2 = (33, q)) (h2 : h'.2 = h.2) (ho : ∀ n, n ≠ x2 → n ≠ g.ref 31 q → h'.1 n = h.1 n) (hM : h'.1 x2 = some (37, tQu x g q)) (hA : h'.1 (g.ref 31 q) = some (1000 + 18, l)) (hl : l.length = 301)
    (hp : x.ents.map (fun m => zr (g.ref 36 m)) <+: l) (hn : x.name = (s.qu q).name ∧ x.dlx = (s.qu q).dlx ∧ x.dlk = (s.qu q).dlk) : tR s0 F b (s.w_qu (sUp s.qu q x)) w (gSet g 31 q l) h' := by
  have hq := R.ak (by decide) (by decide) hx
  have A := R.ents hq
  refine ⟨R.1.re [x2, g.ref 31 q] h2 rfl rfl (fun n hn => ho n (fun e => hn (by rw [e]; exact List.mem_cons_self)) (fun e => hn (by rw [e]; exact List.mem_cons_of_mem _ (List.mem_singleton.mpr rfl)))) (fun n hn => ?_) (fun n hk hn => ?_), ?_⟩
  · rcases List.mem_cons.mp hn with e | e
    · subst e
      rw [hx]
      refine ⟨(by decide : (33 : Nat) ≠ 0), ?_⟩
      show _ = some (37, tQu (sUp s.qu q x q) (gSet g 31 q l) q)
      rw [sUp_self]
      exact hM
    · rw [List.mem_singleton.mp e, A.1]
      refine ⟨(by decide : (31 : Nat) ≠ 0), ?_⟩
      show _ = some (1000 + 18, (gSet g 31 q l).ar 31 q)
      rw [gSet_self]
      exact hA
  · have n1 : ¬ ((g.kind n).1 = 33 ∧ (g.kind n).2 = q) := fun e => hn (by
      have e1 : g.kind n = (33, q) := Prod.ext e.1 e.2
      rw [← R.1.at e1 (by decide), R.1.at hx (by decide)]
      exact List.mem_cons_self)
    have n2 : ¬ ((g.kind n).1 = 31 ∧ (g.kind n).2 = q) := fun e => hn (by
      have e1 : g.kind n = (31, q) := Prod.ext e.1 e.2
      rw [← R.1.at e1 (by decide)]
      exact List.mem_cons_of_mem _ (List.mem_singleton.mpr rfl))
    rw [tcell_set n2]
    exact tcell_qu n1
  · obtain ⟨a1, a2, a3, a4, a5, a6, a7, a8, a9, a10, a11, a12⟩ := R.2
    refine ⟨a1, ?_, a3.ne (by decide), a4.ne (by decide), a5.ne (by decide), a6.ne (by decide), a7, fun j hj => ?_, a9, a10, a11, a12⟩
    · obtain ⟨c1, c2, c3, c4, c5, c6, c7, c8, c9, c10, c11, c12, c13, c14⟩ := a2
      exact ⟨c1.ne1 (by decide), c2.ne1 (by decide), c3.ne1 (by decide), c4.ne1 (by decide), c5.ne1 (by decide), c6.ne1 (by decide), c7.ne1 (by decide), c8.ne1 (by decide), c9.ne1 (by decide), c10.ne1 (by decide), c11.ne1 (by decide), c12.ne1 (by decide), c13.ne1 (by decide), c14⟩
    · show gB _ _ (sUp s.qu q x j).name ∧ gBo _ _ (sUp s.qu q x j).dlx ∧ gBo _ _ (sUp s.qu q x j).dlk ∧ gAr (gSet g 31 q l) 31 j 301 ((sUp s.qu q x j).ents.map (fun m => zr (g.ref 36 m)))
      obtain ⟨e1, e2, e3, e4⟩ := a8 j hj
      by_cases e : j = q
      · subst e
        rw [sUp_self, hn.1, hn.2.1, hn.2.2]
        exact ⟨e1, e2, e3, gAr.new A.1 hl hp⟩
      · rw [sUp_ne e]
        exact ⟨e1, e2, e3, e4.ne fun e9 => e e9.2⟩
theorem t_leaves_1 (R : tR s0 F b s w g h) (I : sScope s) (hx : g.kind x1 = (36, m)) (hy : g.kind x2 = (33, q))
    (K : ∀ pre suf, (s.qu q).ents = pre ++ m :: suf → m ∉ pre → ∀ h1, h1 = zput h x2 12 (.int (Int32.ofNat (s.qu q).ents.length - 1)) → zP s0 m_X8_leaves (d + 1) 41 [some (zr x0), some (zr x1), some (zr x2), none, some (.int (Int32.ofNat pre.length))] [] h1 Q E) :
    ∀ (rest pre : List Nat), (s.qu q).ents = pre ++ rest → m ∉ pre → m ∈ rest → zP s0 m_X8_leaves (d + 1) 12 [some (zr x0), some (zr x1), some (zr x2), some (.int (Int32.ofNat pre.length)), none] [] h Q E
  | [], pre, _, _, hi => by cases hi
  | x :: rest, pre, hcs, hp, hi => by
    have hq := R.ak (by decide) (by decide) hy
    have A := R.ents hq
    have hle := A.le
    rw [List.length_map] at hle
    have e := R.1.cell hy (by decide)
    have hj : (s.qu q).ents[pre.length]? = some x := by rw [hcs]; simp
    have hax := R.al (by decide) (by decide) ((I.qu q hq).1 x (List.mem_of_getElem? hj)).1
    refine b_X8_leaves_12 (e_R e fun z1 => ?_)
    rw [z1]
    refine g_El R A rfl (by decide) hj (by decide) fun z2 => ?_
    rw [z2]
    constructor
    · intro e5
      have ex : x = m := (R.inj hax hx (by decide)).mp e5
      subst ex
      refine e_I e fun (z3 : gI h x2 12 = Int32.ofNat (s.qu q).ents.length) => g_C e ?_
      rw [z3]
      exact fun h1 e1 => K pre rest hcs hp h1 e1
    · intro e5
      have ex : x ≠ m := fun e2 => e5 ((R.inj hax hx (by decide)).mpr e2)
      rw [i_succ, show pre.length + 1 = (pre ++ [x]).length by simp]
      exact t_leaves_1 R I hx hy K rest (pre ++ [x]) (by rw [hcs, List.append_assoc]; rfl) (by simp only [List.mem_append, List.mem_singleton]; exact fun e3 => e3.elim hp fun e4 => ex e4.symm) (by
        rcases List.mem_cons.mp hi with e2 | e2
        · exact absurd e2.symm ex
        · exact e2)
theorem sScope.enw (I : sScope s) {x : sEn} (hx : x.queue = (s.en m).queue) : sScope (s.w_en (sUp s.en m x)) := by
  have hq : ∀ j, (sUp s.en m x j).queue = (s.en j).queue := fun j => by
    by_cases e : j = m
    · subst e
      rw [sUp_self, hx]
    · rw [sUp_ne e]
  obtain ⟨a1, a2, a3, a4, a5, a6, a7, a8, a9, a10, a11, a12, a13, a14⟩ := I
  refine ⟨a1, a2, a3, a4, a5, a6, a7, a8, a9, fun i hi => ⟨fun n hn => ?_, (a10 i hi).2⟩, a11, a12, fun i hi => ?_, a14⟩
  · show s.knd n = 36 ∧ (sUp s.en m x n).queue = i
    rw [hq]
    exact (a10 i hi).1 n hn
  · show s.knd (sUp s.en m x i).queue = 33
    rw [hq]
    exact a13 i hi
theorem sScope.quw (I : sScope s) {x : sQu} (hx : ∀ y ∈ x.ents, y ∈ (s.qu q).ents) (hl : x.last = (s.qu q).last) (ho : x.owner = (s.qu q).owner) : sScope (s.w_qu (sUp s.qu q x)) := by
  obtain ⟨a1, a2, a3, a4, a5, a6, a7, a8, a9, a10, a11⟩ := I
  refine ⟨a1, a2, a3, a4, a5, a6, a7, a8, a9, fun i hi => ?_, a11⟩
  show (∀ m ∈ (sUp s.qu q x i).ents, s.knd m = 36 ∧ (s.en m).queue = i) ∧ (∀ y, (sUp s.qu q x i).last = some y → s.knd y = 35) ∧ (∀ c, (sUp s.qu q x i).owner = some c → c < 4)
  obtain ⟨b1, b2, b3⟩ := a10 i hi
  by_cases e : i = q
  · subst e
    rw [sUp_self, hl, ho]
    exact ⟨fun m hm => b1 m (hx m hm), b2, b3⟩
  · rw [sUp_ne e]
    exact ⟨b1, b2, b3⟩
/-- a message has left its queue; it isn't told as yet -/
def s_lv (s : sSt) (m : Nat) : sSt := ((s.w_en (sUp s.en m ((s.en m).w_state 2))).w_qu (sUp s.qu (s.en m).queue ((s.qu (s.en m).queue).w_ents ((s.qu (s.en m).queue).ents.erase m)))).w_messages (s.messages - 1)
theorem s_leaves_f (hr : s_rec (s.qu (s.en m).queue) (s.en m).cont = false) : s_leaves s m = s_lv s m := by
  unfold s_leaves
  simp only [hr]
  rfl
theorem s_leaves_t (hr : s_rec (s.qu (s.en m).queue) (s.en m).cont = true) : s_leaves s m = s_tell (s_lv s m) 7 m := by
  unfold s_leaves
  simp only [hr]
  rfl
theorem t_leaves (R : tR s0 F (b + 3) s w g h) (I : sScope s) (hm : g.kind x0 = (1, 0)) (hx : g.kind x1 = (36, m)) (hi : m ∈ (s.qu (s.en m).queue).ents) (hcap : s.facts.length < 1000000) (K : ∀ g1 h1, tR s0 F b (s_leaves s m) w g1 h1 → gL g g1 → Q .null h1) : zX s0 m_X8_leaves (d + 3) [zr x0, zr x1] h Q E := by
  have ex := R.1.cell hx (by decide)
  have hkm := R.ak (by decide) (by decide) hx
  have hkq := I.en m hkm
  have aq := R.al (by decide) (by decide) hkq
  refine c_X8_leaves (e_R ex fun (z1 : gR h x1 4 = g.ref 33 (s.en m).queue) => ?_)
  rw [z1]
  refine g_Pen R hx ((s.en m).w_state 2) rfl (R.2.en fun _ => R.2.2.2.2.2.2.2.2.2.2.2.1 m hkm) fun h1 R1 _ => ?_
  have I1 : sScope (s.w_en (sUp s.en m ((s.en m).w_state 2))) := I.enw rfl
  have A : gAr g 31 (s.en m).queue 301 ((s.qu (s.en m).queue).ents.map (fun m => zr (g.ref 36 m))) := R1.ents hkq
  have hle := A.le
  rw [List.length_map] at hle
  obtain ⟨eA, hA⟩ := R1.arr (t := 18) A rfl (by decide) (by decide)
  have eq := R1.1.cell aq (by decide)
  have hne : g.ref 33 (s.en m).queue ≠ g.ref 31 (s.en m).queue := kne aq A.1 fun e => absurd (congrArg Prod.fst e) (by show ¬ (33 : Nat) = 31; decide)
  refine t_leaves_1 R1 I1 hx aq (fun pre suf (hcs : (s.qu (s.en m).queue).ents = pre ++ m :: suf) hp h2 e2 => ?_) (s.qu (s.en m).queue).ents [] rfl (by simp) hi
  have hlen : (s.qu (s.en m).queue).ents.length = pre.length + suf.length + 1 := by
    rw [hcs]
    simp
    omega
  have e2 : h2 = zput h1 (g.ref 33 (s.en m).queue) 12 (.int (Int32.ofNat (s.qu (s.en m).queue).ents.length - 1)) := e2
  rw [i_pred (by omega)] at e2
  have eo : h2.1 (g.ref 33 (s.en m).queue) = some (37, (tQu (s.qu (s.en m).queue) g (s.en m).queue).set 12 (.int (Int32.ofNat ((s.qu (s.en m).queue).ents.length - 1)))) := by rw [e2]; exact zput_self eq
  have eA2 : h2.1 (g.ref 31 (s.en m).queue) = some (1000 + 18, g.ar 31 (s.en m).queue) := by rw [e2, zput_ne hne.symm]; exact eA
  have G := R1.good (C := "RelayHallModel$Entry") A (by decide) (fun x hx => R1.al (by decide) (by decide) ((I1.qu _ hkq).1 x hx).1) (fun x => ⟨_, rfl⟩) zcl_33 rfl
  refine sh_loop (Z := fun i hk => zP s0 m_X8_leaves (d + 3) 41 [some (zr x0), some (zr x1), some (zr (g.ref 33 (s.en m).queue)), none, some (.int (Int32.ofNat i))] [] hk Q E) (own := g.ref 33 (s.en m).queue) (oc := 37) (kc := 12) (ka := 11) (n := (s.qu (s.en m).queue).ents.length) (C := "RelayHallModel$Entry") (t := 18) (arr := g.ref 31 (s.en m).queue) hne rfl rfl hA
    (fun i hk H => b_X8_leaves_41 (by rw [i_succ] at H ⊢; exact H)) suf.length pre.length h2 (g.ar 31 (s.en m).queue) (by omega) eo eA2 (by rw [A.2.1]; exact hle) (by rw [A.2.1]; decide)
    (G.mono (Nat.le_refl _) fun r hr => hr.imp id fun x => by rw [e2]; exact zAsg_put x) (fun h3 o1 o2 o3 => ?_)
  refine sh_fin (oc := 37) (own := g.ref 33 (s.en m).queue) (ka := 11) (kc := 12) (by rw [o2 _ hne]; exact eo) rfl rfl o3 hA (by rw [shf_len, A.2.1]; omega) (by rw [shf_len, A.2.1]; decide) fun h4 p1 p2 p3 => ?_
  have hx1 := shf_erase suf.length (g.ar 31 (s.en m).queue) _ pre.length A.2.2 (by rw [List.length_map]; omega)
  rw [erase_split hcs hp] at hx1
  have hx2 : ((s.qu (s.en m).queue).ents.erase m).map (fun i => zr (g.ref 36 i)) <+: (shf suf.length (g.ar 31 (s.en m).queue) pre.length).set ((s.qu (s.en m).queue).ents.length - 1) .null := pre_set_out hx1 (by rw [List.length_map, List.length_erase_of_mem hi]; exact Nat.le_refl _)
  have R4 := R1.arQ (x := (s.qu (s.en m).queue).w_ents ((s.qu (s.en m).queue).ents.erase m)) (l := (shf suf.length (g.ar 31 (s.en m).queue) pre.length).set ((s.qu (s.en m).queue).ents.length - 1) .null) (h' := h4) aq (by rw [p1, o1, e2]; rfl) (fun n n1 n2 => by rw [p2 _ n2, o2 _ n2, e2, zput_ne n1])
    (by
      rw [p2 _ hne, o2 _ hne, eo]
      show _ = some (37, tQu ((s.qu (s.en m).queue).w_ents ((s.qu (s.en m).queue).ents.erase m)) g (s.en m).queue)
      rw [← List.length_erase_of_mem hi]
      rfl) p3 (by rw [List.length_set, shf_len]; exact A.2.1) hx2 ⟨rfl, rfl, rfl⟩
  have I4 := I1.quw (q := (s.en m).queue) (x := (s.qu (s.en m).queue).w_ents ((s.qu (s.en m).queue).ents.erase m)) (fun y hy => List.mem_of_mem_erase hy) rfl rfl
  refine e_I (R4.main hm) fun (z4 : gI h4 x0 9 = s.messages) => ?_
  rw [z4]
  refine g_Mmessages R4 hm (s.messages - 1) fun h5 R5 _ => ?_
  have R5 : tR s0 F (b + 3) (s_lv s m) w (gSet g 31 (s.en m).queue ((shf suf.length (g.ar 31 (s.en m).queue) pre.length).set ((s.qu (s.en m).queue).ents.length - 1) .null)) h5 := R5
  have ex5 := R5.1.cell (gL.set.k hx (Or.inr (Or.inr (Or.inr (Or.inl (by decide)))))) (by decide)
  refine e_R ex5 fun z5 => ?_
  rw [z5]
  have L5 : gL g (gSet g 31 (s.en m).queue ((shf suf.length (g.ar 31 (s.en m).queue) pre.length).set ((s.qu (s.en m).queue).ents.length - 1) .null)) := gL.set
  have C5 : gCont g (g.rf 36 m 0) (s.en m).cont := (R.2.2.2.2.2.2.2.2.2.2.2.1 m hkm).1
  have aq5 := L5.k aq (Or.inr (Or.inr (Or.inr (Or.inl (by decide)))))
  have hrec : s_rec ((sUp s.qu (s.en m).queue ((s.qu (s.en m).queue).w_ents ((s.qu (s.en m).queue).ents.erase m))) (s.en m).queue) (s.en m).cont = s_rec (s.qu (s.en m).queue) (s.en m).cont := by
    rw [sUp_self]
    rfl
  refine ⟨⟨_, R5.main hm⟩, t_recorded R5 aq5 C5 ⟨_, rfl, ?_⟩⟩
  rw [sB_0]
  rw [show s_rec ((s_lv s m).qu (s.en m).queue) (s.en m).cont = s_rec (s.qu (s.en m).queue) (s.en m).cont from hrec]
  constructor
  · intro hr
    rw [s_leaves_f hr] at K
    exact K _ h5 (R5.less (by omega)) L5
  · intro hr
    rw [Bool.not_eq_false] at hr
    rw [s_leaves_t hr] at K
    refine ⟨⟨_, R5.main hm⟩, t_tell (id := m) R5 hm hcap ⟨fun e => absurd e (by decide), fun e => absurd e (by decide), fun e => absurd e (by decide), fun _ => (R.1.at hx (by decide)).symm, by decide, by decide⟩ fun g6 h6 R6 L6 => K g6 h6 R6 (L5.trans L6)⟩
end LV
