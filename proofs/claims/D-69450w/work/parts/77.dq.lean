/-! ===== the twin: queues are deleted, up to their consumers ===== -/
set_option maxRecDepth 100000
section DQ
variable {s0 : zE} {F : Nat → Option zC} {b : Nat} {s s' : sSt} {w w' : tW} {g g' : sG} {h h' : zH} {d x0 x1 x2 i q m e j : Nat} {Q : Value → zH → Prop} {E : Nat → zH → Prop}
/-- the bindings between an exchange and a queue are taken out, from the last on -/
theorem t_delQ_168 {l : List Nat} {x5 i3 : Int32} (K0 : Nat → sSt → Prop) :
    ∀ (n : Nat) (s : sSt) (g : sG) (h : zH), tR s0 F b (s.w_bs (tk (fun x => !((s.bi x).exch == e && (s.bi x).queue == q)) l n)) w g h → sScope (s.w_bs l) → g.kind x0 = (1, 0) → g.kind x1 = (33, q) → g.kind x2 = (32, e) → n ≤ l.length → l.length ≤ 40 →
      (∀ g1 h1, tR s0 F b (s.w_bs (l.filter (fun x => !((s.bi x).exch == e && (s.bi x).queue == q)))) w g1 h1 → gL g g1 → zP s0 m_X8_delete (d + 1) 168 [some (zr x0), some (zr x1), none, some (.int i3), some (zr x2), some (.int x5), some (.int (Int32.ofNat 0 - 1))] [] h1 Q E) →
      zP s0 m_X8_delete (d + 1) 168 [some (zr x0), some (zr x1), none, some (.int i3), some (zr x2), some (.int x5), some (.int (Int32.ofNat n - 1))] [] h Q E
  | 0, s, g, h, R, I, hm, hx, hy, hn, hl, K => by
    rw [tk_zero] at R
    exact K g h R (gL.refl g)
  | n + 1, s, g, h, R, I, hm, hx, hy, hn, hl, K => by
    obtain ⟨x, hx5⟩ : ∃ x, l[n]? = some x := ⟨_, List.getElem?_eq_getElem (by omega)⟩
    have hx6 := tk_get (p := fun x => !((s.bi x).exch == e && (s.bi x).queue == q)) hx5
    have A : gAr g 7 0 40 ((tk (fun x => !((s.bi x).exch == e && (s.bi x).queue == q)) l (n + 1)).map (fun b => zr (g.ref 34 b))) := R.2.ar7
    have hkx : s.knd x = 34 := I.bs x (List.mem_of_getElem? hx5)
    have hbx : s.knd (s.bi x).queue = 33 ∧ s.knd (s.bi x).exch = 32 := I.bi x hkx
    have ax := R.al (c := 34) (by decide) (by decide) hkx
    have I2 : sScope (s.w_bs (tk (fun x => !((s.bi x).exch == e && (s.bi x).queue == q)) l (n + 1))) := I.bsw (l := tk (fun x => !((s.bi x).exch == e && (s.bi x).queue == q)) l (n + 1)) tk_mem
    rw [i_pred (by omega), Nat.add_sub_cancel]
    refine b_X8_delete_168 ⟨fun hc => absurd hc (i_nn (by omega)), fun _ => e_R (R.main hm) fun z2 => ?_⟩
    rw [z2]
    refine g_El R A rfl (by decide) hx6 (by decide) fun z3 => ?_
    rw [z3]
    refine e_R (R.1.cell ax (by decide)) fun (z4 : gR h (g.ref 34 x) 1 = g.ref 32 (s.bi x).exch) => ?_
    rw [z4, R.inj (R.al (c := 32) (by decide) (by decide) hbx.2) hy (by decide), i_m1]
    refine ⟨fun hne => ?_, fun heq => e_R (R.main hm) fun _ => ⟨R.el (t := 14) A rfl (by decide) hx6 (by decide), e_R (R.1.cell ax (by decide)) fun (z5 : gR h (g.ref 34 x) 0 = g.ref 33 (s.bi x).queue) => ?_⟩⟩
    · rw [tk_keep hx5 (by simp only [beq_false_of_ne hne]; rfl)] at R
      exact t_delQ_168 K0 n s g h R I hm hx hy (by omega) hl K
    · rw [z5, R.inj (R.al (c := 33) (by decide) (by decide) hbx.1) hx (by decide)]
      refine ⟨fun hne => ?_, fun heq2 => ⟨⟨_, R.main hm⟩, ?_⟩⟩
      · rw [tk_keep hx5 (by simp only [beq_false_of_ne hne, Bool.and_false]; rfl)] at R
        exact t_delQ_168 K0 n s g h R I hm hx hy (by omega) hl K
      · refine t_takeBinding R I2 hm (List.getElem?_eq_some_iff.mp hx6).1 fun g1 h1 R1 L1 => ?_
        rw [w_bs_bs, wr_bs, tk_drop hx5 (by simp only [beq_iff_eq.mpr heq, beq_iff_eq.mpr heq2]; rfl)] at R1
        exact t_delQ_168 K0 n s g1 h1 R1 I (L1.m hm) (L1.th (by decide) (by decide) hx) (L1.th (by decide) (by decide) hy) (by omega) hl fun g2 h2 R2 L2 => K g2 h2 R2 (L1.trans L2)
theorem len_split {f : Nat → Bool} : ∀ {l : List Nat}, (l.filter f).length + (l.filter (fun x => !(f x))).length = l.length
  | [] => rfl
  | x :: l => by
    have := len_split (f := f) (l := l)
    cases hf : f x
    · rw [List.filter_cons_of_neg (by rw [hf]; decide), List.filter_cons_of_pos (by rw [hf]; rfl), List.length_cons, List.length_cons]
      omega
    · rw [List.filter_cons_of_pos hf, List.filter_cons_of_neg (by rw [hf]; decide), List.length_cons, List.length_cons]
      omega
/-- an exchange without the bindings to a queue -/
def s_unb (s : sSt) (q e : Nat) : sSt := s.w_bs (s.bs.filter (fun b => !((s.bi b).exch == e && (s.bi b).queue == q)))
theorem s_unb_eq : s_unbindAll s q e = if (s_unb s q e).bs.length < s.bs.length ∧ (s.ex e).auto = true ∧ s_bindsE (s_unb s q e) e = [] then s_delE (s_unb s q e) e else s_unb s q e := rfl
theorem unb_len : (s.bs.filter (fun x => (s.bi x).exch == e && (s.bi x).queue == q)).length + (s_unb s q e).bs.length = s.bs.length := len_split (f := fun x => (s.bi x).exch == e && (s.bi x).queue == q) (l := s.bs)
theorem erase_mid {pre rest : List Nat} (h : (pre ++ e :: rest).Nodup) : (pre ++ e :: rest).erase e = pre ++ rest := by
  have hn := List.nodup_append.mp h
  rw [List.erase_append_right _ (fun hm => hn.2.2 e hm e List.mem_cons_self rfl), List.erase_cons_head]
/-- all exchanges lose their bindings to a queue -/
theorem t_delQ_135 : ∀ (rest pre : List Nat) (s : sSt) (g : sG) (h : zH), s.es = pre ++ rest → s.es.Nodup → tR s0 F (b + 3 * s.es.length) s w g h → sScope s → g.kind x0 = (1, 0) → g.kind x1 = (33, q) → s.facts.length + s.es.length < 999000 →
    (∀ g1 h1, tR s0 F (b + 3 * (rest.foldl (fun s e => s_unbindAll s q e) s).es.length) (rest.foldl (fun s e => s_unbindAll s q e) s) w g1 h1 → sScope (rest.foldl (fun s e => s_unbindAll s q e) s) → gL g g1 → zP s0 m_X8_delete (d + 4) 254 [some (zr x0), some (zr x1), none, some (.int (Int32.ofNat 0)), none, none, none] [] h1 Q E) →
    zP s0 m_X8_delete (d + 4) 135 [some (zr x0), some (zr x1), none, some (.int (Int32.ofNat pre.length)), none, none, none] [] h Q E
  | [], pre, s, g, h, hes, hnd, R, I, hm, hx, hcap, K => by
    have hle := R.2.ar5.le
    rw [List.length_map] at hle
    have hl : s.es.length = pre.length := by rw [hes, List.append_nil]
    refine b_X8_delete_135 (e_I (R.main hm) fun (z1 : gI h x0 5 = Int32.ofNat s.es.length) => ?_)
    rw [z1, i_le (by omega) (by omega)]
    exact ⟨fun _ => K g h R I (gL.refl g), fun hn => absurd (Nat.le_of_eq hl) hn⟩
  | e :: rest, pre, s, g, h, hes, hnd, R, I, hm, hx, hcap, K => by
    have A := R.2.ar5
    have hle := A.le
    rw [List.length_map] at hle
    have hl : s.es.length = pre.length + rest.length + 1 := by rw [hes]; simp; omega
    have hx5 : s.es[pre.length]? = some e := by rw [hes]; simp
    have hke := I.es e (List.mem_of_getElem? hx5)
    have ae := R.al (c := 32) (by decide) (by decide) hke
    have hee : e ∈ s.es := List.mem_of_getElem? hx5
    have hbl : s.bs.length ≤ 40 := by
      have := R.2.ar7.le
      rw [List.length_map] at this
      exact this
    rw [List.foldl_cons] at K
    refine b_X8_delete_135 (e_I (R.main hm) fun (z1 : gI h x0 5 = Int32.ofNat s.es.length) => ?_)
    rw [z1, i_le (by omega) (by omega)]
    refine ⟨fun hn => absurd hn (by omega), fun _ => e_R (R.main hm) fun z2 => ?_⟩
    rw [z2]
    refine g_El R A rfl (by decide) hx5 (by decide) fun z3 => ?_
    rw [z3]
    refine ⟨⟨_, R.main hm⟩, t_bindingsOf (oe := some e) (oq := some q) R I hm ae hx ⟨_, rfl, e_I (R.main hm) fun (z4 : gI h x0 7 = Int32.ofNat s.bs.length) => ?_⟩⟩
    rw [z4]
    have hhad : (s.bs.filter (fun x => oeq (some e) (s.bi x).exch && oeq (some q) (s.bi x).queue)).length = (s.bs.filter (fun x => (s.bi x).exch == e && (s.bi x).queue == q)).length := rfl
    rw [hhad]
    have hspl := unb_len (s := s) (q := q) (e := e)
    have hue : (s_unb s q e).es = s.es := rfl
    have hgo : ∀ (s' : sSt) (g' : sG) (h' : zH), s_unbindAll s q e = s' → tR s0 F (b + 3 * s'.es.length) s' w g' h' → sScope s' → gL g g' → s'.es = (if s'.es.length = s.es.length then pre ++ [e] else pre) ++ rest → s'.es.Nodup → s'.facts.length + s'.es.length < 999000 →
        zP s0 m_X8_delete (d + 4) 135 [some (zr x0), some (zr x1), none, some (.int (Int32.ofNat (if s'.es.length = s.es.length then pre ++ [e] else pre).length)), none, none, none] [] h' Q E := fun s' g' h' e1 R' I' L' e2 hnd' hcap' => by
      rw [e1] at K
      exact t_delQ_135 rest _ s' g' h' e2 hnd' R' I' (L'.m hm) (L'.th (by decide) (by decide) hx) hcap' fun g2 h2 R2 I2 L2 => K g2 h2 R2 I2 (L'.trans L2)
    have hkeep : ∀ (g' : sG) (h' : zH), s_unbindAll s q e = s_unb s q e → tR s0 F (b + 3 * s.es.length) (s_unb s q e) w g' h' → gL g g' →
        zP s0 m_X8_delete (d + 4) 135 [some (zr x0), some (zr x1), none, some (.int (Int32.ofNat pre.length + 1)), none, none, none] [] h' Q E := fun g' h' e1 R' L' => by
      have h5 := hgo (s_unb s q e) g' h' e1 R' (I.bsw fun x hx => (List.mem_filter.mp hx).1) L' (by rw [hue, if_pos rfl, hes, List.append_assoc]; rfl) hnd hcap
      rw [hue, if_pos rfl, List.length_append, List.length_singleton] at h5
      rw [i_succ]
      exact h5
    refine t_delQ_168 (l := s.bs) (fun _ _ => True) s.bs.length s g h (by rw [tk_all]; exact R) I hm hx ae (Nat.le_refl _) hbl fun g1 h1 R1 L1 => ?_
    have R1 : tR s0 F (b + 3 * s.es.length) (s_unb s q e) w g1 h1 := R1
    have hm1 := L1.m hm
    have hx1 : g1.kind x1 = (33, q) := L1.th (by decide) (by decide) hx
    have he1 : g1.kind (g.ref 32 e) = (32, e) := L1.th (by decide) (by decide) ae
    have e1 := R1.1.cell he1 (by decide)
    have I1 : sScope (s_unb s q e) := I.bsw fun x hx => (List.mem_filter.mp hx).1
    refine b_X8_delete_168 ⟨fun _ => ⟨fun hc => ?_, fun hc => ?_⟩, fun hc => absurd (by decide : (Int32.ofNat 0 - 1 : Int32) < 0) hc⟩
    · rw [show (0 : Int32) = Int32.ofNat 0 from rfl, i_le (by omega) (by decide)] at hc
      exact hkeep g1 h1 (by rw [s_unb_eq, if_neg (fun hn => by omega)]) R1 L1
    · rw [show (0 : Int32) = Int32.ofNat 0 from rfl, i_le (by omega) (by decide)] at hc
      refine e_I e1 fun (z5 : gI h1 (g.ref 32 e) 3 = sB (s.ex e).auto) => ?_
      rw [z5, sB_0]
      refine ⟨fun ha => hkeep g1 h1 (by rw [s_unb_eq, if_neg (fun hn => by rw [ha] at hn; exact absurd hn.2.1 (by decide))]) R1 L1, fun ha => ?_⟩
      rw [Bool.not_eq_false] at ha
      refine ⟨⟨_, R1.main hm1⟩, t_bindingsOf (oe := some e) (oq := none) R1 I1 hm1 he1 rfl ⟨_, rfl, ?_⟩⟩
      have hbe : ((s_unb s q e).bs.filter (fun x => oeq (some e) ((s_unb s q e).bi x).exch && oeq none ((s_unb s q e).bi x).queue)) = s_bindsE (s_unb s q e) e := by
        unfold s_bindsE
        congr 1
        funext x
        exact Bool.and_true _
      rw [hbe]
      have hbe2 : (s_bindsE (s_unb s q e) e).length ≤ 40 := Nat.le_trans (List.length_filter_le _ _) (by omega)
      refine ⟨fun hne => hkeep g1 h1 (by rw [s_unb_eq, if_neg (fun hn => hne (by rw [hn.2.2]; rfl))]) R1 L1, fun heq => ?_⟩
      have hnil : s_bindsE (s_unb s q e) e = [] := by
        rw [show (0 : Int32) = Int32.ofNat 0 from rfl, i_inj (by omega) (by decide)] at heq
        exact List.eq_nil_of_length_eq_zero heq
      have eqd : s_unbindAll s q e = s_delE (s_unb s q e) e := by rw [s_unb_eq, if_pos ⟨by omega, ha, hnil⟩]
      rw [show b + 3 * s.es.length = b + 3 * (s.es.length - 1) + 3 by omega] at R1
      refine ⟨⟨_, R1.main hm1⟩, t_delE R1 I1 hm1 he1 hee (show s.facts.length < 1000000 by omega) fun g2 h2 R2 L2 => ?_⟩
      have hes2 : (s_delE (s_unb s q e) e).es = pre ++ rest := by
        rw [delE_es]
        show s.es.erase e = _
        rw [hes]
        exact erase_mid (by rw [← hes]; exact hnd)
      have hl2 : (s_delE (s_unb s q e) e).es.length = s.es.length - 1 := by rw [hes2, hl]; simp
      have hfa := delE_facts (s := s_unb s q e) (e := e)
      have hfa2 : (s_unb s q e).facts.length = s.facts.length := rfl
      have h5 := hgo (s_delE (s_unb s q e) e) g2 h2 eqd (by rw [hl2]; exact R2) (I1.delE hke) (L1.trans L2) (by rw [if_neg (by omega)]; exact hes2) (by rw [hes2]; rw [hes] at hnd; exact hnd.sublist (List.Sublist.append_left (List.sublist_cons_self e rest) pre)) (by omega)
      rw [if_neg (by omega)] at h5
      rw [i_m1, Int32.sub_add_cancel]
      exact h5
end DQ
