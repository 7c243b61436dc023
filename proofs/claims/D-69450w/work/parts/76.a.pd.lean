/-! ===== what holds at all times, where connections, channels, consumers change ===== -/
set_option maxRecDepth 100000
section PD
variable {s s' : sSt} {m q e i h c : Nat} {b : sBy}
theorem sScope.w_cn (I : sScope s) {v : Nat → sCn} : sScope (s.w_cn v) := I
theorem sTx.w_cn (I : sTx s) {v : Nat → sCn} : sTx (s.w_cn v) := I
theorem sMs.w_cn (I : sMs s) {v : Nat → sCn} : sMs (s.w_cn v) := I
theorem sSn.w_cn (I : sSn s) {v : Nat → sCn} : sSn (s.w_cn v) := I
theorem sHi.w_cn (I : sHi s) {v : Nat → sCn} : sHi (s.w_cn v) := I
theorem sCp.w_cn (I : sCp s) {v : Nat → sCn} (hv : ∀ c, c < 4 → (v c).inp.length ≤ 828 ∧ (v c).out.length ≤ 5000 ∧ 0 ≤ (v c).state ∧ (v c).state ≤ 6) : sCp (s.w_cn v) := by
  obtain ⟨a1, a2, a3, a4, a5, a6, a7, a8, a9, a10, a11, a12, a13, a14⟩ := I
  exact ⟨a1, a2, a3, a4, a5, a6, a7, a8, a9, a10, a11, a12, hv, a14⟩
theorem sI.w_cn (I : sI s) {v : Nat → sCn} (hv : ∀ c, c < 4 → (v c).inp.length ≤ 828 ∧ (v c).out.length ≤ 5000 ∧ 0 ≤ (v c).state ∧ (v c).state ≤ 6) : sI (s.w_cn v) :=
  ⟨I.sc.w_cn, I.tx.w_cn, I.ms.w_cn, I.sn.w_cn, I.cp.w_cn hv, I.hi.w_cn⟩
theorem sCp.cn (I : sCp s) : ∀ c, c < 4 → (s.cn c).inp.length ≤ 828 ∧ (s.cn c).out.length ≤ 5000 ∧ 0 ≤ (s.cn c).state ∧ (s.cn c).state ≤ 6 := I.2.2.2.2.2.2.2.2.2.2.2.2.1
theorem sI.cnUp (I : sI s) {k : sCn} (hk : k.inp.length ≤ 828 ∧ k.out.length ≤ 5000 ∧ 0 ≤ k.state ∧ k.state ≤ 6) : sI (s.w_cn (sUp s.cn c k)) := I.w_cn fun x hx => by
  by_cases ex : x = c
  · subst ex
    rw [sUp_self]
    exact hk
  · rw [sUp_ne ex]
    exact I.cp.cn x hx
theorem tP_cn {v : Nat → sCn} : tP (s.w_cn v) = tP s := rfl
theorem sWt_cn {v : Nat → sCn} : sWt (s.w_cn v) = sWt s := rfl
theorem sDn.w_cn {v : Nat → sCn} (hi : sI s → sI (s.w_cn v)) (h0 : ∀ c, (s.cn c).state = 0 → (v c).state = 0) : sDn s (s.w_cn v) :=
  ⟨hi, fun _ => Nat.le_of_eq tP_cn, fun _ => by rw [tP_cn, sWt_cn]; exact Nat.le_refl _, List.Sublist.refl _, List.Sublist.refl _, List.Sublist.refl _, List.Sublist.refl _, h0, fun _ h => h, fun _ h => h, rfl, rfl, rfl, rfl, rfl, rfl, rfl, fun j => ⟨_, _, _, rfl⟩, fun j => ⟨_, rfl⟩, fun j => ⟨_, _, rfl⟩, fun _ => rfl⟩
theorem sDn.cnUp {k : sCn} (hk : sI s → k.inp.length ≤ 828 ∧ k.out.length ≤ 5000 ∧ 0 ≤ k.state ∧ k.state ≤ 6) (h0 : (s.cn c).state = 0 → k.state = 0) : sDn s (s.w_cn (sUp s.cn c k)) :=
  sDn.w_cn (fun I => I.cnUp (hk I)) fun x hx => by
    by_cases ex : x = c
    · subst ex
      rw [sUp_self]
      exact h0 hx
    · rw [sUp_ne ex]
      exact hx
theorem sScope.w_ch (I : sScope s) {v : Nat → sCh} (hv : ∀ h, isH h → (∀ x ∈ (v h).sent, s.knd x = 37) ∧ ∀ k ∈ (v h).kept, ∀ x ∈ k.those, s.knd x = 37) : sScope (s.w_ch v) := by
  obtain ⟨a1, a2, a3, a4, a5, a6, a7, a8, a9, a10, a11, a12, a13, a14, a15, a16⟩ := I
  exact ⟨a1, a2, a3, a4, a5, a6, a7, a8, a9, a10, a11, a12, a13, a14, hv, a16⟩
theorem sTx.w_ch (I : sTx s) {v : Nat → sCh} (hv : ∀ h, isH h → sChTx (v h)) : sTx (s.w_ch v) := by
  obtain ⟨a1, a2, a3, a4, a5, a6, a7⟩ := I
  exact ⟨a1, a2, a3, a4, a5, a6, hv⟩
theorem sMs.w_ch (I : sMs s) {v : Nat → sCh} : sMs (s.w_ch v) := I
theorem sHi.w_ch (I : sHi s) {v : Nat → sCh} : sHi (s.w_ch v) := I
theorem sCp.w_ch (I : sCp s) {v : Nat → sCh} (hv : ∀ h, isH h → (v h).kept.length ≤ 32) : sCp (s.w_ch v) := by
  obtain ⟨a1, a2, a3, a4, a5, a6, a7, a8, a9, a10, a11, a12, a13⟩ := I
  exact ⟨a1, a2, a3, a4, a5, a6, a7, a8, a9, a10, a11, hv, a13⟩
theorem sCp.kept (I : sCp s) : ∀ h, isH h → (s.ch h).kept.length ≤ 32 := I.2.2.2.2.2.2.2.2.2.2.2.1
theorem sTx.ch (I : sTx s) : ∀ h, isH h → sChTx (s.ch h) := I.2.2.2.2.2.2
theorem sSn.w_ch (I : sSn s) {v : Nat → sCh} (h1 : ∀ h, isH h → (v h).sent.Nodup ∧ ∀ x ∈ (v h).sent, x ∈ (s.ch h).sent) (h2 : ∀ h, isH h → (v h).state = 1 → ∀ k ∈ (v h).kept, ∀ x ∈ k.those, x ∈ (v h).sent ∧ (s.se x).done = true) : sSn (s.w_ch v) := by
  obtain ⟨a1, a2, a3⟩ := I
  exact ⟨fun h hh => ⟨(h1 h hh).1, fun x hx => (a1 h hh).2 x ((h1 h hh).2 x hx)⟩, fun h k hh hk x hx y hy => a2 h k hh hk x ((h1 h hh).2 x hx) y ((h1 k hk).2 y hy), h2⟩
/-- a channel's record changes: fewer sent, fewer kept -/
theorem sI.chUp (I : sI s) {k : sCh} (h1 : k.sent.Nodup ∧ ∀ x ∈ k.sent, x ∈ (s.ch h).sent) (h2 : ∀ x ∈ k.kept, x ∈ (s.ch h).kept) (h3 : sChTx (s.ch h) → sChTx k) (h4 : k.kept.length ≤ (s.ch h).kept.length) (h5 : k.state = 1 → ∀ y ∈ k.kept, ∀ x ∈ y.those, x ∈ k.sent ∧ (s.se x).done = true) : sI (s.w_ch (sUp s.ch h k)) := by
  refine ⟨I.sc.w_ch fun x hx => ?_, I.tx.w_ch fun x hx => ?_, I.ms.w_ch, I.sn.w_ch (fun x hx => ?_) (fun x hx => ?_), I.cp.w_ch fun x hx => ?_, I.hi.w_ch⟩
  · by_cases ex : x = h
    · subst ex
      rw [sUp_self]
      exact ⟨fun y hy => (I.sc.ch x hx).1 y (h1.2 y hy), fun y hy => (I.sc.ch x hx).2 y (h2 y hy)⟩
    · rw [sUp_ne ex]
      exact I.sc.ch x hx
  · by_cases ex : x = h
    · subst ex
      rw [sUp_self]
      exact h3 (I.tx.ch x hx)
    · rw [sUp_ne ex]
      exact I.tx.ch x hx
  · by_cases ex : x = h
    · subst ex
      rw [sUp_self]
      exact h1
    · rw [sUp_ne ex]
      exact ⟨(I.sn.1 x hx).1, fun y hy => hy⟩
  · by_cases ex : x = h
    · subst ex
      rw [sUp_self]
      exact h5
    · rw [sUp_ne ex]
      exact I.sn.2.2 x hx
  · by_cases ex : x = h
    · subst ex
      rw [sUp_self]
      exact Nat.le_trans h4 (I.cp.kept x hx)
    · rw [sUp_ne ex]
      exact I.cp.kept x hx
theorem sum_mono {f g : Nat → Nat} : ∀ {l : List Nat}, (∀ x ∈ l, f x ≤ g x) → (l.map f).sum ≤ (l.map g).sum
  | [], _ => Nat.le_refl _
  | x :: l, hl => by
    have h1 := hl x List.mem_cons_self
    have h2 := sum_mono (f := f) (g := g) (l := l) fun y hy => hl y (List.mem_cons_of_mem _ hy)
    simp only [List.map_cons, List.sum_cons]
    omega
theorem tP_ch {v : Nat → sCh} : tP (s.w_ch v) = tP s := rfl
theorem sWt_ch {v : Nat → sCh} (hv : ∀ h, (v h).sent.length + (v h).confs.length ≤ (s.ch h).sent.length + (s.ch h).confs.length) : sWt (s.w_ch v) ≤ sWt s := by
  have := sum_mono (f := fun h => (v h).sent.length + (v h).confs.length) (g := fun h => (s.ch h).sent.length + (s.ch h).confs.length) (l := s_hs) fun x _ => hv x
  exact Nat.add_le_add_left this _
theorem sDn.chUp {k : sCh} (hi : sI s → sI (s.w_ch (sUp s.ch h k))) (h1 : k.sent.length + k.confs.length ≤ (s.ch h).sent.length + (s.ch h).confs.length) (h2 : (s.ch h).confs = [] → k.confs = []) (h3 : (s.ch h).state ≠ 1 → k.state ≠ 1) (h4 : k.lastq = (s.ch h).lastq) : sDn s (s.w_ch (sUp s.ch h k)) := by
  refine ⟨hi, fun _ => Nat.le_of_eq tP_ch, fun _ => ?_, List.Sublist.refl _, List.Sublist.refl _, List.Sublist.refl _, List.Sublist.refl _, fun _ h => h, fun x hx => ?_, fun x hx => ?_, rfl, rfl, rfl, rfl, rfl, rfl, rfl, fun j => ⟨_, _, _, rfl⟩, fun j => ⟨_, rfl⟩, fun j => ⟨_, _, rfl⟩, fun x => ?_⟩
  · rw [tP_ch]
    refine Nat.add_le_add_right (sWt_ch fun x => ?_) _
    by_cases ex : x = h
    · subst ex
      rw [sUp_self]
      exact h1
    · rw [sUp_ne ex]
      exact Nat.le_refl _
  · show (sUp s.ch h k x).confs = []
    by_cases ex : x = h
    · subst ex
      rw [sUp_self]
      exact h2 hx
    · rw [sUp_ne ex]
      exact hx
  · show (sUp s.ch h k x).state ≠ 1
    by_cases ex : x = h
    · subst ex
      rw [sUp_self]
      exact h3 hx
    · rw [sUp_ne ex]
      exact hx
  · show (sUp s.ch h k x).lastq = _
    by_cases ex : x = h
    · subst ex
      rw [sUp_self]
      exact h4
    · rw [sUp_ne ex]
theorem sScope.w_cs (I : sScope s) {v : List Nat} (hv : ∀ x ∈ v, x ∈ s.cs) : sScope (s.w_cs v) := by
  obtain ⟨a1, a2, a3, a4, a5⟩ := I
  exact ⟨a1, a2, a3, fun x hx => a4 x (hv x hx), a5⟩
theorem sTx.w_cs (I : sTx s) {v : List Nat} : sTx (s.w_cs v) := I
theorem sMs.w_cs (I : sMs s) {v : List Nat} : sMs (s.w_cs v) := I
theorem sSn.w_cs (I : sSn s) {v : List Nat} : sSn (s.w_cs v) := I
theorem sHi.w_cs (I : sHi s) {v : List Nat} : sHi (s.w_cs v) := I
theorem sCp.w_cs (I : sCp s) {v : List Nat} (hv : ∀ x ∈ v, x ∈ s.cs) (hn : v.Nodup) (hl : v.length ≤ s.cs.length) : sCp (s.w_cs v) := by
  obtain ⟨a1, a2, a3, a4, a5, a6, a7, a8, a9, a10, a11, a12⟩ := I
  exact ⟨a1, a2, hn, a4, a5, a6, Nat.le_trans hl a7, a8, a9, a10, fun x hx => a11 x (hv x hx), a12⟩
theorem d_takeOut (I : sI s) : sDn s (s_takeOut s i) := by
  refine ⟨fun I => ⟨I.sc.w_cs fun x hx => List.mem_of_mem_erase hx, I.tx.w_cs, I.ms.w_cs, I.sn.w_cs, I.cp.w_cs (fun x hx => List.mem_of_mem_erase hx) (I.cp.2.2.1.erase _) List.erase_sublist.length_le, I.hi.w_cs⟩, fun _ => Nat.le_refl _, fun _ => Nat.le_refl _, List.erase_sublist, List.Sublist.refl _, List.Sublist.refl _, List.Sublist.refl _, fun _ h => h, fun _ h => h, fun _ h => h, rfl, rfl, rfl, rfl, rfl, rfl, rfl, fun j => ⟨_, _, _, rfl⟩, fun j => ⟨_, rfl⟩, fun j => ⟨_, _, rfl⟩, fun _ => rfl⟩
theorem d_out (I : sI s) (hb : (s.cn c).out.length + b.length ≤ 5000) : sDn s (s_cn s c (fun k => (k.w_out (k.out ++ b)).w_lastOut s.clock)) := by
  unfold s_cn
  refine sDn.w_cn (fun I => I.w_cn fun x hx => ?_) fun x hx => ?_
  · by_cases ex : x = c
    · subst ex
      rw [sUp_self]
      obtain ⟨a1, a2, a3⟩ := I.cp.cn x hx
      refine ⟨a1, ?_, a3⟩
      show ((s.cn x).out ++ b).length ≤ 5000
      rw [List.length_append]
      exact hb
    · rw [sUp_ne ex]
      exact I.cp.cn x hx
  · by_cases ex : x = c
    · subst ex
      rw [sUp_self]
      exact hx
    · rw [sUp_ne ex]
      exact hx
theorem d_cl0 (I : sI s) : sDn s (s_cn s c (fun k => ((k.w_state 0).w_inp []).w_deaf false)) := by
  unfold s_cn
  refine sDn.w_cn (fun I => I.w_cn fun x hx => ?_) fun x hx => ?_
  · by_cases ex : x = c
    · subst ex
      rw [sUp_self]
      exact ⟨Nat.zero_le _, (I.cp.cn x hx).2.1, (by decide : (0 : Int32) ≤ 0), (by decide : (0 : Int32) ≤ 6)⟩
    · rw [sUp_ne ex]
      exact I.cp.cn x hx
  · by_cases ex : x = c
    · subst ex
      rw [sUp_self]
      rfl
    · rw [sUp_ne ex]
      exact hx
theorem d_cl6 (I : sI s) (h0 : (s.cn c).state ≠ 0) {v : Int32} : sDn s (s_cn s c (fun k => (k.w_state 6).w_closing v)) := by
  unfold s_cn
  refine sDn.w_cn (fun I => I.w_cn fun x hx => ?_) fun x hx => ?_
  · by_cases ex : x = c
    · subst ex
      rw [sUp_self]
      exact ⟨(I.cp.cn x hx).1, (I.cp.cn x hx).2.1, (by decide : (0 : Int32) ≤ 6), (by decide : (6 : Int32) ≤ 6)⟩
    · rw [sUp_ne ex]
      exact I.cp.cn x hx
  · by_cases ex : x = c
    · subst ex
      exact absurd hx h0
    · rw [sUp_ne ex]
      exact hx
theorem isH_dec : isH h ∨ ¬ isH h := Classical.em _
theorem d_cs (I : sI s) (hj : isH h) {v : Int32} (hv : v ≠ 1) : sDn s (s_ch s h (fun k => k.w_state v)) :=
  sDn.chUp (fun I => I.chUp ⟨(I.sn.1 h hj).1, fun _ hx => hx⟩ (fun _ hx => hx) (fun hx => hx) (Nat.le_refl _) fun e => absurd e hv) (Nat.le_refl _) (fun e => e) (fun _ => hv) rfl
theorem d_pop (I : sI s) (hj : isH h) {x : Nat} {r : List Nat} (hs : (s.ch h).sent = x :: r) (h1 : (s.ch h).state ≠ 1) : sDn s (s_ch s h (fun k => k.w_sent r)) := by
  refine sDn.chUp (fun I => I.chUp ⟨?_, fun y hy => ?_⟩ (fun _ hx => hx) (fun hx => hx) (Nat.le_refl _) fun e => absurd e h1) ?_ (fun e => e) (fun e => e) rfl
  · have := (I.sn.1 h hj).1
    rw [hs] at this
    exact (List.nodup_cons.mp this).2
  · rw [hs]
    exact List.mem_cons_of_mem _ hy
  · rw [hs]
    show r.length + (s.ch h).confs.length ≤ (x :: r).length + (s.ch h).confs.length
    rw [List.length_cons]
    omega
theorem chTx_fin {k : sCh} (hx : sChTx k) : sChTx ((((((((k.w_kept []).w_confs []).w_due 0).w_cont none).w_mode 0).w_confirm 0).w_tag 0).w_junk false) := by
  obtain ⟨k1, k2, k3, k4, k5, k6, k7, k8, k9, k10, k11, k12, k13, k14, k15, k16⟩ := k
  exact ⟨hx.1, hx.2.1, fun _ c hc => (nomatch hc), fun x hx => (nomatch hx), Or.inl rfl, ⟨fun _ => rfl, fun _ => rfl⟩, (by decide : (0 : Int32) ≤ 0), (by decide : (0 : Int32) ≤ 2)⟩
theorem fin_rd {k : sCh} : ((((((((k.w_kept []).w_confs []).w_due 0).w_cont none).w_mode 0).w_confirm 0).w_tag 0).w_junk false).sent = k.sent ∧ ((((((((k.w_kept []).w_confs []).w_due 0).w_cont none).w_mode 0).w_confirm 0).w_tag 0).w_junk false).state = k.state ∧ ((((((((k.w_kept []).w_confs []).w_due 0).w_cont none).w_mode 0).w_confirm 0).w_tag 0).w_junk false).kept = [] ∧
    ((((((((k.w_kept []).w_confs []).w_due 0).w_cont none).w_mode 0).w_confirm 0).w_tag 0).w_junk false).confs = [] ∧ ((((((((k.w_kept []).w_confs []).w_due 0).w_cont none).w_mode 0).w_confirm 0).w_tag 0).w_junk false).lastq = k.lastq := by
  obtain ⟨k1, k2, k3, k4, k5, k6, k7, k8, k9, k10, k11, k12, k13, k14, k15, k16⟩ := k
  exact ⟨rfl, rfl, rfl, rfl, rfl⟩
theorem d_fin (I : sI s) (hj : isH h) (hs : (s.ch h).sent = []) (h1 : (s.ch h).state ≠ 1) : sDn s (s_ch s h (fun k => (((((((k.w_kept []).w_confs []).w_due 0).w_cont none).w_mode 0).w_confirm 0).w_tag 0).w_junk false)) := by
  have hr := fin_rd (k := s.ch h)
  have ht := fun hx => chTx_fin (k := s.ch h) hx
  show sDn s (s.w_ch (sUp s.ch h (((((((((s.ch h).w_kept []).w_confs []).w_due 0).w_cont none).w_mode 0).w_confirm 0).w_tag 0).w_junk false)))
  revert hr ht
  generalize (((((((((s.ch h).w_kept []).w_confs []).w_due 0).w_cont none).w_mode 0).w_confirm 0).w_tag 0).w_junk false) = k
  intro hr ht
  obtain ⟨r1, r2, r3, r4, r5⟩ := hr
  refine sDn.chUp (fun I => I.chUp ⟨by rw [r1]; exact (I.sn.1 h hj).1, fun x hx => by rw [r1] at hx; exact hx⟩ (fun x hx => by rw [r3] at hx; cases hx) ht (by rw [r3]; exact Nat.zero_le _) fun e => ?_) ?_ (fun _ => r4) (fun e => by rw [r2]; exact e) r5
  · rw [r2] at e
    exact absurd e h1
  · rw [r1, r4]
    exact Nat.add_le_add_left (Nat.zero_le _) _
end PD
