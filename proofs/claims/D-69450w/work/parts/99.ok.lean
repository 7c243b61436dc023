/-! ===== the twin: what nothing leads to any more; a crash ===== -/
set_option maxRecDepth 100000
set_option maxHeartbeats 200000
section OK
variable {s0 : zE} {F : Nat → Option zC} {b : Nat} {s s' S T : sSt} {w w' : tW} {g g' g0 : sG} {h h' : zH} {d x0 x1 x2 x3 x4 n m c i j q e k a : Nat} {Q : Value → zH → Prop} {E : Nat → zH → Prop} {x : Int32} {l xs : List Nat} {fs : List Value} {u v : Value}
/-- the main cell, connections, channels and what is frozen last -/
def gM (g g1 : sG) : Prop := ∀ n, ((g.kind n).1 = 1 ∨ (g.kind n).1 = 2 ∨ (g.kind n).1 = 3 ∨ (g.kind n).1 = 40) → g1.kind n = g.kind n ∧ g1.frz n = g.frz n
theorem gL.tom (L : gL g g') : gM g g' := fun n hn => L n (by
  rcases hn with e | e | e | e
  · exact Or.inl e
  · exact Or.inr (Or.inl e)
  · exact Or.inr (Or.inr (Or.inl e))
  · exact Or.inr (Or.inr (Or.inr (Or.inr e))))
theorem gM.refl (g : sG) : gM g g := fun _ _ => ⟨rfl, rfl⟩
theorem gM.trans {g2 : sG} (A : gM g g') (B : gM g' g2) : gM g g2 := fun n hn => by
  have h1 := A n hn
  have h2 := B n (by rw [h1.1]; exact hn)
  exact ⟨h2.1.trans h1.1, h2.2.trans h1.2⟩
theorem gM.m (A : gM g g') (hm : g.kind x0 = (1, 0)) : g'.kind x0 = (1, 0) := ((A x0 (by rw [hm]; exact Or.inl rfl)).1).trans hm
theorem gM.fz (A : gM g g') {q : zC} (hk : gF g n q) : gF g' n q := by
  have h := A n (by rw [hk.1]; exact Or.inr (Or.inr (Or.inr rfl)))
  exact ⟨h.1.trans hk.1, h.2.trans hk.2⟩
theorem gM.B (A : gM g g') {y : sBy} (hk : gB g n y) : gB g' n y := A.fz hk
theorem gM.Bo (A : gM g g') {y : Option sBy} (hk : gBo g n y) : gBo g' n y := by
  cases y with
  | none => exact hk
  | some z => exact A.B hk
theorem gM.Tab (a : gM g g') {n : Nat} {x : sTab} (hk : gTab g n x) : gTab g' n x := by
  obtain ⟨a1, a2, a3, a4, r, l1, l2, l3, l4, e1, e2, e3, e4, e5, e6, e7, e8, e9, e10, e11, e12⟩ := hk
  refine ⟨a1, a2, a3, a4, r, l1, l2, l3, l4, a.fz e1, a.fz e2, a.fz e3, a.fz e4, a.fz e5, a.B e6, e7, e8, e9, e10, e11, fun j x hx => ?_⟩
  obtain ⟨n1, n4, f1, f2, f3, f4, f5, f6⟩ := e12 j x hx
  exact ⟨n1, n4, f1, a.B f2, f3, f4, f5, fun e => a.B (f6 e)⟩
theorem gM.To (a : gM g g') {n : Nat} {x : Option sTab} (hk : gTo g n x) : gTo g' n x := by
  cases x with
  | none => exact hk
  | some y => exact a.Tab hk
theorem gM.Cont (a : gM g g') {n : Nat} {x : sCont} (hk : gCont g n x) : gCont g' n x := by
  obtain ⟨e, k, hd, bd, got, f1, f2, f3, f4, f5⟩ := hk
  exact ⟨e, k, hd, bd, got, a.fz f1, a.B f2, a.B f3, a.To f4, a.B f5⟩
/-- what is kept -/
def sKp (s : sSt) (i : Nat) : Prop := i ∈ s.ses ∨ i ∈ s.sqs ∨ i ∈ s.sbs ∨ i ∈ s.sen
theorem gc_knd (i : Nat) : (s_gc s).knd i = if i ∈ s.ses ∨ i ∈ s.sqs ∨ i ∈ s.sbs ∨ i ∈ s.sen then s.knd i else 0 := rfl
theorem gc_knd' {c : Nat} (hc : c ≠ 0) : (s_gc s).knd i = c ↔ sKp s i ∧ s.knd i = c := by
  rw [gc_knd]
  unfold sKp
  split
  · rename_i h1
    exact ⟨fun h => ⟨h1, h⟩, fun h => h.2⟩
  · rename_i h1
    exact ⟨fun h => absurd h.symm hc, fun h => absurd h.1 h1⟩
theorem gc_qu (q : Nat) : (s_gc s).qu q = if q ∈ s.sqs then s.qu q else (s.qu q).w_ents [] := rfl
def gGc (g : sG) (s : sSt) : sG := g.w_kind (fun n => if 32 ≤ (g.kind n).1 ∧ (g.kind n).1 ≤ 37 ∧ ¬ ((g.kind n).2 ∈ s.ses ∨ (g.kind n).2 ∈ s.sqs ∨ (g.kind n).2 ∈ s.sbs ∨ (g.kind n).2 ∈ s.sen) then (0, 0) else g.kind n)
theorem gGc_k (n : Nat) : (gGc g s).kind n = if 32 ≤ (g.kind n).1 ∧ (g.kind n).1 ≤ 37 ∧ ¬ sKp s (g.kind n).2 then (0, 0) else g.kind n := rfl
theorem gGc_keep (hk : g.kind n = (c, i)) (h1 : ¬ (32 ≤ c ∧ c ≤ 37) ∨ sKp s i) : (gGc g s).kind n = (c, i) := by
  rw [gGc_k, hk, if_neg]
  rintro ⟨h2, h3, h4⟩
  exact h1.elim (fun h => h ⟨h2, h3⟩) h4
theorem gGc_inv (hk : (gGc g s).kind n = (c, i)) (hc : c ≠ 0) : g.kind n = (c, i) ∧ (¬ (32 ≤ c ∧ c ≤ 37) ∨ sKp s i) := by
  rw [gGc_k] at hk
  split at hk
  · exact absurd (congrArg Prod.fst hk).symm hc
  · rename_i h1
    rw [hk] at h1
    refine ⟨hk, ?_⟩
    by_cases h2 : 32 ≤ c ∧ c ≤ 37
    · exact Or.inr (Classical.byContradiction fun h3 => h1 ⟨h2.1, h2.2, h3⟩)
    · exact Or.inl h2
theorem gGc_m : gM g (gGc g s) := fun n hn => by
  refine ⟨?_, rfl⟩
  rw [gGc_k, if_neg]
  rintro ⟨h1, h2, -⟩
  omega
theorem gGc_A (hc : ¬ (32 ≤ c ∧ c ≤ 37)) (A : gA1 g c i) : gA1 (gGc g s) c i := gGc_keep A (Or.inl hc)
theorem gGc_Ar (hc : ¬ (32 ≤ c ∧ c ≤ 37)) {ys : List Value} (A : gAr g c i n ys) : gAr (gGc g s) c i n ys := ⟨gGc_A hc A.1, A.2⟩
theorem gGc_ArF {α : Type} {P : sG → Nat → α → Prop} (hc : ¬ (32 ≤ c ∧ c ≤ 37)) (A : gArF g c i n P []) : gArF (gGc g s) c i n P [] := ⟨gGc_A hc A.1, A.2.1, Nat.zero_le _, fun j x hj => nomatch hj⟩
theorem tR.gc (R : tR s0 F b s w g h) (I : sScope s) (hd : s.dead = []) (hf : s.facts = []) (hn : ∀ h, isH h → chNo (s.ch h)) : tR s0 F b (s_gc s) w (gGc g s) h := by
  have hM := gGc_m (g := g) (s := s)
  obtain ⟨i1, i2, i3, i4, i5, i6, i7, i8, -⟩ := I
  have hkq : ∀ q, sKp s q → s.knd q = 33 → q ∈ s.sqs := fun q hq h33 => by
    rcases hq with e | e | e | e
    · have := i6 q e; rw [h33] at this; cases this
    · exact e
    · have := i7 q e; rw [h33] at this; cases this
    · have := i8 q e; rw [h33] at this; cases this
  obtain ⟨H, a1, a2, a3, a4, a5, a6, a7, a8, a9, a10, a11, a12⟩ := R
  obtain ⟨k1, k2, k3, k4, k5, k6, k7⟩ := a1
  have e1 : (gGc g s).cr = g.cr := rfl
  refine ⟨?_, ⟨?_, ?_, ?_, ?_, ?_, ?_⟩, ?_, ?_, ?_, ?_, ?_, ?_, ?_, ?_, ?_, ?_, a12⟩
  · rw [e1]
    refine H.drop (fun m => ?_) (fun m hm => ?_) (fun m hm => ?_)
    · rw [gGc_k]
      split
      · exact Or.inr rfl
      · exact Or.inl rfl
    · obtain ⟨hk, -⟩ := gGc_inv (g := g) (s := s) (n := m) (c := ((gGc g s).kind m).1) (i := ((gGc g s).kind m).2) rfl hm
      show g.ref ((gGc g s).kind m).1 ((gGc g s).kind m).2 = m
      exact H.at hk hm
    · obtain ⟨hk, hc⟩ := gGc_inv (g := g) (s := s) (n := m) (c := ((gGc g s).kind m).1) (i := ((gGc g s).kind m).2) rfl hm
      rw [hk]
      generalize ((gGc g s).kind m).1 = c at hk hc
      generalize ((gGc g s).kind m).2 = i at hk hc
      show tcell (s_gc s) w (gGc g s) c i = tcell s w g c i
      by_cases e33 : c = 33
      · subst e33
        show (37, tQu ((s_gc s).qu i) g i) = (37, tQu (s.qu i) g i)
        rw [gc_qu, if_pos (hkq i (hc.resolve_left fun h => h ⟨by decide, by decide⟩) (k7 33 i m (by decide) (by decide) hk))]
      · unfold tcell
        split <;> first | rfl | exact absurd rfl e33
  · exact gGc_A (by decide) k1
  · exact fun n i hk => k2 n i (gGc_inv hk (by decide)).1
  · exact k3
  · exact fun c hc => gGc_A (by decide) (k4 c hc)
  · exact fun h hh => gGc_A (by decide) (k5 h hh)
  · refine ⟨fun c i h1 h2 hk => ?_, fun c i n h1 h2 hk => ?_⟩
    · obtain ⟨h3, h4⟩ := (gc_knd' (by omega)).mp hk
      exact gGc_keep (k6 c i h1 h2 h4) (Or.inr h3)
    · obtain ⟨h3, h4⟩ := gGc_inv hk (by omega)
      exact (gc_knd' (by omega)).mpr ⟨h4.resolve_left fun h => h ⟨h1, h2⟩, k7 c i n h1 h2 h3⟩
  · obtain ⟨c1, c2, c3, c4, c5, c6, c7, c8, c9, c10, c11, c12, c13, c14⟩ := a2
    exact ⟨gGc_Ar (by decide) c1, gGc_Ar (by decide) c2, gGc_Ar (by decide) c3, gGc_Ar (by decide) c4, gGc_Ar (by decide) c5, gGc_Ar (by decide) c6, gGc_Ar (by decide) c7, gGc_Ar (by decide) c8, gGc_Ar (by decide) c9, gGc_Ar (by decide) c10, gGc_Ar (by decide) c11, gGc_Ar (by decide) c12, gGc_Ar (by decide) c13, c14⟩
  · obtain ⟨c1, c2, c3, c4, c5, c6⟩ := a3
    exact ⟨gGc_Ar (by decide) c1, gGc_Ar (by decide) c2, gGc_Ar (by decide) c3, gGc_Ar (by decide) c4, gGc_Ar (by decide) c5, gGc_Ar (by decide) c6⟩
  · obtain ⟨b4, n4, c4, d4, e4⟩ := a4
    rw [hd] at b4
    rw [hf] at d4 e4
    refine ⟨?_, n4, c4, ?_, ?_⟩
    · show gArF (gGc g s) 9 0 300 gDe s.dead
      rw [hd]
      exact gGc_ArF (by decide) b4
    · show 2 * s.facts.length ≤ n4 + g.cf 10 0
      rw [hf]
      exact d4
    · show gArF (gGc g s) 10 0 n4 gFa s.facts
      rw [hf]
      exact gGc_ArF (by decide) e4
  · exact fun c hc => ⟨gGc_Ar (by decide) (a5 c hc).1, ⟨gGc_A (by decide) (a5 c hc).2.1.1, (a5 c hc).2.1.2⟩, gGc_Ar (by decide) (a5 c hc).2.2⟩
  · intro h hh
    obtain ⟨f1, f2, ⟨n5, f3, f4, f5⟩, f6, n6, pre, f7, f8, f9, f10⟩ := a6 h hh
    obtain ⟨n1, n2, n3, n4, n5', n6'⟩ := hn h hh
    refine ⟨hM.Bo f1, fun hj => ?_, ⟨n5, f3, f4, gGc_Ar (by decide) f5⟩, ?_, n6, pre, f7, f8, f9, gGc_Ar (by decide) f10⟩
    · have := f2 n6'
      show match (s.ch h).cont with
        | none => _
        | some c => _
      rw [n5'] at this ⊢
      exact this
    · show gArF (gGc g s) 29 h 32 gKe (s.ch h).kept
      rw [n3] at f6 ⊢
      exact gGc_ArF (by decide) f6
  · intro i hk
    obtain ⟨h3, h4⟩ := (gc_knd' (by decide)).mp hk
    exact ⟨hM.B (a7 i h4).1, hM.Bo (a7 i h4).2⟩
  · intro i hk
    obtain ⟨h3, h4⟩ := (gc_knd' (by decide)).mp hk
    obtain ⟨p1, p2, p3, p4⟩ := a8 i h4
    rw [gc_qu, if_pos (hkq i h3 h4)]
    exact ⟨hM.B p1, hM.Bo p2, hM.Bo p3, gGc_Ar (by decide) p4⟩
  · intro i hk
    obtain ⟨h3, h4⟩ := (gc_knd' (by decide)).mp hk
    exact ⟨hM.B (a9 i h4).1, hM.Tab (a9 i h4).2⟩
  · intro i hk
    obtain ⟨h3, h4⟩ := (gc_knd' (by decide)).mp hk
    exact hM.B (a10 i h4)
  · intro i hk
    obtain ⟨h3, h4⟩ := (gc_knd' (by decide)).mp hk
    exact ⟨hM.Cont (a11 i h4).1, hM.B (a11 i h4).2.1, hM.B (a11 i h4).2.2⟩
/-- ahead of what is put back -/
def s_cr5 (s : sSt) : sSt := ((s_crQ (s_crE ((((s.w_facts []).w_dead []).w_cs []).w_messages 0) s.ses) s.sqs).w_bs s.sbs).w_sen []
theorem crash_eq : s_crash s n = s_gc ((s_backs (s_cr5 (s_secure (s_forget (s.w_crashes (s.crashes + 1))) n)) (s_secure (s_forget (s.w_crashes (s.crashes + 1))) n).sen).w_sen (List.range' (s_cr5 (s_secure (s_forget (s.w_crashes (s.crashes + 1))) n)).next (s_secure (s_forget (s.w_crashes (s.crashes + 1))) n).sen.length)) := by
  unfold s_crash
  dsimp only
  rw [← show s_cr5 (s_secure (s_forget (s.w_crashes (s.crashes + 1))) n) = _ from rfl, backs_eq]
  rfl
theorem cr5_rows : (s_cr5 s).knd = s.knd ∧ (s_cr5 s).next = s.next ∧ (s_cr5 s).en = s.en ∧ (s_cr5 s).sen = [] ∧ (s_cr5 s).bi = s.bi ∧ (s_cr5 s).co = s.co ∧ (s_cr5 s).se = s.se ∧ (s_cr5 s).cn = s.cn ∧ (s_cr5 s).ch = s.ch ∧ (s_cr5 s).facts = [] ∧ (s_cr5 s).dead = [] ∧ (s_cr5 s).cs = [] ∧ (s_cr5 s).es = s.ses ∧ (s_cr5 s).qs = s.sqs ∧ (s_cr5 s).bs = s.sbs ∧ (s_cr5 s).ses = s.ses ∧ (s_cr5 s).sqs = s.sqs ∧ (s_cr5 s).sbs = s.sbs ∧ (s_cr5 s).lastNum = s.lastNum ∧ (s_cr5 s).messages = 0 ∧
  (∀ q, (s_cr5 s).qu q = if q ∈ s.sqs then (((s.qu q).w_there true).w_ents []).w_last none else s.qu q) ∧ ∀ e, (s_cr5 s).ex e = if e ∈ s.ses then (s.ex e).w_there true else s.ex e :=
  ⟨rfl, rfl, rfl, rfl, rfl, rfl, rfl, rfl, rfl, rfl, rfl, rfl, rfl, rfl, rfl, rfl, rfl, rfl, rfl, rfl, fun _ => rfl, fun _ => rfl⟩
theorem sScope.cr5 (I : sI s) (N : sNone s) : sScope (s_cr5 s) := by
  obtain ⟨r1, r2, r3, r4, r5, r6, r7, r8, r9, r10, r11, r12, r13, r14, r15, r16, r17, r18, r19, r20, r21, r22⟩ := cr5_rows (s := s)
  obtain ⟨a1, a2, a3, a4, a5, a6, a7, a8, a9, a10, a11, a12, a13, a14, a15, a16, a17⟩ := I.sc
  refine ⟨by rw [r14, r1]; exact a5, by rw [r13, r1]; exact a6, by rw [r15, r1]; exact a7, by rw [r12]; exact fun _ h => nomatch h, by rw [r17, r1]; exact a5, by rw [r16, r1]; exact a6, by rw [r18, r1]; exact a7, by rw [r4]; exact fun _ h => nomatch h, by rw [r11]; exact fun _ h => nomatch h, fun i hi => ?_, by rw [r5, r1]; exact a11, by rw [r6, r1]; exact a12, by rw [r3, r1]; exact a13, by rw [r7, r1]; exact a14, by rw [r9, r1]; exact a15, by rw [r10]; exact fun _ h => nomatch h, by rw [r1, r2]; exact a17⟩
  rw [r1] at hi
  rw [r21, r3, r1]
  split
  · exact ⟨fun m hm => (nomatch hm), fun x hx => (nomatch hx), (a10 i hi).2.2⟩
  · exact a10 i hi
theorem t_cr_82 (Z : tZ s0 F (b + 51 + 2 * 300) s w g h) (N : sNone s) (hsl : s.facts.length ≤ 1000000) (hn : n ≤ s.facts.length) (hm : g.kind x0 = (1, 0))
    (K : ∀ g1 h1, tR s0 F (b + tP s) ((s_backs (s_cr5 (s_secure s n)) (s_secure s n).sen).w_sen (List.range' (s_cr5 (s_secure s n)).next (s_secure s n).sen.length)) w g1 h1 → gL g g1 → Q (.int (s_backs (s_cr5 (s_secure s n)) (s_secure s n).sen).messages) h1) :
    zP s0 m_X8_crash (d + 4) 82 [some (zr x0), none, none, none, none] [.int (Int32.ofNat n), zr x0] h Q E := by
  refine b_X8_crash_82 ⟨⟨_, Z.r.main hm⟩, t_secureZ (d := d) Z hm hn fun g1 h1 Z1 L1 => ?_⟩
  have N1 : sNone (s_secure s n) := by rw [secure_eq]; exact N
  have hP := tP_secure (s := s) (n := n)
  rw [← hP] at K
  generalize s_secure s n = s1 at K Z1 N1
  have hm1 := L1.m hm
  have R1 := Z1.r
  have I1 := Z1.i
  have F1 := I1.hi.1 0
  have Isc := I1.sc
  have I5 := sScope.cr5 I1 N1
  obtain ⟨r1, r2, r3, r4, r5, r6, r7, r8, r9, r10, r11, r12, r13, r14, r15, r16, r17, r18, r19, r20, r21, r22⟩ := cr5_rows (s := s1)
  rw [safe_0] at F1
  obtain ⟨f1, f2, f3, f4, f5, f6, f7, f8, f9, f10, f11, -⟩ := F1
  rw [show b + 51 + 2 * 300 + tP s1 = b + tP s1 + 600 + 51 by omega] at R1
  refine g_PM R1 hm1 (s1.w_facts []) w rfl R1.2.facts0 ⟨rfl, rfl, rfl, rfl, rfl, rfl, rfl, rfl, rfl⟩ fun h2 R2 _ => ?_
  refine g_PM R2 hm1 ((s1.w_facts []).w_dead []) w rfl R2.2.dead0 ⟨rfl, rfl, rfl, rfl, rfl, rfl, rfl, rfl, rfl⟩ fun h3 R3 _ => ?_
  refine g_PM R3 hm1 (((s1.w_facts []).w_dead []).w_cs []) w rfl (R3.2.cs_pre List.nil_prefix) ⟨rfl, rfl, rfl, rfl, rfl, rfl, rfl, rfl, rfl⟩ fun h4 R4 _ => ?_
  refine g_Mmessages R4 hm1 0 fun h5 R5 _ => ?_
  have hk2 : ((((s1.w_facts []).w_dead []).w_cs []).w_messages 0).knd = s1.knd := rfl
  have hS5 : s_cr5 s1 = ((s_crQ (s_crE ((((s1.w_facts []).w_dead []).w_cs []).w_messages 0) s1.ses) s1.sqs).w_bs s1.sbs).w_sen [] := rfl
  have hs1 : ((((s1.w_facts []).w_dead []).w_cs []).w_messages 0).ses = s1.ses := rfl
  have hs2 : (s_crE ((((s1.w_facts []).w_dead []).w_cs []).w_messages 0) s1.ses).sqs = s1.sqs := rfl
  have hk3 : (s_crE ((((s1.w_facts []).w_dead []).w_cs []).w_messages 0) s1.ses).knd = s1.knd := rfl
  have hs3 : (s_crQ (s_crE ((((s1.w_facts []).w_dead []).w_cs []).w_messages 0) s1.ses) s1.sqs).sbs = s1.sbs := rfl
  have hs4 : ((s_crQ (s_crE ((((s1.w_facts []).w_dead []).w_cs []).w_messages 0) s1.ses) s1.sqs).w_bs s1.sbs).sen = s1.sen := rfl
  have hk4 : (s_crQ (s_crE ((((s1.w_facts []).w_dead []).w_cs []).w_messages 0) s1.ses) s1.sqs).knd = s1.knd := rfl
  refine e_I (R5.main hm1) fun (z1 : gI h5 x0 22 = Int32.ofNat s1.ses.length) => g_C (R5.main hm1) ?_
  rw [z1]
  rintro h6 e6
  have ex5 := R5.main hm1
  generalize (((s1.w_facts []).w_dead []).w_cs []).w_messages 0 = s2 at R5 hk2 hS5 hs1 hs2 hk3 hs3 hs4 hk4 ex5
  refine t_cr_115 (N := s1.ses.length) (l := s1.ses) (s := s2) (g0 := g1) hs1 rfl (fun e he => by rw [hk2]; exact (f8 e he).1) f1 hm1 (fun g7 h7 R7 L7 => ?_) s1.ses.length 0 g1 h6 (by omega) ?_ ?_ (gL.refl g1)
  rotate_left
  · rw [e6, zput_self ex5, List.take_zero, crE_nil]
    rfl
  · rw [List.take_zero, crE_nil, e6, zput_zput]
    exact R5.putM (k := 5) (v := vI 0) hm1 (es_main []) (R5.2.es_pre List.nil_prefix) ⟨rfl, rfl, rfl, rfl, rfl, rfl, rfl, rfl, rfl⟩
  have hm7 := L7.m hm1
  generalize s_crE s2 s1.ses = s3 at R7 hS5 hs2 hk3 hs3 hs4 hk4
  have ex7 := R7.main hm7
  refine e_I ex7 fun (z2 : gI h7 x0 23 = Int32.ofNat s3.sqs.length) => g_C ex7 ?_
  rw [z2, hs2]
  rintro h8 e8
  refine t_cr_161 (N := s1.sqs.length) (l := s1.sqs) (s := s3) (g0 := g7) hs2 rfl (fun e he => by rw [hk3]; exact (f9 e he).1) f2 hm7 (fun g9 h9 R9 L9 => ?_) s1.sqs.length 0 g7 h8 (by omega) ?_ ?_ (gL.refl g7)
  rotate_left
  · rw [e8, zput_self ex7, List.take_zero, crQ_nil]
    rfl
  · rw [List.take_zero, crQ_nil, e8, zput_zput]
    exact R7.putM (k := 6) (v := vI 0) hm7 (qs_main []) (R7.2.qs_pre List.nil_prefix) ⟨rfl, rfl, rfl, rfl, rfl, rfl, rfl, rfl, rfl⟩
  have hm9 := L9.m hm7
  generalize s_crQ s3 s1.sqs = s4 at R9 hS5 hs3 hs4 hk4
  have ex9 := R9.main hm9
  refine e_I ex9 fun (z3 : gI h9 x0 24 = Int32.ofNat s4.sbs.length) => g_C ex9 ?_
  rw [z3, hs3]
  rintro h10 e10
  refine t_cr_227 (N := s1.sbs.length) (l := s1.sbs) (s := s4) (g0 := g9) hs3 rfl (fun e he => by rw [hk4]; exact (f10 e he).1) f3 hm9 (fun g11 h11 R11 L11 => ?_) s1.sbs.length 0 g9 h10 (by omega) ?_ ?_ (gL.refl g9)
  rotate_left
  · rw [e10, zput_self ex9, List.take_zero, bs_main]
    rfl
  · rw [List.take_zero, e10, zput_zput]
    exact R9.putM (k := 7) (v := vI 0) hm9 (bs_main []) (R9.2.bs_pre List.nil_prefix) ⟨rfl, rfl, rfl, rfl, rfl, rfl, rfl, rfl, rfl⟩
  have hm11 := L11.m hm9
  have hk5 : (s4.w_bs s1.sbs).knd = s1.knd := hk4
  generalize s4.w_bs s1.sbs = s5 at R11 hS5 hs4 hk5
  have hlen : s1.sen.length ≤ 300 := f4
  refine e_I (R11.main hm11) fun (z4 : gI h11 x0 25 = Int32.ofNat s5.sen.length) => ?_
  rw [z4, hs4, i_nat (by omega)]
  refine ⟨fun hh => absurd hh (i_nn (by omega)), g_N (u := 51) R11 (by decide) (by omega) R11.big fun n1 h12 R12 U12 => ?_⟩
  refine t_cr_266 (l := s1.sen) (s := s5) hs4 hlen (fun m hm => by rw [hk5]; exact (f11 m hm).1) hm11 (fun e => by
    have := U12.1
    rw [← e, hm11] at this
    cases this) (fun h13 R13 U13 => ?_) s1.sen.length 0 h12 _ (by omega) R12 U12 (List.length_replicate ..) (fun j hj => absurd hj (Nat.not_lt_zero _))
  refine g_PM R13 hm11 (s5.w_sen []) w (sen_main []) (R13.2.sen_pre List.nil_prefix) ⟨rfl, rfl, rfl, rfl, rfl, rfl, rfl, rfl, rfl⟩ fun h14 R14 O14 => ?_
  have U14 := U13.oth O14 (U13.ne (by rw [hm11]; decide))
  have hkk : (s_cr5 s1).knd = s1.knd := r1
  rw [← hS5] at R14
  have Rl := R14.lend U14
  have hl300 : 2 * s1.sen.length ≤ 600 := by omega
  refine t_cr_297 (l := s1.sen) (s := s_cr5 s1) (g0 := g11) (F := F) (b := b + tP s1) I5 r4 hlen (fun m hm => ?_) hm11 (fun m hm => R14.al (c := 36) (by decide) (by decide) (by rw [hkk]; exact (f11 m hm).1)) U14.2.1 U14.2.2.2.1 U14.2.2.2.2.2 (fun g15 h15 R15 L15 => K g15 h15 R15 (L1.trans (((L7.trans L9).trans L11).trans L15))) s1.sen.length 0 g11 h14 (by omega) (Rl.less (by omega)) (bk_nil I5) List.nil_prefix (gL.refl g11)
  obtain ⟨m1', m2', -⟩ := f11 m hm
  refine ⟨by rw [r1]; exact m1', ?_, ?_⟩
  · rw [r2]
    exact Nat.lt_of_not_le fun hh => by
      have := Isc.2.2.2.2.2.2.2.2.2.2.2.2.2.2.2.2 m hh
      rw [this] at m1'
      cases m1'
  · rw [r3, r21, if_pos m2']
    rfl
end OK
