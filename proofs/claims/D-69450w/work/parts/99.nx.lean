/-! ===== what handing on leaves (pure) ===== -/
set_option maxRecDepth 100000
def sDR (n : Nat) (s s' : sSt) : Prop := sI s' ∧ sVV n s' ∧ (∀ h, (s'.ch h).kept.length ≤ (s.ch h).kept.length) ∧ ∀ c, (s'.cn c).inp.length ≤ (s.cn c).inp.length ∧ s'.tape = s.tape
section NX
variable {s s' s1 s2 s3 : sSt} {h c q e i m x n n' j k B : Nat} {ct : sCont}
theorem DR_bury {d0 : sDe} {r : List sDe} (I : sI s) (V : sVV n s) (hd : s.dead = d0 :: r) : sDR n s (s_bury s d0 r) := by
  have hlen : s.dead.length = r.length + 1 := by rw [hd, List.length_cons]
  have hle3 : s.dead.length ≤ 300 := I.cp.2.2.2.2.2.2.2.1
  have I3 : sI (s.w_dead r) := I.w_dead (fun x hx => by rw [hd]; exact List.mem_cons_of_mem _ hx) (by omega)
  have hkm : s.knd d0.entry = 36 := I.sc.2.2.2.2.2.2.2.2.1 d0 (by rw [hd]; exact List.mem_cons_self)
  obtain ⟨od1, od2⟩ := I.tx.2.2.2.2.2.1 d0 (by rw [hd]; exact List.mem_cons_self)
  obtain ⟨ok1, ok2, ok3, -⟩ := I.tx.2.2.2.2.1 d0.entry hkm
  have V3 : sVV n (s.w_dead r) := V.eE e_dead
  have c3 : (s.w_dead r).ch = s.ch := rfl
  have n3 : (s.w_dead r).cn = s.cn := rfl
  have t3 : (s.w_dead r).tape = s.tape := rfl
  rw [sBury_eq]
  dsimp only
  generalize s.w_dead r = s3 at I3 V3 c3 n3 t3 ⊢
  have key : ∀ ky : sBy, ky.length ≤ 40 → sDR n s (if d0.exch ≠ [] ∧ s_exch s d0.exch = none ∨ s_full s3 = true then s3 else s_comesAll (s.en d0.entry).cont d0.exch ky (-1) ((s.en d0.entry).deaths + 1) (s_route s3 d0.exch ky (s.en d0.entry).cont.heads) s3) := fun ky hk => by
    split
    · exact ⟨I3, V3, fun h => by rw [c3]; exact Nat.le_refl _, fun c => ⟨by rw [n3]; exact Nat.le_refl _, t3⟩⟩
    · refine ⟨(p_comesAll (dt := (s.en d0.entry).deaths + 1) ok1 od1 hk (Or.inl rfl) (xp := -1) (s_route s3 d0.exch ky (s.en d0.entry).cont.heads) s3 I3 route_in).1, V_comesAll _ _ V3, fun h => ?_, fun c => ?_⟩
      · rw [comesAll_ch, c3]
        exact Nat.le_refl _
      · rw [comesAll_cn, n3, comesAll_tape]
        exact ⟨Nat.le_refl _, t3⟩
  cases hk : d0.key with
  | none => exact key _ ok3
  | some k => exact key k (od2 k hk)
theorem DR_deliver (I : sI s) (V : sVV n s) (hkq : s.knd q = 33) (hki : s.knd i = 35) (hiq : (s.co i).queue = q) (hf : s_first s q = some m) : sDR n s (s_deliver s q i m) := by
  obtain ⟨hmem, hst⟩ := s_best_mem (f := fun m => (s.en m).state == 0) hf
  have h0 : (s.en m).state = 0 := eq_of_beq hst
  obtain ⟨hkm, hmq⟩ := (I.sc.qu q hkq).1 m hmem
  obtain ⟨-, hj⟩ := I.sc.co i hki
  obtain ⟨-, v2⟩ := V_first V I hf hkq
  have D1 := d_last (s := s) hki hiq
  have I1 := D1.1 I
  have E1 : sE s (s_qu s q (fun x => x.w_last (some i))) := e_quUp (fun _ => rfl) fun x hx => hx
  have V1 := V.eE E1
  have hS : s_deliver s q i m = s_send (s_hand (s_qu s q (fun x => x.w_last (some i))) (s.co i).chan m (some i) (s.co i).free) ((s.co i).chan / 4) (w_method (Int32.ofNat ((s.co i).chan % 4)) 60 60 (w_short (s.co i).tag ++ w_32 ((s.ch (s.co i).chan).tag + 1) ++ w_8 (sB (s.en m).redel) ++ w_short (s.en m).exch ++ w_short (s.en m).key) ++ w_content (Int32.ofNat ((s.co i).chan % 4)) (s.en m).cont (s.en m).expi) := rfl
  have en2 : (s_qu s q (fun x => x.w_last (some i))).en = s.en := wr_en_qu
  have kn2 : (s_qu s q (fun x => x.w_last (some i))).knd = s.knd := wr_knd_qu
  have ch2 : (s_qu s q (fun x => x.w_last (some i))).ch = s.ch := rfl
  have cn2 : (s_qu s q (fun x => x.w_last (some i))).cn = s.cn := rfl
  have se2 : (s_qu s q (fun x => x.w_last (some i))).se = s.se := rfl
  have tp2 : (s_qu s q (fun x => x.w_last (some i))).tape = s.tape := rfl
  have mem1 : m ∈ ((s_qu s q (fun x => x.w_last (some i))).qu q).ents := by
    unfold s_qu
    rw [wr_qu, sUp_self]
    exact hmem
  have mem2 : m ∈ ((s_qu s q (fun x => x.w_last (some i))).qu ((s_qu s q (fun x => x.w_last (some i))).en m).queue).ents := by
    rw [en2, hmq]
    exact mem1
  rw [hS]
  clear hS D1
  generalize s_qu s q (fun x => x.w_last (some i)) = s2 at *
  obtain ⟨p1, -, -, -⟩ := p_hand (fr := (s.co i).free) (o := some i) I1 hj (by rw [kn2]; exact hkm) mem2 (by rw [en2]; exact h0) (fun y hy => by rw [← Option.some.inj hy, kn2]; exact hki)
  have V2 := V_hand (h := (s.co i).chan) (o := some i) (fr := (s.co i).free) V1 ⟨q, mem1⟩ (fun k hk x hx => by rw [se2]; rw [ch2] at hx; exact v2 k hk x hx)
  obtain ⟨g1, g2, g3⟩ := sHandCh (s := s2) (h := (s.co i).chan) (m := m) (o := some i) (fr := (s.co i).free)
  generalize s_hand s2 (s.co i).chan m (some i) (s.co i).free = s3 at *
  have hsd := fun bb => (d_send (b := bb) p1 hj.div).1 p1
  have he := fun bb => e_send (s := s3) (c := (s.co i).chan / 4) (b := bb)
  refine ⟨hsd _, V2.eE (he _), fun h => Nat.le_trans ((he _).1 h).kl ?_, fun c => ⟨Nat.le_trans ((he _).2.2.2.2.2.2.2.2 c) ?_, (he _).2.2.1.2.trans (g3.trans tp2)⟩⟩
  · rw [g1, ch2]
    exact Nat.le_refl _
  · rw [g2, cn2]
    exact Nat.le_refl _
theorem DR_one (I : sI s) (V : sVV n s) (h : s_one s = some s') : sDR n s s' := by
  unfold s_one at h
  split at h
  · rename_i d0 r hd
    obtain rfl := Option.some.inj h
    exact DR_bury I V hd
  · split at h
    · rename_i q i m hp
      obtain rfl := Option.some.inj h
      obtain ⟨h1, h2, h3⟩ := pick_some hp
      obtain ⟨h4, h5⟩ := nextOf_some h3
      exact DR_deliver I V (I.sc.qs q h1) (I.sc.cs i h4) h5 h2
    · cases h
theorem DR_dispF : ∀ (f : Nat) (s : sSt), sI s → sVV n s → sDR n s (s_dispF f s)
  | 0, s, I, V => ⟨I, V, fun _ => Nat.le_refl _, fun _ => ⟨Nat.le_refl _, rfl⟩⟩
  | f + 1, s, I, V => by
    rw [s_dispF]
    split
    · exact ⟨I, V, fun _ => Nat.le_refl _, fun _ => ⟨Nat.le_refl _, rfl⟩⟩
    · rename_i s1 h1
      obtain ⟨a1, a2, a3, a4⟩ := DR_one I V h1
      obtain ⟨b1, b2, b3, b4⟩ := DR_dispF f s1 a1 a2
      exact ⟨b1, b2, fun h => Nat.le_trans (b3 h) (a3 h), fun c => ⟨Nat.le_trans (b4 c).1 (a4 c).1, (b4 c).2.trans (a4 c).2⟩⟩
theorem DR_disp (I : sI s) (V : sVV n s) : sDR n s (s_disp s) := DR_dispF _ s I V
theorem sDR.tK (D : sDR n s s') : tK s' ≤ tK s := Nat.mul_le_mul_left _ (kept_all (f := fun h => (s.ch h).kept.length) (g := fun h => (s'.ch h).kept.length) D.2.2.1)
/-- what one frame leaves -/
theorem p_noFrame (I : sI s) (hc : c < 4) : sI (s_noFrame s c) := by
  unfold s_noFrame
  dsimp only
  split
  · exact (d_close I hc).1 I
  · have I1 : sI (if (s.cn c).state = 5 then s_hard s c 501 0 0 else s) := by
      split
      · exact (d_hard I hc).1 I
      · exact I
    generalize (if (s.cn c).state = 5 then s_hard s c 501 0 0 else s) = s1 at I1 ⊢
    split
    · exact (d_deaf hc).1 I1
    · exact I1
/-- a frame, before what it sets going -/
theorem V_fr {ty chan : Int32} {bs left : sBy} (V : sVV n s) (I : sI s) (hc : c < 4) (hst : (s.cn c).state ≠ 0) (hn : n < 50000) (h0 : 0 ≤ chan) (hty : ty = 1 ∨ ty = 2 ∨ ty = 3 ∨ ty = 8) (hl : left.length ≤ (s.cn c).inp.length) :
    sVV (n + 1) (s_fr s c ty chan bs left) ∧ tK (s_fr s c ty chan bs left) + s_kj s c chan ≤ tK s + 950 + s_k9 s c ty chan bs ∧ ((s_fr s c ty chan bs left).cn c).inp.length ≤ left.length ∧ (∀ p, p ≠ c → ((s_fr s c ty chan bs left).cn p).inp.length ≤ (s.cn p).inp.length) ∧ (s_fr s c ty chan bs left).tape = s.tape := by
  have E1 : sE s (s_cn s c (fun k => k.w_inp left)) := by
    refine e_cn fun p => ?_
    by_cases e : p = c
    · subst e
      rw [sUp_self]
      exact hl
    · rw [sUp_ne e]
      exact Nat.le_refl _
  have V1 := V.eE E1
  have I1 := (d_inp (s := s) (inp2 := left) hc (Nat.le_trans hl (I.cp.cn c hc).1)).1 I
  have i1 : ((s_cn s c (fun k => k.w_inp left)).cn c).inp.length = left.length := by
    show (sUp s.cn c _ c).inp.length = _
    rw [sUp_self]
    rfl
  have i2 : ∀ p, p ≠ c → ((s_cn s c (fun k => k.w_inp left)).cn p).inp.length ≤ (s.cn p).inp.length := fun p hp => by
    show (sUp s.cn c _ p).inp.length ≤ _
    rw [sUp_ne hp]
    exact Nat.le_refl _
  have j1 : (s_cn s c (fun k => k.w_inp left)).tape = s.tape := rfl
  have k1 : tK (s_cn s c (fun k => k.w_inp left)) = tK s := rfl
  have k2 : s_kj (s_cn s c (fun k => k.w_inp left)) c chan = s_kj s c chan := rfl
  have k3 : s_k9 (s_cn s c (fun k => k.w_inp left)) c ty chan bs = s_k9 s c ty chan bs := by
    unfold s_k9
    have e : ((s_cn s c (fun k => k.w_inp left)).cn c).state = (s.cn c).state := by
      show (sUp s.cn c _ c).state = _
      rw [sUp_self]
      rfl
    rw [e]
    rfl
  have hkj := kj_le (s := s) (c := c) (chan := chan) hc h0
  unfold s_fr
  dsimp only
  rw [← k1, ← k2, ← k3]
  rw [← k1, ← k2] at hkj
  generalize s_cn s c (fun k => k.w_inp left) = s1 at *
  split
  · rename_i h5
    obtain ⟨a1, a2, a3⟩ := tK_onOpen (bs := bs) V1 I1 hc h5 hn h0 hty
    have e9 : s_k9 s1 c ty chan bs = s_k0 s1 c ty chan bs := if_pos h5
    rw [e9]
    exact ⟨a1, a2, Nat.le_trans (a3 c).1 (Nat.le_of_eq i1), fun p hp => Nat.le_trans (a3 p).1 (i2 p hp), (a3 c).2.trans j1⟩
  · rename_i h5
    have e9 : s_k9 s1 c ty chan bs = s_kj s1 c chan := if_neg h5
    have E : sE s1 (if (s1.cn c).state = 6 then s_onClosing s1 c ty chan bs else s_onGreeted s1 c ty chan bs) := e_if (fun _ => E_onClosing) fun _ => E_onGreeted
    have hk := tK_e E
    refine ⟨(V1.eE E).mono (Nat.le_succ n) (by omega), ?_, Nat.le_trans (E.2.2.2.2.2.2.2.2 c) (Nat.le_of_eq i1), fun p hp => Nat.le_trans (E.2.2.2.2.2.2.2.2 p) (i2 p hp), E.2.2.1.2.trans j1⟩
    rw [e9]
    omega
end NX
