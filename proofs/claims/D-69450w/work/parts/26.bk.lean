/-! blocks of J5_fastRemove, J6_delete, J6_grow, J6_toArray_2, J12_getBytes, J15_copyOfRange, J15_copyOfRangeByte, J15_copyOf_2: printed by dec.py -/
set_option maxRecDepth 100000
theorem b_J5_fastRemove_0 {s0 : zE} {d : Nat} {x0 : Nat} {x1 : Nat} {x2 : Int32} {h : zH} {Q : Value → zH → Prop} {E : Nat → zH → Prop} (H : (fI h x0 [44] 0) ∧ ((fC h x0 44) ∧ (∀ h1, h1 = zput h x0 0 (.int ((gI h x0 0) + 1)) → ((fI h1 x0 [44] 2) ∧ (((gI h1 x0 2) - 1 ≤ x2 → (zP s0 m_J5_fastRemove (d + 1) 34 [some (zr (x0)), some (zr (x1)), none, some (.int ((gI h1 x0 2) - 1))] [] h1 Q E)) ∧ (¬ (gI h1 x0 2) - 1 ≤ x2 → ((fCpy s0 h1 x1 (x2 + 1) x1 x2 (((gI h1 x0 2) - 1) - x2)) ∧ (∀ h2, h2 = zblk h1 x1 (zspl (gA h1 x1) ((x2 + 1)).toNatClampNeg (gA h1 x1) (x2).toNatClampNeg ((((gI h1 x0 2) - 1) - x2)).toNatClampNeg) → (zP s0 m_J5_fastRemove (d + 1) 34 [some (zr (x0)), some (zr (x1)), none, some (.int ((gI h1 x0 2) - 1))] [] h2 Q E))))))))) : zP s0 m_J5_fastRemove (d + 1) 0 [some (zr (x0)), some (zr (x1)), some (.int (x2)), none] [] h Q E := by
  refine z_aload_n (M := m_J5_fastRemove) (k := 0) rfl dJ5_fastRemove_0 ?_
  refine z_dup (M := m_J5_fastRemove) (zr_cat _) dJ5_fastRemove_1 ?_
  obtain ⟨g, H⟩ := H
  refine z_get (M := m_J5_fastRemove) f_J5_63 dJ5_fastRemove_2 g ?_
  refine z_iconst (M := m_J5_fastRemove) (v := 1) (by decide) dJ5_fastRemove_5 ?_
  refine z_iadd (M := m_J5_fastRemove) dJ5_fastRemove_6 ?_
  obtain ⟨g, H⟩ := H
  refine zz_put (M := m_J5_fastRemove) f_J5_63 dJ5_fastRemove_7 rfl (fn_44_0) g (ft_44_0) (fun h1 e => ?_)
  have H := H h1 e
  refine z_aload_n (M := m_J5_fastRemove) (k := 0) rfl dJ5_fastRemove_10 ?_
  obtain ⟨g, H⟩ := H
  refine z_get (M := m_J5_fastRemove) f_J5_48 dJ5_fastRemove_11 g ?_
  refine z_iconst (M := m_J5_fastRemove) (v := 1) (by decide) dJ5_fastRemove_14 ?_
  refine z_isub (M := m_J5_fastRemove) dJ5_fastRemove_15 ?_
  refine z_dup (M := m_J5_fastRemove) rfl dJ5_fastRemove_16 ?_
  refine z_istore_n (M := m_J5_fastRemove) (k := 3) 3 rfl (zlt rfl) rfl dJ5_fastRemove_17 ?_
  show zP s0 m_J5_fastRemove (d + 1) _ [some (zr (x0)), some (zr (x1)), some (.int (x2)), some (.int ((gI h1 x0 2) - 1))] _ _ _ _
  refine z_iload_n (M := m_J5_fastRemove) (k := 2) rfl dJ5_fastRemove_18 ?_
  refine z_icmple (M := m_J5_fastRemove) 34 rfl dJ5_fastRemove_19 (fun hc => ?_) (fun hc => ?_)
  · have H := H.1 hc
    exact zP.weak (ls' := [some (zr (x0)), some (zr (x1)), none, some (.int ((gI h1 x0 2) - 1))]) (zle rfl) (zsub_so (zsub_so (zsub_no (zsub_so zsub_nil)))) H
  · have H := H.2 hc
    refine z_aload_n (M := m_J5_fastRemove) (k := 1) rfl dJ5_fastRemove_22 ?_
    refine z_iload_n (M := m_J5_fastRemove) (k := 2) rfl dJ5_fastRemove_23 ?_
    refine z_iconst (M := m_J5_fastRemove) (v := 1) (by decide) dJ5_fastRemove_24 ?_
    refine z_iadd (M := m_J5_fastRemove) dJ5_fastRemove_25 ?_
    refine z_aload_n (M := m_J5_fastRemove) (k := 1) rfl dJ5_fastRemove_26 ?_
    refine z_iload_n (M := m_J5_fastRemove) (k := 2) rfl dJ5_fastRemove_27 ?_
    refine z_iload_n (M := m_J5_fastRemove) (k := 3) rfl dJ5_fastRemove_28 ?_
    refine z_iload_n (M := m_J5_fastRemove) (k := 2) rfl dJ5_fastRemove_29 ?_
    refine z_isub (M := m_J5_fastRemove) dJ5_fastRemove_30 ?_
    obtain ⟨g, H⟩ := H
    refine z_arraycopy (M := m_J5_fastRemove) q1046 q1048 q1047 q267 dJ5_fastRemove_31 (Nat.zero_le _) g (fun h2 e => ?_)
    have H := H h2 e
    exact zP.weak (ls' := [some (zr (x0)), some (zr (x1)), none, some (.int ((gI h1 x0 2) - 1))]) (zle rfl) (zsub_so (zsub_so (zsub_no (zsub_so zsub_nil)))) H
theorem c_J5_fastRemove {s0 : zE} {d : Nat} {x0 : Nat} {x1 : Nat} {x2 : Int32} {h : zH} {Q : Value → zH → Prop} {E : Nat → zH → Prop} (H : (fI h x0 [44] 0) ∧ ((fC h x0 44) ∧ (∀ h1, h1 = zput h x0 0 (.int ((gI h x0 0) + 1)) → ((fI h1 x0 [44] 2) ∧ (((gI h1 x0 2) - 1 ≤ x2 → (zP s0 m_J5_fastRemove (d + 1) 34 [some (zr (x0)), some (zr (x1)), none, some (.int ((gI h1 x0 2) - 1))] [] h1 Q E)) ∧ (¬ (gI h1 x0 2) - 1 ≤ x2 → ((fCpy s0 h1 x1 (x2 + 1) x1 x2 (((gI h1 x0 2) - 1) - x2)) ∧ (∀ h2, h2 = zblk h1 x1 (zspl (gA h1 x1) ((x2 + 1)).toNatClampNeg (gA h1 x1) (x2).toNatClampNeg ((((gI h1 x0 2) - 1) - x2)).toNatClampNeg) → (zP s0 m_J5_fastRemove (d + 1) 34 [some (zr (x0)), some (zr (x1)), none, some (.int ((gI h1 x0 2) - 1))] [] h2 Q E))))))))) : zX s0 m_J5_fastRemove (d + 1) [zr (x0), zr (x1), .int (x2)] h Q E := zX.of2 rfl (by decide +kernel) (zlay_r (zlay_r (zlay_i (zlay_n (znoneS znone0))))) (zle rfl) (b_J5_fastRemove_0 H)
theorem b_J5_fastRemove_34 {s0 : zE} {d : Nat} {x0 : Nat} {x1 : Nat} {x3 : Int32} {h : zH} {Q : Value → zH → Prop} {E : Nat → zH → Prop} (H : (fC h x0 44) ∧ (∀ h1, h1 = zput h x0 2 (.int (x3)) → ((fS s0 h1 x1 6 x3) ∧ ((0 = 0 ∨ zAsg h1 0 (.object "java/lang/Object")) ∧ (∀ h2, h2 = zput h1 x1 (x3).toNatClampNeg (zr 0) → (Q .null h2)))))) : zP s0 m_J5_fastRemove (d + 1) 34 [some (zr (x0)), some (zr (x1)), none, some (.int (x3))] [] h Q E := by
  refine z_aload_n (M := m_J5_fastRemove) (k := 1) rfl dJ5_fastRemove_34 ?_
  refine z_aload_n (M := m_J5_fastRemove) (k := 0) rfl dJ5_fastRemove_35 ?_
  refine z_iload_n (M := m_J5_fastRemove) (k := 3) rfl dJ5_fastRemove_36 ?_
  refine z_dup_x1 (M := m_J5_fastRemove) rfl (zr_cat _) dJ5_fastRemove_37 ?_
  obtain ⟨g, H⟩ := H
  refine zz_put (M := m_J5_fastRemove) f_J5_48 dJ5_fastRemove_38 rfl (fn_44_2) g (ft_44_2) (fun h1 e => ?_)
  have H := H h1 e
  refine z_null (M := m_J5_fastRemove) dJ5_fastRemove_41 ?_
  obtain ⟨g, gm, H⟩ := H
  refine zz_istA (M := m_J5_fastRemove) (t := 6) rfl dJ5_fastRemove_42 g gm (fun h2 e => ?_)
  have H := H h2 e
  exact z_return (M := m_J5_fastRemove) rfl dJ5_fastRemove_43 H
theorem b_J6_delete_0 {s0 : zE} {d : Nat} {x0 : Nat} {x1 : Int32} {h : zH} {Q : Value → zH → Prop} {E : Nat → zH → Prop} (H : (fR h x0 [45] 0) ∧ ((fC h (gR h x0 0) 1006) ∧ ((fI h x0 [45] 1) ∧ (zX s0 m_J6_sub d [.int (x1), .int (gI h x0 1), .int (Int32.ofNat (gA h (gR h x0 0)).length)] h (fun v1 h1 => ∃ r1 : Int32, v1 = .int (r1) ∧ ((fI h1 x0 [45] 2) ∧ (zX s0 m_J6_sub d [.int (gI h1 x0 2), .int (x1), .int (Int32.ofNat (gA h (gR h x0 0)).length)] h1 (fun v2 h2 => ∃ r2 : Int32, v2 = .int (r2) ∧ ((r2 - 1 ≤ r1 → (zX s0 m_J6_dec d [.int (gI h1 x0 2), .int (Int32.ofNat (gA h (gR h x0 0)).length)] h2 (fun v3 h3 => ∃ r3 : Int32, v3 = .int (r3) ∧ ((fC h3 x0 45) ∧ (∀ h4, h4 = zput h3 x0 2 (.int (r3)) → ((fI h4 x0 [45] 2) ∧ ((gI h4 x0 2 < x1 → ((fCpy s0 h4 (gR h x0 0) (x1 + 1) (gR h x0 0) x1 ((Int32.ofNat (gA h (gR h x0 0)).length) - (x1 + 1))) ∧ (∀ h5, h5 = zblk h4 (gR h x0 0) (zspl (gA h4 (gR h x0 0)) ((x1 + 1)).toNatClampNeg (gA h4 (gR h x0 0)) (x1).toNatClampNeg (((Int32.ofNat (gA h (gR h x0 0)).length) - (x1 + 1))).toNatClampNeg) → ((fE h5 (gR h x0 0) 6 0 (zr (eR h5 (gR h x0 0) 0))) ∧ ((fS s0 h5 (gR h x0 0) 6 ((Int32.ofNat (gA h (gR h x0 0)).length) - 1)) ∧ ((eR h5 (gR h x0 0) 0 = 0 ∨ zAsg h5 (eR h5 (gR h x0 0) 0) (.object "java/lang/Object")) ∧ (∀ h6, h6 = zput h5 (gR h x0 0) (((Int32.ofNat (gA h (gR h x0 0)).length) - 1)).toNatClampNeg (zr (eR h5 (gR h x0 0) 0)) → ((fCpy s0 h6 (gR h x0 0) (1 : Int32) (gR h x0 0) (0 : Int32) ((gI h1 x0 2) - 1)) ∧ (∀ h7, h7 = zblk h6 (gR h x0 0) (zspl (gA h6 (gR h x0 0)) ((1 : Int32)).toNatClampNeg (gA h6 (gR h x0 0)) ((0 : Int32)).toNatClampNeg (((gI h1 x0 2) - 1)).toNatClampNeg) → ((fI h7 x0 [45] 2) ∧ ((fS s0 h7 (gR h x0 0) 6 (gI h7 x0 2)) ∧ ((0 = 0 ∨ zAsg h7 0 (.object "java/lang/Object")) ∧ (∀ h8, h8 = zput h7 (gR h x0 0) ((gI h7 x0 2)).toNatClampNeg (zr 0) → (Q (.int 1) h8)))))))))))))) ∧ (¬ gI h4 x0 2 < x1 → ((fCpy s0 h4 (gR h x0 0) (x1 + 1) (gR h x0 0) x1 (r2 - 1)) ∧ (∀ h9, h9 = zblk h4 (gR h x0 0) (zspl (gA h4 (gR h x0 0)) ((x1 + 1)).toNatClampNeg (gA h4 (gR h x0 0)) (x1).toNatClampNeg ((r2 - 1)).toNatClampNeg) → ((fI h9 x0 [45] 2) ∧ ((fS s0 h9 (gR h x0 0) 6 (gI h9 x0 2)) ∧ ((0 = 0 ∨ zAsg h9 0 (.object "java/lang/Object")) ∧ (∀ h10, h10 = zput h9 (gR h x0 0) ((gI h9 x0 2)).toNatClampNeg (zr 0) → (Q (.int 1) h10))))))))))))) E)) ∧ (¬ r2 - 1 ≤ r1 → ((x1 < gI h x0 1 → ((fCpy s0 h2 (gR h x0 0) (0 : Int32) (gR h x0 0) (1 : Int32) x1) ∧ (∀ h11, h11 = zblk h2 (gR h x0 0) (zspl (gA h2 (gR h x0 0)) ((0 : Int32)).toNatClampNeg (gA h2 (gR h x0 0)) ((1 : Int32)).toNatClampNeg (x1).toNatClampNeg) → ((fE h11 (gR h x0 0) 6 ((Int32.ofNat (gA h (gR h x0 0)).length) - 1) (zr (eR h11 (gR h x0 0) ((Int32.ofNat (gA h (gR h x0 0)).length) - 1)))) ∧ ((fS s0 h11 (gR h x0 0) 6 0) ∧ ((eR h11 (gR h x0 0) ((Int32.ofNat (gA h (gR h x0 0)).length) - 1) = 0 ∨ zAsg h11 (eR h11 (gR h x0 0) ((Int32.ofNat (gA h (gR h x0 0)).length) - 1)) (.object "java/lang/Object")) ∧ (∀ h12, h12 = zput h11 (gR h x0 0) ((0 : Int32)).toNatClampNeg (zr (eR h11 (gR h x0 0) ((Int32.ofNat (gA h (gR h x0 0)).length) - 1))) → ((fCpy s0 h12 (gR h x0 0) (gI h x0 1) (gR h x0 0) ((gI h x0 1) + 1) (r1 - (x1 + 1))) ∧ (∀ h13, h13 = zblk h12 (gR h x0 0) (zspl (gA h12 (gR h x0 0)) ((gI h x0 1)).toNatClampNeg (gA h12 (gR h x0 0)) (((gI h x0 1) + 1)).toNatClampNeg ((r1 - (x1 + 1))).toNatClampNeg) → (zP s0 m_J6_delete (d + 1) 100 [some (zr (x0)), none, some (zr (gR h x0 0)), some (.int (Int32.ofNat (gA h (gR h x0 0)).length)), some (.int (gI h x0 1)), none, none, none] [] h13 Q E)))))))))) ∧ (¬ x1 < gI h x0 1 → ((fCpy s0 h2 (gR h x0 0) (gI h x0 1) (gR h x0 0) ((gI h x0 1) + 1) r1) ∧ (∀ h14, h14 = zblk h2 (gR h x0 0) (zspl (gA h2 (gR h x0 0)) ((gI h x0 1)).toNatClampNeg (gA h2 (gR h x0 0)) (((gI h x0 1) + 1)).toNatClampNeg (r1).toNatClampNeg) → (zP s0 m_J6_delete (d + 1) 100 [some (zr (x0)), none, some (zr (gR h x0 0)), some (.int (Int32.ofNat (gA h (gR h x0 0)).length)), some (.int (gI h x0 1)), none, none, none] [] h14 Q E)))))))) E))) E)))) : zP s0 m_J6_delete (d + 1) 0 [some (zr (x0)), some (.int (x1)), none, none, none, none, none, none] [] h Q E := by
  refine z_aload_n (M := m_J6_delete) (k := 0) rfl dJ6_delete_0 ?_
  obtain ⟨g, H⟩ := H
  refine z_get (M := m_J6_delete) f_J6_3 dJ6_delete_1 g ?_
  refine z_astore_n (M := m_J6_delete) (k := 2) 2 rfl (zlt rfl) rfl dJ6_delete_4 ?_
  show zP s0 m_J6_delete (d + 1) _ [some (zr (x0)), some (.int (x1)), some (zr (gR h x0 0)), none, none, none, none, none] _ _ _ _
  refine z_aload_n (M := m_J6_delete) (k := 2) rfl dJ6_delete_5 ?_
  obtain ⟨g, H⟩ := H
  refine z_len (M := m_J6_delete) (t := 6) rfl dJ6_delete_6 g ?_
  refine z_istore_n (M := m_J6_delete) (k := 3) 3 rfl (zlt rfl) (zr_cat _) dJ6_delete_7 ?_
  show zP s0 m_J6_delete (d + 1) _ [some (zr (x0)), some (.int (x1)), some (zr (gR h x0 0)), some (.int (Int32.ofNat (gA h (gR h x0 0)).length)), none, none, none, none] _ _ _ _
  refine z_iload_n (M := m_J6_delete) (k := 1) rfl dJ6_delete_8 ?_
  refine z_aload_n (M := m_J6_delete) (k := 0) rfl dJ6_delete_9 ?_
  obtain ⟨g, H⟩ := H
  refine z_get (M := m_J6_delete) f_J6_24 dJ6_delete_10 g ?_
  refine z_dup (M := m_J6_delete) rfl dJ6_delete_13 ?_
  refine z_istore (M := m_J6_delete) 4 (zlt rfl) rfl dJ6_delete_14 ?_
  show zP s0 m_J6_delete (d + 1) _ [some (zr (x0)), some (.int (x1)), some (zr (gR h x0 0)), some (.int (Int32.ofNat (gA h (gR h x0 0)).length)), some (.int (gI h x0 1)), none, none, none] _ _ _ _
  refine z_iload_n (M := m_J6_delete) (k := 3) rfl dJ6_delete_16 ?_
  refine z_invS (M := m_J6_delete) (a := [.int (x1), .int (gI h x0 1), .int (Int32.ofNat (gA h (gR h x0 0)).length)]) ok_J6_sub q1515 q1516 dJ6_delete_17 (Nat.le_refl _) (Nat.zero_le _) rfl H (fun v1 h1 H => ?_) (fun n9 h9 H => zPx.out rfl H)
  obtain ⟨r1, rfl, H⟩ := H
  show zP s0 m_J6_delete (d + 1) _ _ [.int (r1)] _ _ _
  refine z_istore (M := m_J6_delete) 6 (zlt rfl) trivial dJ6_delete_20 ?_
  show zP s0 m_J6_delete (d + 1) _ [some (zr (x0)), some (.int (x1)), some (zr (gR h x0 0)), some (.int (Int32.ofNat (gA h (gR h x0 0)).length)), some (.int (gI h x0 1)), none, some (.int (r1)), none] _ _ _ _
  refine z_aload_n (M := m_J6_delete) (k := 0) rfl dJ6_delete_22 ?_
  obtain ⟨g, H⟩ := H
  refine z_get (M := m_J6_delete) f_J6_20 dJ6_delete_23 g ?_
  refine z_dup (M := m_J6_delete) rfl dJ6_delete_26 ?_
  refine z_istore (M := m_J6_delete) 5 (zlt rfl) rfl dJ6_delete_27 ?_
  show zP s0 m_J6_delete (d + 1) _ [some (zr (x0)), some (.int (x1)), some (zr (gR h x0 0)), some (.int (Int32.ofNat (gA h (gR h x0 0)).length)), some (.int (gI h x0 1)), some (.int (gI h1 x0 2)), some (.int (r1)), none] _ _ _ _
  refine z_iload_n (M := m_J6_delete) (k := 1) rfl dJ6_delete_29 ?_
  refine z_iload_n (M := m_J6_delete) (k := 3) rfl dJ6_delete_30 ?_
  refine z_invS (M := m_J6_delete) (a := [.int (gI h1 x0 2), .int (x1), .int (Int32.ofNat (gA h (gR h x0 0)).length)]) ok_J6_sub q1515 q1516 dJ6_delete_31 (Nat.le_refl _) (Nat.zero_le _) rfl H (fun v2 h2 H => ?_) (fun n9 h9 H => zPx.out rfl H)
  obtain ⟨r2, rfl, H⟩ := H
  show zP s0 m_J6_delete (d + 1) _ _ [.int (r2)] _ _ _
  refine z_iconst (M := m_J6_delete) (v := 1) (by decide) dJ6_delete_34 ?_
  refine z_isub (M := m_J6_delete) dJ6_delete_35 ?_
  refine z_istore (M := m_J6_delete) 7 (zlt rfl) rfl dJ6_delete_36 ?_
  show zP s0 m_J6_delete (d + 1) _ [some (zr (x0)), some (.int (x1)), some (zr (gR h x0 0)), some (.int (Int32.ofNat (gA h (gR h x0 0)).length)), some (.int (gI h x0 1)), some (.int (gI h1 x0 2)), some (.int (r1)), some (.int (r2 - 1))] _ _ _ _
  refine z_iload (M := m_J6_delete) (i := 6) rfl dJ6_delete_38 ?_
  refine z_iload (M := m_J6_delete) (i := 7) rfl dJ6_delete_40 ?_
  refine z_icmpge (M := m_J6_delete) 117 rfl dJ6_delete_42 (fun hc => ?_) (fun hc => ?_)
  · have H := H.1 hc
    refine z_aload_n (M := m_J6_delete) (k := 0) rfl dJ6_delete_117 ?_
    refine z_iload (M := m_J6_delete) (i := 5) rfl dJ6_delete_118 ?_
    refine z_iload_n (M := m_J6_delete) (k := 3) rfl dJ6_delete_120 ?_
    refine z_invS (M := m_J6_delete) (a := [.int (gI h1 x0 2), .int (Int32.ofNat (gA h (gR h x0 0)).length)]) ok_J6_dec q1866 q1867 dJ6_delete_121 (Nat.le_refl _) (Nat.le_trans (zcatr zcat0) (zle rfl)) rfl H (fun v3 h3 H => ?_) (fun n9 h9 H => zPx.out rfl H)
    obtain ⟨r3, rfl, H⟩ := H
    show zP s0 m_J6_delete (d + 1) _ _ [.int (r3), zr (x0)] _ _ _
    obtain ⟨g, H⟩ := H
    refine zz_put (M := m_J6_delete) f_J6_20 dJ6_delete_124 rfl (fn_45_2) g (ft_45_2) (fun h4 e => ?_)
    have H := H h4 e
    refine z_iload_n (M := m_J6_delete) (k := 1) rfl dJ6_delete_127 ?_
    refine z_aload_n (M := m_J6_delete) (k := 0) rfl dJ6_delete_128 ?_
    obtain ⟨g, H⟩ := H
    refine z_get (M := m_J6_delete) f_J6_20 dJ6_delete_129 g ?_
    refine z_icmpgt (M := m_J6_delete) 149 rfl dJ6_delete_132 (fun hc => ?_) (fun hc => ?_)
    · have H := H.1 hc
      refine z_aload_n (M := m_J6_delete) (k := 2) rfl dJ6_delete_149 ?_
      refine z_iload_n (M := m_J6_delete) (k := 1) rfl dJ6_delete_150 ?_
      refine z_iconst (M := m_J6_delete) (v := 1) (by decide) dJ6_delete_151 ?_
      refine z_iadd (M := m_J6_delete) dJ6_delete_152 ?_
      refine z_aload_n (M := m_J6_delete) (k := 2) rfl dJ6_delete_153 ?_
      refine z_iload_n (M := m_J6_delete) (k := 1) rfl dJ6_delete_154 ?_
      refine z_iload_n (M := m_J6_delete) (k := 3) rfl dJ6_delete_155 ?_
      refine z_iload_n (M := m_J6_delete) (k := 1) rfl dJ6_delete_156 ?_
      refine z_iconst (M := m_J6_delete) (v := 1) (by decide) dJ6_delete_157 ?_
      refine z_iadd (M := m_J6_delete) dJ6_delete_158 ?_
      refine z_isub (M := m_J6_delete) dJ6_delete_159 ?_
      obtain ⟨g, H⟩ := H
      refine z_arraycopy (M := m_J6_delete) q1201 q1048 q1047 q267 dJ6_delete_160 (Nat.zero_le _) g (fun h5 e => ?_)
      have H := H h5 e
      refine z_aload_n (M := m_J6_delete) (k := 2) rfl dJ6_delete_163 ?_
      refine z_iload_n (M := m_J6_delete) (k := 3) rfl dJ6_delete_164 ?_
      refine z_iconst (M := m_J6_delete) (v := 1) (by decide) dJ6_delete_165 ?_
      refine z_isub (M := m_J6_delete) dJ6_delete_166 ?_
      refine z_aload_n (M := m_J6_delete) (k := 2) rfl dJ6_delete_167 ?_
      refine z_iconst (M := m_J6_delete) (v := 0) (by decide) dJ6_delete_168 ?_
      obtain ⟨g, H⟩ := H
      refine z_ildA (M := m_J6_delete) (t := 6) rfl rfl dJ6_delete_169 g ?_
      obtain ⟨g, gm, H⟩ := H
      refine zz_istA (M := m_J6_delete) (t := 6) rfl dJ6_delete_170 g gm (fun h6 e => ?_)
      have H := H h6 e
      refine z_aload_n (M := m_J6_delete) (k := 2) rfl dJ6_delete_171 ?_
      refine z_iconst (M := m_J6_delete) (v := 1) (by decide) dJ6_delete_172 ?_
      refine z_aload_n (M := m_J6_delete) (k := 2) rfl dJ6_delete_173 ?_
      refine z_iconst (M := m_J6_delete) (v := 0) (by decide) dJ6_delete_174 ?_
      refine z_iload (M := m_J6_delete) (i := 5) rfl dJ6_delete_175 ?_
      refine z_iconst (M := m_J6_delete) (v := 1) (by decide) dJ6_delete_177 ?_
      refine z_isub (M := m_J6_delete) dJ6_delete_178 ?_
      obtain ⟨g, H⟩ := H
      refine z_arraycopy (M := m_J6_delete) q1201 q1048 q1047 q267 dJ6_delete_179 (Nat.zero_le _) g (fun h7 e => ?_)
      have H := H h7 e
      refine z_aload_n (M := m_J6_delete) (k := 2) rfl dJ6_delete_182 ?_
      refine z_aload_n (M := m_J6_delete) (k := 0) rfl dJ6_delete_183 ?_
      obtain ⟨g, H⟩ := H
      refine z_get (M := m_J6_delete) f_J6_20 dJ6_delete_184 g ?_
      refine z_null (M := m_J6_delete) dJ6_delete_187 ?_
      obtain ⟨g, gm, H⟩ := H
      refine zz_istA (M := m_J6_delete) (t := 6) rfl dJ6_delete_188 g gm (fun h8 e => ?_)
      have H := H h8 e
      refine z_iconst (M := m_J6_delete) (v := 1) (by decide) dJ6_delete_189 ?_
      exact z_ireturn (M := m_J6_delete) rfl rfl dJ6_delete_190 H
    · have H := H.2 hc
      refine z_aload_n (M := m_J6_delete) (k := 2) rfl dJ6_delete_135 ?_
      refine z_iload_n (M := m_J6_delete) (k := 1) rfl dJ6_delete_136 ?_
      refine z_iconst (M := m_J6_delete) (v := 1) (by decide) dJ6_delete_137 ?_
      refine z_iadd (M := m_J6_delete) dJ6_delete_138 ?_
      refine z_aload_n (M := m_J6_delete) (k := 2) rfl dJ6_delete_139 ?_
      refine z_iload_n (M := m_J6_delete) (k := 1) rfl dJ6_delete_140 ?_
      refine z_iload (M := m_J6_delete) (i := 7) rfl dJ6_delete_141 ?_
      obtain ⟨g, H⟩ := H
      refine z_arraycopy (M := m_J6_delete) q1201 q1048 q1047 q267 dJ6_delete_143 (Nat.zero_le _) g (fun h9 e => ?_)
      have H := H h9 e
      refine z_goto (M := m_J6_delete) 182 rfl dJ6_delete_146 ?_
      refine z_aload_n (M := m_J6_delete) (k := 2) rfl dJ6_delete_182 ?_
      refine z_aload_n (M := m_J6_delete) (k := 0) rfl dJ6_delete_183 ?_
      obtain ⟨g, H⟩ := H
      refine z_get (M := m_J6_delete) f_J6_20 dJ6_delete_184 g ?_
      refine z_null (M := m_J6_delete) dJ6_delete_187 ?_
      obtain ⟨g, gm, H⟩ := H
      refine zz_istA (M := m_J6_delete) (t := 6) rfl dJ6_delete_188 g gm (fun h10 e => ?_)
      have H := H h10 e
      refine z_iconst (M := m_J6_delete) (v := 1) (by decide) dJ6_delete_189 ?_
      exact z_ireturn (M := m_J6_delete) rfl rfl dJ6_delete_190 H
  · have H := H.2 hc
    refine z_iload (M := m_J6_delete) (i := 4) rfl dJ6_delete_45 ?_
    refine z_iload_n (M := m_J6_delete) (k := 1) rfl dJ6_delete_47 ?_
    refine z_icmpgt (M := m_J6_delete) 67 rfl dJ6_delete_48 (fun hc => ?_) (fun hc => ?_)
    · have H := H.1 hc
      refine z_aload_n (M := m_J6_delete) (k := 2) rfl dJ6_delete_67 ?_
      refine z_iconst (M := m_J6_delete) (v := 0) (by decide) dJ6_delete_68 ?_
      refine z_aload_n (M := m_J6_delete) (k := 2) rfl dJ6_delete_69 ?_
      refine z_iconst (M := m_J6_delete) (v := 1) (by decide) dJ6_delete_70 ?_
      refine z_iload_n (M := m_J6_delete) (k := 1) rfl dJ6_delete_71 ?_
      obtain ⟨g, H⟩ := H
      refine z_arraycopy (M := m_J6_delete) q1201 q1048 q1047 q267 dJ6_delete_72 (Nat.zero_le _) g (fun h11 e => ?_)
      have H := H h11 e
      refine z_aload_n (M := m_J6_delete) (k := 2) rfl dJ6_delete_75 ?_
      refine z_iconst (M := m_J6_delete) (v := 0) (by decide) dJ6_delete_76 ?_
      refine z_aload_n (M := m_J6_delete) (k := 2) rfl dJ6_delete_77 ?_
      refine z_iload_n (M := m_J6_delete) (k := 3) rfl dJ6_delete_78 ?_
      refine z_iconst (M := m_J6_delete) (v := 1) (by decide) dJ6_delete_79 ?_
      refine z_isub (M := m_J6_delete) dJ6_delete_80 ?_
      obtain ⟨g, H⟩ := H
      refine z_ildA (M := m_J6_delete) (t := 6) rfl rfl dJ6_delete_81 g ?_
      obtain ⟨g, gm, H⟩ := H
      refine zz_istA (M := m_J6_delete) (t := 6) rfl dJ6_delete_82 g gm (fun h12 e => ?_)
      have H := H h12 e
      refine z_aload_n (M := m_J6_delete) (k := 2) rfl dJ6_delete_83 ?_
      refine z_iload (M := m_J6_delete) (i := 4) rfl dJ6_delete_84 ?_
      refine z_aload_n (M := m_J6_delete) (k := 2) rfl dJ6_delete_86 ?_
      refine z_iload (M := m_J6_delete) (i := 4) rfl dJ6_delete_87 ?_
      refine z_iconst (M := m_J6_delete) (v := 1) (by decide) dJ6_delete_89 ?_
      refine z_iadd (M := m_J6_delete) dJ6_delete_90 ?_
      refine z_iload (M := m_J6_delete) (i := 6) rfl dJ6_delete_91 ?_
      refine z_iload_n (M := m_J6_delete) (k := 1) rfl dJ6_delete_93 ?_
      refine z_iconst (M := m_J6_delete) (v := 1) (by decide) dJ6_delete_94 ?_
      refine z_iadd (M := m_J6_delete) dJ6_delete_95 ?_
      refine z_isub (M := m_J6_delete) dJ6_delete_96 ?_
      obtain ⟨g, H⟩ := H
      refine z_arraycopy (M := m_J6_delete) q1201 q1048 q1047 q267 dJ6_delete_97 (Nat.zero_le _) g (fun h13 e => ?_)
      have H := H h13 e
      exact zP.weak (ls' := [some (zr (x0)), none, some (zr (gR h x0 0)), some (.int (Int32.ofNat (gA h (gR h x0 0)).length)), some (.int (gI h x0 1)), none, none, none]) (zle rfl) (zsub_so (zsub_no (zsub_so (zsub_so (zsub_so (zsub_no (zsub_no (zsub_no zsub_nil)))))))) H
    · have H := H.2 hc
      refine z_aload_n (M := m_J6_delete) (k := 2) rfl dJ6_delete_51 ?_
      refine z_iload (M := m_J6_delete) (i := 4) rfl dJ6_delete_52 ?_
      refine z_aload_n (M := m_J6_delete) (k := 2) rfl dJ6_delete_54 ?_
      refine z_iload (M := m_J6_delete) (i := 4) rfl dJ6_delete_55 ?_
      refine z_iconst (M := m_J6_delete) (v := 1) (by decide) dJ6_delete_57 ?_
      refine z_iadd (M := m_J6_delete) dJ6_delete_58 ?_
      refine z_iload (M := m_J6_delete) (i := 6) rfl dJ6_delete_59 ?_
      obtain ⟨g, H⟩ := H
      refine z_arraycopy (M := m_J6_delete) q1201 q1048 q1047 q267 dJ6_delete_61 (Nat.zero_le _) g (fun h14 e => ?_)
      have H := H h14 e
      refine z_goto (M := m_J6_delete) 100 rfl dJ6_delete_64 ?_
      exact zP.weak (ls' := [some (zr (x0)), none, some (zr (gR h x0 0)), some (.int (Int32.ofNat (gA h (gR h x0 0)).length)), some (.int (gI h x0 1)), none, none, none]) (zle rfl) (zsub_so (zsub_no (zsub_so (zsub_so (zsub_so (zsub_no (zsub_no (zsub_no zsub_nil)))))))) H
theorem c_J6_delete {s0 : zE} {d : Nat} {x0 : Nat} {x1 : Int32} {h : zH} {Q : Value → zH → Prop} {E : Nat → zH → Prop} (H : (fR h x0 [45] 0) ∧ ((fC h (gR h x0 0) 1006) ∧ ((fI h x0 [45] 1) ∧ (zX s0 m_J6_sub d [.int (x1), .int (gI h x0 1), .int (Int32.ofNat (gA h (gR h x0 0)).length)] h (fun v1 h1 => ∃ r1 : Int32, v1 = .int (r1) ∧ ((fI h1 x0 [45] 2) ∧ (zX s0 m_J6_sub d [.int (gI h1 x0 2), .int (x1), .int (Int32.ofNat (gA h (gR h x0 0)).length)] h1 (fun v2 h2 => ∃ r2 : Int32, v2 = .int (r2) ∧ ((r2 - 1 ≤ r1 → (zX s0 m_J6_dec d [.int (gI h1 x0 2), .int (Int32.ofNat (gA h (gR h x0 0)).length)] h2 (fun v3 h3 => ∃ r3 : Int32, v3 = .int (r3) ∧ ((fC h3 x0 45) ∧ (∀ h4, h4 = zput h3 x0 2 (.int (r3)) → ((fI h4 x0 [45] 2) ∧ ((gI h4 x0 2 < x1 → ((fCpy s0 h4 (gR h x0 0) (x1 + 1) (gR h x0 0) x1 ((Int32.ofNat (gA h (gR h x0 0)).length) - (x1 + 1))) ∧ (∀ h5, h5 = zblk h4 (gR h x0 0) (zspl (gA h4 (gR h x0 0)) ((x1 + 1)).toNatClampNeg (gA h4 (gR h x0 0)) (x1).toNatClampNeg (((Int32.ofNat (gA h (gR h x0 0)).length) - (x1 + 1))).toNatClampNeg) → ((fE h5 (gR h x0 0) 6 0 (zr (eR h5 (gR h x0 0) 0))) ∧ ((fS s0 h5 (gR h x0 0) 6 ((Int32.ofNat (gA h (gR h x0 0)).length) - 1)) ∧ ((eR h5 (gR h x0 0) 0 = 0 ∨ zAsg h5 (eR h5 (gR h x0 0) 0) (.object "java/lang/Object")) ∧ (∀ h6, h6 = zput h5 (gR h x0 0) (((Int32.ofNat (gA h (gR h x0 0)).length) - 1)).toNatClampNeg (zr (eR h5 (gR h x0 0) 0)) → ((fCpy s0 h6 (gR h x0 0) (1 : Int32) (gR h x0 0) (0 : Int32) ((gI h1 x0 2) - 1)) ∧ (∀ h7, h7 = zblk h6 (gR h x0 0) (zspl (gA h6 (gR h x0 0)) ((1 : Int32)).toNatClampNeg (gA h6 (gR h x0 0)) ((0 : Int32)).toNatClampNeg (((gI h1 x0 2) - 1)).toNatClampNeg) → ((fI h7 x0 [45] 2) ∧ ((fS s0 h7 (gR h x0 0) 6 (gI h7 x0 2)) ∧ ((0 = 0 ∨ zAsg h7 0 (.object "java/lang/Object")) ∧ (∀ h8, h8 = zput h7 (gR h x0 0) ((gI h7 x0 2)).toNatClampNeg (zr 0) → (Q (.int 1) h8)))))))))))))) ∧ (¬ gI h4 x0 2 < x1 → ((fCpy s0 h4 (gR h x0 0) (x1 + 1) (gR h x0 0) x1 (r2 - 1)) ∧ (∀ h9, h9 = zblk h4 (gR h x0 0) (zspl (gA h4 (gR h x0 0)) ((x1 + 1)).toNatClampNeg (gA h4 (gR h x0 0)) (x1).toNatClampNeg ((r2 - 1)).toNatClampNeg) → ((fI h9 x0 [45] 2) ∧ ((fS s0 h9 (gR h x0 0) 6 (gI h9 x0 2)) ∧ ((0 = 0 ∨ zAsg h9 0 (.object "java/lang/Object")) ∧ (∀ h10, h10 = zput h9 (gR h x0 0) ((gI h9 x0 2)).toNatClampNeg (zr 0) → (Q (.int 1) h10))))))))))))) E)) ∧ (¬ r2 - 1 ≤ r1 → ((x1 < gI h x0 1 → ((fCpy s0 h2 (gR h x0 0) (0 : Int32) (gR h x0 0) (1 : Int32) x1) ∧ (∀ h11, h11 = zblk h2 (gR h x0 0) (zspl (gA h2 (gR h x0 0)) ((0 : Int32)).toNatClampNeg (gA h2 (gR h x0 0)) ((1 : Int32)).toNatClampNeg (x1).toNatClampNeg) → ((fE h11 (gR h x0 0) 6 ((Int32.ofNat (gA h (gR h x0 0)).length) - 1) (zr (eR h11 (gR h x0 0) ((Int32.ofNat (gA h (gR h x0 0)).length) - 1)))) ∧ ((fS s0 h11 (gR h x0 0) 6 0) ∧ ((eR h11 (gR h x0 0) ((Int32.ofNat (gA h (gR h x0 0)).length) - 1) = 0 ∨ zAsg h11 (eR h11 (gR h x0 0) ((Int32.ofNat (gA h (gR h x0 0)).length) - 1)) (.object "java/lang/Object")) ∧ (∀ h12, h12 = zput h11 (gR h x0 0) ((0 : Int32)).toNatClampNeg (zr (eR h11 (gR h x0 0) ((Int32.ofNat (gA h (gR h x0 0)).length) - 1))) → ((fCpy s0 h12 (gR h x0 0) (gI h x0 1) (gR h x0 0) ((gI h x0 1) + 1) (r1 - (x1 + 1))) ∧ (∀ h13, h13 = zblk h12 (gR h x0 0) (zspl (gA h12 (gR h x0 0)) ((gI h x0 1)).toNatClampNeg (gA h12 (gR h x0 0)) (((gI h x0 1) + 1)).toNatClampNeg ((r1 - (x1 + 1))).toNatClampNeg) → (zP s0 m_J6_delete (d + 1) 100 [some (zr (x0)), none, some (zr (gR h x0 0)), some (.int (Int32.ofNat (gA h (gR h x0 0)).length)), some (.int (gI h x0 1)), none, none, none] [] h13 Q E)))))))))) ∧ (¬ x1 < gI h x0 1 → ((fCpy s0 h2 (gR h x0 0) (gI h x0 1) (gR h x0 0) ((gI h x0 1) + 1) r1) ∧ (∀ h14, h14 = zblk h2 (gR h x0 0) (zspl (gA h2 (gR h x0 0)) ((gI h x0 1)).toNatClampNeg (gA h2 (gR h x0 0)) (((gI h x0 1) + 1)).toNatClampNeg (r1).toNatClampNeg) → (zP s0 m_J6_delete (d + 1) 100 [some (zr (x0)), none, some (zr (gR h x0 0)), some (.int (Int32.ofNat (gA h (gR h x0 0)).length)), some (.int (gI h x0 1)), none, none, none] [] h14 Q E)))))))) E))) E)))) : zX s0 m_J6_delete (d + 1) [zr (x0), .int (x1)] h Q E := zX.of2 rfl (by decide +kernel) (zlay_r (zlay_i (zlay_n (znoneS (znoneS (znoneS (znoneS (znoneS (znoneS znone0))))))))) (zle rfl) (b_J6_delete_0 H)
theorem b_J6_delete_100 {s0 : zE} {d : Nat} {x0 : Nat} {x2 : Nat} {x3 : Int32} {x4 : Int32} {h : zH} {Q : Value → zH → Prop} {E : Nat → zH → Prop} (H : (fS s0 h x2 6 x4) ∧ ((0 = 0 ∨ zAsg h 0 (.object "java/lang/Object")) ∧ (∀ h1, h1 = zput h x2 (x4).toNatClampNeg (zr 0) → (zX s0 m_J6_inc d [.int (x4), .int (x3)] h1 (fun v1 h2 => ∃ r1 : Int32, v1 = .int (r1) ∧ ((fC h2 x0 45) ∧ (∀ h3, h3 = zput h2 x0 1 (.int (r1)) → (Q (.int 0) h3)))) E)))) : zP s0 m_J6_delete (d + 1) 100 [some (zr (x0)), none, some (zr (x2)), some (.int (x3)), some (.int (x4)), none, none, none] [] h Q E := by
  refine z_aload_n (M := m_J6_delete) (k := 2) rfl dJ6_delete_100 ?_
  refine z_iload (M := m_J6_delete) (i := 4) rfl dJ6_delete_101 ?_
  refine z_null (M := m_J6_delete) dJ6_delete_103 ?_
  obtain ⟨g, gm, H⟩ := H
  refine zz_istA (M := m_J6_delete) (t := 6) rfl dJ6_delete_104 g gm (fun h1 e => ?_)
  have H := H h1 e
  refine z_aload_n (M := m_J6_delete) (k := 0) rfl dJ6_delete_105 ?_
  refine z_iload (M := m_J6_delete) (i := 4) rfl dJ6_delete_106 ?_
  refine z_iload_n (M := m_J6_delete) (k := 3) rfl dJ6_delete_108 ?_
  refine z_invS (M := m_J6_delete) (a := [.int (x4), .int (x3)]) ok_J6_inc q1095 q1096 dJ6_delete_109 (Nat.le_refl _) (Nat.le_trans (zcatr zcat0) (zle rfl)) rfl H (fun v1 h2 H => ?_) (fun n9 h9 H => zPx.out rfl H)
  obtain ⟨r1, rfl, H⟩ := H
  show zP s0 m_J6_delete (d + 1) _ _ [.int (r1), zr (x0)] _ _ _
  obtain ⟨g, H⟩ := H
  refine zz_put (M := m_J6_delete) f_J6_24 dJ6_delete_112 rfl (fn_45_1) g (ft_45_1) (fun h3 e => ?_)
  have H := H h3 e
  refine z_iconst (M := m_J6_delete) (v := 0) (by decide) dJ6_delete_115 ?_
  exact z_ireturn (M := m_J6_delete) rfl rfl dJ6_delete_116 H
theorem b_J6_grow_0 {s0 : zE} {d : Nat} {x0 : Nat} {x1 : Int32} {h : zH} {Q : Value → zH → Prop} {E : Nat → zH → Prop} (H : (fR h x0 [45] 0) ∧ ((fC h (gR h x0 0) 1006) ∧ ((64 ≤ Int32.ofNat (gA h (gR h x0 0)).length → (zP s0 m_J6_grow (d + 1) 21 [some (zr (x0)), some (.int (x1)), some (.int (Int32.ofNat (gA h (gR h x0 0)).length)), none, none, none, none, none, none] [.int ((Int32.ofNat (gA h (gR h x0 0)).length) >>> (1 &&& 31))] h Q E)) ∧ (¬ 64 ≤ Int32.ofNat (gA h (gR h x0 0)).length → (zP s0 m_J6_grow (d + 1) 21 [some (zr (x0)), some (.int (x1)), some (.int (Int32.ofNat (gA h (gR h x0 0)).length)), none, none, none, none, none, none] [.int ((Int32.ofNat (gA h (gR h x0 0)).length) + 2)] h Q E))))) : zP s0 m_J6_grow (d + 1) 0 [some (zr (x0)), some (.int (x1)), none, none, none, none, none, none, none] [] h Q E := by
  refine z_aload_n (M := m_J6_grow) (k := 0) rfl dJ6_grow_0 ?_
  obtain ⟨g, H⟩ := H
  refine z_get (M := m_J6_grow) f_J6_3 dJ6_grow_1 g ?_
  obtain ⟨g, H⟩ := H
  refine z_len (M := m_J6_grow) (t := 6) rfl dJ6_grow_4 g ?_
  refine z_istore_n (M := m_J6_grow) (k := 2) 2 rfl (zlt rfl) rfl dJ6_grow_5 ?_
  show zP s0 m_J6_grow (d + 1) _ [some (zr (x0)), some (.int (x1)), some (.int (Int32.ofNat (gA h (gR h x0 0)).length)), none, none, none, none, none, none] _ _ _ _
  refine z_iload_n (M := m_J6_grow) (k := 2) rfl dJ6_grow_6 ?_
  refine z_bipush (M := m_J6_grow) (v := 64) (by decide) dJ6_grow_7 ?_
  refine z_icmpge (M := m_J6_grow) 18 rfl dJ6_grow_9 (fun hc => ?_) (fun hc => ?_)
  · have H := H.1 hc
    refine z_iload_n (M := m_J6_grow) (k := 2) rfl dJ6_grow_18 ?_
    refine z_iconst (M := m_J6_grow) (v := 1) (by decide) dJ6_grow_19 ?_
    refine z_ishr (M := m_J6_grow) dJ6_grow_20 ?_
    exact H
  · have H := H.2 hc
    refine z_iload_n (M := m_J6_grow) (k := 2) rfl dJ6_grow_12 ?_
    refine z_iconst (M := m_J6_grow) (v := 2) (by decide) dJ6_grow_13 ?_
    refine z_iadd (M := m_J6_grow) dJ6_grow_14 ?_
    refine z_goto (M := m_J6_grow) 21 rfl dJ6_grow_15 ?_
    exact H
theorem c_J6_grow {s0 : zE} {d : Nat} {x0 : Nat} {x1 : Int32} {h : zH} {Q : Value → zH → Prop} {E : Nat → zH → Prop} (H : (fR h x0 [45] 0) ∧ ((fC h (gR h x0 0) 1006) ∧ ((64 ≤ Int32.ofNat (gA h (gR h x0 0)).length → (zP s0 m_J6_grow (d + 1) 21 [some (zr (x0)), some (.int (x1)), some (.int (Int32.ofNat (gA h (gR h x0 0)).length)), none, none, none, none, none, none] [.int ((Int32.ofNat (gA h (gR h x0 0)).length) >>> (1 &&& 31))] h Q E)) ∧ (¬ 64 ≤ Int32.ofNat (gA h (gR h x0 0)).length → (zP s0 m_J6_grow (d + 1) 21 [some (zr (x0)), some (.int (x1)), some (.int (Int32.ofNat (gA h (gR h x0 0)).length)), none, none, none, none, none, none] [.int ((Int32.ofNat (gA h (gR h x0 0)).length) + 2)] h Q E))))) : zX s0 m_J6_grow (d + 1) [zr (x0), .int (x1)] h Q E := zX.of2 rfl (by decide +kernel) (zlay_r (zlay_i (zlay_n (znoneS (znoneS (znoneS (znoneS (znoneS (znoneS (znoneS znone0)))))))))) (zle rfl) (b_J6_grow_0 H)
theorem b_J6_grow_21 {s0 : zE} {d : Nat} {x0 : Nat} {x1 : Int32} {x2 : Int32} {t0 : Int32} {h : zH} {Q : Value → zH → Prop} {E : Nat → zH → Prop} (H : (t0 < x1 → (zP s0 m_J6_grow (d + 1) 41 [some (zr (x0)), some (.int (x1)), some (.int (x2)), none, some (.int (t0)), none, none, none, none] [] h Q E)) ∧ (¬ t0 < x1 → (((x2 + t0) - 2147483639 ≤ 0 → (zP s0 m_J6_grow (d + 1) 49 [some (zr (x0)), none, some (.int (x2)), some (.int (x2 + t0)), none, none, none, none, none] [] h Q E)) ∧ (¬ (x2 + t0) - 2147483639 ≤ 0 → (zP s0 m_J6_grow (d + 1) 41 [some (zr (x0)), some (.int (x1)), some (.int (x2)), none, some (.int (t0)), none, none, none, none] [] h Q E))))) : zP s0 m_J6_grow (d + 1) 21 [some (zr (x0)), some (.int (x1)), some (.int (x2)), none, none, none, none, none, none] [.int (t0)] h Q E := by
  refine z_istore (M := m_J6_grow) 4 (zlt rfl) trivial dJ6_grow_21 ?_
  show zP s0 m_J6_grow (d + 1) _ [some (zr (x0)), some (.int (x1)), some (.int (x2)), none, some (.int (t0)), none, none, none, none] _ _ _ _
  refine z_iload (M := m_J6_grow) (i := 4) rfl dJ6_grow_23 ?_
  refine z_iload_n (M := m_J6_grow) (k := 1) rfl dJ6_grow_25 ?_
  refine z_icmplt (M := m_J6_grow) 41 rfl dJ6_grow_26 (fun hc => ?_) (fun hc => ?_)
  · have H := H.1 hc
    exact H
  · have H := H.2 hc
    refine z_iload_n (M := m_J6_grow) (k := 2) rfl dJ6_grow_29 ?_
    refine z_iload (M := m_J6_grow) (i := 4) rfl dJ6_grow_30 ?_
    refine z_iadd (M := m_J6_grow) dJ6_grow_32 ?_
    refine z_dup (M := m_J6_grow) rfl dJ6_grow_33 ?_
    refine z_istore_n (M := m_J6_grow) (k := 3) 3 rfl (zlt rfl) rfl dJ6_grow_34 ?_
    show zP s0 m_J6_grow (d + 1) _ [some (zr (x0)), some (.int (x1)), some (.int (x2)), some (.int (x2 + t0)), some (.int (t0)), none, none, none, none] _ _ _ _
    refine z_ldc (M := m_J6_grow) (v := 2147483639) q1102 dJ6_grow_35 ?_
    refine z_isub (M := m_J6_grow) dJ6_grow_37 ?_
    refine z_ifle (M := m_J6_grow) 49 rfl dJ6_grow_38 (fun hc => ?_) (fun hc => ?_)
    · have H := H.1 hc
      exact zP.weak (ls' := [some (zr (x0)), none, some (.int (x2)), some (.int (x2 + t0)), none, none, none, none, none]) (zle rfl) (zsub_so (zsub_no (zsub_so (zsub_so (zsub_no (zsub_no (zsub_no (zsub_no (zsub_no zsub_nil))))))))) H
    · have H := H.2 hc
      exact zP.weak (ls' := [some (zr (x0)), some (.int (x1)), some (.int (x2)), none, some (.int (t0)), none, none, none, none]) (zle rfl) (zsub_so (zsub_so (zsub_so (zsub_no (zsub_so (zsub_no (zsub_no (zsub_no (zsub_no zsub_nil))))))))) H
theorem b_J6_grow_41 {s0 : zE} {d : Nat} {x0 : Nat} {x1 : Int32} {x2 : Int32} {x4 : Int32} {h : zH} {Q : Value → zH → Prop} {E : Nat → zH → Prop} (H : (fC h x0 45 ∧ zX s0 m_J6_newCapacity d [zr x0, .int (x1), .int (x4)] h (fun v1 h1 => ∃ r1 : Int32, v1 = .int (r1) ∧ (zP s0 m_J6_grow (d + 1) 49 [some (zr (x0)), none, some (.int (x2)), some (.int (r1)), none, none, none, none, none] [] h1 Q E)) E)) : zP s0 m_J6_grow (d + 1) 41 [some (zr (x0)), some (.int (x1)), some (.int (x2)), none, some (.int (x4)), none, none, none, none] [] h Q E := by
  refine z_aload_n (M := m_J6_grow) (k := 0) rfl dJ6_grow_41 ?_
  refine z_iload_n (M := m_J6_grow) (k := 1) rfl dJ6_grow_42 ?_
  refine z_iload (M := m_J6_grow) (i := 4) rfl dJ6_grow_43 ?_
  obtain ⟨⟨fs9, g⟩, H⟩ := H
  refine z_invV (M := m_J6_grow) (cn := 45) (a := [.int (x1), .int (x4)]) ok_J6_newCapacity q1103 q1105 qs12 rfl dJ6_grow_45 g (Nat.le_refl _) (Nat.zero_le _) rfl H (fun v1 h1 H => ?_) (fun n9 h9 H => zPx.out rfl H)
  obtain ⟨r1, rfl, H⟩ := H
  show zP s0 m_J6_grow (d + 1) _ _ [.int (r1)] _ _ _
  refine z_istore_n (M := m_J6_grow) (k := 3) 3 rfl (zlt rfl) rfl dJ6_grow_48 ?_
  show zP s0 m_J6_grow (d + 1) _ [some (zr (x0)), some (.int (x1)), some (.int (x2)), some (.int (r1)), some (.int (x4)), none, none, none, none] _ _ _ _
  exact zP.weak (ls' := [some (zr (x0)), none, some (.int (x2)), some (.int (r1)), none, none, none, none, none]) (zle rfl) (zsub_so (zsub_no (zsub_so (zsub_so (zsub_no (zsub_no (zsub_no (zsub_no (zsub_no zsub_nil))))))))) H
theorem b_J6_grow_49 {s0 : zE} {d : Nat} {x0 : Nat} {x2 : Int32} {x3 : Int32} {h : zH} {Q : Value → zH → Prop} {E : Nat → zH → Prop} (H : (fR h x0 [45] 0) ∧ (zX s0 m_J15_copyOf d [zr (gR h x0 0), .int (x3)] h (fun v1 h1 => ∃ n1 : Nat, v1 = zr (n1) ∧ ((fC h1 x0 45) ∧ (∀ h2, h2 = zput h1 x0 0 (zr (n1)) → ((fI h2 x0 [45] 2) ∧ ((fI h2 x0 [45] 1) ∧ ((gI h2 x0 2 < gI h2 x0 1 → (zP s0 m_J6_grow (d + 1) 96 [some (zr (x0)), none, some (.int (x2)), some (.int (x3)), none, some (zr (n1)), none, none, none] [] h2 Q E)) ∧ (¬ gI h2 x0 2 < gI h2 x0 1 → ((fI h2 x0 [45] 2) ∧ ((fI h2 x0 [45] 1) ∧ ((¬ gI h2 x0 2 = gI h2 x0 1 → (Q .null h2)) ∧ (gI h2 x0 2 = gI h2 x0 1 → ((fI h2 x0 [45] 1) ∧ ((fE h2 n1 6 (gI h2 x0 1) (zr (eR h2 n1 (gI h2 x0 1)))) ∧ ((eR h2 n1 (gI h2 x0 1) = 0 → (Q .null h2)) ∧ (¬ eR h2 n1 (gI h2 x0 1) = 0 → (zP s0 m_J6_grow (d + 1) 96 [some (zr (x0)), none, some (.int (x2)), some (.int (x3)), none, some (zr (n1)), none, none, none] [] h2 Q E)))))))))))))))) E)) : zP s0 m_J6_grow (d + 1) 49 [some (zr (x0)), none, some (.int (x2)), some (.int (x3)), none, none, none, none, none] [] h Q E := by
  refine z_aload_n (M := m_J6_grow) (k := 0) rfl dJ6_grow_49 ?_
  refine z_aload_n (M := m_J6_grow) (k := 0) rfl dJ6_grow_50 ?_
  obtain ⟨g, H⟩ := H
  refine z_get (M := m_J6_grow) f_J6_3 dJ6_grow_51 g ?_
  refine z_iload_n (M := m_J6_grow) (k := 3) rfl dJ6_grow_54 ?_
  refine z_invS (M := m_J6_grow) (a := [zr (gR h x0 0), .int (x3)]) ok_J15_copyOf q1108 q1109 dJ6_grow_55 (Nat.le_refl _) (Nat.le_trans (zcatr zcat0) (zle rfl)) rfl H (fun v1 h1 H => ?_) (fun n9 h9 H => zPx.out rfl H)
  obtain ⟨n1, rfl, H⟩ := H
  show zP s0 m_J6_grow (d + 1) _ _ [zr (n1), zr (x0)] _ _ _
  refine z_dup_x1 (M := m_J6_grow) (zr_cat _) (zr_cat _) dJ6_grow_58 ?_
  obtain ⟨g, H⟩ := H
  refine zz_put (M := m_J6_grow) f_J6_3 dJ6_grow_59 rfl (fn_45_0) g (ft_45_0) (fun h2 e => ?_)
  have H := H h2 e
  refine z_astore (M := m_J6_grow) 5 (zlt rfl) trivial dJ6_grow_62 ?_
  show zP s0 m_J6_grow (d + 1) _ [some (zr (x0)), none, some (.int (x2)), some (.int (x3)), none, some (zr (n1)), none, none, none] _ _ _ _
  refine z_aload_n (M := m_J6_grow) (k := 0) rfl dJ6_grow_64 ?_
  obtain ⟨g, H⟩ := H
  refine z_get (M := m_J6_grow) f_J6_20 dJ6_grow_65 g ?_
  refine z_aload_n (M := m_J6_grow) (k := 0) rfl dJ6_grow_68 ?_
  obtain ⟨g, H⟩ := H
  refine z_get (M := m_J6_grow) f_J6_24 dJ6_grow_69 g ?_
  refine z_icmplt (M := m_J6_grow) 96 rfl dJ6_grow_72 (fun hc => ?_) (fun hc => ?_)
  · have H := H.1 hc
    exact H
  · have H := H.2 hc
    refine z_aload_n (M := m_J6_grow) (k := 0) rfl dJ6_grow_75 ?_
    obtain ⟨g, H⟩ := H
    refine z_get (M := m_J6_grow) f_J6_20 dJ6_grow_76 g ?_
    refine z_aload_n (M := m_J6_grow) (k := 0) rfl dJ6_grow_79 ?_
    obtain ⟨g, H⟩ := H
    refine z_get (M := m_J6_grow) f_J6_24 dJ6_grow_80 g ?_
    refine z_icmpne (M := m_J6_grow) 164 rfl dJ6_grow_83 (fun hc => ?_) (fun hc => ?_)
    · have H := H.1 hc
      exact z_return (M := m_J6_grow) rfl dJ6_grow_164 H
    · have H := H.2 hc
      refine z_aload (M := m_J6_grow) (i := 5) rfl dJ6_grow_86 ?_
      refine z_aload_n (M := m_J6_grow) (k := 0) rfl dJ6_grow_88 ?_
      obtain ⟨g, H⟩ := H
      refine z_get (M := m_J6_grow) f_J6_24 dJ6_grow_89 g ?_
      obtain ⟨g, H⟩ := H
      refine z_ildA (M := m_J6_grow) (t := 6) rfl rfl dJ6_grow_92 g ?_
      refine z_ifnull (M := m_J6_grow) 164 rfl dJ6_grow_93 (fun hc => ?_) (fun hc => ?_)
      · have H := H.1 hc
        exact z_return (M := m_J6_grow) rfl dJ6_grow_164 H
      · have H := H.2 hc
        exact H
theorem b_J6_grow_96 {s0 : zE} {d : Nat} {x0 : Nat} {x2 : Int32} {x3 : Int32} {x5 : Nat} {h : zH} {Q : Value → zH → Prop} {E : Nat → zH → Prop} (H : (fI h x0 [45] 1) ∧ ((fI h x0 [45] 1) ∧ ((fI h x0 [45] 1) ∧ ((fCpy s0 h x5 (gI h x0 1) x5 ((gI h x0 1) + (x3 - x2)) (x2 - (gI h x0 1))) ∧ (∀ h1, h1 = zblk h x5 (zspl (gA h x5) ((gI h x0 1)).toNatClampNeg (gA h x5) (((gI h x0 1) + (x3 - x2))).toNatClampNeg ((x2 - (gI h x0 1))).toNatClampNeg) → ((fI h1 x0 [45] 1) ∧ ((fI h1 x0 [45] 1) ∧ ((fC h1 x0 45) ∧ (∀ h2, h2 = zput h1 x0 1 (.int ((gI h1 x0 1) + (x3 - x2))) → (zP s0 m_J6_grow (d + 1) 145 [none, none, none, none, none, some (zr (x5)), none, some (.int (gI h1 x0 1)), some (.int ((gI h1 x0 1) + (x3 - x2)))] [] h2 Q E)))))))))) : zP s0 m_J6_grow (d + 1) 96 [some (zr (x0)), none, some (.int (x2)), some (.int (x3)), none, some (zr (x5)), none, none, none] [] h Q E := by
  refine z_iload_n (M := m_J6_grow) (k := 3) rfl dJ6_grow_96 ?_
  refine z_iload_n (M := m_J6_grow) (k := 2) rfl dJ6_grow_97 ?_
  refine z_isub (M := m_J6_grow) dJ6_grow_98 ?_
  refine z_istore (M := m_J6_grow) 6 (zlt rfl) (zr_cat _) dJ6_grow_99 ?_
  show zP s0 m_J6_grow (d + 1) _ [some (zr (x0)), none, some (.int (x2)), some (.int (x3)), none, some (zr (x5)), some (.int (x3 - x2)), none, none] _ _ _ _
  refine z_aload (M := m_J6_grow) (i := 5) rfl dJ6_grow_101 ?_
  refine z_aload_n (M := m_J6_grow) (k := 0) rfl dJ6_grow_103 ?_
  obtain ⟨g, H⟩ := H
  refine z_get (M := m_J6_grow) f_J6_24 dJ6_grow_104 g ?_
  refine z_aload (M := m_J6_grow) (i := 5) rfl dJ6_grow_107 ?_
  refine z_aload_n (M := m_J6_grow) (k := 0) rfl dJ6_grow_109 ?_
  obtain ⟨g, H⟩ := H
  refine z_get (M := m_J6_grow) f_J6_24 dJ6_grow_110 g ?_
  refine z_iload (M := m_J6_grow) (i := 6) rfl dJ6_grow_113 ?_
  refine z_iadd (M := m_J6_grow) dJ6_grow_115 ?_
  refine z_iload_n (M := m_J6_grow) (k := 2) rfl dJ6_grow_116 ?_
  refine z_aload_n (M := m_J6_grow) (k := 0) rfl dJ6_grow_117 ?_
  obtain ⟨g, H⟩ := H
  refine z_get (M := m_J6_grow) f_J6_24 dJ6_grow_118 g ?_
  refine z_isub (M := m_J6_grow) dJ6_grow_121 ?_
  obtain ⟨g, H⟩ := H
  refine z_arraycopy (M := m_J6_grow) q1201 q1048 q1047 q267 dJ6_grow_122 (Nat.zero_le _) g (fun h1 e => ?_)
  have H := H h1 e
  refine z_aload_n (M := m_J6_grow) (k := 0) rfl dJ6_grow_125 ?_
  obtain ⟨g, H⟩ := H
  refine z_get (M := m_J6_grow) f_J6_24 dJ6_grow_126 g ?_
  refine z_istore (M := m_J6_grow) 7 (zlt rfl) rfl dJ6_grow_129 ?_
  show zP s0 m_J6_grow (d + 1) _ [some (zr (x0)), none, some (.int (x2)), some (.int (x3)), none, some (zr (x5)), some (.int (x3 - x2)), some (.int (gI h1 x0 1)), none] _ _ _ _
  refine z_aload_n (M := m_J6_grow) (k := 0) rfl dJ6_grow_131 ?_
  refine z_dup (M := m_J6_grow) (zr_cat _) dJ6_grow_132 ?_
  obtain ⟨g, H⟩ := H
  refine z_get (M := m_J6_grow) f_J6_24 dJ6_grow_133 g ?_
  refine z_iload (M := m_J6_grow) (i := 6) rfl dJ6_grow_136 ?_
  refine z_iadd (M := m_J6_grow) dJ6_grow_138 ?_
  refine z_dup_x1 (M := m_J6_grow) rfl (zr_cat _) dJ6_grow_139 ?_
  obtain ⟨g, H⟩ := H
  refine zz_put (M := m_J6_grow) f_J6_24 dJ6_grow_140 rfl (fn_45_1) g (ft_45_1) (fun h2 e => ?_)
  have H := H h2 e
  refine z_istore (M := m_J6_grow) 8 (zlt rfl) rfl dJ6_grow_143 ?_
  show zP s0 m_J6_grow (d + 1) _ [some (zr (x0)), none, some (.int (x2)), some (.int (x3)), none, some (zr (x5)), some (.int (x3 - x2)), some (.int (gI h1 x0 1)), some (.int ((gI h1 x0 1) + (x3 - x2)))] _ _ _ _
  exact zP.weak (ls' := [none, none, none, none, none, some (zr (x5)), none, some (.int (gI h1 x0 1)), some (.int ((gI h1 x0 1) + (x3 - x2)))]) (zle rfl) (zsub_no (zsub_no (zsub_no (zsub_no (zsub_no (zsub_so (zsub_no (zsub_so (zsub_so zsub_nil))))))))) H
theorem b_J6_grow_145 {s0 : zE} {d : Nat} {x5 : Nat} {x7 : Int32} {x8 : Int32} {h : zH} {Q : Value → zH → Prop} {E : Nat → zH → Prop} (H : (x8 ≤ x7 → (Q .null h)) ∧ (¬ x8 ≤ x7 → ((fS s0 h x5 6 x7) ∧ ((0 = 0 ∨ zAsg h 0 (.object "java/lang/Object")) ∧ (∀ h1, h1 = zput h x5 (x7).toNatClampNeg (zr 0) → (zP s0 m_J6_grow (d + 1) 145 [none, none, none, none, none, some (zr (x5)), none, some (.int (x7 + 1)), some (.int (x8))] [] h1 Q E)))))) : zP s0 m_J6_grow (d + 1) 145 [none, none, none, none, none, some (zr (x5)), none, some (.int (x7)), some (.int (x8))] [] h Q E := by
  refine z_iload (M := m_J6_grow) (i := 7) rfl dJ6_grow_145 ?_
  refine z_iload (M := m_J6_grow) (i := 8) rfl dJ6_grow_147 ?_
  refine z_icmpge (M := m_J6_grow) 164 rfl dJ6_grow_149 (fun hc => ?_) (fun hc => ?_)
  · have H := H.1 hc
    exact z_return (M := m_J6_grow) rfl dJ6_grow_164 H
  · have H := H.2 hc
    refine z_aload (M := m_J6_grow) (i := 5) rfl dJ6_grow_152 ?_
    refine z_iload (M := m_J6_grow) (i := 7) rfl dJ6_grow_154 ?_
    refine z_null (M := m_J6_grow) dJ6_grow_156 ?_
    obtain ⟨g, gm, H⟩ := H
    refine zz_istA (M := m_J6_grow) (t := 6) rfl dJ6_grow_157 g gm (fun h1 e => ?_)
    have H := H h1 e
    refine z_inc (M := m_J6_grow) 7 (x7 + 1) 1 (by decide) rfl rfl trivial dJ6_grow_158 ?_
    show zP s0 m_J6_grow (d + 1) _ [none, none, none, none, none, some (zr (x5)), none, some (.int (x7 + 1)), some (.int (x8))] _ _ _ _
    refine z_goto (M := m_J6_grow) 145 rfl dJ6_grow_161 ?_
    exact H
theorem b_J6_toArray_2_0 {s0 : zE} {d : Nat} {x0 : Nat} {x1 : Nat} {h : zH} {Q : Value → zH → Prop} {E : Nat → zH → Prop} (H : (fR h x0 [45] 0) ∧ ((fI h x0 [45] 1) ∧ ((fI h x0 [45] 2) ∧ ((gI h x0 2 < gI h x0 1 → ((fC h (gR h x0 0) 1006) ∧ (zP s0 m_J6_toArray_2 (d + 1) 32 [none, some (zr (x1)), some (zr (gR h x0 0)), none, some (.int (gI h x0 1)), some (.int (gI h x0 2)), none] [.int (Int32.ofNat (gA h (gR h x0 0)).length), .int (gI h x0 2)] h Q E))) ∧ (¬ gI h x0 2 < gI h x0 1 → (zP s0 m_J6_toArray_2 (d + 1) 32 [none, some (zr (x1)), some (zr (gR h x0 0)), none, some (.int (gI h x0 1)), some (.int (gI h x0 2)), none] [.int (0), .int (gI h x0 2)] h Q E)))))) : zP s0 m_J6_toArray_2 (d + 1) 0 [some (zr (x0)), some (zr (x1)), none, none, none, none, none] [] h Q E := by
  refine z_aload_n (M := m_J6_toArray_2) (k := 0) rfl dJ6_toArray_2_0 ?_
  obtain ⟨g, H⟩ := H
  refine z_get (M := m_J6_toArray_2) f_J6_3 dJ6_toArray_2_1 g ?_
  refine z_astore_n (M := m_J6_toArray_2) (k := 2) 2 rfl (zlt rfl) (zr_cat _) dJ6_toArray_2_4 ?_
  show zP s0 m_J6_toArray_2 (d + 1) _ [some (zr (x0)), some (zr (x1)), some (zr (gR h x0 0)), none, none, none, none] _ _ _ _
  refine z_aload_n (M := m_J6_toArray_2) (k := 0) rfl dJ6_toArray_2_5 ?_
  obtain ⟨g, H⟩ := H
  refine z_get (M := m_J6_toArray_2) f_J6_24 dJ6_toArray_2_6 g ?_
  refine z_istore (M := m_J6_toArray_2) 4 (zlt rfl) trivial dJ6_toArray_2_9 ?_
  show zP s0 m_J6_toArray_2 (d + 1) _ [some (zr (x0)), some (zr (x1)), some (zr (gR h x0 0)), none, some (.int (gI h x0 1)), none, none] _ _ _ _
  refine z_aload_n (M := m_J6_toArray_2) (k := 0) rfl dJ6_toArray_2_11 ?_
  obtain ⟨g, H⟩ := H
  refine z_get (M := m_J6_toArray_2) f_J6_20 dJ6_toArray_2_12 g ?_
  refine z_istore (M := m_J6_toArray_2) 5 (zlt rfl) rfl dJ6_toArray_2_15 ?_
  show zP s0 m_J6_toArray_2 (d + 1) _ [some (zr (x0)), some (zr (x1)), some (zr (gR h x0 0)), none, some (.int (gI h x0 1)), some (.int (gI h x0 2)), none] _ _ _ _
  refine z_iload (M := m_J6_toArray_2) (i := 5) rfl dJ6_toArray_2_17 ?_
  refine z_iload (M := m_J6_toArray_2) (i := 4) rfl dJ6_toArray_2_19 ?_
  refine z_iload (M := m_J6_toArray_2) (i := 5) rfl dJ6_toArray_2_21 ?_
  refine z_icmpgt (M := m_J6_toArray_2) 30 rfl dJ6_toArray_2_23 (fun hc => ?_) (fun hc => ?_)
  · have H := H.1 hc
    refine z_aload_n (M := m_J6_toArray_2) (k := 2) rfl dJ6_toArray_2_30 ?_
    obtain ⟨g, H⟩ := H
    refine z_len (M := m_J6_toArray_2) (t := 6) rfl dJ6_toArray_2_31 g ?_
    exact zP.weak (ls' := [none, some (zr (x1)), some (zr (gR h x0 0)), none, some (.int (gI h x0 1)), some (.int (gI h x0 2)), none]) (zle rfl) (zsub_no (zsub_so (zsub_so (zsub_no (zsub_so (zsub_so (zsub_no zsub_nil))))))) H
  · have H := H.2 hc
    refine z_iconst (M := m_J6_toArray_2) (v := 0) (by decide) dJ6_toArray_2_26 ?_
    refine z_goto (M := m_J6_toArray_2) 32 rfl dJ6_toArray_2_27 ?_
    exact zP.weak (ls' := [none, some (zr (x1)), some (zr (gR h x0 0)), none, some (.int (gI h x0 1)), some (.int (gI h x0 2)), none]) (zle rfl) (zsub_no (zsub_so (zsub_so (zsub_no (zsub_so (zsub_so (zsub_no zsub_nil))))))) H
theorem c_J6_toArray_2 {s0 : zE} {d : Nat} {x0 : Nat} {x1 : Nat} {h : zH} {Q : Value → zH → Prop} {E : Nat → zH → Prop} (H : (fR h x0 [45] 0) ∧ ((fI h x0 [45] 1) ∧ ((fI h x0 [45] 2) ∧ ((gI h x0 2 < gI h x0 1 → ((fC h (gR h x0 0) 1006) ∧ (zP s0 m_J6_toArray_2 (d + 1) 32 [none, some (zr (x1)), some (zr (gR h x0 0)), none, some (.int (gI h x0 1)), some (.int (gI h x0 2)), none] [.int (Int32.ofNat (gA h (gR h x0 0)).length), .int (gI h x0 2)] h Q E))) ∧ (¬ gI h x0 2 < gI h x0 1 → (zP s0 m_J6_toArray_2 (d + 1) 32 [none, some (zr (x1)), some (zr (gR h x0 0)), none, some (.int (gI h x0 1)), some (.int (gI h x0 2)), none] [.int (0), .int (gI h x0 2)] h Q E)))))) : zX s0 m_J6_toArray_2 (d + 1) [zr (x0), zr (x1)] h Q E := zX.of2 rfl (by decide +kernel) (zlay_r (zlay_r (zlay_n (znoneS (znoneS (znoneS (znoneS (znoneS znone0)))))))) (zle rfl) (b_J6_toArray_2_0 H)
theorem b_J6_toArray_2_32 {s0 : zE} {d : Nat} {x1 : Nat} {x2 : Nat} {x4 : Int32} {x5 : Int32} {t0 : Int32} {t1 : Int32} {h : zH} {Q : Value → zH → Prop} {E : Nat → zH → Prop} (H : (t0 + t1 < 0 → (zX s0 m_J15_copyOfRange d [zr (x2), .int (0), .int ((t0 + t1) - x4), zr (x1)] h (fun v1 h1 => ∃ n1 : Nat, v1 = zr (n1) ∧ ((fC h1 x2 1006) ∧ ((fCpy s0 h1 x2 x4 n1 (0 : Int32) ((Int32.ofNat (gA h1 x2).length) - x4)) ∧ (∀ h2, h2 = zblk h1 n1 (zspl (gA h1 x2) (x4).toNatClampNeg (gA h1 n1) ((0 : Int32)).toNatClampNeg (((Int32.ofNat (gA h1 x2).length) - x4)).toNatClampNeg) → (zP s0 m_J6_toArray_2 (d + 1) 77 [none, none, some (zr (x2)), some (zr (n1)), some (.int (x4)), some (.int (x5)), some (.int (t0 + t1))] [] h2 Q E))))) E)) ∧ (¬ t0 + t1 < 0 → (zX s0 m_J15_copyOfRange d [zr (x2), .int (x4), .int (t0 + t1), zr (x1)] h (fun v2 h3 => ∃ n2 : Nat, v2 = zr (n2) ∧ (zP s0 m_J6_toArray_2 (d + 1) 77 [none, none, some (zr (x2)), some (zr (n2)), some (.int (x4)), some (.int (x5)), some (.int (t0 + t1))] [] h3 Q E)) E))) : zP s0 m_J6_toArray_2 (d + 1) 32 [none, some (zr (x1)), some (zr (x2)), none, some (.int (x4)), some (.int (x5)), none] [.int (t1), .int (t0)] h Q E := by
  refine z_iadd (M := m_J6_toArray_2) dJ6_toArray_2_32 ?_
  refine z_dup (M := m_J6_toArray_2) rfl dJ6_toArray_2_33 ?_
  refine z_istore (M := m_J6_toArray_2) 6 (zlt rfl) rfl dJ6_toArray_2_34 ?_
  show zP s0 m_J6_toArray_2 (d + 1) _ [none, some (zr (x1)), some (zr (x2)), none, some (.int (x4)), some (.int (x5)), some (.int (t0 + t1))] _ _ _ _
  refine z_iflt (M := m_J6_toArray_2) 52 rfl dJ6_toArray_2_36 (fun hc => ?_) (fun hc => ?_)
  · have H := H.1 hc
    refine z_aload_n (M := m_J6_toArray_2) (k := 2) rfl dJ6_toArray_2_52 ?_
    refine z_iconst (M := m_J6_toArray_2) (v := 0) (by decide) dJ6_toArray_2_53 ?_
    refine z_iload (M := m_J6_toArray_2) (i := 6) rfl dJ6_toArray_2_54 ?_
    refine z_iload (M := m_J6_toArray_2) (i := 4) rfl dJ6_toArray_2_56 ?_
    refine z_isub (M := m_J6_toArray_2) dJ6_toArray_2_58 ?_
    refine z_aload_n (M := m_J6_toArray_2) (k := 1) rfl dJ6_toArray_2_59 ?_
    refine z_invS (M := m_J6_toArray_2) (a := [zr (x2), .int (0), .int ((t0 + t1) - x4), zr (x1)]) ok_J15_copyOfRange q1242 q1243 dJ6_toArray_2_60 (Nat.le_refl _) (Nat.zero_le _) rfl H (fun v1 h1 H => ?_) (fun n9 h9 H => zPx.out rfl H)
    obtain ⟨n1, rfl, H⟩ := H
    show zP s0 m_J6_toArray_2 (d + 1) _ _ [zr (n1)] _ _ _
    refine z_astore_n (M := m_J6_toArray_2) (k := 3) 3 rfl (zlt rfl) (zr_cat _) dJ6_toArray_2_63 ?_
    show zP s0 m_J6_toArray_2 (d + 1) _ [none, some (zr (x1)), some (zr (x2)), some (zr (n1)), some (.int (x4)), some (.int (x5)), some (.int (t0 + t1))] _ _ _ _
    refine z_aload_n (M := m_J6_toArray_2) (k := 2) rfl dJ6_toArray_2_64 ?_
    refine z_iload (M := m_J6_toArray_2) (i := 4) rfl dJ6_toArray_2_65 ?_
    refine z_aload_n (M := m_J6_toArray_2) (k := 3) rfl dJ6_toArray_2_67 ?_
    refine z_iconst (M := m_J6_toArray_2) (v := 0) (by decide) dJ6_toArray_2_68 ?_
    refine z_aload_n (M := m_J6_toArray_2) (k := 2) rfl dJ6_toArray_2_69 ?_
    obtain ⟨g, H⟩ := H
    refine z_len (M := m_J6_toArray_2) (t := 6) rfl dJ6_toArray_2_70 g ?_
    refine z_iload (M := m_J6_toArray_2) (i := 4) rfl dJ6_toArray_2_71 ?_
    refine z_isub (M := m_J6_toArray_2) dJ6_toArray_2_73 ?_
    obtain ⟨g, H⟩ := H
    refine z_arraycopy (M := m_J6_toArray_2) q1201 q1048 q1047 q267 dJ6_toArray_2_74 (Nat.zero_le _) g (fun h2 e => ?_)
    have H := H h2 e
    exact zP.weak (ls' := [none, none, some (zr (x2)), some (zr (n1)), some (.int (x4)), some (.int (x5)), some (.int (t0 + t1))]) (zle rfl) (zsub_no (zsub_no (zsub_so (zsub_so (zsub_so (zsub_so (zsub_so zsub_nil))))))) H
  · have H := H.2 hc
    refine z_aload_n (M := m_J6_toArray_2) (k := 2) rfl dJ6_toArray_2_39 ?_
    refine z_iload (M := m_J6_toArray_2) (i := 4) rfl dJ6_toArray_2_40 ?_
    refine z_iload (M := m_J6_toArray_2) (i := 6) rfl dJ6_toArray_2_42 ?_
    refine z_aload_n (M := m_J6_toArray_2) (k := 1) rfl dJ6_toArray_2_44 ?_
    refine z_invS (M := m_J6_toArray_2) (a := [zr (x2), .int (x4), .int (t0 + t1), zr (x1)]) ok_J15_copyOfRange q1242 q1243 dJ6_toArray_2_45 (Nat.le_refl _) (Nat.zero_le _) rfl H (fun v2 h3 H => ?_) (fun n9 h9 H => zPx.out rfl H)
    obtain ⟨n2, rfl, H⟩ := H
    show zP s0 m_J6_toArray_2 (d + 1) _ _ [zr (n2)] _ _ _
    refine z_astore_n (M := m_J6_toArray_2) (k := 3) 3 rfl (zlt rfl) (zr_cat _) dJ6_toArray_2_48 ?_
    show zP s0 m_J6_toArray_2 (d + 1) _ [none, some (zr (x1)), some (zr (x2)), some (zr (n2)), some (.int (x4)), some (.int (x5)), some (.int (t0 + t1))] _ _ _ _
    refine z_goto (M := m_J6_toArray_2) 77 rfl dJ6_toArray_2_49 ?_
    exact zP.weak (ls' := [none, none, some (zr (x2)), some (zr (n2)), some (.int (x4)), some (.int (x5)), some (.int (t0 + t1))]) (zle rfl) (zsub_no (zsub_no (zsub_so (zsub_so (zsub_so (zsub_so (zsub_so zsub_nil))))))) H
theorem b_J6_toArray_2_77 {s0 : zE} {d : Nat} {x2 : Nat} {x3 : Nat} {x4 : Int32} {x5 : Int32} {x6 : Int32} {h : zH} {Q : Value → zH → Prop} {E : Nat → zH → Prop} (H : (x6 = x5 → (Q (zr x3) h)) ∧ (¬ x6 = x5 → ((fC h x2 1006) ∧ ((fCpy s0 h x2 (0 : Int32) x3 ((Int32.ofNat (gA h x2).length) - x4) x5) ∧ (∀ h1, h1 = zblk h x3 (zspl (gA h x2) ((0 : Int32)).toNatClampNeg (gA h x3) (((Int32.ofNat (gA h x2).length) - x4)).toNatClampNeg (x5).toNatClampNeg) → (Q (zr x3) h1)))))) : zP s0 m_J6_toArray_2 (d + 1) 77 [none, none, some (zr (x2)), some (zr (x3)), some (.int (x4)), some (.int (x5)), some (.int (x6))] [] h Q E := by
  refine z_iload (M := m_J6_toArray_2) (i := 6) rfl dJ6_toArray_2_77 ?_
  refine z_iload (M := m_J6_toArray_2) (i := 5) rfl dJ6_toArray_2_79 ?_
  refine z_icmpeq (M := m_J6_toArray_2) 97 rfl dJ6_toArray_2_81 (fun hc => ?_) (fun hc => ?_)
  · have H := H.1 hc
    refine z_aload_n (M := m_J6_toArray_2) (k := 3) rfl dJ6_toArray_2_97 ?_
    exact z_areturn (M := m_J6_toArray_2) rfl (Or.inr ⟨_, rfl⟩) dJ6_toArray_2_98 H
  · have H := H.2 hc
    refine z_aload_n (M := m_J6_toArray_2) (k := 2) rfl dJ6_toArray_2_84 ?_
    refine z_iconst (M := m_J6_toArray_2) (v := 0) (by decide) dJ6_toArray_2_85 ?_
    refine z_aload_n (M := m_J6_toArray_2) (k := 3) rfl dJ6_toArray_2_86 ?_
    refine z_aload_n (M := m_J6_toArray_2) (k := 2) rfl dJ6_toArray_2_87 ?_
    obtain ⟨g, H⟩ := H
    refine z_len (M := m_J6_toArray_2) (t := 6) rfl dJ6_toArray_2_88 g ?_
    refine z_iload (M := m_J6_toArray_2) (i := 4) rfl dJ6_toArray_2_89 ?_
    refine z_isub (M := m_J6_toArray_2) dJ6_toArray_2_91 ?_
    refine z_iload (M := m_J6_toArray_2) (i := 5) rfl dJ6_toArray_2_92 ?_
    obtain ⟨g, H⟩ := H
    refine z_arraycopy (M := m_J6_toArray_2) q1201 q1048 q1047 q267 dJ6_toArray_2_94 (Nat.zero_le _) g (fun h1 e => ?_)
    have H := H h1 e
    refine z_aload_n (M := m_J6_toArray_2) (k := 3) rfl dJ6_toArray_2_97 ?_
    exact z_areturn (M := m_J6_toArray_2) rfl (Or.inr ⟨_, rfl⟩) dJ6_toArray_2_98 H
theorem b_J12_getBytes_0 {s0 : zE} {d : Nat} {x0 : Nat} {x1 : Nat} {x2 : Int32} {x3 : Int32} {h : zH} {Q : Value → zH → Prop} {E : Nat → zH → Prop} (H : (fC h x0 48 ∧ zX s0 m_J12_coder d [zr x0] h (fun v1 h1 => ∃ r1 : Int32, v1 = .int (r1) ∧ ((¬ r1 = x3 → ((fR h1 x0 [48] 0) ∧ ((fR h1 x0 [48] 0) ∧ ((fC h1 (gR h1 x0 0) 1000) ∧ (zX s0 m_J13_inflate d [zr (gR h1 x0 0), .int (0), zr (x1), .int (x2), .int (Int32.ofNat (gA h1 (gR h1 x0 0)).length)] h1 (fun _ h2 => (Q .null h2)) E))))) ∧ (r1 = x3 → ((fR h1 x0 [48] 0) ∧ ((fR h1 x0 [48] 0) ∧ ((fC h1 (gR h1 x0 0) 1000) ∧ ((fCpy s0 h1 (gR h1 x0 0) (0 : Int32) x1 (x2 <<< (x3 &&& 31)) (Int32.ofNat (gA h1 (gR h1 x0 0)).length)) ∧ (∀ h3, h3 = zblk h1 x1 (zspl (gA h1 (gR h1 x0 0)) ((0 : Int32)).toNatClampNeg (gA h1 x1) ((x2 <<< (x3 &&& 31))).toNatClampNeg ((Int32.ofNat (gA h1 (gR h1 x0 0)).length)).toNatClampNeg) → (Q .null h3))))))))) E)) : zP s0 m_J12_getBytes (d + 1) 0 [some (zr (x0)), some (zr (x1)), some (.int (x2)), some (.int (x3))] [] h Q E := by
  refine z_aload_n (M := m_J12_getBytes) (k := 0) rfl dJ12_getBytes_0 ?_
  obtain ⟨⟨fs9, g⟩, H⟩ := H
  refine z_invV (M := m_J12_getBytes) (cn := 48) (a := []) ok_J12_coder q1387 q1388 q1389 rfl dJ12_getBytes_1 g (Nat.le_refl _) (Nat.zero_le _) rfl H (fun v1 h1 H => ?_) (fun n9 h9 H => zPx.out rfl H)
  obtain ⟨r1, rfl, H⟩ := H
  show zP s0 m_J12_getBytes (d + 1) _ _ [.int (r1)] _ _ _
  refine z_iload_n (M := m_J12_getBytes) (k := 3) rfl dJ12_getBytes_4 ?_
  refine z_icmpne (M := m_J12_getBytes) 28 rfl dJ12_getBytes_5 (fun hc => ?_) (fun hc => ?_)
  · have H := H.1 hc
    refine z_aload_n (M := m_J12_getBytes) (k := 0) rfl dJ12_getBytes_28 ?_
    obtain ⟨g, H⟩ := H
    refine z_get (M := m_J12_getBytes) f_J12_9 dJ12_getBytes_29 g ?_
    refine z_iconst (M := m_J12_getBytes) (v := 0) (by decide) dJ12_getBytes_32 ?_
    refine z_aload_n (M := m_J12_getBytes) (k := 1) rfl dJ12_getBytes_33 ?_
    refine z_iload_n (M := m_J12_getBytes) (k := 2) rfl dJ12_getBytes_34 ?_
    refine z_aload_n (M := m_J12_getBytes) (k := 0) rfl dJ12_getBytes_35 ?_
    obtain ⟨g, H⟩ := H
    refine z_get (M := m_J12_getBytes) f_J12_9 dJ12_getBytes_36 g ?_
    obtain ⟨g, H⟩ := H
    refine z_len (M := m_J12_getBytes) (t := 0) rfl dJ12_getBytes_39 g ?_
    refine z_invS (M := m_J12_getBytes) (a := [zr (gR h1 x0 0), .int (0), zr (x1), .int (x2), .int (Int32.ofNat (gA h1 (gR h1 x0 0)).length)]) ok_J13_inflate q1424 q1405 dJ12_getBytes_40 (Nat.le_refl _) (Nat.zero_le _) rfl H (fun v2 h2 H => ?_) (fun n9 h9 H => zPx.out rfl H)
    show zP s0 m_J12_getBytes (d + 1) _ _ [] _ _ _
    exact z_return (M := m_J12_getBytes) rfl dJ12_getBytes_43 H
  · have H := H.2 hc
    refine z_aload_n (M := m_J12_getBytes) (k := 0) rfl dJ12_getBytes_8 ?_
    obtain ⟨g, H⟩ := H
    refine z_get (M := m_J12_getBytes) f_J12_9 dJ12_getBytes_9 g ?_
    refine z_iconst (M := m_J12_getBytes) (v := 0) (by decide) dJ12_getBytes_12 ?_
    refine z_aload_n (M := m_J12_getBytes) (k := 1) rfl dJ12_getBytes_13 ?_
    refine z_iload_n (M := m_J12_getBytes) (k := 2) rfl dJ12_getBytes_14 ?_
    refine z_iload_n (M := m_J12_getBytes) (k := 3) rfl dJ12_getBytes_15 ?_
    refine z_ishl (M := m_J12_getBytes) dJ12_getBytes_16 ?_
    refine z_aload_n (M := m_J12_getBytes) (k := 0) rfl dJ12_getBytes_17 ?_
    obtain ⟨g, H⟩ := H
    refine z_get (M := m_J12_getBytes) f_J12_9 dJ12_getBytes_18 g ?_
    obtain ⟨g, H⟩ := H
    refine z_len (M := m_J12_getBytes) (t := 0) rfl dJ12_getBytes_21 g ?_
    obtain ⟨g, H⟩ := H
    refine z_arraycopy (M := m_J12_getBytes) q1423 q1048 q1047 q267 dJ12_getBytes_22 (Nat.zero_le _) g (fun h3 e => ?_)
    have H := H h3 e
    refine z_goto (M := m_J12_getBytes) 43 rfl dJ12_getBytes_25 ?_
    exact z_return (M := m_J12_getBytes) rfl dJ12_getBytes_43 H
theorem c_J12_getBytes {s0 : zE} {d : Nat} {x0 : Nat} {x1 : Nat} {x2 : Int32} {x3 : Int32} {h : zH} {Q : Value → zH → Prop} {E : Nat → zH → Prop} (H : (fC h x0 48 ∧ zX s0 m_J12_coder d [zr x0] h (fun v1 h1 => ∃ r1 : Int32, v1 = .int (r1) ∧ ((¬ r1 = x3 → ((fR h1 x0 [48] 0) ∧ ((fR h1 x0 [48] 0) ∧ ((fC h1 (gR h1 x0 0) 1000) ∧ (zX s0 m_J13_inflate d [zr (gR h1 x0 0), .int (0), zr (x1), .int (x2), .int (Int32.ofNat (gA h1 (gR h1 x0 0)).length)] h1 (fun _ h2 => (Q .null h2)) E))))) ∧ (r1 = x3 → ((fR h1 x0 [48] 0) ∧ ((fR h1 x0 [48] 0) ∧ ((fC h1 (gR h1 x0 0) 1000) ∧ ((fCpy s0 h1 (gR h1 x0 0) (0 : Int32) x1 (x2 <<< (x3 &&& 31)) (Int32.ofNat (gA h1 (gR h1 x0 0)).length)) ∧ (∀ h3, h3 = zblk h1 x1 (zspl (gA h1 (gR h1 x0 0)) ((0 : Int32)).toNatClampNeg (gA h1 x1) ((x2 <<< (x3 &&& 31))).toNatClampNeg ((Int32.ofNat (gA h1 (gR h1 x0 0)).length)).toNatClampNeg) → (Q .null h3))))))))) E)) : zX s0 m_J12_getBytes (d + 1) [zr (x0), zr (x1), .int (x2), .int (x3)] h Q E := zX.of2 rfl (by decide +kernel) (zlay_r (zlay_r (zlay_i (zlay_i (zlay_n znone0))))) (zle rfl) (b_J12_getBytes_0 H)
theorem b_J15_copyOfRange_0 {s0 : zE} {d : Nat} {x0 : Nat} {x1 : Int32} {x2 : Int32} {x3 : Nat} {h : zH} {Q : Value → zH → Prop} {E : Nat → zH → Prop} (H : (0 ≤ x2 - x1 → ((¬ x3 = zmi s0 "[Ljava/lang/Object;" → (False)) ∧ (x3 = zmi s0 "[Ljava/lang/Object;" → ((¬ (x2 - x1) < 0) ∧ ((zroom s0 h ((x2 - x1)).toNatClampNeg) ∧ (∀ n1, n1 = h.2.1 → (∀ h1, h1 = znew h 1006 (List.replicate ((x2 - x1)).toNatClampNeg (zr 0)) ((x2 - x1)).toNatClampNeg → ((fC h1 x0 1006) ∧ (zX s0 m_J16_min d [.int ((Int32.ofNat (gA h1 x0).length) - x1), .int (x2 - x1)] h1 (fun v1 h2 => ∃ r1 : Int32, v1 = .int (r1) ∧ ((fCpy s0 h2 x0 x1 n1 (0 : Int32) r1) ∧ (∀ h3, h3 = zblk h2 n1 (zspl (gA h2 x0) (x1).toNatClampNeg (gA h2 n1) ((0 : Int32)).toNatClampNeg (r1).toNatClampNeg) → (Q (zr n1) h3)))) E))))))))) ∧ (¬ 0 ≤ x2 - x1 → (False))) : zP s0 m_J15_copyOfRange (d + 1) 0 [some (zr (x0)), some (.int (x1)), some (.int (x2)), some (zr (x3)), none, none] [] h Q E := by
  refine z_iload_n (M := m_J15_copyOfRange) (k := 2) rfl dJ15_copyOfRange_0 ?_
  refine z_iload_n (M := m_J15_copyOfRange) (k := 1) rfl dJ15_copyOfRange_1 ?_
  refine z_isub (M := m_J15_copyOfRange) dJ15_copyOfRange_2 ?_
  refine z_istore (M := m_J15_copyOfRange) 4 (zlt rfl) (zr_cat _) dJ15_copyOfRange_3 ?_
  show zP s0 m_J15_copyOfRange (d + 1) _ [some (zr (x0)), some (.int (x1)), some (.int (x2)), some (zr (x3)), some (.int (x2 - x1)), none] _ _ _ _
  refine z_iload (M := m_J15_copyOfRange) (i := 4) rfl dJ15_copyOfRange_5 ?_
  refine z_ifge (M := m_J15_copyOfRange) 42 rfl dJ15_copyOfRange_7 (fun hc => ?_) (fun hc => ?_)
  · have H := H.1 hc
    refine z_aload_n (M := m_J15_copyOfRange) (k := 3) rfl dJ15_copyOfRange_42 ?_
    refine z_ldcC (M := m_J15_copyOfRange) (k_m_Object_ (s0 := s0)) q1195 dJ15_copyOfRange_43 ?_
    refine z_acmpne (M := m_J15_copyOfRange) 56 rfl dJ15_copyOfRange_45 (fun hc => ?_) (fun hc => ?_)
    · have H := H.1 hc
      refine z_aload_n (M := m_J15_copyOfRange) (k := 3) rfl dJ15_copyOfRange_56 ?_
      exact H.elim
    · have H := H.2 hc
      refine z_iload (M := m_J15_copyOfRange) (i := 4) rfl dJ15_copyOfRange_48 ?_
      obtain ⟨gn, H⟩ := H
      obtain ⟨g, H⟩ := H
      refine zz_anewarray (M := m_J15_copyOfRange) (t := 6) rfl q1196 q449 dJ15_copyOfRange_50 gn g (fun n1 e1 h1 e2 => ?_)
      have H := H n1 e1 h1 e2
      refine z_goto (M := m_J15_copyOfRange) 68 rfl dJ15_copyOfRange_53 ?_
      refine z_astore (M := m_J15_copyOfRange) 5 (zlt rfl) rfl dJ15_copyOfRange_68 ?_
      show zP s0 m_J15_copyOfRange (d + 1) _ [some (zr (x0)), some (.int (x1)), some (.int (x2)), some (zr (x3)), some (.int (x2 - x1)), some (zr (n1))] _ _ _ _
      refine z_aload_n (M := m_J15_copyOfRange) (k := 0) rfl dJ15_copyOfRange_70 ?_
      refine z_iload_n (M := m_J15_copyOfRange) (k := 1) rfl dJ15_copyOfRange_71 ?_
      refine z_aload (M := m_J15_copyOfRange) (i := 5) rfl dJ15_copyOfRange_72 ?_
      refine z_iconst (M := m_J15_copyOfRange) (v := 0) (by decide) dJ15_copyOfRange_74 ?_
      refine z_aload_n (M := m_J15_copyOfRange) (k := 0) rfl dJ15_copyOfRange_75 ?_
      obtain ⟨g, H⟩ := H
      refine z_len (M := m_J15_copyOfRange) (t := 6) rfl dJ15_copyOfRange_76 g ?_
      refine z_iload_n (M := m_J15_copyOfRange) (k := 1) rfl dJ15_copyOfRange_77 ?_
      refine z_isub (M := m_J15_copyOfRange) dJ15_copyOfRange_78 ?_
      refine z_iload (M := m_J15_copyOfRange) (i := 4) rfl dJ15_copyOfRange_79 ?_
      refine z_invS (M := m_J15_copyOfRange) (a := [.int ((Int32.ofNat (gA h1 x0).length) - x1), .int (x2 - x1)]) ok_J16_min q1197 q1198 dJ15_copyOfRange_81 (Nat.le_refl _) (Nat.le_trans (zcati (zcatr (zcati (zcatr zcat0)))) (zle rfl)) rfl H (fun v1 h2 H => ?_) (fun n9 h9 H => zPx.out rfl H)
      obtain ⟨r1, rfl, H⟩ := H
      show zP s0 m_J15_copyOfRange (d + 1) _ _ [.int (r1), .int (0), zr (n1), .int (x1), zr (x0)] _ _ _
      obtain ⟨g, H⟩ := H
      refine z_arraycopy (M := m_J15_copyOfRange) q1200 q1048 q1047 q267 dJ15_copyOfRange_84 (Nat.zero_le _) g (fun h3 e => ?_)
      have H := H h3 e
      refine z_aload (M := m_J15_copyOfRange) (i := 5) rfl dJ15_copyOfRange_87 ?_
      exact z_areturn (M := m_J15_copyOfRange) rfl (Or.inr ⟨_, rfl⟩) dJ15_copyOfRange_89 H
  · have H := H.2 hc
    exact H.elim
theorem c_J15_copyOfRange {s0 : zE} {d : Nat} {x0 : Nat} {x1 : Int32} {x2 : Int32} {x3 : Nat} {h : zH} {Q : Value → zH → Prop} {E : Nat → zH → Prop} (H : (0 ≤ x2 - x1 → ((¬ x3 = zmi s0 "[Ljava/lang/Object;" → (False)) ∧ (x3 = zmi s0 "[Ljava/lang/Object;" → ((¬ (x2 - x1) < 0) ∧ ((zroom s0 h ((x2 - x1)).toNatClampNeg) ∧ (∀ n1, n1 = h.2.1 → (∀ h1, h1 = znew h 1006 (List.replicate ((x2 - x1)).toNatClampNeg (zr 0)) ((x2 - x1)).toNatClampNeg → ((fC h1 x0 1006) ∧ (zX s0 m_J16_min d [.int ((Int32.ofNat (gA h1 x0).length) - x1), .int (x2 - x1)] h1 (fun v1 h2 => ∃ r1 : Int32, v1 = .int (r1) ∧ ((fCpy s0 h2 x0 x1 n1 (0 : Int32) r1) ∧ (∀ h3, h3 = zblk h2 n1 (zspl (gA h2 x0) (x1).toNatClampNeg (gA h2 n1) ((0 : Int32)).toNatClampNeg (r1).toNatClampNeg) → (Q (zr n1) h3)))) E))))))))) ∧ (¬ 0 ≤ x2 - x1 → (False))) : zX s0 m_J15_copyOfRange (d + 1) [zr (x0), .int (x1), .int (x2), zr (x3)] h Q E := zX.of2 rfl (by decide +kernel) (zlay_r (zlay_i (zlay_i (zlay_r (zlay_n (znoneS (znoneS znone0))))))) (zle rfl) (b_J15_copyOfRange_0 H)
theorem b_J15_copyOfRangeByte_0 {s0 : zE} {d : Nat} {x0 : Nat} {x1 : Int32} {x2 : Int32} {h : zH} {Q : Value → zH → Prop} {E : Nat → zH → Prop} (H : zX s0 m_J15_checkLength d [.int (x1), .int (x2)] h (fun _ h1 => ((¬ (x2 - x1) < 0) ∧ ((zroom s0 h1 ((x2 - x1)).toNatClampNeg) ∧ (∀ n1, n1 = h1.2.1 → (∀ h2, h2 = znew h1 1000 (List.replicate ((x2 - x1)).toNatClampNeg (.int 0)) ((x2 - x1)).toNatClampNeg → ((fC h2 x0 1000) ∧ (zX s0 m_J16_min d [.int ((Int32.ofNat (gA h2 x0).length) - x1), .int (x2 - x1)] h2 (fun v2 h3 => ∃ r1 : Int32, v2 = .int (r1) ∧ ((fCpy s0 h3 x0 x1 n1 (0 : Int32) r1) ∧ (∀ h4, h4 = zblk h3 n1 (zspl (gA h3 x0) (x1).toNatClampNeg (gA h3 n1) ((0 : Int32)).toNatClampNeg (r1).toNatClampNeg) → (Q (zr n1) h4)))) E))))))) E) : zP s0 m_J15_copyOfRangeByte (d + 1) 0 [some (zr (x0)), some (.int (x1)), some (.int (x2)), none, none] [] h Q E := by
  refine z_iload_n (M := m_J15_copyOfRangeByte) (k := 1) rfl dJ15_copyOfRangeByte_0 ?_
  refine z_iload_n (M := m_J15_copyOfRangeByte) (k := 2) rfl dJ15_copyOfRangeByte_1 ?_
  refine z_invS (M := m_J15_copyOfRangeByte) (a := [.int (x1), .int (x2)]) ok_J15_checkLength q1458 q1459 dJ15_copyOfRangeByte_2 (Nat.le_refl _) (Nat.zero_le _) rfl H (fun v1 h1 H => ?_) (fun n9 h9 H => zPx.out rfl H)
  show zP s0 m_J15_copyOfRangeByte (d + 1) _ _ [] _ _ _
  refine z_iload_n (M := m_J15_copyOfRangeByte) (k := 2) rfl dJ15_copyOfRangeByte_5 ?_
  refine z_iload_n (M := m_J15_copyOfRangeByte) (k := 1) rfl dJ15_copyOfRangeByte_6 ?_
  refine z_isub (M := m_J15_copyOfRangeByte) dJ15_copyOfRangeByte_7 ?_
  refine z_istore_n (M := m_J15_copyOfRangeByte) (k := 3) 3 rfl (zlt rfl) rfl dJ15_copyOfRangeByte_8 ?_
  show zP s0 m_J15_copyOfRangeByte (d + 1) _ [some (zr (x0)), some (.int (x1)), some (.int (x2)), some (.int (x2 - x1)), none] _ _ _ _
  refine z_iload_n (M := m_J15_copyOfRangeByte) (k := 3) rfl dJ15_copyOfRangeByte_9 ?_
  obtain ⟨gn, H⟩ := H
  obtain ⟨g, H⟩ := H
  refine zz_newarray (M := m_J15_copyOfRangeByte) (atype := .byte) (t := 0) rfl q509 (by decide) dJ15_copyOfRangeByte_10 gn g (fun n1 e1 h2 e2 => ?_)
  have H := H n1 e1 h2 e2
  refine z_astore (M := m_J15_copyOfRangeByte) 4 (zlt rfl) rfl dJ15_copyOfRangeByte_12 ?_
  show zP s0 m_J15_copyOfRangeByte (d + 1) _ [some (zr (x0)), some (.int (x1)), some (.int (x2)), some (.int (x2 - x1)), some (zr (n1))] _ _ _ _
  refine z_aload_n (M := m_J15_copyOfRangeByte) (k := 0) rfl dJ15_copyOfRangeByte_14 ?_
  refine z_iload_n (M := m_J15_copyOfRangeByte) (k := 1) rfl dJ15_copyOfRangeByte_15 ?_
  refine z_aload (M := m_J15_copyOfRangeByte) (i := 4) rfl dJ15_copyOfRangeByte_16 ?_
  refine z_iconst (M := m_J15_copyOfRangeByte) (v := 0) (by decide) dJ15_copyOfRangeByte_18 ?_
  refine z_aload_n (M := m_J15_copyOfRangeByte) (k := 0) rfl dJ15_copyOfRangeByte_19 ?_
  obtain ⟨g, H⟩ := H
  refine z_len (M := m_J15_copyOfRangeByte) (t := 0) rfl dJ15_copyOfRangeByte_20 g ?_
  refine z_iload_n (M := m_J15_copyOfRangeByte) (k := 1) rfl dJ15_copyOfRangeByte_21 ?_
  refine z_isub (M := m_J15_copyOfRangeByte) dJ15_copyOfRangeByte_22 ?_
  refine z_iload_n (M := m_J15_copyOfRangeByte) (k := 3) rfl dJ15_copyOfRangeByte_23 ?_
  refine z_invS (M := m_J15_copyOfRangeByte) (a := [.int ((Int32.ofNat (gA h2 x0).length) - x1), .int (x2 - x1)]) ok_J16_min q1197 q1198 dJ15_copyOfRangeByte_24 (Nat.le_refl _) (Nat.le_trans (zcati (zcatr (zcati (zcatr zcat0)))) (zle rfl)) rfl H (fun v2 h3 H => ?_) (fun n9 h9 H => zPx.out rfl H)
  obtain ⟨r1, rfl, H⟩ := H
  show zP s0 m_J15_copyOfRangeByte (d + 1) _ _ [.int (r1), .int (0), zr (n1), .int (x1), zr (x0)] _ _ _
  obtain ⟨g, H⟩ := H
  refine z_arraycopy (M := m_J15_copyOfRangeByte) q1200 q1048 q1047 q267 dJ15_copyOfRangeByte_27 (Nat.zero_le _) g (fun h4 e => ?_)
  have H := H h4 e
  refine z_aload (M := m_J15_copyOfRangeByte) (i := 4) rfl dJ15_copyOfRangeByte_30 ?_
  exact z_areturn (M := m_J15_copyOfRangeByte) rfl (Or.inr ⟨_, rfl⟩) dJ15_copyOfRangeByte_32 H
theorem c_J15_copyOfRangeByte {s0 : zE} {d : Nat} {x0 : Nat} {x1 : Int32} {x2 : Int32} {h : zH} {Q : Value → zH → Prop} {E : Nat → zH → Prop} (H : zX s0 m_J15_checkLength d [.int (x1), .int (x2)] h (fun _ h1 => ((¬ (x2 - x1) < 0) ∧ ((zroom s0 h1 ((x2 - x1)).toNatClampNeg) ∧ (∀ n1, n1 = h1.2.1 → (∀ h2, h2 = znew h1 1000 (List.replicate ((x2 - x1)).toNatClampNeg (.int 0)) ((x2 - x1)).toNatClampNeg → ((fC h2 x0 1000) ∧ (zX s0 m_J16_min d [.int ((Int32.ofNat (gA h2 x0).length) - x1), .int (x2 - x1)] h2 (fun v2 h3 => ∃ r1 : Int32, v2 = .int (r1) ∧ ((fCpy s0 h3 x0 x1 n1 (0 : Int32) r1) ∧ (∀ h4, h4 = zblk h3 n1 (zspl (gA h3 x0) (x1).toNatClampNeg (gA h3 n1) ((0 : Int32)).toNatClampNeg (r1).toNatClampNeg) → (Q (zr n1) h4)))) E))))))) E) : zX s0 m_J15_copyOfRangeByte (d + 1) [zr (x0), .int (x1), .int (x2)] h Q E := zX.of2 rfl (by decide +kernel) (zlay_r (zlay_i (zlay_i (zlay_n (znoneS (znoneS znone0)))))) (zle rfl) (b_J15_copyOfRangeByte_0 H)
theorem b_J15_copyOf_2_0 {s0 : zE} {d : Nat} {x0 : Nat} {x1 : Int32} {x2 : Nat} {h : zH} {Q : Value → zH → Prop} {E : Nat → zH → Prop} (H : (¬ x2 = zmi s0 "[Ljava/lang/Object;" → (False)) ∧ (x2 = zmi s0 "[Ljava/lang/Object;" → ((¬ x1 < 0) ∧ ((zroom s0 h (x1).toNatClampNeg) ∧ (∀ n1, n1 = h.2.1 → (∀ h1, h1 = znew h 1006 (List.replicate (x1).toNatClampNeg (zr 0)) (x1).toNatClampNeg → ((fC h1 x0 1006) ∧ (zX s0 m_J16_min d [.int (Int32.ofNat (gA h1 x0).length), .int (x1)] h1 (fun v1 h2 => ∃ r1 : Int32, v1 = .int (r1) ∧ ((fCpy s0 h2 x0 (0 : Int32) n1 (0 : Int32) r1) ∧ (∀ h3, h3 = zblk h2 n1 (zspl (gA h2 x0) ((0 : Int32)).toNatClampNeg (gA h2 n1) ((0 : Int32)).toNatClampNeg (r1).toNatClampNeg) → (Q (zr n1) h3)))) E)))))))) : zP s0 m_J15_copyOf_2 (d + 1) 0 [some (zr (x0)), some (.int (x1)), some (zr (x2)), none] [] h Q E := by
  refine z_aload_n (M := m_J15_copyOf_2) (k := 2) rfl dJ15_copyOf_2_0 ?_
  refine z_ldcC (M := m_J15_copyOf_2) (k_m_Object_ (s0 := s0)) q1195 dJ15_copyOf_2_1 ?_
  refine z_acmpne (M := m_J15_copyOf_2) 13 rfl dJ15_copyOf_2_3 (fun hc => ?_) (fun hc => ?_)
  · have H := H.1 hc
    refine z_aload_n (M := m_J15_copyOf_2) (k := 2) rfl dJ15_copyOf_2_13 ?_
    exact H.elim
  · have H := H.2 hc
    refine z_iload_n (M := m_J15_copyOf_2) (k := 1) rfl dJ15_copyOf_2_6 ?_
    obtain ⟨gn, H⟩ := H
    obtain ⟨g, H⟩ := H
    refine zz_anewarray (M := m_J15_copyOf_2) (t := 6) rfl q1196 q449 dJ15_copyOf_2_7 gn g (fun n1 e1 h1 e2 => ?_)
    have H := H n1 e1 h1 e2
    refine z_goto (M := m_J15_copyOf_2) 24 rfl dJ15_copyOf_2_10 ?_
    refine z_astore_n (M := m_J15_copyOf_2) (k := 3) 3 rfl (zlt rfl) (zr_cat _) dJ15_copyOf_2_24 ?_
    show zP s0 m_J15_copyOf_2 (d + 1) _ [some (zr (x0)), some (.int (x1)), some (zr (x2)), some (zr (n1))] _ _ _ _
    refine z_aload_n (M := m_J15_copyOf_2) (k := 0) rfl dJ15_copyOf_2_25 ?_
    refine z_iconst (M := m_J15_copyOf_2) (v := 0) (by decide) dJ15_copyOf_2_26 ?_
    refine z_aload_n (M := m_J15_copyOf_2) (k := 3) rfl dJ15_copyOf_2_27 ?_
    refine z_iconst (M := m_J15_copyOf_2) (v := 0) (by decide) dJ15_copyOf_2_28 ?_
    refine z_aload_n (M := m_J15_copyOf_2) (k := 0) rfl dJ15_copyOf_2_29 ?_
    obtain ⟨g, H⟩ := H
    refine z_len (M := m_J15_copyOf_2) (t := 6) rfl dJ15_copyOf_2_30 g ?_
    refine z_iload_n (M := m_J15_copyOf_2) (k := 1) rfl dJ15_copyOf_2_31 ?_
    refine z_invS (M := m_J15_copyOf_2) (a := [.int (Int32.ofNat (gA h1 x0).length), .int (x1)]) ok_J16_min q1197 q1198 dJ15_copyOf_2_32 (Nat.le_refl _) (Nat.le_trans (zcati (zcatr (zcati (zcatr zcat0)))) (zle rfl)) rfl H (fun v1 h2 H => ?_) (fun n9 h9 H => zPx.out rfl H)
    obtain ⟨r1, rfl, H⟩ := H
    show zP s0 m_J15_copyOf_2 (d + 1) _ _ [.int (r1), .int (0), zr (n1), .int (0), zr (x0)] _ _ _
    obtain ⟨g, H⟩ := H
    refine z_arraycopy (M := m_J15_copyOf_2) q1200 q1048 q1047 q267 dJ15_copyOf_2_35 (Nat.zero_le _) g (fun h3 e => ?_)
    have H := H h3 e
    refine z_aload_n (M := m_J15_copyOf_2) (k := 3) rfl dJ15_copyOf_2_38 ?_
    exact z_areturn (M := m_J15_copyOf_2) rfl (Or.inr ⟨_, rfl⟩) dJ15_copyOf_2_39 H
theorem c_J15_copyOf_2 {s0 : zE} {d : Nat} {x0 : Nat} {x1 : Int32} {x2 : Nat} {h : zH} {Q : Value → zH → Prop} {E : Nat → zH → Prop} (H : (¬ x2 = zmi s0 "[Ljava/lang/Object;" → (False)) ∧ (x2 = zmi s0 "[Ljava/lang/Object;" → ((¬ x1 < 0) ∧ ((zroom s0 h (x1).toNatClampNeg) ∧ (∀ n1, n1 = h.2.1 → (∀ h1, h1 = znew h 1006 (List.replicate (x1).toNatClampNeg (zr 0)) (x1).toNatClampNeg → ((fC h1 x0 1006) ∧ (zX s0 m_J16_min d [.int (Int32.ofNat (gA h1 x0).length), .int (x1)] h1 (fun v1 h2 => ∃ r1 : Int32, v1 = .int (r1) ∧ ((fCpy s0 h2 x0 (0 : Int32) n1 (0 : Int32) r1) ∧ (∀ h3, h3 = zblk h2 n1 (zspl (gA h2 x0) ((0 : Int32)).toNatClampNeg (gA h2 n1) ((0 : Int32)).toNatClampNeg (r1).toNatClampNeg) → (Q (zr n1) h3)))) E)))))))) : zX s0 m_J15_copyOf_2 (d + 1) [zr (x0), .int (x1), zr (x2)] h Q E := zX.of2 rfl (by decide +kernel) (zlay_r (zlay_i (zlay_r (zlay_n (znoneS znone0))))) (zle rfl) (b_J15_copyOf_2_0 H)
