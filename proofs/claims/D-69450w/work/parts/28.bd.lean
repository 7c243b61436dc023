/-! blocks of X1_expire, X1_gone, X1_rebuild, X1_recover, X1_settle, X21_first, X23_init: printed by dec.py -/
set_option maxRecDepth 100000
theorem b_X1_expire_0 {s0 : zE} {d : Nat} {x0 : Nat} {x1 : Nat} {h : zH} {Q : Value → zH → Prop} {E : Nat → zH → Prop} (H : (fC h x1 19) ∧ (∀ h1, h1 = zput h x1 10 (.long (9223372036854775807)) → ((fR h1 x1 [19] 4) ∧ ((fC h1 (gR h1 x1 4) 2047 ∧ zX s0 m_J9_values d [zr (gR h1 x1 4)] h1 (fun v1 h2 => ∃ n1 : Nat, v1 = zr (n1) ∧ ((fC h2 n1 2068 ∧ zX s0 m_J48_iterator d [zr n1] h2 (fun v2 h3 => ∃ n2 : Nat, v2 = zr (n2) ∧ (zP s0 m_X1_expire (d + 1) 20 [some (zr (x0)), some (zr (x1)), some (zr (n2)), none] [] h3 Q E)) E))) E))))) : zP s0 m_X1_expire (d + 1) 0 [some (zr (x0)), some (zr (x1)), none, none] [] h Q E := by
  refine z_aload_n (M := m_X1_expire) (k := 1) rfl dX1_expire_0 ?_
  refine z_ldc2 (M := m_X1_expire) (v := 9223372036854775807) q4347 dX1_expire_1 ?_
  obtain ⟨g, H⟩ := H
  refine zz_put (M := m_X1_expire) f_X1_918 dX1_expire_4 rfl (fn_19_10) g (ft_19_10) (fun h1 e => ?_)
  have H := H h1 e
  refine z_aload_n (M := m_X1_expire) (k := 1) rfl dX1_expire_7 ?_
  obtain ⟨g, H⟩ := H
  refine z_get (M := m_X1_expire) f_X1_353 dX1_expire_8 g ?_
  obtain ⟨⟨fs9, g⟩, H⟩ := H
  refine z_invV (M := m_X1_expire) (cn := 2047) (a := []) ok_J9_values q3802 q3803 q3804 rfl dX1_expire_11 g (Nat.le_refl _) (Nat.zero_le _) rfl H (fun v1 h2 H => ?_) (fun n9 h9 H => zPx.out rfl H)
  obtain ⟨n1, rfl, H⟩ := H
  show zP s0 m_X1_expire (d + 1) _ _ [zr (n1)] _ _ _
  obtain ⟨⟨fs9, g⟩, H⟩ := H
  refine z_invF (M := m_X1_expire) (cn := 2068) (a := []) ok_J48_iterator (by change _ = some 0; decide +kernel) ⟨by decide, by decide⟩ q3817 q3819 q3818 q3833 q3832 q1822 q1657 q3831 rfl dX1_expire_14 g (Nat.le_refl _) (Nat.zero_le _) rfl H (fun v2 h3 H => ?_) (fun n9 h9 H => zPx.out rfl H)
  obtain ⟨n2, rfl, H⟩ := H
  show zP s0 m_X1_expire (d + 1) _ _ [zr (n2)] _ _ _
  refine z_astore_n (M := m_X1_expire) (k := 2) 2 rfl (zlt rfl) (zr_cat _) dX1_expire_19 ?_
  show zP s0 m_X1_expire (d + 1) _ [some (zr (x0)), some (zr (x1)), some (zr (n2)), none] _ _ _ _
  exact H
theorem c_X1_expire {s0 : zE} {d : Nat} {x0 : Nat} {x1 : Nat} {h : zH} {Q : Value → zH → Prop} {E : Nat → zH → Prop} (H : (fC h x1 19) ∧ (∀ h1, h1 = zput h x1 10 (.long (9223372036854775807)) → ((fR h1 x1 [19] 4) ∧ ((fC h1 (gR h1 x1 4) 2047 ∧ zX s0 m_J9_values d [zr (gR h1 x1 4)] h1 (fun v1 h2 => ∃ n1 : Nat, v1 = zr (n1) ∧ ((fC h2 n1 2068 ∧ zX s0 m_J48_iterator d [zr n1] h2 (fun v2 h3 => ∃ n2 : Nat, v2 = zr (n2) ∧ (zP s0 m_X1_expire (d + 1) 20 [some (zr (x0)), some (zr (x1)), some (zr (n2)), none] [] h3 Q E)) E))) E))))) : zX s0 m_X1_expire (d + 1) [zr (x0), zr (x1)] h Q E := zX.of2 rfl (by decide +kernel) (zlay_r (zlay_r (zlay_n (znoneS (znoneS znone0))))) (zle rfl) (b_X1_expire_0 H)
theorem b_X1_expire_20 {s0 : zE} {d : Nat} {x0 : Nat} {x1 : Nat} {x2 : Nat} {h : zH} {Q : Value → zH → Prop} {E : Nat → zH → Prop} (H : (fC h x2 2058 ∧ zX s0 m_J31_hasNext d [zr x2] h (fun v1 h1 => ∃ r1 : Int32, v1 = .int (r1) ∧ ((r1 = 0 → (Q .null h1)) ∧ (¬ r1 = 0 → ((fC h1 x2 2058 ∧ zX s0 m_J33_next d [zr x2] h1 (fun v2 h2 => ∃ n1 : Nat, v2 = zr (n1) ∧ ((n1 = 0 ∨ zCast h2 n1 "RelayHall$Message") ∧ ((fC h2 x1 19 ∧ zX s0 m_X21_dueOf d [zr x1, zr (n1)] h2 (fun v3 h3 => ∃ r2 : Int64, v3 = .long (r2) ∧ ((fI h3 x0 [0] 11) ∧ ((lg_cmp r2 ((gI h3 x0 11).toInt64) ≤ 0 → ((fC h3 x2 2058 ∧ zX s0 m_J31_remove d [zr x2] h3 (fun _ h4 => ((fC h4 x0 0 ∧ zX s0 m_X1_leave d [zr x0, zr (x1), zr (n1)] h4 (fun _ h5 => ((fC h5 x0 0 ∧ zX s0 m_X1_bury d [zr x0, zr (x1), zr (n1)] h5 (fun _ h6 => (zP s0 m_X1_expire (d + 1) 20 [some (zr (x0)), some (zr (x1)), some (zr (x2)), none] [] h6 Q E)) E))) E))) E))) ∧ (¬ lg_cmp r2 ((gI h3 x0 11).toInt64) ≤ 0 → ((fJ h3 x1 [19] 10) ∧ ((fC h3 x1 19 ∧ zX s0 m_X21_dueOf d [zr x1, zr (n1)] h3 (fun v7 h7 => ∃ r3 : Int64, v7 = .long (r3) ∧ (zX s0 m_J16_min_2 d [.long (gJ h3 x1 10), .long (r3)] h7 (fun v8 h8 => ∃ r4 : Int64, v8 = .long (r4) ∧ ((fC h8 x1 19) ∧ (∀ h9, h9 = zput h8 x1 10 (.long (r4)) → (zP s0 m_X1_expire (d + 1) 20 [some (zr (x0)), some (zr (x1)), some (zr (x2)), none] [] h9 Q E)))) E)) E))))))) E)))) E))))) E)) : zP s0 m_X1_expire (d + 1) 20 [some (zr (x0)), some (zr (x1)), some (zr (x2)), none] [] h Q E := by
  refine z_aload_n (M := m_X1_expire) (k := 2) rfl dX1_expire_20 ?_
  obtain ⟨⟨fs9, g⟩, H⟩ := H
  refine z_invF (M := m_X1_expire) (cn := 2058) (a := []) ok_J31_hasNext (by change _ = some 0; decide +kernel) ⟨by decide, by decide⟩ q1849 q1674 q1673 q1700 q1704 q1702 q1699 q1703 rfl dX1_expire_21 g (Nat.le_refl _) (Nat.zero_le _) rfl H (fun v1 h1 H => ?_) (fun n9 h9 H => zPx.out rfl H)
  obtain ⟨r1, rfl, H⟩ := H
  show zP s0 m_X1_expire (d + 1) _ _ [.int (r1)] _ _ _
  refine z_ifeq (M := m_X1_expire) 93 rfl dX1_expire_26 (fun hc => ?_) (fun hc => ?_)
  · have H := H.1 hc
    exact z_return (M := m_X1_expire) rfl dX1_expire_93 H
  · have H := H.2 hc
    refine z_aload_n (M := m_X1_expire) (k := 2) rfl dX1_expire_29 ?_
    obtain ⟨⟨fs9, g⟩, H⟩ := H
    refine z_invF (M := m_X1_expire) (cn := 2058) (a := []) ok_J33_next (by change _ = some 0; decide +kernel) ⟨by decide, by decide⟩ q1851 q1709 q1708 q1799 q1797 q1702 q1798 q1796 rfl dX1_expire_30 g (Nat.le_refl _) (Nat.zero_le _) rfl H (fun v2 h2 H => ?_) (fun n9 h9 H => zPx.out rfl H)
    obtain ⟨n1, rfl, H⟩ := H
    show zP s0 m_X1_expire (d + 1) _ _ [zr (n1)] _ _ _
    obtain ⟨g, H⟩ := H
    refine z_checkcast (M := m_X1_expire) q3948 dX1_expire_35 g ?_
    refine z_astore_n (M := m_X1_expire) (k := 3) 3 rfl (zlt rfl) (zr_cat _) dX1_expire_38 ?_
    show zP s0 m_X1_expire (d + 1) _ [some (zr (x0)), some (zr (x1)), some (zr (x2)), some (zr (n1))] _ _ _ _
    refine z_aload_n (M := m_X1_expire) (k := 1) rfl dX1_expire_39 ?_
    refine z_aload_n (M := m_X1_expire) (k := 3) rfl dX1_expire_40 ?_
    obtain ⟨⟨fs9, g⟩, H⟩ := H
    refine z_invV (M := m_X1_expire) (cn := 19) (a := [zr (n1)]) ok_X21_dueOf q4348 q2758 q2759 rfl dX1_expire_41 g (Nat.le_refl _) (Nat.zero_le _) rfl H (fun v3 h3 H => ?_) (fun n9 h9 H => zPx.out rfl H)
    obtain ⟨r2, rfl, H⟩ := H
    show zP s0 m_X1_expire (d + 1) _ _ [.long (r2)] _ _ _
    refine z_aload_n (M := m_X1_expire) (k := 0) rfl dX1_expire_44 ?_
    obtain ⟨g, H⟩ := H
    refine z_get (M := m_X1_expire) f_X1_91 dX1_expire_45 g ?_
    refine z_i2l (M := m_X1_expire) dX1_expire_48 ?_
    refine z_lcmp (M := m_X1_expire) dX1_expire_49 ?_
    refine z_ifle (M := m_X1_expire) 72 rfl dX1_expire_50 (fun hc => ?_) (fun hc => ?_)
    · have H := H.1 hc
      refine z_aload_n (M := m_X1_expire) (k := 2) rfl dX1_expire_72 ?_
      obtain ⟨⟨fs9, g⟩, H⟩ := H
      refine z_invF (M := m_X1_expire) (cn := 2058) (a := []) ok_J31_remove (by change _ = some 0; decide +kernel) ⟨by decide, by decide⟩ q1854 q1856 q1855 q2284 q2319 q1702 q2283 q2318 rfl dX1_expire_73 g (Nat.le_refl _) (Nat.zero_le _) rfl H (fun v4 h4 H => ?_) (fun n9 h9 H => zPx.out rfl H)
      show zP s0 m_X1_expire (d + 1) _ _ [] _ _ _
      refine z_aload_n (M := m_X1_expire) (k := 0) rfl dX1_expire_78 ?_
      refine z_aload_n (M := m_X1_expire) (k := 1) rfl dX1_expire_79 ?_
      refine z_aload_n (M := m_X1_expire) (k := 3) rfl dX1_expire_80 ?_
      obtain ⟨⟨fs9, g⟩, H⟩ := H
      refine z_invV (M := m_X1_expire) (cn := 0) (a := [zr (x1), zr (n1)]) ok_X1_leave q2795 q2797 qs29 rfl dX1_expire_81 g (Nat.le_refl _) (Nat.zero_le _) rfl H (fun v5 h5 H => ?_) (fun n9 h9 H => zPx.out rfl H)
      show zP s0 m_X1_expire (d + 1) _ _ [] _ _ _
      refine z_aload_n (M := m_X1_expire) (k := 0) rfl dX1_expire_84 ?_
      refine z_aload_n (M := m_X1_expire) (k := 1) rfl dX1_expire_85 ?_
      refine z_aload_n (M := m_X1_expire) (k := 3) rfl dX1_expire_86 ?_
      obtain ⟨⟨fs9, g⟩, H⟩ := H
      refine z_invV (M := m_X1_expire) (cn := 0) (a := [zr (x1), zr (n1)]) ok_X1_bury q2812 q2814 qs30 rfl dX1_expire_87 g (Nat.le_refl _) (Nat.zero_le _) rfl H (fun v6 h6 H => ?_) (fun n9 h9 H => zPx.out rfl H)
      show zP s0 m_X1_expire (d + 1) _ _ [] _ _ _
      refine z_goto (M := m_X1_expire) 20 rfl dX1_expire_90 ?_
      exact zP.weak (ls' := [some (zr (x0)), some (zr (x1)), some (zr (x2)), none]) (zle rfl) (zsub_so (zsub_so (zsub_so (zsub_no zsub_nil)))) H
    · have H := H.2 hc
      refine z_aload_n (M := m_X1_expire) (k := 1) rfl dX1_expire_53 ?_
      refine z_aload_n (M := m_X1_expire) (k := 1) rfl dX1_expire_54 ?_
      obtain ⟨g, H⟩ := H
      refine z_get (M := m_X1_expire) f_X1_918 dX1_expire_55 g ?_
      refine z_aload_n (M := m_X1_expire) (k := 1) rfl dX1_expire_58 ?_
      refine z_aload_n (M := m_X1_expire) (k := 3) rfl dX1_expire_59 ?_
      obtain ⟨⟨fs9, g⟩, H⟩ := H
      refine z_invV (M := m_X1_expire) (cn := 19) (a := [zr (n1)]) ok_X21_dueOf q4348 q2758 q2759 rfl dX1_expire_60 g (Nat.le_refl _) (Nat.le_trans (zcatj (zcatr zcat0)) (zle rfl)) rfl H (fun v7 h7 H => ?_) (fun n9 h9 H => zPx.out rfl H)
      obtain ⟨r3, rfl, H⟩ := H
      show zP s0 m_X1_expire (d + 1) _ _ [.long (r3), .long (gJ h3 x1 10), zr (x1)] _ _ _
      refine z_invS (M := m_X1_expire) (a := [.long (gJ h3 x1 10), .long (r3)]) ok_J16_min_2 q4349 q2768 dX1_expire_63 (Nat.le_refl _) (Nat.le_trans (zcatr zcat0) (zle rfl)) rfl H (fun v8 h8 H => ?_) (fun n9 h9 H => zPx.out rfl H)
      obtain ⟨r4, rfl, H⟩ := H
      show zP s0 m_X1_expire (d + 1) _ _ [.long (r4), zr (x1)] _ _ _
      obtain ⟨g, H⟩ := H
      refine zz_put (M := m_X1_expire) f_X1_918 dX1_expire_66 rfl (fn_19_10) g (ft_19_10) (fun h9 e => ?_)
      have H := H h9 e
      refine z_goto (M := m_X1_expire) 20 rfl dX1_expire_69 ?_
      exact zP.weak (ls' := [some (zr (x0)), some (zr (x1)), some (zr (x2)), none]) (zle rfl) (zsub_so (zsub_so (zsub_so (zsub_no zsub_nil)))) H
theorem b_X1_gone_0 {s0 : zE} {d : Nat} {x0 : Nat} {x1 : Nat} {x2 : Int32} {h : zH} {Q : Value → zH → Prop} {E : Nat → zH → Prop} (H : (fI h x1 [6] 2) ∧ ((¬ gI h x1 2 = 1 → (zP s0 m_X1_gone (d + 1) 13 [some (zr (x0)), some (zr (x1)), some (.int (x2)), none, none] [.int (0)] h Q E)) ∧ (gI h x1 2 = 1 → (zP s0 m_X1_gone (d + 1) 13 [some (zr (x0)), some (zr (x1)), some (.int (x2)), none, none] [.int (1)] h Q E)))) : zP s0 m_X1_gone (d + 1) 0 [some (zr (x0)), some (zr (x1)), some (.int (x2)), none, none] [] h Q E := by
  refine z_aload_n (M := m_X1_gone) (k := 1) rfl dX1_gone_0 ?_
  obtain ⟨g, H⟩ := H
  refine z_get (M := m_X1_gone) f_X1_157 dX1_gone_1 g ?_
  refine z_iconst (M := m_X1_gone) (v := 1) (by decide) dX1_gone_4 ?_
  refine z_icmpne (M := m_X1_gone) 12 rfl dX1_gone_5 (fun hc => ?_) (fun hc => ?_)
  · have H := H.1 hc
    refine z_iconst (M := m_X1_gone) (v := 0) (by decide) dX1_gone_12 ?_
    exact H
  · have H := H.2 hc
    refine z_iconst (M := m_X1_gone) (v := 1) (by decide) dX1_gone_8 ?_
    refine z_goto (M := m_X1_gone) 13 rfl dX1_gone_9 ?_
    exact H
theorem c_X1_gone {s0 : zE} {d : Nat} {x0 : Nat} {x1 : Nat} {x2 : Int32} {h : zH} {Q : Value → zH → Prop} {E : Nat → zH → Prop} (H : (fI h x1 [6] 2) ∧ ((¬ gI h x1 2 = 1 → (zP s0 m_X1_gone (d + 1) 13 [some (zr (x0)), some (zr (x1)), some (.int (x2)), none, none] [.int (0)] h Q E)) ∧ (gI h x1 2 = 1 → (zP s0 m_X1_gone (d + 1) 13 [some (zr (x0)), some (zr (x1)), some (.int (x2)), none, none] [.int (1)] h Q E)))) : zX s0 m_X1_gone (d + 1) [zr (x0), zr (x1), .int (x2)] h Q E := zX.of2 rfl (by decide +kernel) (zlay_r (zlay_r (zlay_i (zlay_n (znoneS (znoneS znone0)))))) (zle rfl) (b_X1_gone_0 H)
theorem b_X1_gone_13 {s0 : zE} {d : Nat} {x0 : Nat} {x1 : Nat} {x2 : Int32} {t0 : Int32} {h : zH} {Q : Value → zH → Prop} {E : Nat → zH → Prop} (H : (fC h x1 6) ∧ (∀ h1, h1 = zput h x1 2 (.int (x2)) → ((¬ t0 = 0 → ((fC h1 x1 6) ∧ (∀ h2, h2 = zput h1 x1 10 (.int (0)) → ((fC h2 x1 6) ∧ (∀ h3, h3 = zput h2 x1 13 (zr (0)) → ((fR h3 x1 [6] 17) ∧ ((fC h3 (gR h3 x1 17) 2044 ∧ zX s0 m_J5_clear d [zr (gR h3 x1 17)] h3 (fun _ h4 => ((fR h4 x1 [6] 18) ∧ ((fC h4 (gR h4 x1 18) 2044 ∧ zX s0 m_J5_clear d [zr (gR h4 x1 18)] h4 (fun _ h5 => (zP s0 m_X1_gone (d + 1) 48 [some (zr (x0)), some (zr (x1)), none, none, none] [] h5 Q E)) E)))) E)))))))) ∧ (t0 = 0 → (Q .null h1))))) : zP s0 m_X1_gone (d + 1) 13 [some (zr (x0)), some (zr (x1)), some (.int (x2)), none, none] [.int (t0)] h Q E := by
  refine z_istore_n (M := m_X1_gone) (k := 3) 3 rfl (zlt rfl) rfl dX1_gone_13 ?_
  show zP s0 m_X1_gone (d + 1) _ [some (zr (x0)), some (zr (x1)), some (.int (x2)), some (.int (t0)), none] _ _ _ _
  refine z_aload_n (M := m_X1_gone) (k := 1) rfl dX1_gone_14 ?_
  refine z_iload_n (M := m_X1_gone) (k := 2) rfl dX1_gone_15 ?_
  obtain ⟨g, H⟩ := H
  refine zz_put (M := m_X1_gone) f_X1_157 dX1_gone_16 rfl (fn_6_2) g (ft_6_2) (fun h1 e => ?_)
  have H := H h1 e
  refine z_iload_n (M := m_X1_gone) (k := 3) rfl dX1_gone_19 ?_
  refine z_ifne (M := m_X1_gone) 24 rfl dX1_gone_20 (fun hc => ?_) (fun hc => ?_)
  · have H := H.1 hc
    refine z_aload_n (M := m_X1_gone) (k := 1) rfl dX1_gone_24 ?_
    refine z_iconst (M := m_X1_gone) (v := 0) (by decide) dX1_gone_25 ?_
    obtain ⟨g, H⟩ := H
    refine zz_put (M := m_X1_gone) f_X1_158 dX1_gone_26 rfl (fn_6_10) g (ft_6_10 (Or.inl rfl)) (fun h2 e => ?_)
    have H := H h2 e
    refine z_aload_n (M := m_X1_gone) (k := 1) rfl dX1_gone_29 ?_
    refine z_null (M := m_X1_gone) dX1_gone_30 ?_
    obtain ⟨g, H⟩ := H
    refine zz_put (M := m_X1_gone) f_X1_161 dX1_gone_31 rfl (fn_6_13) g (ft_6_13) (fun h3 e => ?_)
    have H := H h3 e
    refine z_aload_n (M := m_X1_gone) (k := 1) rfl dX1_gone_34 ?_
    obtain ⟨g, H⟩ := H
    refine z_get (M := m_X1_gone) f_X1_165 dX1_gone_35 g ?_
    obtain ⟨⟨fs9, g⟩, H⟩ := H
    refine z_invV (M := m_X1_gone) (cn := 2044) (a := []) ok_J5_clear q895 q896 q897 rfl dX1_gone_38 g (Nat.le_refl _) (Nat.zero_le _) rfl H (fun v1 h4 H => ?_) (fun n9 h9 H => zPx.out rfl H)
    show zP s0 m_X1_gone (d + 1) _ _ [] _ _ _
    refine z_aload_n (M := m_X1_gone) (k := 1) rfl dX1_gone_41 ?_
    obtain ⟨g, H⟩ := H
    refine z_get (M := m_X1_gone) f_X1_169 dX1_gone_42 g ?_
    obtain ⟨⟨fs9, g⟩, H⟩ := H
    refine z_invV (M := m_X1_gone) (cn := 2044) (a := []) ok_J5_clear q895 q896 q897 rfl dX1_gone_45 g (Nat.le_refl _) (Nat.zero_le _) rfl H (fun v2 h5 H => ?_) (fun n9 h9 H => zPx.out rfl H)
    show zP s0 m_X1_gone (d + 1) _ _ [] _ _ _
    exact zP.weak (ls' := [some (zr (x0)), some (zr (x1)), none, none, none]) (zle rfl) (zsub_so (zsub_so (zsub_no (zsub_no (zsub_no zsub_nil))))) H
  · have H := H.2 hc
    exact z_return (M := m_X1_gone) rfl dX1_gone_23 H
theorem b_X1_gone_48 {s0 : zE} {d : Nat} {x0 : Nat} {x1 : Nat} {h : zH} {Q : Value → zH → Prop} {E : Nat → zH → Prop} (H : (fR h x1 [6] 16) ∧ ((fC h (gR h x1 16) 2044 ∧ zX s0 m_J5_isEmpty d [zr (gR h x1 16)] h (fun v1 h1 => ∃ r1 : Int32, v1 = .int (r1) ∧ ((¬ r1 = 0 → (zP s0 m_X1_gone (d + 1) 76 [some (zr (x0)), some (zr (x1)), none, none, none] [] h1 Q E)) ∧ (r1 = 0 → ((fR h1 x1 [6] 16) ∧ ((fC h1 (gR h1 x1 16) 2044 ∧ zX s0 m_J5_get d [zr (gR h1 x1 16), .int (0)] h1 (fun v2 h2 => ∃ n1 : Nat, v2 = zr (n1) ∧ ((n1 = 0 ∨ zCast h2 n1 "RelayHall$Consumer") ∧ ((fC h2 x0 0 ∧ zX s0 m_X1_cancel d [zr x0, zr (n1)] h2 (fun _ h3 => (zP s0 m_X1_gone (d + 1) 48 [some (zr (x0)), some (zr (x1)), none, none, none] [] h3 Q E)) E)))) E)))))) E))) : zP s0 m_X1_gone (d + 1) 48 [some (zr (x0)), some (zr (x1)), none, none, none] [] h Q E := by
  refine z_aload_n (M := m_X1_gone) (k := 1) rfl dX1_gone_48 ?_
  obtain ⟨g, H⟩ := H
  refine z_get (M := m_X1_gone) f_X1_172 dX1_gone_49 g ?_
  obtain ⟨⟨fs9, g⟩, H⟩ := H
  refine z_invV (M := m_X1_gone) (cn := 2044) (a := []) ok_J5_isEmpty q899 q900 q901 rfl dX1_gone_52 g (Nat.le_refl _) (Nat.zero_le _) rfl H (fun v1 h1 H => ?_) (fun n9 h9 H => zPx.out rfl H)
  obtain ⟨r1, rfl, H⟩ := H
  show zP s0 m_X1_gone (d + 1) _ _ [.int (r1)] _ _ _
  refine z_ifne (M := m_X1_gone) 76 rfl dX1_gone_55 (fun hc => ?_) (fun hc => ?_)
  · have H := H.1 hc
    exact H
  · have H := H.2 hc
    refine z_aload_n (M := m_X1_gone) (k := 0) rfl dX1_gone_58 ?_
    refine z_aload_n (M := m_X1_gone) (k := 1) rfl dX1_gone_59 ?_
    obtain ⟨g, H⟩ := H
    refine z_get (M := m_X1_gone) f_X1_172 dX1_gone_60 g ?_
    refine z_iconst (M := m_X1_gone) (v := 0) (by decide) dX1_gone_63 ?_
    obtain ⟨⟨fs9, g⟩, H⟩ := H
    refine z_invV (M := m_X1_gone) (cn := 2044) (a := [.int (0)]) ok_J5_get q903 q904 q905 rfl dX1_gone_64 g (Nat.le_refl _) (Nat.le_trans (zcatr zcat0) (zle rfl)) rfl H (fun v2 h2 H => ?_) (fun n9 h9 H => zPx.out rfl H)
    obtain ⟨n1, rfl, H⟩ := H
    show zP s0 m_X1_gone (d + 1) _ _ [zr (n1), zr (x0)] _ _ _
    obtain ⟨g, H⟩ := H
    refine z_checkcast (M := m_X1_gone) q917 dX1_gone_67 g ?_
    obtain ⟨⟨fs9, g⟩, H⟩ := H
    refine z_invV (M := m_X1_gone) (cn := 0) (a := [zr (n1)]) ok_X1_cancel q918 q920 qs7 rfl dX1_gone_70 g (Nat.le_refl _) (Nat.zero_le _) rfl H (fun v3 h3 H => ?_) (fun n9 h9 H => zPx.out rfl H)
    show zP s0 m_X1_gone (d + 1) _ _ [] _ _ _
    refine z_goto (M := m_X1_gone) 48 rfl dX1_gone_73 ?_
    exact H
theorem b_X1_gone_76 {s0 : zE} {d : Nat} {x0 : Nat} {x1 : Nat} {h : zH} {Q : Value → zH → Prop} {E : Nat → zH → Prop} (H : (fR h x1 [6] 15) ∧ ((fC h (gR h x1 15) 2047 ∧ zX s0 m_J0_isEmpty d [zr (gR h x1 15)] h (fun v1 h1 => ∃ r1 : Int32, v1 = .int (r1) ∧ ((¬ r1 = 0 → (Q .null h1)) ∧ (r1 = 0 → ((fR h1 x1 [6] 15) ∧ ((fC h1 (gR h1 x1 15) 2047 ∧ zX s0 m_J9_firstEntry d [zr (gR h1 x1 15)] h1 (fun v2 h2 => ∃ n1 : Nat, v2 = zr (n1) ∧ ((fC h2 n1 2066 ∧ zX s0 m_J45_getValue d [zr n1] h2 (fun v3 h3 => ∃ n2 : Nat, v3 = zr (n2) ∧ ((n2 = 0 ∨ zCast h3 n2 "RelayHall$Unacked") ∧ ((fC h3 x1 6 ∧ zX s0 m_X7_settle d [zr x1, zr (n2)] h3 (fun _ h4 => ((fR h4 n2 [26] 2) ∧ ((fR h4 n2 [26] 1) ∧ ((fC h4 x0 0 ∧ zX s0 m_X1_requeue d [zr x0, zr (gR h4 n2 2), zr (gR h4 n2 1)] h4 (fun _ h5 => (zP s0 m_X1_gone (d + 1) 76 [some (zr (x0)), some (zr (x1)), none, none, none] [] h5 Q E)) E))))) E)))) E))) E)))))) E))) : zP s0 m_X1_gone (d + 1) 76 [some (zr (x0)), some (zr (x1)), none, none, none] [] h Q E := by
  refine z_aload_n (M := m_X1_gone) (k := 1) rfl dX1_gone_76 ?_
  obtain ⟨g, H⟩ := H
  refine z_get (M := m_X1_gone) f_X1_185 dX1_gone_77 g ?_
  obtain ⟨⟨fs9, g⟩, H⟩ := H
  refine z_invU (M := m_X1_gone) (cn := 2047) (a := []) ok_J0_isEmpty (by change _ = some 0; decide +kernel) q2558 q2559 ⟨by decide, by decide⟩ (Or.inl rfl) q2562 q2561 rfl dX1_gone_80 g (Nat.le_refl _) (Nat.zero_le _) rfl H (fun v1 h1 H => ?_) (fun n9 h9 H => zPx.out rfl H)
  obtain ⟨r1, rfl, H⟩ := H
  show zP s0 m_X1_gone (d + 1) _ _ [.int (r1)] _ _ _
  refine z_ifne (M := m_X1_gone) 126 rfl dX1_gone_83 (fun hc => ?_) (fun hc => ?_)
  · have H := H.1 hc
    exact z_return (M := m_X1_gone) rfl dX1_gone_126 H
  · have H := H.2 hc
    refine z_aload_n (M := m_X1_gone) (k := 1) rfl dX1_gone_86 ?_
    obtain ⟨g, H⟩ := H
    refine z_get (M := m_X1_gone) f_X1_185 dX1_gone_87 g ?_
    obtain ⟨⟨fs9, g⟩, H⟩ := H
    refine z_invV (M := m_X1_gone) (cn := 2047) (a := []) ok_J9_firstEntry q2572 q2573 q2574 rfl dX1_gone_90 g (Nat.le_refl _) (Nat.zero_le _) rfl H (fun v2 h2 H => ?_) (fun n9 h9 H => zPx.out rfl H)
    obtain ⟨n1, rfl, H⟩ := H
    show zP s0 m_X1_gone (d + 1) _ _ [zr (n1)] _ _ _
    obtain ⟨⟨fs9, g⟩, H⟩ := H
    refine z_invF (M := m_X1_gone) (cn := 2066) (a := []) ok_J45_getValue (by change _ = some 0; decide +kernel) ⟨by decide, by decide⟩ q2645 q2617 q2616 q2621 q2619 q2590 q2620 q2618 rfl dX1_gone_93 g (Nat.le_refl _) (Nat.zero_le _) rfl H (fun v3 h3 H => ?_) (fun n9 h9 H => zPx.out rfl H)
    obtain ⟨n2, rfl, H⟩ := H
    show zP s0 m_X1_gone (d + 1) _ _ [zr (n2)] _ _ _
    obtain ⟨g, H⟩ := H
    refine z_checkcast (M := m_X1_gone) q2646 dX1_gone_98 g ?_
    refine z_astore (M := m_X1_gone) 4 (zlt rfl) trivial dX1_gone_101 ?_
    show zP s0 m_X1_gone (d + 1) _ [some (zr (x0)), some (zr (x1)), none, none, some (zr (n2))] _ _ _ _
    refine z_aload_n (M := m_X1_gone) (k := 1) rfl dX1_gone_103 ?_
    refine z_aload (M := m_X1_gone) (i := 4) rfl dX1_gone_104 ?_
    obtain ⟨⟨fs9, g⟩, H⟩ := H
    refine z_invV (M := m_X1_gone) (cn := 6) (a := [zr (n2)]) ok_X7_settle q2647 q2648 q2649 rfl dX1_gone_106 g (Nat.le_refl _) (Nat.zero_le _) rfl H (fun v4 h4 H => ?_) (fun n9 h9 H => zPx.out rfl H)
    show zP s0 m_X1_gone (d + 1) _ _ [] _ _ _
    refine z_aload_n (M := m_X1_gone) (k := 0) rfl dX1_gone_109 ?_
    refine z_aload (M := m_X1_gone) (i := 4) rfl dX1_gone_110 ?_
    obtain ⟨g, H⟩ := H
    refine z_get (M := m_X1_gone) f_X1_208 dX1_gone_112 g ?_
    refine z_aload (M := m_X1_gone) (i := 4) rfl dX1_gone_115 ?_
    obtain ⟨g, H⟩ := H
    refine z_get (M := m_X1_gone) f_X1_212 dX1_gone_117 g ?_
    obtain ⟨⟨fs9, g⟩, H⟩ := H
    refine z_invV (M := m_X1_gone) (cn := 0) (a := [zr (gR h4 n2 2), zr (gR h4 n2 1)]) ok_X1_requeue q2693 q2695 qs23 rfl dX1_gone_120 g (Nat.le_refl _) (Nat.zero_le _) rfl H (fun v5 h5 H => ?_) (fun n9 h9 H => zPx.out rfl H)
    show zP s0 m_X1_gone (d + 1) _ _ [] _ _ _
    refine z_goto (M := m_X1_gone) 76 rfl dX1_gone_123 ?_
    exact zP.weak (ls' := [some (zr (x0)), some (zr (x1)), none, none, none]) (zle rfl) (zsub_so (zsub_so (zsub_no (zsub_no (zsub_no zsub_nil))))) H
theorem b_X1_rebuild_0 {s0 : zE} {d : Nat} {x0 : Nat} {h : zH} {Q : Value → zH → Prop} {E : Nat → zH → Prop} (H : (fR h x0 [0] 4) ∧ ((fR h (gR h x0 4) [1] 1) ∧ ((fC h (gR h (gR h x0 4) 1) 2043 ∧ zX s0 m_J2_values d [zr (gR h (gR h x0 4) 1)] h (fun v1 h1 => ∃ n1 : Nat, v1 = zr (n1) ∧ ((fC h1 n1 2049 ∧ zX s0 m_J17_iterator d [zr n1] h1 (fun v2 h2 => ∃ n2 : Nat, v2 = zr (n2) ∧ (zP s0 m_X1_rebuild (d + 1) 16 [some (zr (x0)), some (zr (n2)), none, none, none, none, none] [] h2 Q E)) E))) E)))) : zP s0 m_X1_rebuild (d + 1) 0 [some (zr (x0)), none, none, none, none, none, none] [] h Q E := by
  refine z_aload_n (M := m_X1_rebuild) (k := 0) rfl dX1_rebuild_0 ?_
  obtain ⟨g, H⟩ := H
  refine z_get (M := m_X1_rebuild) f_X1_39 dX1_rebuild_1 g ?_
  obtain ⟨g, H⟩ := H
  refine z_get (M := m_X1_rebuild) f_X1_955 dX1_rebuild_4 g ?_
  obtain ⟨⟨fs9, g⟩, H⟩ := H
  refine z_invV (M := m_X1_rebuild) (cn := 2043) (a := []) ok_J2_values q1202 q1203 q1204 rfl dX1_rebuild_7 g (Nat.le_refl _) (Nat.zero_le _) rfl H (fun v1 h1 H => ?_) (fun n9 h9 H => zPx.out rfl H)
  obtain ⟨n1, rfl, H⟩ := H
  show zP s0 m_X1_rebuild (d + 1) _ _ [zr (n1)] _ _ _
  obtain ⟨⟨fs9, g⟩, H⟩ := H
  refine z_invF (M := m_X1_rebuild) (cn := 2049) (a := []) ok_J17_iterator (by change _ = some 0; decide +kernel) ⟨by decide, by decide⟩ q3817 q3819 q3818 q3829 q3828 q1808 q1613 q3827 rfl dX1_rebuild_10 g (Nat.le_refl _) (Nat.zero_le _) rfl H (fun v2 h2 H => ?_) (fun n9 h9 H => zPx.out rfl H)
  obtain ⟨n2, rfl, H⟩ := H
  show zP s0 m_X1_rebuild (d + 1) _ _ [zr (n2)] _ _ _
  refine z_astore_n (M := m_X1_rebuild) (k := 1) 1 rfl (zlt rfl) (zr_cat _) dX1_rebuild_15 ?_
  show zP s0 m_X1_rebuild (d + 1) _ [some (zr (x0)), some (zr (n2)), none, none, none, none, none] _ _ _ _
  exact H
theorem c_X1_rebuild {s0 : zE} {d : Nat} {x0 : Nat} {h : zH} {Q : Value → zH → Prop} {E : Nat → zH → Prop} (H : (fR h x0 [0] 4) ∧ ((fR h (gR h x0 4) [1] 1) ∧ ((fC h (gR h (gR h x0 4) 1) 2043 ∧ zX s0 m_J2_values d [zr (gR h (gR h x0 4) 1)] h (fun v1 h1 => ∃ n1 : Nat, v1 = zr (n1) ∧ ((fC h1 n1 2049 ∧ zX s0 m_J17_iterator d [zr n1] h1 (fun v2 h2 => ∃ n2 : Nat, v2 = zr (n2) ∧ (zP s0 m_X1_rebuild (d + 1) 16 [some (zr (x0)), some (zr (n2)), none, none, none, none, none] [] h2 Q E)) E))) E)))) : zX s0 m_X1_rebuild (d + 1) [zr (x0)] h Q E := zX.of2 rfl (by decide +kernel) (zlay_r (zlay_n (znoneS (znoneS (znoneS (znoneS (znoneS (znoneS znone0)))))))) (zle rfl) (b_X1_rebuild_0 H)
theorem b_X1_rebuild_16 {s0 : zE} {d : Nat} {x0 : Nat} {x1 : Nat} {h : zH} {Q : Value → zH → Prop} {E : Nat → zH → Prop} (H : (fC h x1 2056 ∧ zX s0 m_J28_hasNext d [zr x1] h (fun v1 h1 => ∃ r1 : Int32, v1 = .int (r1) ∧ ((r1 = 0 → ((fR h1 x0 [0] 4) ∧ ((fR h1 (gR h1 x0 4) [1] 2) ∧ ((fC h1 (gR h1 (gR h1 x0 4) 2) 2043 ∧ zX s0 m_J2_values d [zr (gR h1 (gR h1 x0 4) 2)] h1 (fun v2 h2 => ∃ n1 : Nat, v2 = zr (n1) ∧ ((fC h2 n1 2049 ∧ zX s0 m_J17_iterator d [zr n1] h2 (fun v3 h3 => ∃ n2 : Nat, v3 = zr (n2) ∧ (zP s0 m_X1_rebuild (d + 1) 89 [some (zr (x0)), some (zr (n2)), none, none, none, none, none] [] h3 Q E)) E))) E))))) ∧ (¬ r1 = 0 → ((fC h1 x1 2056 ∧ zX s0 m_J30_next d [zr x1] h1 (fun v4 h4 => ∃ n3 : Nat, v4 = zr (n3) ∧ ((n3 = 0 ∨ zCast h4 n3 "RelayHall$Exchange") ∧ ((fR h4 x0 [0] 1) ∧ ((fR h4 n3 [16] 0) ∧ ((zroom s0 h4 5) ∧ (∀ n4, n4 = h4.2.1 → (∀ h5, h5 = znew h4 16 [zr 0, zr 0, .int 0, zr 0, zr 0] 5 → ((fR h5 n3 [16] 0) ∧ ((fR h5 n3 [16] 1) ∧ ((fI h5 n3 [16] 2) ∧ ((fR h5 n3 [16] 3) ∧ ((∃ c, fC h5 n4 c) ∧ (zX s0 m_X18_init d [zr n4, zr (gR h5 n3 0), zr (gR h5 n3 1), .int (gI h5 n3 2), zr (gR h5 n3 3)] h5 (fun _ h6 => ((fC h6 (gR h4 x0 1) 2043 ∧ zX s0 m_J1_put d [zr (gR h4 x0 1), zr (gR h4 n3 0), zr (n4)] h6 (fun v6 h7 => ∃ n5 : Nat, v6 = zr (n5) ∧ (zP s0 m_X1_rebuild (d + 1) 16 [some (zr (x0)), some (zr (x1)), none, none, none, none, none] [] h7 Q E)) E))) E))))))))))))) E))))) E)) : zP s0 m_X1_rebuild (d + 1) 16 [some (zr (x0)), some (zr (x1)), none, none, none, none, none] [] h Q E := by
  refine z_aload_n (M := m_X1_rebuild) (k := 1) rfl dX1_rebuild_16 ?_
  obtain ⟨⟨fs9, g⟩, H⟩ := H
  refine z_invF (M := m_X1_rebuild) (cn := 2056) (a := []) ok_J28_hasNext (by change _ = some 0; decide +kernel) ⟨by decide, by decide⟩ q1849 q1674 q1673 q1691 q1695 q1693 q1690 q1694 rfl dX1_rebuild_17 g (Nat.le_refl _) (Nat.zero_le _) rfl H (fun v1 h1 H => ?_) (fun n9 h9 H => zPx.out rfl H)
  obtain ⟨r1, rfl, H⟩ := H
  show zP s0 m_X1_rebuild (d + 1) _ _ [.int (r1)] _ _ _
  refine z_ifeq (M := m_X1_rebuild) 73 rfl dX1_rebuild_22 (fun hc => ?_) (fun hc => ?_)
  · have H := H.1 hc
    refine z_aload_n (M := m_X1_rebuild) (k := 0) rfl dX1_rebuild_73 ?_
    obtain ⟨g, H⟩ := H
    refine z_get (M := m_X1_rebuild) f_X1_39 dX1_rebuild_74 g ?_
    obtain ⟨g, H⟩ := H
    refine z_get (M := m_X1_rebuild) f_X1_956 dX1_rebuild_77 g ?_
    obtain ⟨⟨fs9, g⟩, H⟩ := H
    refine z_invV (M := m_X1_rebuild) (cn := 2043) (a := []) ok_J2_values q1202 q1203 q1204 rfl dX1_rebuild_80 g (Nat.le_refl _) (Nat.zero_le _) rfl H (fun v2 h2 H => ?_) (fun n9 h9 H => zPx.out rfl H)
    obtain ⟨n1, rfl, H⟩ := H
    show zP s0 m_X1_rebuild (d + 1) _ _ [zr (n1)] _ _ _
    obtain ⟨⟨fs9, g⟩, H⟩ := H
    refine z_invF (M := m_X1_rebuild) (cn := 2049) (a := []) ok_J17_iterator (by change _ = some 0; decide +kernel) ⟨by decide, by decide⟩ q3817 q3819 q3818 q3829 q3828 q1808 q1613 q3827 rfl dX1_rebuild_83 g (Nat.le_refl _) (Nat.zero_le _) rfl H (fun v3 h3 H => ?_) (fun n9 h9 H => zPx.out rfl H)
    obtain ⟨n2, rfl, H⟩ := H
    show zP s0 m_X1_rebuild (d + 1) _ _ [zr (n2)] _ _ _
    refine z_astore_n (M := m_X1_rebuild) (k := 1) 1 rfl (zlt rfl) (zr_cat _) dX1_rebuild_88 ?_
    show zP s0 m_X1_rebuild (d + 1) _ [some (zr (x0)), some (zr (n2)), none, none, none, none, none] _ _ _ _
    exact H
  · have H := H.2 hc
    refine z_aload_n (M := m_X1_rebuild) (k := 1) rfl dX1_rebuild_25 ?_
    obtain ⟨⟨fs9, g⟩, H⟩ := H
    refine z_invF (M := m_X1_rebuild) (cn := 2056) (a := []) ok_J30_next (by change _ = some 0; decide +kernel) ⟨by decide, by decide⟩ q1851 q1709 q1708 q1771 q1769 q1693 q1770 q1768 rfl dX1_rebuild_26 g (Nat.le_refl _) (Nat.zero_le _) rfl H (fun v4 h4 H => ?_) (fun n9 h9 H => zPx.out rfl H)
    obtain ⟨n3, rfl, H⟩ := H
    show zP s0 m_X1_rebuild (d + 1) _ _ [zr (n3)] _ _ _
    obtain ⟨g, H⟩ := H
    refine z_checkcast (M := m_X1_rebuild) q1842 dX1_rebuild_31 g ?_
    refine z_astore_n (M := m_X1_rebuild) (k := 2) 2 rfl (zlt rfl) (zr_cat _) dX1_rebuild_34 ?_
    show zP s0 m_X1_rebuild (d + 1) _ [some (zr (x0)), some (zr (x1)), some (zr (n3)), none, none, none, none] _ _ _ _
    refine z_aload_n (M := m_X1_rebuild) (k := 0) rfl dX1_rebuild_35 ?_
    obtain ⟨g, H⟩ := H
    refine z_get (M := m_X1_rebuild) f_X1_18 dX1_rebuild_36 g ?_
    refine z_aload_n (M := m_X1_rebuild) (k := 2) rfl dX1_rebuild_39 ?_
    obtain ⟨g, H⟩ := H
    refine z_get (M := m_X1_rebuild) f_X1_415 dX1_rebuild_40 g ?_
    obtain ⟨g, H⟩ := H
    refine zz_new (M := m_X1_rebuild) (fs := [zr 0, zr 0, .int 0, zr 0, zr 0]) (w := 5) (c := 16) rfl q1842 q3203 rfl znf_X18 dX1_rebuild_43 g (fun n4 e1 h5 e2 => ?_)
    have H := H n4 e1 h5 e2
    refine z_dup (M := m_X1_rebuild) (zr_cat _) dX1_rebuild_46 ?_
    refine z_aload_n (M := m_X1_rebuild) (k := 2) rfl dX1_rebuild_47 ?_
    obtain ⟨g, H⟩ := H
    refine z_get (M := m_X1_rebuild) f_X1_415 dX1_rebuild_48 g ?_
    refine z_aload_n (M := m_X1_rebuild) (k := 2) rfl dX1_rebuild_51 ?_
    obtain ⟨g, H⟩ := H
    refine z_get (M := m_X1_rebuild) f_X1_724 dX1_rebuild_52 g ?_
    refine z_aload_n (M := m_X1_rebuild) (k := 2) rfl dX1_rebuild_55 ?_
    obtain ⟨g, H⟩ := H
    refine z_get (M := m_X1_rebuild) f_X1_728 dX1_rebuild_56 g ?_
    refine z_aload_n (M := m_X1_rebuild) (k := 2) rfl dX1_rebuild_59 ?_
    obtain ⟨g, H⟩ := H
    refine z_get (M := m_X1_rebuild) f_X1_445 dX1_rebuild_60 g ?_
    obtain ⟨⟨c9, g⟩, H⟩ := H
    refine zz_invI (M := m_X1_rebuild) (a := [zr (gR h5 n3 0), zr (gR h5 n3 1), .int (gI h5 n3 2), zr (gR h5 n3 3)]) ok_X18_init rfl rfl q3204 q3205 dX1_rebuild_63 g (Nat.le_trans (zcatr (zcatr (zcatr zcat0))) (zle rfl)) rfl H (fun v5 h6 H => ?_) (fun n9 h9 H => zPx.out rfl H)
    obtain ⟨⟨fs9, g⟩, H⟩ := H
    refine z_invU (M := m_X1_rebuild) (cn := 2043) (a := [zr (gR h4 n3 0), zr (n4)]) ok_J1_put (by change _ = some 2; decide +kernel) q3240 q3033 ⟨by decide, by decide⟩ (Or.inl rfl) q3036 q3035 rfl dX1_rebuild_66 g (Nat.le_refl _) (Nat.zero_le _) rfl H (fun v6 h7 H => ?_) (fun n9 h9 H => zPx.out rfl H)
    obtain ⟨n5, rfl, H⟩ := H
    show zP s0 m_X1_rebuild (d + 1) _ _ [zr (n5)] _ _ _
    refine z_pop (M := m_X1_rebuild) (zr_cat _) dX1_rebuild_69 ?_
    refine z_goto (M := m_X1_rebuild) 16 rfl dX1_rebuild_70 ?_
    exact zP.weak (ls' := [some (zr (x0)), some (zr (x1)), none, none, none, none, none]) (zle rfl) (zsub_so (zsub_so (zsub_no (zsub_no (zsub_no (zsub_no (zsub_no zsub_nil))))))) H
theorem b_X1_rebuild_89 {s0 : zE} {d : Nat} {x0 : Nat} {x1 : Nat} {h : zH} {Q : Value → zH → Prop} {E : Nat → zH → Prop} (H : (fC h x1 2056 ∧ zX s0 m_J28_hasNext d [zr x1] h (fun v1 h1 => ∃ r1 : Int32, v1 = .int (r1) ∧ ((r1 = 0 → (zP s0 m_X1_rebuild (d + 1) 246 [some (zr (x0)), some (.int (0)), none, none, none, none, none] [] h1 Q E)) ∧ (¬ r1 = 0 → ((fC h1 x1 2056 ∧ zX s0 m_J30_next d [zr x1] h1 (fun v2 h2 => ∃ n1 : Nat, v2 = zr (n1) ∧ ((n1 = 0 ∨ zCast h2 n1 "RelayHall$SafeQueue") ∧ ((zroom s0 h2 11) ∧ (∀ n2, n2 = h2.2.1 → (∀ h3, h3 = znew h2 19 [zr 0, .int 0, zr 0, zr 0, zr 0, zr 0, zr 0, .int 0, .int 0, .int 0, .long 0] 11 → ((fR h3 n1 [42] 0) ∧ ((fR h3 (gR h3 n1 0) [19] 0) ∧ ((fR h3 n1 [42] 0) ∧ ((fI h3 (gR h3 n1 0) [19] 1) ∧ ((fR h3 n1 [42] 0) ∧ ((fR h3 (gR h3 n1 0) [19] 3) ∧ ((∃ c, fC h3 n2 c) ∧ (zX s0 m_X21_init d [zr n2, zr (gR h3 (gR h3 n1 0) 0), .int (gI h3 (gR h3 n1 0) 1), zr (0), zr (gR h3 (gR h3 n1 0) 3)] h3 (fun _ h4 => ((fR h4 x0 [0] 2) ∧ ((fC h4 (gR h4 x0 2) 2044 ∧ zX s0 m_J5_add d [zr (gR h4 x0 2), zr (n2)] h4 (fun v4 h5 => ∃ r2 : Int32, v4 = .int (r2) ∧ ((fR h5 n1 [42] 1) ∧ ((fC h5 (gR h5 n1 1) 2047 ∧ zX s0 m_J9_values d [zr (gR h5 n1 1)] h5 (fun v5 h6 => ∃ n3 : Nat, v5 = zr (n3) ∧ ((fC h6 n3 2068 ∧ zX s0 m_J48_iterator d [zr n3] h6 (fun v6 h7 => ∃ n4 : Nat, v6 = zr (n4) ∧ (zP s0 m_X1_rebuild (d + 1) 161 [some (zr (x0)), some (zr (x1)), none, some (zr (n2)), some (zr (n4)), none, none] [] h7 Q E)) E))) E)))) E)))) E))))))))))))) E))))) E)) : zP s0 m_X1_rebuild (d + 1) 89 [some (zr (x0)), some (zr (x1)), none, none, none, none, none] [] h Q E := by
  refine z_aload_n (M := m_X1_rebuild) (k := 1) rfl dX1_rebuild_89 ?_
  obtain ⟨⟨fs9, g⟩, H⟩ := H
  refine z_invF (M := m_X1_rebuild) (cn := 2056) (a := []) ok_J28_hasNext (by change _ = some 0; decide +kernel) ⟨by decide, by decide⟩ q1849 q1674 q1673 q1691 q1695 q1693 q1690 q1694 rfl dX1_rebuild_90 g (Nat.le_refl _) (Nat.zero_le _) rfl H (fun v1 h1 H => ?_) (fun n9 h9 H => zPx.out rfl H)
  obtain ⟨r1, rfl, H⟩ := H
  show zP s0 m_X1_rebuild (d + 1) _ _ [.int (r1)] _ _ _
  refine z_ifeq (M := m_X1_rebuild) 244 rfl dX1_rebuild_95 (fun hc => ?_) (fun hc => ?_)
  · have H := H.1 hc
    refine z_iconst (M := m_X1_rebuild) (v := 0) (by decide) dX1_rebuild_244 ?_
    refine z_istore_n (M := m_X1_rebuild) (k := 1) 1 rfl (zlt rfl) (zr_cat _) dX1_rebuild_245 ?_
    show zP s0 m_X1_rebuild (d + 1) _ [some (zr (x0)), some (.int (0)), none, none, none, none, none] _ _ _ _
    exact H
  · have H := H.2 hc
    refine z_aload_n (M := m_X1_rebuild) (k := 1) rfl dX1_rebuild_98 ?_
    obtain ⟨⟨fs9, g⟩, H⟩ := H
    refine z_invF (M := m_X1_rebuild) (cn := 2056) (a := []) ok_J30_next (by change _ = some 0; decide +kernel) ⟨by decide, by decide⟩ q1851 q1709 q1708 q1771 q1769 q1693 q1770 q1768 rfl dX1_rebuild_99 g (Nat.le_refl _) (Nat.zero_le _) rfl H (fun v2 h2 H => ?_) (fun n9 h9 H => zPx.out rfl H)
    obtain ⟨n1, rfl, H⟩ := H
    show zP s0 m_X1_rebuild (d + 1) _ _ [zr (n1)] _ _ _
    obtain ⟨g, H⟩ := H
    refine z_checkcast (M := m_X1_rebuild) q4387 dX1_rebuild_104 g ?_
    refine z_astore_n (M := m_X1_rebuild) (k := 2) 2 rfl (zlt rfl) (zr_cat _) dX1_rebuild_107 ?_
    show zP s0 m_X1_rebuild (d + 1) _ [some (zr (x0)), some (zr (x1)), some (zr (n1)), none, none, none, none] _ _ _ _
    obtain ⟨g, H⟩ := H
    refine zz_new (M := m_X1_rebuild) (fs := [zr 0, .int 0, zr 0, zr 0, zr 0, zr 0, zr 0, .int 0, .int 0, .int 0, .long 0]) (w := 11) (c := 19) rfl q2838 q3336 rfl znf_X21 dX1_rebuild_108 g (fun n2 e1 h3 e2 => ?_)
    have H := H n2 e1 h3 e2
    refine z_dup (M := m_X1_rebuild) (zr_cat _) dX1_rebuild_111 ?_
    refine z_aload_n (M := m_X1_rebuild) (k := 2) rfl dX1_rebuild_112 ?_
    obtain ⟨g, H⟩ := H
    refine z_get (M := m_X1_rebuild) f_X1_960 dX1_rebuild_113 g ?_
    obtain ⟨g, H⟩ := H
    refine z_get (M := m_X1_rebuild) f_X1_236 dX1_rebuild_116 g ?_
    refine z_aload_n (M := m_X1_rebuild) (k := 2) rfl dX1_rebuild_119 ?_
    obtain ⟨g, H⟩ := H
    refine z_get (M := m_X1_rebuild) f_X1_960 dX1_rebuild_120 g ?_
    obtain ⟨g, H⟩ := H
    refine z_get (M := m_X1_rebuild) f_X1_797 dX1_rebuild_123 g ?_
    refine z_null (M := m_X1_rebuild) dX1_rebuild_126 ?_
    refine z_aload_n (M := m_X1_rebuild) (k := 2) rfl dX1_rebuild_127 ?_
    obtain ⟨g, H⟩ := H
    refine z_get (M := m_X1_rebuild) f_X1_960 dX1_rebuild_128 g ?_
    obtain ⟨g, H⟩ := H
    refine z_get (M := m_X1_rebuild) f_X1_273 dX1_rebuild_131 g ?_
    obtain ⟨⟨c9, g⟩, H⟩ := H
    refine zz_invI (M := m_X1_rebuild) (a := [zr (gR h3 (gR h3 n1 0) 0), .int (gI h3 (gR h3 n1 0) 1), zr (0), zr (gR h3 (gR h3 n1 0) 3)]) ok_X21_init rfl rfl q3337 q3338 dX1_rebuild_134 g (Nat.le_trans (zcatr zcat0) (zle rfl)) rfl H (fun v3 h4 H => ?_) (fun n9 h9 H => zPx.out rfl H)
    refine z_astore_n (M := m_X1_rebuild) (k := 3) 3 rfl (zlt rfl) (zr_cat _) dX1_rebuild_137 ?_
    show zP s0 m_X1_rebuild (d + 1) _ [some (zr (x0)), some (zr (x1)), some (zr (n1)), some (zr (n2)), none, none, none] _ _ _ _
    refine z_aload_n (M := m_X1_rebuild) (k := 0) rfl dX1_rebuild_138 ?_
    obtain ⟨g, H⟩ := H
    refine z_get (M := m_X1_rebuild) f_X1_25 dX1_rebuild_139 g ?_
    refine z_aload_n (M := m_X1_rebuild) (k := 3) rfl dX1_rebuild_142 ?_
    obtain ⟨⟨fs9, g⟩, H⟩ := H
    refine z_invV (M := m_X1_rebuild) (cn := 2044) (a := [zr (n2)]) ok_J5_add q3391 q3392 q3393 rfl dX1_rebuild_143 g (Nat.le_refl _) (Nat.zero_le _) rfl H (fun v4 h5 H => ?_) (fun n9 h9 H => zPx.out rfl H)
    obtain ⟨r2, rfl, H⟩ := H
    show zP s0 m_X1_rebuild (d + 1) _ _ [.int (r2)] _ _ _
    refine z_pop (M := m_X1_rebuild) rfl dX1_rebuild_146 ?_
    refine z_aload_n (M := m_X1_rebuild) (k := 2) rfl dX1_rebuild_147 ?_
    obtain ⟨g, H⟩ := H
    refine z_get (M := m_X1_rebuild) f_X1_961 dX1_rebuild_148 g ?_
    obtain ⟨⟨fs9, g⟩, H⟩ := H
    refine z_invV (M := m_X1_rebuild) (cn := 2047) (a := []) ok_J9_values q3802 q3803 q3804 rfl dX1_rebuild_151 g (Nat.le_refl _) (Nat.zero_le _) rfl H (fun v5 h6 H => ?_) (fun n9 h9 H => zPx.out rfl H)
    obtain ⟨n3, rfl, H⟩ := H
    show zP s0 m_X1_rebuild (d + 1) _ _ [zr (n3)] _ _ _
    obtain ⟨⟨fs9, g⟩, H⟩ := H
    refine z_invF (M := m_X1_rebuild) (cn := 2068) (a := []) ok_J48_iterator (by change _ = some 0; decide +kernel) ⟨by decide, by decide⟩ q3817 q3819 q3818 q3833 q3832 q1822 q1657 q3831 rfl dX1_rebuild_154 g (Nat.le_refl _) (Nat.zero_le _) rfl H (fun v6 h7 H => ?_) (fun n9 h9 H => zPx.out rfl H)
    obtain ⟨n4, rfl, H⟩ := H
    show zP s0 m_X1_rebuild (d + 1) _ _ [zr (n4)] _ _ _
    refine z_astore (M := m_X1_rebuild) 4 (zlt rfl) (zr_cat _) dX1_rebuild_159 ?_
    show zP s0 m_X1_rebuild (d + 1) _ [some (zr (x0)), some (zr (x1)), some (zr (n1)), some (zr (n2)), some (zr (n4)), none, none] _ _ _ _
    exact zP.weak (ls' := [some (zr (x0)), some (zr (x1)), none, some (zr (n2)), some (zr (n4)), none, none]) (zle rfl) (zsub_so (zsub_so (zsub_no (zsub_so (zsub_so (zsub_no (zsub_no zsub_nil))))))) H
theorem b_X1_rebuild_161 {s0 : zE} {d : Nat} {x0 : Nat} {x1 : Nat} {x3 : Nat} {x4 : Nat} {h : zH} {Q : Value → zH → Prop} {E : Nat → zH → Prop} (H : (fC h x4 2058 ∧ zX s0 m_J31_hasNext d [zr x4] h (fun v1 h1 => ∃ r1 : Int32, v1 = .int (r1) ∧ ((r1 = 0 → (zP s0 m_X1_rebuild (d + 1) 89 [some (zr (x0)), some (zr (x1)), none, none, none, none, none] [] h1 Q E)) ∧ (¬ r1 = 0 → ((fC h1 x4 2058 ∧ zX s0 m_J33_next d [zr x4] h1 (fun v2 h2 => ∃ n1 : Nat, v2 = zr (n1) ∧ ((n1 = 0 ∨ zCast h2 n1 "RelayHall$Message") ∧ ((zroom s0 h2 6) ∧ (∀ n2, n2 = h2.2.1 → (∀ h3, h3 = znew h2 28 [zr 0, .int 0, .int 0, .int 0, .int 0, .int 0] 6 → ((fR h3 n1 [28] 0) ∧ ((fI h3 n1 [28] 1) ∧ ((fI h3 n1 [28] 2) ∧ ((fI h3 n1 [28] 3) ∧ ((fI h3 x0 [0] 11) ∧ ((∃ c, fC h3 n2 c) ∧ (zX s0 m_X31_init d [zr n2, zr (gR h3 n1 0), .int (gI h3 n1 1), .int (gI h3 n1 2), .int (gI h3 n1 3), .int (gI h3 x0 11)] h3 (fun _ h4 => ((fC h4 n2 28) ∧ (∀ h5, h5 = zput h4 n2 5 (.int (1)) → ((fC h5 x3 19 ∧ zX s0 m_X21_add d [zr x3, zr (n2)] h5 (fun _ h6 => ((fI h6 x0 [0] 14) ∧ ((fC h6 x0 0) ∧ (∀ h7, h7 = zput h6 x0 14 (.int ((gI h6 x0 14) + 1)) → (zP s0 m_X1_rebuild (d + 1) 161 [some (zr (x0)), some (zr (x1)), none, some (zr (x3)), some (zr (x4)), none, none] [] h7 Q E))))) E))))) E)))))))))))) E))))) E)) : zP s0 m_X1_rebuild (d + 1) 161 [some (zr (x0)), some (zr (x1)), none, some (zr (x3)), some (zr (x4)), none, none] [] h Q E := by
  refine z_aload (M := m_X1_rebuild) (i := 4) rfl dX1_rebuild_161 ?_
  obtain ⟨⟨fs9, g⟩, H⟩ := H
  refine z_invF (M := m_X1_rebuild) (cn := 2058) (a := []) ok_J31_hasNext (by change _ = some 0; decide +kernel) ⟨by decide, by decide⟩ q1849 q1674 q1673 q1700 q1704 q1702 q1699 q1703 rfl dX1_rebuild_163 g (Nat.le_refl _) (Nat.zero_le _) rfl H (fun v1 h1 H => ?_) (fun n9 h9 H => zPx.out rfl H)
  obtain ⟨r1, rfl, H⟩ := H
  show zP s0 m_X1_rebuild (d + 1) _ _ [.int (r1)] _ _ _
  refine z_ifeq (M := m_X1_rebuild) 241 rfl dX1_rebuild_168 (fun hc => ?_) (fun hc => ?_)
  · have H := H.1 hc
    refine z_goto (M := m_X1_rebuild) 89 rfl dX1_rebuild_241 ?_
    exact zP.weak (ls' := [some (zr (x0)), some (zr (x1)), none, none, none, none, none]) (zle rfl) (zsub_so (zsub_so (zsub_no (zsub_no (zsub_no (zsub_no (zsub_no zsub_nil))))))) H
  · have H := H.2 hc
    refine z_aload (M := m_X1_rebuild) (i := 4) rfl dX1_rebuild_171 ?_
    obtain ⟨⟨fs9, g⟩, H⟩ := H
    refine z_invF (M := m_X1_rebuild) (cn := 2058) (a := []) ok_J33_next (by change _ = some 0; decide +kernel) ⟨by decide, by decide⟩ q1851 q1709 q1708 q1799 q1797 q1702 q1798 q1796 rfl dX1_rebuild_173 g (Nat.le_refl _) (Nat.zero_le _) rfl H (fun v2 h2 H => ?_) (fun n9 h9 H => zPx.out rfl H)
    obtain ⟨n1, rfl, H⟩ := H
    show zP s0 m_X1_rebuild (d + 1) _ _ [zr (n1)] _ _ _
    obtain ⟨g, H⟩ := H
    refine z_checkcast (M := m_X1_rebuild) q3948 dX1_rebuild_178 g ?_
    refine z_astore (M := m_X1_rebuild) 5 (zlt rfl) (zr_cat _) dX1_rebuild_181 ?_
    show zP s0 m_X1_rebuild (d + 1) _ [some (zr (x0)), some (zr (x1)), none, some (zr (x3)), some (zr (x4)), some (zr (n1)), none] _ _ _ _
    obtain ⟨g, H⟩ := H
    refine zz_new (M := m_X1_rebuild) (fs := [zr 0, .int 0, .int 0, .int 0, .int 0, .int 0]) (w := 6) (c := 28) rfl q3948 q3949 rfl znf_X31 dX1_rebuild_183 g (fun n2 e1 h3 e2 => ?_)
    have H := H n2 e1 h3 e2
    refine z_dup (M := m_X1_rebuild) (zr_cat _) dX1_rebuild_186 ?_
    refine z_aload (M := m_X1_rebuild) (i := 5) rfl dX1_rebuild_187 ?_
    obtain ⟨g, H⟩ := H
    refine z_get (M := m_X1_rebuild) f_X1_249 dX1_rebuild_189 g ?_
    refine z_aload (M := m_X1_rebuild) (i := 5) rfl dX1_rebuild_192 ?_
    obtain ⟨g, H⟩ := H
    refine z_get (M := m_X1_rebuild) f_X1_262 dX1_rebuild_194 g ?_
    refine z_aload (M := m_X1_rebuild) (i := 5) rfl dX1_rebuild_197 ?_
    obtain ⟨g, H⟩ := H
    refine z_get (M := m_X1_rebuild) f_X1_963 dX1_rebuild_199 g ?_
    refine z_aload (M := m_X1_rebuild) (i := 5) rfl dX1_rebuild_202 ?_
    obtain ⟨g, H⟩ := H
    refine z_get (M := m_X1_rebuild) f_X1_283 dX1_rebuild_204 g ?_
    refine z_aload_n (M := m_X1_rebuild) (k := 0) rfl dX1_rebuild_207 ?_
    obtain ⟨g, H⟩ := H
    refine z_get (M := m_X1_rebuild) f_X1_91 dX1_rebuild_208 g ?_
    obtain ⟨⟨c9, g⟩, H⟩ := H
    refine zz_invI (M := m_X1_rebuild) (a := [zr (gR h3 n1 0), .int (gI h3 n1 1), .int (gI h3 n1 2), .int (gI h3 n1 3), .int (gI h3 x0 11)]) ok_X31_init rfl rfl q3959 q3960 dX1_rebuild_211 g (Nat.le_trans (zcatr zcat0) (zle rfl)) rfl H (fun v3 h4 H => ?_) (fun n9 h9 H => zPx.out rfl H)
    refine z_astore (M := m_X1_rebuild) 6 (zlt rfl) (zr_cat _) dX1_rebuild_214 ?_
    show zP s0 m_X1_rebuild (d + 1) _ [some (zr (x0)), some (zr (x1)), none, some (zr (x3)), some (zr (x4)), some (zr (n1)), some (zr (n2))] _ _ _ _
    refine z_aload (M := m_X1_rebuild) (i := 6) rfl dX1_rebuild_216 ?_
    refine z_iconst (M := m_X1_rebuild) (v := 1) (by decide) dX1_rebuild_218 ?_
    obtain ⟨g, H⟩ := H
    refine zz_put (M := m_X1_rebuild) f_X1_328 dX1_rebuild_219 rfl (fn_28_5) g (ft_28_5 (Or.inr rfl)) (fun h5 e => ?_)
    have H := H h5 e
    refine z_aload_n (M := m_X1_rebuild) (k := 3) rfl dX1_rebuild_222 ?_
    refine z_aload (M := m_X1_rebuild) (i := 6) rfl dX1_rebuild_223 ?_
    obtain ⟨⟨fs9, g⟩, H⟩ := H
    refine z_invV (M := m_X1_rebuild) (cn := 19) (a := [zr (n2)]) ok_X21_add q2697 q2698 q2699 rfl dX1_rebuild_225 g (Nat.le_refl _) (Nat.zero_le _) rfl H (fun v4 h6 H => ?_) (fun n9 h9 H => zPx.out rfl H)
    show zP s0 m_X1_rebuild (d + 1) _ _ [] _ _ _
    refine z_aload_n (M := m_X1_rebuild) (k := 0) rfl dX1_rebuild_228 ?_
    refine z_dup (M := m_X1_rebuild) (zr_cat _) dX1_rebuild_229 ?_
    obtain ⟨g, H⟩ := H
    refine z_get (M := m_X1_rebuild) f_X1_246 dX1_rebuild_230 g ?_
    refine z_iconst (M := m_X1_rebuild) (v := 1) (by decide) dX1_rebuild_233 ?_
    refine z_iadd (M := m_X1_rebuild) dX1_rebuild_234 ?_
    obtain ⟨g, H⟩ := H
    refine zz_put (M := m_X1_rebuild) f_X1_246 dX1_rebuild_235 rfl (fn_0_14) g (ft_0_14) (fun h7 e => ?_)
    have H := H h7 e
    refine z_goto (M := m_X1_rebuild) 161 rfl dX1_rebuild_238 ?_
    exact zP.weak (ls' := [some (zr (x0)), some (zr (x1)), none, some (zr (x3)), some (zr (x4)), none, none]) (zle rfl) (zsub_so (zsub_so (zsub_no (zsub_so (zsub_so (zsub_no (zsub_no zsub_nil))))))) H
theorem b_X1_rebuild_246 {s0 : zE} {d : Nat} {x0 : Nat} {x1 : Int32} {h : zH} {Q : Value → zH → Prop} {E : Nat → zH → Prop} (H : (fR h x0 [0] 4) ∧ ((fR h (gR h x0 4) [1] 3) ∧ ((fC h (gR h (gR h x0 4) 3) 2044 ∧ zX s0 m_J5_size d [zr (gR h (gR h x0 4) 3)] h (fun v1 h1 => ∃ r1 : Int32, v1 = .int (r1) ∧ ((r1 ≤ x1 → (Q .null h1)) ∧ (¬ r1 ≤ x1 → ((fR h1 x0 [0] 4) ∧ ((fR h1 (gR h1 x0 4) [1] 3) ∧ ((fC h1 (gR h1 (gR h1 x0 4) 3) 2044 ∧ zX s0 m_J5_get d [zr (gR h1 (gR h1 x0 4) 3), .int (x1)] h1 (fun v2 h2 => ∃ n1 : Nat, v2 = zr (n1) ∧ ((n1 = 0 ∨ zCast h2 n1 "RelayHall$Bound") ∧ ((fR h2 x0 [0] 1) ∧ ((fC h2 n1 22 ∧ zX s0 m_X24_exchange d [zr n1] h2 (fun v3 h3 => ∃ n2 : Nat, v3 = zr (n2) ∧ ((fC h3 (gR h2 x0 1) 2043 ∧ zX s0 m_J2_get d [zr (gR h2 x0 1), zr (n2)] h3 (fun v4 h4 => ∃ n3 : Nat, v4 = zr (n3) ∧ ((n3 = 0 ∨ zCast h4 n3 "RelayHall$Exchange") ∧ ((fC h4 n1 22 ∧ zX s0 m_X24_queue d [zr n1] h4 (fun v5 h5 => ∃ n4 : Nat, v5 = zr (n4) ∧ ((fC h5 x0 0 ∧ zX s0 m_X1_find d [zr x0, zr (n4)] h5 (fun v6 h6 => ∃ n5 : Nat, v6 = zr (n5) ∧ ((fR h6 n3 [16] 4) ∧ ((zroom s0 h6 5) ∧ (∀ n6, n6 = h6.2.1 → (∀ h7, h7 = znew h6 21 [zr 0, zr 0, zr 0, zr 0, zr 0] 5 → ((fC h7 n1 22 ∧ zX s0 m_X24_key d [zr n1] h7 (fun v7 h8 => ∃ n7 : Nat, v7 = zr (n7) ∧ ((fC h8 n1 22 ∧ zX s0 m_X24_table d [zr n1] h8 (fun v8 h9 => ∃ n8 : Nat, v8 = zr (n8) ∧ ((∃ c, fC h9 n6 c) ∧ (zX s0 m_X23_init d [zr n6, zr (n3), zr (n5), zr (n7), zr (n8)] h9 (fun _ h10 => ((fC h10 (gR h6 n3 4) 2044 ∧ zX s0 m_J5_add d [zr (gR h6 n3 4), zr (n6)] h10 (fun v10 h11 => ∃ r2 : Int32, v10 = .int (r2) ∧ ((fI h11 n5 [19] 8) ∧ ((fC h11 n5 19) ∧ (∀ h12, h12 = zput h11 n5 8 (.int ((gI h11 n5 8) + 1)) → ((fI h12 x0 [0] 13) ∧ ((fC h12 x0 0) ∧ (∀ h13, h13 = zput h12 x0 13 (.int ((gI h12 x0 13) + 1)) → (zP s0 m_X1_rebuild (d + 1) 246 [some (zr (x0)), some (.int (x1 + 1)), none, none, none, none, none] [] h13 Q E)))))))) E))) E))) E))) E))))))) E))) E)))) E))) E))))) E))))))) E)))) : zP s0 m_X1_rebuild (d + 1) 246 [some (zr (x0)), some (.int (x1)), none, none, none, none, none] [] h Q E := by
  refine z_iload_n (M := m_X1_rebuild) (k := 1) rfl dX1_rebuild_246 ?_
  refine z_aload_n (M := m_X1_rebuild) (k := 0) rfl dX1_rebuild_247 ?_
  obtain ⟨g, H⟩ := H
  refine z_get (M := m_X1_rebuild) f_X1_39 dX1_rebuild_248 g ?_
  obtain ⟨g, H⟩ := H
  refine z_get (M := m_X1_rebuild) f_X1_965 dX1_rebuild_251 g ?_
  obtain ⟨⟨fs9, g⟩, H⟩ := H
  refine z_invV (M := m_X1_rebuild) (cn := 2044) (a := []) ok_J5_size q1841 q1519 q5664 rfl dX1_rebuild_254 g (Nat.le_refl _) (Nat.le_trans (zcati zcat0) (zle rfl)) rfl H (fun v1 h1 H => ?_) (fun n9 h9 H => zPx.out rfl H)
  obtain ⟨r1, rfl, H⟩ := H
  show zP s0 m_X1_rebuild (d + 1) _ _ [.int (r1), .int (x1)] _ _ _
  refine z_icmpge (M := m_X1_rebuild) 353 rfl dX1_rebuild_257 (fun hc => ?_) (fun hc => ?_)
  · have H := H.1 hc
    exact z_return (M := m_X1_rebuild) rfl dX1_rebuild_353 H
  · have H := H.2 hc
    refine z_aload_n (M := m_X1_rebuild) (k := 0) rfl dX1_rebuild_260 ?_
    obtain ⟨g, H⟩ := H
    refine z_get (M := m_X1_rebuild) f_X1_39 dX1_rebuild_261 g ?_
    obtain ⟨g, H⟩ := H
    refine z_get (M := m_X1_rebuild) f_X1_965 dX1_rebuild_264 g ?_
    refine z_iload_n (M := m_X1_rebuild) (k := 1) rfl dX1_rebuild_267 ?_
    obtain ⟨⟨fs9, g⟩, H⟩ := H
    refine z_invV (M := m_X1_rebuild) (cn := 2044) (a := [.int (x1)]) ok_J5_get q903 q904 q905 rfl dX1_rebuild_268 g (Nat.le_refl _) (Nat.zero_le _) rfl H (fun v2 h2 H => ?_) (fun n9 h9 H => zPx.out rfl H)
    obtain ⟨n1, rfl, H⟩ := H
    show zP s0 m_X1_rebuild (d + 1) _ _ [zr (n1)] _ _ _
    obtain ⟨g, H⟩ := H
    refine z_checkcast (M := m_X1_rebuild) q3594 dX1_rebuild_271 g ?_
    refine z_astore_n (M := m_X1_rebuild) (k := 2) 2 rfl (zlt rfl) rfl dX1_rebuild_274 ?_
    show zP s0 m_X1_rebuild (d + 1) _ [some (zr (x0)), some (.int (x1)), some (zr (n1)), none, none, none, none] _ _ _ _
    refine z_aload_n (M := m_X1_rebuild) (k := 0) rfl dX1_rebuild_275 ?_
    obtain ⟨g, H⟩ := H
    refine z_get (M := m_X1_rebuild) f_X1_18 dX1_rebuild_276 g ?_
    refine z_aload_n (M := m_X1_rebuild) (k := 2) rfl dX1_rebuild_279 ?_
    obtain ⟨⟨fs9, g⟩, H⟩ := H
    refine z_invV (M := m_X1_rebuild) (cn := 22) (a := []) ok_X24_exchange q4388 q4256 q4257 rfl dX1_rebuild_280 g (Nat.le_refl _) (Nat.le_trans (zcatr zcat0) (zle rfl)) rfl H (fun v3 h3 H => ?_) (fun n9 h9 H => zPx.out rfl H)
    obtain ⟨n2, rfl, H⟩ := H
    show zP s0 m_X1_rebuild (d + 1) _ _ [zr (n2), zr (gR h2 x0 1)] _ _ _
    obtain ⟨⟨fs9, g⟩, H⟩ := H
    refine z_invV (M := m_X1_rebuild) (cn := 2043) (a := [zr (n2)]) ok_J2_get q3150 q3151 q3152 rfl dX1_rebuild_283 g (Nat.le_refl _) (Nat.zero_le _) rfl H (fun v4 h4 H => ?_) (fun n9 h9 H => zPx.out rfl H)
    obtain ⟨n3, rfl, H⟩ := H
    show zP s0 m_X1_rebuild (d + 1) _ _ [zr (n3)] _ _ _
    obtain ⟨g, H⟩ := H
    refine z_checkcast (M := m_X1_rebuild) q1842 dX1_rebuild_286 g ?_
    refine z_astore_n (M := m_X1_rebuild) (k := 3) 3 rfl (zlt rfl) (zr_cat _) dX1_rebuild_289 ?_
    show zP s0 m_X1_rebuild (d + 1) _ [some (zr (x0)), some (.int (x1)), some (zr (n1)), some (zr (n3)), none, none, none] _ _ _ _
    refine z_aload_n (M := m_X1_rebuild) (k := 0) rfl dX1_rebuild_290 ?_
    refine z_aload_n (M := m_X1_rebuild) (k := 2) rfl dX1_rebuild_291 ?_
    obtain ⟨⟨fs9, g⟩, H⟩ := H
    refine z_invV (M := m_X1_rebuild) (cn := 22) (a := []) ok_X24_queue q4389 q4295 q4296 rfl dX1_rebuild_292 g (Nat.le_refl _) (Nat.le_trans (zcatr zcat0) (zle rfl)) rfl H (fun v5 h5 H => ?_) (fun n9 h9 H => zPx.out rfl H)
    obtain ⟨n4, rfl, H⟩ := H
    show zP s0 m_X1_rebuild (d + 1) _ _ [zr (n4), zr (x0)] _ _ _
    obtain ⟨⟨fs9, g⟩, H⟩ := H
    refine z_invV (M := m_X1_rebuild) (cn := 0) (a := [zr (n4)]) ok_X1_find q3268 q3270 qs60 rfl dX1_rebuild_295 g (Nat.le_refl _) (Nat.zero_le _) rfl H (fun v6 h6 H => ?_) (fun n9 h9 H => zPx.out rfl H)
    obtain ⟨n5, rfl, H⟩ := H
    show zP s0 m_X1_rebuild (d + 1) _ _ [zr (n5)] _ _ _
    refine z_astore (M := m_X1_rebuild) 4 (zlt rfl) (zr_cat _) dX1_rebuild_298 ?_
    show zP s0 m_X1_rebuild (d + 1) _ [some (zr (x0)), some (.int (x1)), some (zr (n1)), some (zr (n3)), some (zr (n5)), none, none] _ _ _ _
    refine z_aload_n (M := m_X1_rebuild) (k := 3) rfl dX1_rebuild_300 ?_
    obtain ⟨g, H⟩ := H
    refine z_get (M := m_X1_rebuild) f_X1_385 dX1_rebuild_301 g ?_
    obtain ⟨g, H⟩ := H
    refine zz_new (M := m_X1_rebuild) (fs := [zr 0, zr 0, zr 0, zr 0, zr 0]) (w := 5) (c := 21) rfl q1852 q3552 rfl znf_X23 dX1_rebuild_304 g (fun n6 e1 h7 e2 => ?_)
    have H := H n6 e1 h7 e2
    refine z_dup (M := m_X1_rebuild) (zr_cat _) dX1_rebuild_307 ?_
    refine z_aload_n (M := m_X1_rebuild) (k := 3) rfl dX1_rebuild_308 ?_
    refine z_aload (M := m_X1_rebuild) (i := 4) rfl dX1_rebuild_309 ?_
    refine z_aload_n (M := m_X1_rebuild) (k := 2) rfl dX1_rebuild_311 ?_
    obtain ⟨⟨fs9, g⟩, H⟩ := H
    refine z_invV (M := m_X1_rebuild) (cn := 22) (a := []) ok_X24_key q4390 q4391 q4392 rfl dX1_rebuild_312 g (Nat.le_refl _) (Nat.le_trans (zcatr (zcatr (zcatr (zcatr (zcatr zcat0))))) (zle rfl)) rfl H (fun v7 h8 H => ?_) (fun n9 h9 H => zPx.out rfl H)
    obtain ⟨n7, rfl, H⟩ := H
    show zP s0 m_X1_rebuild (d + 1) _ _ [zr (n7), zr (n5), zr (n3), zr (n6), zr (n6), zr (gR h6 n3 4)] _ _ _
    refine z_aload_n (M := m_X1_rebuild) (k := 2) rfl dX1_rebuild_315 ?_
    obtain ⟨⟨fs9, g⟩, H⟩ := H
    refine z_invV (M := m_X1_rebuild) (cn := 22) (a := []) ok_X24_table q4394 q4395 q4396 rfl dX1_rebuild_316 g (Nat.le_refl _) (Nat.le_trans (zcatr (zcatr (zcatr (zcatr (zcatr (zcatr zcat0)))))) (zle rfl)) rfl H (fun v8 h9 H => ?_) (fun n9 h9 H => zPx.out rfl H)
    obtain ⟨n8, rfl, H⟩ := H
    show zP s0 m_X1_rebuild (d + 1) _ _ [zr (n8), zr (n7), zr (n5), zr (n3), zr (n6), zr (n6), zr (gR h6 n3 4)] _ _ _
    obtain ⟨⟨c9, g⟩, H⟩ := H
    refine zz_invI (M := m_X1_rebuild) (a := [zr (n3), zr (n5), zr (n7), zr (n8)]) ok_X23_init rfl rfl q3553 q3554 dX1_rebuild_319 g (Nat.le_trans (zcatr (zcatr zcat0)) (zle rfl)) rfl H (fun v9 h10 H => ?_) (fun n9 h9 H => zPx.out rfl H)
    obtain ⟨⟨fs9, g⟩, H⟩ := H
    refine z_invV (M := m_X1_rebuild) (cn := 2044) (a := [zr (n6)]) ok_J5_add q3391 q3392 q3393 rfl dX1_rebuild_322 g (Nat.le_refl _) (Nat.zero_le _) rfl H (fun v10 h11 H => ?_) (fun n9 h9 H => zPx.out rfl H)
    obtain ⟨r2, rfl, H⟩ := H
    show zP s0 m_X1_rebuild (d + 1) _ _ [.int (r2)] _ _ _
    refine z_pop (M := m_X1_rebuild) rfl dX1_rebuild_325 ?_
    refine z_aload (M := m_X1_rebuild) (i := 4) rfl dX1_rebuild_326 ?_
    refine z_dup (M := m_X1_rebuild) (zr_cat _) dX1_rebuild_328 ?_
    obtain ⟨g, H⟩ := H
    refine z_get (M := m_X1_rebuild) f_X1_419 dX1_rebuild_329 g ?_
    refine z_iconst (M := m_X1_rebuild) (v := 1) (by decide) dX1_rebuild_332 ?_
    refine z_iadd (M := m_X1_rebuild) dX1_rebuild_333 ?_
    obtain ⟨g, H⟩ := H
    refine zz_put (M := m_X1_rebuild) f_X1_419 dX1_rebuild_334 rfl (fn_19_8) g (ft_19_8) (fun h12 e => ?_)
    have H := H h12 e
    refine z_aload_n (M := m_X1_rebuild) (k := 0) rfl dX1_rebuild_337 ?_
    refine z_dup (M := m_X1_rebuild) (zr_cat _) dX1_rebuild_338 ?_
    obtain ⟨g, H⟩ := H
    refine z_get (M := m_X1_rebuild) f_X1_405 dX1_rebuild_339 g ?_
    refine z_iconst (M := m_X1_rebuild) (v := 1) (by decide) dX1_rebuild_342 ?_
    refine z_iadd (M := m_X1_rebuild) dX1_rebuild_343 ?_
    obtain ⟨g, H⟩ := H
    refine zz_put (M := m_X1_rebuild) f_X1_405 dX1_rebuild_344 rfl (fn_0_13) g (ft_0_13) (fun h13 e => ?_)
    have H := H h13 e
    refine z_inc (M := m_X1_rebuild) 1 (x1 + 1) 1 (by decide) rfl rfl (zr_cat _) dX1_rebuild_347 ?_
    show zP s0 m_X1_rebuild (d + 1) _ [some (zr (x0)), some (.int (x1 + 1)), some (zr (n1)), some (zr (n3)), some (zr (n5)), none, none] _ _ _ _
    refine z_goto (M := m_X1_rebuild) 246 rfl dX1_rebuild_350 ?_
    exact zP.weak (ls' := [some (zr (x0)), some (.int (x1 + 1)), none, none, none, none, none]) (zle rfl) (zsub_so (zsub_so (zsub_no (zsub_no (zsub_no (zsub_no (zsub_no zsub_nil))))))) H
theorem b_X1_recover_0 {s0 : zE} {d : Nat} {x0 : Nat} {x1 : Nat} {h : zH} {Q : Value → zH → Prop} {E : Nat → zH → Prop} (H : (fR h x0 [0] 6) ∧ ((fC h (gR h x0 6) 3 ∧ zX s0 m_X4_u8 d [zr (gR h x0 6)] h (fun v1 h1 => ∃ r1 : Int32, v1 = .int (r1) ∧ ((fC h1 x0 0 ∧ zX s0 m_X1_done d [zr x0] h1 (fun _ h2 => ((¬ r1 = 0 → ((zroom s0 h2 3) ∧ (∀ n1, n1 = h2.2.1 → (∀ h3, h3 = znew h2 44 [.int 0, zr 0, .int 0] 3 → ((∃ c, fC h3 n1 c) ∧ (zX s0 m_J5_init d [zr n1] h3 (fun _ h4 => ((fR h4 x1 [6] 15) ∧ ((fC h4 (gR h4 x1 15) 2047 ∧ zX s0 m_J9_values d [zr (gR h4 x1 15)] h4 (fun v4 h5 => ∃ n2 : Nat, v4 = zr (n2) ∧ ((fC h5 n2 2068 ∧ zX s0 m_J48_iterator d [zr n2] h5 (fun v5 h6 => ∃ n3 : Nat, v5 = zr (n3) ∧ (zP s0 m_X1_recover (d + 1) 46 [some (zr (x0)), some (zr (x1)), none, some (zr (n1)), some (zr (n3)), none] [] h6 Q E)) E))) E)))) E)))))) ∧ (r1 = 0 → ((fC h2 x0 0 ∧ zX s0 m_X1_hard d [zr x0, .int (540)] h2 (fun v6 h7 => ∃ n4 : Nat, v6 = zr (n4) ∧ ((zExc h7 n4) ∧ ((s0.1.heap.size < n4) ∧ (E n4 h7)))) E))))) E))) E))) : zP s0 m_X1_recover (d + 1) 0 [some (zr (x0)), some (zr (x1)), none, none, none, none] [] h Q E := by
  refine z_aload_n (M := m_X1_recover) (k := 0) rfl dX1_recover_0 ?_
  obtain ⟨g, H⟩ := H
  refine z_get (M := m_X1_recover) f_X1_53 dX1_recover_1 g ?_
  obtain ⟨⟨fs9, g⟩, H⟩ := H
  refine z_invV (M := m_X1_recover) (cn := 3) (a := []) ok_X4_u8 q2847 q2848 q2849 rfl dX1_recover_4 g (Nat.le_refl _) (Nat.zero_le _) rfl H (fun v1 h1 H => ?_) (fun n9 h9 H => zPx.out rfl H)
  obtain ⟨r1, rfl, H⟩ := H
  show zP s0 m_X1_recover (d + 1) _ _ [.int (r1)] _ _ _
  refine z_istore_n (M := m_X1_recover) (k := 2) 2 rfl (zlt rfl) (zr_cat _) dX1_recover_7 ?_
  show zP s0 m_X1_recover (d + 1) _ [some (zr (x0)), some (zr (x1)), some (.int (r1)), none, none, none] _ _ _ _
  refine z_aload_n (M := m_X1_recover) (k := 0) rfl dX1_recover_8 ?_
  obtain ⟨⟨fs9, g⟩, H⟩ := H
  refine z_invV (M := m_X1_recover) (cn := 0) (a := []) ok_X1_done q2959 q2961 qs47 rfl dX1_recover_9 g (Nat.le_refl _) (Nat.zero_le _) rfl H (fun v2 h2 H => ?_) (fun n9 h9 H => zPx.out rfl H)
  show zP s0 m_X1_recover (d + 1) _ _ [] _ _ _
  refine z_iload_n (M := m_X1_recover) (k := 2) rfl dX1_recover_12 ?_
  refine z_ifne (M := m_X1_recover) 24 rfl dX1_recover_13 (fun hc => ?_) (fun hc => ?_)
  · have H := H.1 hc
    obtain ⟨g, H⟩ := H
    refine zz_new (M := m_X1_recover) (fs := [.int 0, zr 0, .int 0]) (w := 3) (c := 44) rfl q413 q414 rfl znf_J5 dX1_recover_24 g (fun n1 e1 h3 e2 => ?_)
    have H := H n1 e1 h3 e2
    refine z_dup (M := m_X1_recover) (zr_cat _) dX1_recover_27 ?_
    obtain ⟨⟨c9, g⟩, H⟩ := H
    refine zz_invI (M := m_X1_recover) (a := []) ok_J5_init rfl rfl q415 q416 dX1_recover_28 g (Nat.le_trans (zcatr zcat0) (zle rfl)) rfl H (fun v3 h4 H => ?_) (fun n9 h9 H => zPx.out rfl H)
    refine z_astore_n (M := m_X1_recover) (k := 3) 3 rfl (zlt rfl) rfl dX1_recover_31 ?_
    show zP s0 m_X1_recover (d + 1) _ [some (zr (x0)), some (zr (x1)), some (.int (r1)), some (zr (n1)), none, none] _ _ _ _
    refine z_aload_n (M := m_X1_recover) (k := 1) rfl dX1_recover_32 ?_
    obtain ⟨g, H⟩ := H
    refine z_get (M := m_X1_recover) f_X1_185 dX1_recover_33 g ?_
    obtain ⟨⟨fs9, g⟩, H⟩ := H
    refine z_invV (M := m_X1_recover) (cn := 2047) (a := []) ok_J9_values q3802 q3803 q3804 rfl dX1_recover_36 g (Nat.le_refl _) (Nat.zero_le _) rfl H (fun v4 h5 H => ?_) (fun n9 h9 H => zPx.out rfl H)
    obtain ⟨n2, rfl, H⟩ := H
    show zP s0 m_X1_recover (d + 1) _ _ [zr (n2)] _ _ _
    obtain ⟨⟨fs9, g⟩, H⟩ := H
    refine z_invF (M := m_X1_recover) (cn := 2068) (a := []) ok_J48_iterator (by change _ = some 0; decide +kernel) ⟨by decide, by decide⟩ q3817 q3819 q3818 q3833 q3832 q1822 q1657 q3831 rfl dX1_recover_39 g (Nat.le_refl _) (Nat.zero_le _) rfl H (fun v5 h6 H => ?_) (fun n9 h9 H => zPx.out rfl H)
    obtain ⟨n3, rfl, H⟩ := H
    show zP s0 m_X1_recover (d + 1) _ _ [zr (n3)] _ _ _
    refine z_astore (M := m_X1_recover) 4 (zlt rfl) (zr_cat _) dX1_recover_44 ?_
    show zP s0 m_X1_recover (d + 1) _ [some (zr (x0)), some (zr (x1)), some (.int (r1)), some (zr (n1)), some (zr (n3)), none] _ _ _ _
    exact zP.weak (ls' := [some (zr (x0)), some (zr (x1)), none, some (zr (n1)), some (zr (n3)), none]) (zle rfl) (zsub_so (zsub_so (zsub_no (zsub_so (zsub_so (zsub_no zsub_nil)))))) H
  · have H := H.2 hc
    refine z_aload_n (M := m_X1_recover) (k := 0) rfl dX1_recover_16 ?_
    refine z_sipush (M := m_X1_recover) (v := 540) (by decide) dX1_recover_17 ?_
    obtain ⟨⟨fs9, g⟩, H⟩ := H
    refine z_invV (M := m_X1_recover) (cn := 0) (a := [.int (540)]) ok_X1_hard q2939 q2941 qs42 rfl dX1_recover_20 g (Nat.le_refl _) (Nat.zero_le _) rfl H (fun v6 h7 H => ?_) (fun n9 h9 H => zPx.out rfl H)
    obtain ⟨n4, rfl, H⟩ := H
    show zP s0 m_X1_recover (d + 1) _ _ [zr (n4)] _ _ _
    obtain ⟨⟨c9, fs9, r9, g1, g2⟩, g3, H⟩ := H
    exact z_athrow (M := m_X1_recover) rfl g1 g2 g3 dX1_recover_23 H
theorem c_X1_recover {s0 : zE} {d : Nat} {x0 : Nat} {x1 : Nat} {h : zH} {Q : Value → zH → Prop} {E : Nat → zH → Prop} (H : (fR h x0 [0] 6) ∧ ((fC h (gR h x0 6) 3 ∧ zX s0 m_X4_u8 d [zr (gR h x0 6)] h (fun v1 h1 => ∃ r1 : Int32, v1 = .int (r1) ∧ ((fC h1 x0 0 ∧ zX s0 m_X1_done d [zr x0] h1 (fun _ h2 => ((¬ r1 = 0 → ((zroom s0 h2 3) ∧ (∀ n1, n1 = h2.2.1 → (∀ h3, h3 = znew h2 44 [.int 0, zr 0, .int 0] 3 → ((∃ c, fC h3 n1 c) ∧ (zX s0 m_J5_init d [zr n1] h3 (fun _ h4 => ((fR h4 x1 [6] 15) ∧ ((fC h4 (gR h4 x1 15) 2047 ∧ zX s0 m_J9_values d [zr (gR h4 x1 15)] h4 (fun v4 h5 => ∃ n2 : Nat, v4 = zr (n2) ∧ ((fC h5 n2 2068 ∧ zX s0 m_J48_iterator d [zr n2] h5 (fun v5 h6 => ∃ n3 : Nat, v5 = zr (n3) ∧ (zP s0 m_X1_recover (d + 1) 46 [some (zr (x0)), some (zr (x1)), none, some (zr (n1)), some (zr (n3)), none] [] h6 Q E)) E))) E)))) E)))))) ∧ (r1 = 0 → ((fC h2 x0 0 ∧ zX s0 m_X1_hard d [zr x0, .int (540)] h2 (fun v6 h7 => ∃ n4 : Nat, v6 = zr (n4) ∧ ((zExc h7 n4) ∧ ((s0.1.heap.size < n4) ∧ (E n4 h7)))) E))))) E))) E))) : zX s0 m_X1_recover (d + 1) [zr (x0), zr (x1)] h Q E := zX.of2 rfl (by decide +kernel) (zlay_r (zlay_r (zlay_n (znoneS (znoneS (znoneS (znoneS znone0))))))) (zle rfl) (b_X1_recover_0 H)
theorem b_X1_recover_46 {s0 : zE} {d : Nat} {x0 : Nat} {x1 : Nat} {x3 : Nat} {x4 : Nat} {h : zH} {Q : Value → zH → Prop} {E : Nat → zH → Prop} (H : (fC h x4 2058 ∧ zX s0 m_J31_hasNext d [zr x4] h (fun v1 h1 => ∃ r1 : Int32, v1 = .int (r1) ∧ ((r1 = 0 → ((fC h1 x0 0 ∧ zX s0 m_X1_settle_2 d [zr x0, zr (x1), zr (x3), .int (1)] h1 (fun _ h2 => ((fC h2 x0 0 ∧ zX s0 m_X1_answer d [zr x0, zr (x1), .int (60), .int (111)] h2 (fun _ h3 => (Q .null h3)) E))) E))) ∧ (¬ r1 = 0 → ((fC h1 x4 2058 ∧ zX s0 m_J33_next d [zr x4] h1 (fun v4 h4 => ∃ n1 : Nat, v4 = zr (n1) ∧ ((n1 = 0 ∨ zCast h4 n1 "RelayHall$Unacked") ∧ ((fI h4 n1 [26] 4) ∧ ((¬ gI h4 n1 4 = 0 → (zP s0 m_X1_recover (d + 1) 46 [some (zr (x0)), some (zr (x1)), none, some (zr (x3)), some (zr (x4)), none] [] h4 Q E)) ∧ (gI h4 n1 4 = 0 → ((fC h4 x3 2044 ∧ zX s0 m_J5_add d [zr x3, zr (n1)] h4 (fun v5 h5 => ∃ r2 : Int32, v5 = .int (r2) ∧ (zP s0 m_X1_recover (d + 1) 46 [some (zr (x0)), some (zr (x1)), none, some (zr (x3)), some (zr (x4)), none] [] h5 Q E)) E))))))) E))))) E)) : zP s0 m_X1_recover (d + 1) 46 [some (zr (x0)), some (zr (x1)), none, some (zr (x3)), some (zr (x4)), none] [] h Q E := by
  refine z_aload (M := m_X1_recover) (i := 4) rfl dX1_recover_46 ?_
  obtain ⟨⟨fs9, g⟩, H⟩ := H
  refine z_invF (M := m_X1_recover) (cn := 2058) (a := []) ok_J31_hasNext (by change _ = some 0; decide +kernel) ⟨by decide, by decide⟩ q1849 q1674 q1673 q1700 q1704 q1702 q1699 q1703 rfl dX1_recover_48 g (Nat.le_refl _) (Nat.zero_le _) rfl H (fun v1 h1 H => ?_) (fun n9 h9 H => zPx.out rfl H)
  obtain ⟨r1, rfl, H⟩ := H
  show zP s0 m_X1_recover (d + 1) _ _ [.int (r1)] _ _ _
  refine z_ifeq (M := m_X1_recover) 86 rfl dX1_recover_53 (fun hc => ?_) (fun hc => ?_)
  · have H := H.1 hc
    refine z_aload_n (M := m_X1_recover) (k := 0) rfl dX1_recover_86 ?_
    refine z_aload_n (M := m_X1_recover) (k := 1) rfl dX1_recover_87 ?_
    refine z_aload_n (M := m_X1_recover) (k := 3) rfl dX1_recover_88 ?_
    refine z_iconst (M := m_X1_recover) (v := 1) (by decide) dX1_recover_89 ?_
    obtain ⟨⟨fs9, g⟩, H⟩ := H
    refine z_invV (M := m_X1_recover) (cn := 0) (a := [zr (x1), zr (x3), .int (1)]) ok_X1_settle_2 q3851 q3853 qs81 rfl dX1_recover_90 g (Nat.le_refl _) (Nat.zero_le _) rfl H (fun v2 h2 H => ?_) (fun n9 h9 H => zPx.out rfl H)
    show zP s0 m_X1_recover (d + 1) _ _ [] _ _ _
    refine z_aload_n (M := m_X1_recover) (k := 0) rfl dX1_recover_93 ?_
    refine z_aload_n (M := m_X1_recover) (k := 1) rfl dX1_recover_94 ?_
    refine z_bipush (M := m_X1_recover) (v := 60) (by decide) dX1_recover_95 ?_
    refine z_bipush (M := m_X1_recover) (v := 111) (by decide) dX1_recover_97 ?_
    obtain ⟨⟨fs9, g⟩, H⟩ := H
    refine z_invV (M := m_X1_recover) (cn := 0) (a := [zr (x1), .int (60), .int (111)]) ok_X1_answer q2943 q2945 qs43 rfl dX1_recover_99 g (Nat.le_refl _) (Nat.zero_le _) rfl H (fun v3 h3 H => ?_) (fun n9 h9 H => zPx.out rfl H)
    show zP s0 m_X1_recover (d + 1) _ _ [] _ _ _
    exact z_return (M := m_X1_recover) rfl dX1_recover_102 H
  · have H := H.2 hc
    refine z_aload (M := m_X1_recover) (i := 4) rfl dX1_recover_56 ?_
    obtain ⟨⟨fs9, g⟩, H⟩ := H
    refine z_invF (M := m_X1_recover) (cn := 2058) (a := []) ok_J33_next (by change _ = some 0; decide +kernel) ⟨by decide, by decide⟩ q1851 q1709 q1708 q1799 q1797 q1702 q1798 q1796 rfl dX1_recover_58 g (Nat.le_refl _) (Nat.zero_le _) rfl H (fun v4 h4 H => ?_) (fun n9 h9 H => zPx.out rfl H)
    obtain ⟨n1, rfl, H⟩ := H
    show zP s0 m_X1_recover (d + 1) _ _ [zr (n1)] _ _ _
    obtain ⟨g, H⟩ := H
    refine z_checkcast (M := m_X1_recover) q2646 dX1_recover_63 g ?_
    refine z_astore (M := m_X1_recover) 5 (zlt rfl) (zr_cat _) dX1_recover_66 ?_
    show zP s0 m_X1_recover (d + 1) _ [some (zr (x0)), some (zr (x1)), none, some (zr (x3)), some (zr (x4)), some (zr (n1))] _ _ _ _
    refine z_aload (M := m_X1_recover) (i := 5) rfl dX1_recover_68 ?_
    obtain ⟨g, H⟩ := H
    refine z_get (M := m_X1_recover) f_X1_874 dX1_recover_70 g ?_
    refine z_ifne (M := m_X1_recover) 83 rfl dX1_recover_73 (fun hc => ?_) (fun hc => ?_)
    · have H := H.1 hc
      refine z_goto (M := m_X1_recover) 46 rfl dX1_recover_83 ?_
      exact zP.weak (ls' := [some (zr (x0)), some (zr (x1)), none, some (zr (x3)), some (zr (x4)), none]) (zle rfl) (zsub_so (zsub_so (zsub_no (zsub_so (zsub_so (zsub_no zsub_nil)))))) H
    · have H := H.2 hc
      refine z_aload_n (M := m_X1_recover) (k := 3) rfl dX1_recover_76 ?_
      refine z_aload (M := m_X1_recover) (i := 5) rfl dX1_recover_77 ?_
      obtain ⟨⟨fs9, g⟩, H⟩ := H
      refine z_invV (M := m_X1_recover) (cn := 2044) (a := [zr (n1)]) ok_J5_add q3391 q3392 q3393 rfl dX1_recover_79 g (Nat.le_refl _) (Nat.zero_le _) rfl H (fun v5 h5 H => ?_) (fun n9 h9 H => zPx.out rfl H)
      obtain ⟨r2, rfl, H⟩ := H
      show zP s0 m_X1_recover (d + 1) _ _ [.int (r2)] _ _ _
      refine z_pop (M := m_X1_recover) rfl dX1_recover_82 ?_
      refine z_goto (M := m_X1_recover) 46 rfl dX1_recover_83 ?_
      exact zP.weak (ls' := [some (zr (x0)), some (zr (x1)), none, some (zr (x3)), some (zr (x4)), none]) (zle rfl) (zsub_so (zsub_so (zsub_no (zsub_so (zsub_so (zsub_no zsub_nil)))))) H
theorem b_X1_settle_0 {s0 : zE} {d : Nat} {x0 : Nat} {x1 : Nat} {x2 : Int32} {x3 : Int32} {x4 : Int32} {h : zH} {Q : Value → zH → Prop} {E : Nat → zH → Prop} (H : (fC h x0 0 ∧ zX s0 m_X1_done d [zr x0] h (fun _ h1 => ((fR h1 x1 [6] 15) ∧ (zX s0 m_J24_valueOf d [.int (x2)] h1 (fun v2 h2 => ∃ n1 : Nat, v2 = zr (n1) ∧ ((fC h2 (gR h1 x1 15) 2047 ∧ zX s0 m_J9_get d [zr (gR h1 x1 15), zr (n1)] h2 (fun v3 h3 => ∃ n2 : Nat, v3 = zr (n2) ∧ ((n2 = 0 ∨ zCast h3 n2 "RelayHall$Unacked") ∧ ((n2 = 0 → (zP s0 m_X1_settle (d + 1) 37 [some (zr (x0)), some (zr (x1)), some (.int (x2)), some (.int (x3)), some (.int (x4)), some (zr (n2)), none, none, none, none] [] h3 Q E)) ∧ (¬ n2 = 0 → ((fI h3 n2 [26] 4) ∧ ((¬ gI h3 n2 4 = 0 → (zP s0 m_X1_settle (d + 1) 37 [some (zr (x0)), some (zr (x1)), some (.int (x2)), some (.int (x3)), some (.int (x4)), some (zr (n2)), none, none, none, none] [] h3 Q E)) ∧ (gI h3 n2 4 = 0 → (zP s0 m_X1_settle (d + 1) 38 [some (zr (x0)), some (zr (x1)), some (.int (x2)), some (.int (x3)), some (.int (x4)), some (zr (n2)), none, none, none, none] [.int (1)] h3 Q E)))))))) E))) E))) E)) : zP s0 m_X1_settle (d + 1) 0 [some (zr (x0)), some (zr (x1)), some (.int (x2)), some (.int (x3)), some (.int (x4)), none, none, none, none, none] [] h Q E := by
  refine z_aload_n (M := m_X1_settle) (k := 0) rfl dX1_settle_0 ?_
  obtain ⟨⟨fs9, g⟩, H⟩ := H
  refine z_invV (M := m_X1_settle) (cn := 0) (a := []) ok_X1_done q2959 q2961 qs47 rfl dX1_settle_1 g (Nat.le_refl _) (Nat.zero_le _) rfl H (fun v1 h1 H => ?_) (fun n9 h9 H => zPx.out rfl H)
  show zP s0 m_X1_settle (d + 1) _ _ [] _ _ _
  refine z_aload_n (M := m_X1_settle) (k := 1) rfl dX1_settle_4 ?_
  obtain ⟨g, H⟩ := H
  refine z_get (M := m_X1_settle) f_X1_185 dX1_settle_5 g ?_
  refine z_iload_n (M := m_X1_settle) (k := 2) rfl dX1_settle_8 ?_
  refine z_invS (M := m_X1_settle) (a := [.int (x2)]) ok_J24_valueOf q3800 q2652 dX1_settle_9 (Nat.le_refl _) (Nat.le_trans (zcatr zcat0) (zle rfl)) rfl H (fun v2 h2 H => ?_) (fun n9 h9 H => zPx.out rfl H)
  obtain ⟨n1, rfl, H⟩ := H
  show zP s0 m_X1_settle (d + 1) _ _ [zr (n1), zr (gR h1 x1 15)] _ _ _
  obtain ⟨⟨fs9, g⟩, H⟩ := H
  refine z_invV (M := m_X1_settle) (cn := 2047) (a := [zr (n1)]) ok_J9_get q3801 q3533 q5675 rfl dX1_settle_12 g (Nat.le_refl _) (Nat.zero_le _) rfl H (fun v3 h3 H => ?_) (fun n9 h9 H => zPx.out rfl H)
  obtain ⟨n2, rfl, H⟩ := H
  show zP s0 m_X1_settle (d + 1) _ _ [zr (n2)] _ _ _
  obtain ⟨g, H⟩ := H
  refine z_checkcast (M := m_X1_settle) q2646 dX1_settle_15 g ?_
  refine z_astore (M := m_X1_settle) 5 (zlt rfl) rfl dX1_settle_18 ?_
  show zP s0 m_X1_settle (d + 1) _ [some (zr (x0)), some (zr (x1)), some (.int (x2)), some (.int (x3)), some (.int (x4)), some (zr (n2)), none, none, none, none] _ _ _ _
  refine z_aload (M := m_X1_settle) (i := 5) rfl dX1_settle_20 ?_
  refine z_ifnull (M := m_X1_settle) 37 rfl dX1_settle_22 (fun hc => ?_) (fun hc => ?_)
  · have H := H.1 hc
    exact H
  · have H := H.2 hc
    refine z_aload (M := m_X1_settle) (i := 5) rfl dX1_settle_25 ?_
    obtain ⟨g, H⟩ := H
    refine z_get (M := m_X1_settle) f_X1_874 dX1_settle_27 g ?_
    refine z_ifne (M := m_X1_settle) 37 rfl dX1_settle_30 (fun hc => ?_) (fun hc => ?_)
    · have H := H.1 hc
      exact H
    · have H := H.2 hc
      refine z_iconst (M := m_X1_settle) (v := 1) (by decide) dX1_settle_33 ?_
      refine z_goto (M := m_X1_settle) 38 rfl dX1_settle_34 ?_
      exact H
theorem c_X1_settle {s0 : zE} {d : Nat} {x0 : Nat} {x1 : Nat} {x2 : Int32} {x3 : Int32} {x4 : Int32} {h : zH} {Q : Value → zH → Prop} {E : Nat → zH → Prop} (H : (fC h x0 0 ∧ zX s0 m_X1_done d [zr x0] h (fun _ h1 => ((fR h1 x1 [6] 15) ∧ (zX s0 m_J24_valueOf d [.int (x2)] h1 (fun v2 h2 => ∃ n1 : Nat, v2 = zr (n1) ∧ ((fC h2 (gR h1 x1 15) 2047 ∧ zX s0 m_J9_get d [zr (gR h1 x1 15), zr (n1)] h2 (fun v3 h3 => ∃ n2 : Nat, v3 = zr (n2) ∧ ((n2 = 0 ∨ zCast h3 n2 "RelayHall$Unacked") ∧ ((n2 = 0 → (zP s0 m_X1_settle (d + 1) 37 [some (zr (x0)), some (zr (x1)), some (.int (x2)), some (.int (x3)), some (.int (x4)), some (zr (n2)), none, none, none, none] [] h3 Q E)) ∧ (¬ n2 = 0 → ((fI h3 n2 [26] 4) ∧ ((¬ gI h3 n2 4 = 0 → (zP s0 m_X1_settle (d + 1) 37 [some (zr (x0)), some (zr (x1)), some (.int (x2)), some (.int (x3)), some (.int (x4)), some (zr (n2)), none, none, none, none] [] h3 Q E)) ∧ (gI h3 n2 4 = 0 → (zP s0 m_X1_settle (d + 1) 38 [some (zr (x0)), some (zr (x1)), some (.int (x2)), some (.int (x3)), some (.int (x4)), some (zr (n2)), none, none, none, none] [.int (1)] h3 Q E)))))))) E))) E))) E)) : zX s0 m_X1_settle (d + 1) [zr (x0), zr (x1), .int (x2), .int (x3), .int (x4)] h Q E := zX.of2 rfl (by decide +kernel) (zlay_r (zlay_r (zlay_i (zlay_i (zlay_i (zlay_n (znoneS (znoneS (znoneS (znoneS (znoneS znone0))))))))))) (zle rfl) (b_X1_settle_0 H)
theorem b_X1_settle_37 {s0 : zE} {d : Nat} {x0 : Nat} {x1 : Nat} {x2 : Int32} {x3 : Int32} {x4 : Int32} {x5 : Nat} {h : zH} {Q : Value → zH → Prop} {E : Nat → zH → Prop} (H : zP s0 m_X1_settle (d + 1) 38 [some (zr (x0)), some (zr (x1)), some (.int (x2)), some (.int (x3)), some (.int (x4)), some (zr (x5)), none, none, none, none] [.int (0)] h Q E) : zP s0 m_X1_settle (d + 1) 37 [some (zr (x0)), some (zr (x1)), some (.int (x2)), some (.int (x3)), some (.int (x4)), some (zr (x5)), none, none, none, none] [] h Q E := by
  refine z_iconst (M := m_X1_settle) (v := 0) (by decide) dX1_settle_37 ?_
  exact H
theorem b_X1_settle_38 {s0 : zE} {d : Nat} {x0 : Nat} {x1 : Nat} {x2 : Int32} {x3 : Int32} {x4 : Int32} {x5 : Nat} {t0 : Int32} {h : zH} {Q : Value → zH → Prop} {E : Nat → zH → Prop} (H : (¬ t0 = 0 → (zP s0 m_X1_settle (d + 1) 61 [some (zr (x0)), some (zr (x1)), some (.int (x2)), some (.int (x3)), some (.int (x4)), some (zr (x5)), none, none, none, none] [] h Q E)) ∧ (t0 = 0 → ((¬ x2 = 0 → ((fC h x0 0 ∧ zX s0 m_X1_soft d [zr x0, .int (406)] h (fun v1 h1 => ∃ n1 : Nat, v1 = zr (n1) ∧ ((zExc h1 n1) ∧ ((s0.1.heap.size < n1) ∧ (E n1 h1)))) E))) ∧ (x2 = 0 → ((¬ x3 = 0 → (zP s0 m_X1_settle (d + 1) 61 [some (zr (x0)), some (zr (x1)), some (.int (x2)), some (.int (x3)), some (.int (x4)), some (zr (x5)), none, none, none, none] [] h Q E)) ∧ (x3 = 0 → ((fC h x0 0 ∧ zX s0 m_X1_soft d [zr x0, .int (406)] h (fun v2 h2 => ∃ n2 : Nat, v2 = zr (n2) ∧ ((zExc h2 n2) ∧ ((s0.1.heap.size < n2) ∧ (E n2 h2)))) E)))))))) : zP s0 m_X1_settle (d + 1) 38 [some (zr (x0)), some (zr (x1)), some (.int (x2)), some (.int (x3)), some (.int (x4)), some (zr (x5)), none, none, none, none] [.int (t0)] h Q E := by
  refine z_istore (M := m_X1_settle) 6 (zlt rfl) (zr_cat _) dX1_settle_38 ?_
  show zP s0 m_X1_settle (d + 1) _ [some (zr (x0)), some (zr (x1)), some (.int (x2)), some (.int (x3)), some (.int (x4)), some (zr (x5)), some (.int (t0)), none, none, none] _ _ _ _
  refine z_iload (M := m_X1_settle) (i := 6) rfl dX1_settle_40 ?_
  refine z_ifne (M := m_X1_settle) 61 rfl dX1_settle_42 (fun hc => ?_) (fun hc => ?_)
  · have H := H.1 hc
    exact zP.weak (ls' := [some (zr (x0)), some (zr (x1)), some (.int (x2)), some (.int (x3)), some (.int (x4)), some (zr (x5)), none, none, none, none]) (zle rfl) (zsub_so (zsub_so (zsub_so (zsub_so (zsub_so (zsub_so (zsub_no (zsub_no (zsub_no (zsub_no zsub_nil)))))))))) H
  · have H := H.2 hc
    refine z_iload_n (M := m_X1_settle) (k := 2) rfl dX1_settle_45 ?_
    refine z_ifne (M := m_X1_settle) 53 rfl dX1_settle_46 (fun hc => ?_) (fun hc => ?_)
    · have H := H.1 hc
      refine z_aload_n (M := m_X1_settle) (k := 0) rfl dX1_settle_53 ?_
      refine z_sipush (M := m_X1_settle) (v := 406) (by decide) dX1_settle_54 ?_
      obtain ⟨⟨fs9, g⟩, H⟩ := H
      refine z_invV (M := m_X1_settle) (cn := 0) (a := [.int (406)]) ok_X1_soft q3165 q3167 qs54 rfl dX1_settle_57 g (Nat.le_refl _) (Nat.zero_le _) rfl H (fun v1 h1 H => ?_) (fun n9 h9 H => zPx.out rfl H)
      obtain ⟨n1, rfl, H⟩ := H
      show zP s0 m_X1_settle (d + 1) _ _ [zr (n1)] _ _ _
      obtain ⟨⟨c9, fs9, r9, g1, g2⟩, g3, H⟩ := H
      exact z_athrow (M := m_X1_settle) rfl g1 g2 g3 dX1_settle_60 H
    · have H := H.2 hc
      refine z_iload_n (M := m_X1_settle) (k := 3) rfl dX1_settle_49 ?_
      refine z_ifne (M := m_X1_settle) 61 rfl dX1_settle_50 (fun hc => ?_) (fun hc => ?_)
      · have H := H.1 hc
        exact zP.weak (ls' := [some (zr (x0)), some (zr (x1)), some (.int (x2)), some (.int (x3)), some (.int (x4)), some (zr (x5)), none, none, none, none]) (zle rfl) (zsub_so (zsub_so (zsub_so (zsub_so (zsub_so (zsub_so (zsub_no (zsub_no (zsub_no (zsub_no zsub_nil)))))))))) H
      · have H := H.2 hc
        refine z_aload_n (M := m_X1_settle) (k := 0) rfl dX1_settle_53 ?_
        refine z_sipush (M := m_X1_settle) (v := 406) (by decide) dX1_settle_54 ?_
        obtain ⟨⟨fs9, g⟩, H⟩ := H
        refine z_invV (M := m_X1_settle) (cn := 0) (a := [.int (406)]) ok_X1_soft q3165 q3167 qs54 rfl dX1_settle_57 g (Nat.le_refl _) (Nat.zero_le _) rfl H (fun v2 h2 H => ?_) (fun n9 h9 H => zPx.out rfl H)
        obtain ⟨n2, rfl, H⟩ := H
        show zP s0 m_X1_settle (d + 1) _ _ [zr (n2)] _ _ _
        obtain ⟨⟨c9, fs9, r9, g1, g2⟩, g3, H⟩ := H
        exact z_athrow (M := m_X1_settle) rfl g1 g2 g3 dX1_settle_60 H
theorem b_X1_settle_61 {s0 : zE} {d : Nat} {x0 : Nat} {x1 : Nat} {x2 : Int32} {x3 : Int32} {x4 : Int32} {x5 : Nat} {h : zH} {Q : Value → zH → Prop} {E : Nat → zH → Prop} (H : (zroom s0 h 3) ∧ (∀ n1, n1 = h.2.1 → (∀ h1, h1 = znew h 44 [.int 0, zr 0, .int 0] 3 → ((∃ c, fC h1 n1 c) ∧ (zX s0 m_J5_init d [zr n1] h1 (fun _ h2 => ((fR h2 x1 [6] 15) ∧ ((fC h2 (gR h2 x1 15) 2047 ∧ zX s0 m_J9_values d [zr (gR h2 x1 15)] h2 (fun v2 h3 => ∃ n2 : Nat, v2 = zr (n2) ∧ ((fC h3 n2 2068 ∧ zX s0 m_J48_iterator d [zr n2] h3 (fun v3 h4 => ∃ n3 : Nat, v3 = zr (n3) ∧ (zP s0 m_X1_settle (d + 1) 84 [some (zr (x0)), some (zr (x1)), some (.int (x2)), some (.int (x3)), some (.int (x4)), some (zr (x5)), none, some (zr (n1)), some (zr (n3)), none] [] h4 Q E)) E))) E)))) E))))) : zP s0 m_X1_settle (d + 1) 61 [some (zr (x0)), some (zr (x1)), some (.int (x2)), some (.int (x3)), some (.int (x4)), some (zr (x5)), none, none, none, none] [] h Q E := by
  obtain ⟨g, H⟩ := H
  refine zz_new (M := m_X1_settle) (fs := [.int 0, zr 0, .int 0]) (w := 3) (c := 44) rfl q413 q414 rfl znf_J5 dX1_settle_61 g (fun n1 e1 h1 e2 => ?_)
  have H := H n1 e1 h1 e2
  refine z_dup (M := m_X1_settle) (zr_cat _) dX1_settle_64 ?_
  obtain ⟨⟨c9, g⟩, H⟩ := H
  refine zz_invI (M := m_X1_settle) (a := []) ok_J5_init rfl rfl q415 q416 dX1_settle_65 g (Nat.le_trans (zcatr zcat0) (zle rfl)) rfl H (fun v1 h2 H => ?_) (fun n9 h9 H => zPx.out rfl H)
  refine z_astore (M := m_X1_settle) 7 (zlt rfl) trivial dX1_settle_68 ?_
  show zP s0 m_X1_settle (d + 1) _ [some (zr (x0)), some (zr (x1)), some (.int (x2)), some (.int (x3)), some (.int (x4)), some (zr (x5)), none, some (zr (n1)), none, none] _ _ _ _
  refine z_aload_n (M := m_X1_settle) (k := 1) rfl dX1_settle_70 ?_
  obtain ⟨g, H⟩ := H
  refine z_get (M := m_X1_settle) f_X1_185 dX1_settle_71 g ?_
  obtain ⟨⟨fs9, g⟩, H⟩ := H
  refine z_invV (M := m_X1_settle) (cn := 2047) (a := []) ok_J9_values q3802 q3803 q3804 rfl dX1_settle_74 g (Nat.le_refl _) (Nat.zero_le _) rfl H (fun v2 h3 H => ?_) (fun n9 h9 H => zPx.out rfl H)
  obtain ⟨n2, rfl, H⟩ := H
  show zP s0 m_X1_settle (d + 1) _ _ [zr (n2)] _ _ _
  obtain ⟨⟨fs9, g⟩, H⟩ := H
  refine z_invF (M := m_X1_settle) (cn := 2068) (a := []) ok_J48_iterator (by change _ = some 0; decide +kernel) ⟨by decide, by decide⟩ q3817 q3819 q3818 q3833 q3832 q1822 q1657 q3831 rfl dX1_settle_77 g (Nat.le_refl _) (Nat.zero_le _) rfl H (fun v3 h4 H => ?_) (fun n9 h9 H => zPx.out rfl H)
  obtain ⟨n3, rfl, H⟩ := H
  show zP s0 m_X1_settle (d + 1) _ _ [zr (n3)] _ _ _
  refine z_astore (M := m_X1_settle) 8 (zlt rfl) (zr_cat _) dX1_settle_82 ?_
  show zP s0 m_X1_settle (d + 1) _ [some (zr (x0)), some (zr (x1)), some (.int (x2)), some (.int (x3)), some (.int (x4)), some (zr (x5)), none, some (zr (n1)), some (zr (n3)), none] _ _ _ _
  exact H
theorem b_X1_settle_84 {s0 : zE} {d : Nat} {x0 : Nat} {x1 : Nat} {x2 : Int32} {x3 : Int32} {x4 : Int32} {x5 : Nat} {x7 : Nat} {x8 : Nat} {h : zH} {Q : Value → zH → Prop} {E : Nat → zH → Prop} (H : (fC h x8 2058 ∧ zX s0 m_J31_hasNext d [zr x8] h (fun v1 h1 => ∃ r1 : Int32, v1 = .int (r1) ∧ ((r1 = 0 → ((fI h1 x1 [6] 3) ∧ ((¬ gI h1 x1 3 = 1 → ((fC h1 x0 0 ∧ zX s0 m_X1_settle_2 d [zr x0, zr (x1), zr (x7), .int (x4)] h1 (fun _ h2 => (Q .null h2)) E))) ∧ (gI h1 x1 3 = 1 → ((zroom s0 h1 2) ∧ (∀ n1, n1 = h1.2.1 → (∀ h3, h3 = znew h1 27 [zr 0, .int 0] 2 → ((∃ c, fC h3 n1 c) ∧ (zX s0 m_X29_init d [zr n1, zr (x7), .int (x4)] h3 (fun _ h4 => ((fC h4 x0 0 ∧ zX s0 m_X1_keep d [zr x0, zr (x1), zr (n1)] h4 (fun _ h5 => (zP s0 m_X1_settle (d + 1) 176 [none, none, none, none, none, none, none, some (zr (x7)), some (.int (0)), none] [] h5 Q E)) E))) E))))))))) ∧ (¬ r1 = 0 → ((fC h1 x8 2058 ∧ zX s0 m_J33_next d [zr x8] h1 (fun v5 h6 => ∃ n2 : Nat, v5 = zr (n2) ∧ ((n2 = 0 ∨ zCast h6 n2 "RelayHall$Unacked") ∧ ((fI h6 n2 [26] 4) ∧ ((¬ gI h6 n2 4 = 0 → (zP s0 m_X1_settle (d + 1) 84 [some (zr (x0)), some (zr (x1)), some (.int (x2)), some (.int (x3)), some (.int (x4)), some (zr (x5)), none, some (zr (x7)), some (zr (x8)), none] [] h6 Q E)) ∧ (gI h6 n2 4 = 0 → ((n2 = x5 → ((fC h6 x7 2044 ∧ zX s0 m_J5_add d [zr x7, zr (n2)] h6 (fun v6 h7 => ∃ r2 : Int32, v6 = .int (r2) ∧ (zP s0 m_X1_settle (d + 1) 84 [some (zr (x0)), some (zr (x1)), some (.int (x2)), some (.int (x3)), some (.int (x4)), some (zr (x5)), none, some (zr (x7)), some (zr (x8)), none] [] h7 Q E)) E))) ∧ (¬ n2 = x5 → ((x3 = 0 → (zP s0 m_X1_settle (d + 1) 84 [some (zr (x0)), some (zr (x1)), some (.int (x2)), some (.int (x3)), some (.int (x4)), some (zr (x5)), none, some (zr (x7)), some (zr (x8)), none] [] h6 Q E)) ∧ (¬ x3 = 0 → ((x2 = 0 → ((fC h6 x7 2044 ∧ zX s0 m_J5_add d [zr x7, zr (n2)] h6 (fun v7 h8 => ∃ r3 : Int32, v7 = .int (r3) ∧ (zP s0 m_X1_settle (d + 1) 84 [some (zr (x0)), some (zr (x1)), some (.int (x2)), some (.int (x3)), some (.int (x4)), some (zr (x5)), none, some (zr (x7)), some (zr (x8)), none] [] h8 Q E)) E))) ∧ (¬ x2 = 0 → ((fI h6 n2 [26] 0) ∧ ((x2 ≤ gI h6 n2 0 → (zP s0 m_X1_settle (d + 1) 84 [some (zr (x0)), some (zr (x1)), some (.int (x2)), some (.int (x3)), some (.int (x4)), some (zr (x5)), none, some (zr (x7)), some (zr (x8)), none] [] h6 Q E)) ∧ (¬ x2 ≤ gI h6 n2 0 → ((fC h6 x7 2044 ∧ zX s0 m_J5_add d [zr x7, zr (n2)] h6 (fun v8 h9 => ∃ r4 : Int32, v8 = .int (r4) ∧ (zP s0 m_X1_settle (d + 1) 84 [some (zr (x0)), some (zr (x1)), some (.int (x2)), some (.int (x3)), some (.int (x4)), some (zr (x5)), none, some (zr (x7)), some (zr (x8)), none] [] h9 Q E)) E)))))))))))))))) E))))) E)) : zP s0 m_X1_settle (d + 1) 84 [some (zr (x0)), some (zr (x1)), some (.int (x2)), some (.int (x3)), some (.int (x4)), some (zr (x5)), none, some (zr (x7)), some (zr (x8)), none] [] h Q E := by
  refine z_aload (M := m_X1_settle) (i := 8) rfl dX1_settle_84 ?_
  obtain ⟨⟨fs9, g⟩, H⟩ := H
  refine z_invF (M := m_X1_settle) (cn := 2058) (a := []) ok_J31_hasNext (by change _ = some 0; decide +kernel) ⟨by decide, by decide⟩ q1849 q1674 q1673 q1700 q1704 q1702 q1699 q1703 rfl dX1_settle_86 g (Nat.le_refl _) (Nat.zero_le _) rfl H (fun v1 h1 H => ?_) (fun n9 h9 H => zPx.out rfl H)
  obtain ⟨r1, rfl, H⟩ := H
  show zP s0 m_X1_settle (d + 1) _ _ [.int (r1)] _ _ _
  refine z_ifeq (M := m_X1_settle) 149 rfl dX1_settle_91 (fun hc => ?_) (fun hc => ?_)
  · have H := H.1 hc
    refine z_aload_n (M := m_X1_settle) (k := 1) rfl dX1_settle_149 ?_
    obtain ⟨g, H⟩ := H
    refine z_get (M := m_X1_settle) f_X1_465 dX1_settle_150 g ?_
    refine z_iconst (M := m_X1_settle) (v := 1) (by decide) dX1_settle_153 ?_
    refine z_icmpne (M := m_X1_settle) 213 rfl dX1_settle_154 (fun hc => ?_) (fun hc => ?_)
    · have H := H.1 hc
      refine z_aload_n (M := m_X1_settle) (k := 0) rfl dX1_settle_213 ?_
      refine z_aload_n (M := m_X1_settle) (k := 1) rfl dX1_settle_214 ?_
      refine z_aload (M := m_X1_settle) (i := 7) rfl dX1_settle_215 ?_
      refine z_iload (M := m_X1_settle) (i := 4) rfl dX1_settle_217 ?_
      obtain ⟨⟨fs9, g⟩, H⟩ := H
      refine z_invV (M := m_X1_settle) (cn := 0) (a := [zr (x1), zr (x7), .int (x4)]) ok_X1_settle_2 q3851 q3853 qs81 rfl dX1_settle_219 g (Nat.le_refl _) (Nat.zero_le _) rfl H (fun v2 h2 H => ?_) (fun n9 h9 H => zPx.out rfl H)
      show zP s0 m_X1_settle (d + 1) _ _ [] _ _ _
      exact z_return (M := m_X1_settle) rfl dX1_settle_222 H
    · have H := H.2 hc
      refine z_aload_n (M := m_X1_settle) (k := 0) rfl dX1_settle_157 ?_
      refine z_aload_n (M := m_X1_settle) (k := 1) rfl dX1_settle_158 ?_
      obtain ⟨g, H⟩ := H
      refine zz_new (M := m_X1_settle) (fs := [zr 0, .int 0]) (w := 2) (c := 27) rfl q3834 q3835 rfl znf_X29 dX1_settle_159 g (fun n1 e1 h3 e2 => ?_)
      have H := H n1 e1 h3 e2
      refine z_dup (M := m_X1_settle) (zr_cat _) dX1_settle_162 ?_
      refine z_aload (M := m_X1_settle) (i := 7) rfl dX1_settle_163 ?_
      refine z_iload (M := m_X1_settle) (i := 4) rfl dX1_settle_165 ?_
      obtain ⟨⟨c9, g⟩, H⟩ := H
      refine zz_invIN (M := m_X1_settle) (a := [zr (x7), .int (x4)]) ok_X29_init rfl rfl q3836 q3837 dX1_settle_167 g (Nat.le_trans (zcatr (zcatr (zcatr zcat0))) (zle rfl)) rfl H (fun v3 h4 H => ?_) (fun n9 h9 H => zPx.out rfl H)
      obtain ⟨⟨fs9, g⟩, H⟩ := H
      refine z_invV (M := m_X1_settle) (cn := 0) (a := [zr (x1), zr (n1)]) ok_X1_keep q3847 q3849 qs80 rfl dX1_settle_170 g (Nat.le_refl _) (Nat.zero_le _) rfl H (fun v4 h5 H => ?_) (fun n9 h9 H => zPx.out rfl H)
      show zP s0 m_X1_settle (d + 1) _ _ [] _ _ _
      refine z_iconst (M := m_X1_settle) (v := 0) (by decide) dX1_settle_173 ?_
      refine z_istore (M := m_X1_settle) 8 (zlt rfl) (zr_cat _) dX1_settle_174 ?_
      show zP s0 m_X1_settle (d + 1) _ [some (zr (x0)), some (zr (x1)), some (.int (x2)), some (.int (x3)), some (.int (x4)), some (zr (x5)), none, some (zr (x7)), some (.int (0)), none] _ _ _ _
      exact zP.weak (ls' := [none, none, none, none, none, none, none, some (zr (x7)), some (.int (0)), none]) (zle rfl) (zsub_no (zsub_no (zsub_no (zsub_no (zsub_no (zsub_no (zsub_no (zsub_so (zsub_so (zsub_no zsub_nil)))))))))) H
  · have H := H.2 hc
    refine z_aload (M := m_X1_settle) (i := 8) rfl dX1_settle_94 ?_
    obtain ⟨⟨fs9, g⟩, H⟩ := H
    refine z_invF (M := m_X1_settle) (cn := 2058) (a := []) ok_J33_next (by change _ = some 0; decide +kernel) ⟨by decide, by decide⟩ q1851 q1709 q1708 q1799 q1797 q1702 q1798 q1796 rfl dX1_settle_96 g (Nat.le_refl _) (Nat.zero_le _) rfl H (fun v5 h6 H => ?_) (fun n9 h9 H => zPx.out rfl H)
    obtain ⟨n2, rfl, H⟩ := H
    show zP s0 m_X1_settle (d + 1) _ _ [zr (n2)] _ _ _
    obtain ⟨g, H⟩ := H
    refine z_checkcast (M := m_X1_settle) q2646 dX1_settle_101 g ?_
    refine z_astore (M := m_X1_settle) 9 (zlt rfl) (zr_cat _) dX1_settle_104 ?_
    show zP s0 m_X1_settle (d + 1) _ [some (zr (x0)), some (zr (x1)), some (.int (x2)), some (.int (x3)), some (.int (x4)), some (zr (x5)), none, some (zr (x7)), some (zr (x8)), some (zr (n2))] _ _ _ _
    refine z_aload (M := m_X1_settle) (i := 9) rfl dX1_settle_106 ?_
    obtain ⟨g, H⟩ := H
    refine z_get (M := m_X1_settle) f_X1_874 dX1_settle_108 g ?_
    refine z_ifne (M := m_X1_settle) 146 rfl dX1_settle_111 (fun hc => ?_) (fun hc => ?_)
    · have H := H.1 hc
      refine z_goto (M := m_X1_settle) 84 rfl dX1_settle_146 ?_
      exact zP.weak (ls' := [some (zr (x0)), some (zr (x1)), some (.int (x2)), some (.int (x3)), some (.int (x4)), some (zr (x5)), none, some (zr (x7)), some (zr (x8)), none]) (zle rfl) (zsub_so (zsub_so (zsub_so (zsub_so (zsub_so (zsub_so (zsub_no (zsub_so (zsub_so (zsub_no zsub_nil)))))))))) H
    · have H := H.2 hc
      refine z_aload (M := m_X1_settle) (i := 9) rfl dX1_settle_114 ?_
      refine z_aload (M := m_X1_settle) (i := 5) rfl dX1_settle_116 ?_
      refine z_acmpeq (M := m_X1_settle) 138 rfl dX1_settle_118 (fun hc => ?_) (fun hc => ?_)
      · have H := H.1 hc
        refine z_aload (M := m_X1_settle) (i := 7) rfl dX1_settle_138 ?_
        refine z_aload (M := m_X1_settle) (i := 9) rfl dX1_settle_140 ?_
        obtain ⟨⟨fs9, g⟩, H⟩ := H
        refine z_invV (M := m_X1_settle) (cn := 2044) (a := [zr (n2)]) ok_J5_add q3391 q3392 q3393 rfl dX1_settle_142 g (Nat.le_refl _) (Nat.zero_le _) rfl H (fun v6 h7 H => ?_) (fun n9 h9 H => zPx.out rfl H)
        obtain ⟨r2, rfl, H⟩ := H
        show zP s0 m_X1_settle (d + 1) _ _ [.int (r2)] _ _ _
        refine z_pop (M := m_X1_settle) rfl dX1_settle_145 ?_
        refine z_goto (M := m_X1_settle) 84 rfl dX1_settle_146 ?_
        exact zP.weak (ls' := [some (zr (x0)), some (zr (x1)), some (.int (x2)), some (.int (x3)), some (.int (x4)), some (zr (x5)), none, some (zr (x7)), some (zr (x8)), none]) (zle rfl) (zsub_so (zsub_so (zsub_so (zsub_so (zsub_so (zsub_so (zsub_no (zsub_so (zsub_so (zsub_no zsub_nil)))))))))) H
      · have H := H.2 hc
        refine z_iload_n (M := m_X1_settle) (k := 3) rfl dX1_settle_121 ?_
        refine z_ifeq (M := m_X1_settle) 146 rfl dX1_settle_122 (fun hc => ?_) (fun hc => ?_)
        · have H := H.1 hc
          refine z_goto (M := m_X1_settle) 84 rfl dX1_settle_146 ?_
          exact zP.weak (ls' := [some (zr (x0)), some (zr (x1)), some (.int (x2)), some (.int (x3)), some (.int (x4)), some (zr (x5)), none, some (zr (x7)), some (zr (x8)), none]) (zle rfl) (zsub_so (zsub_so (zsub_so (zsub_so (zsub_so (zsub_so (zsub_no (zsub_so (zsub_so (zsub_no zsub_nil)))))))))) H
        · have H := H.2 hc
          refine z_iload_n (M := m_X1_settle) (k := 2) rfl dX1_settle_125 ?_
          refine z_ifeq (M := m_X1_settle) 138 rfl dX1_settle_126 (fun hc => ?_) (fun hc => ?_)
          · have H := H.1 hc
            refine z_aload (M := m_X1_settle) (i := 7) rfl dX1_settle_138 ?_
            refine z_aload (M := m_X1_settle) (i := 9) rfl dX1_settle_140 ?_
            obtain ⟨⟨fs9, g⟩, H⟩ := H
            refine z_invV (M := m_X1_settle) (cn := 2044) (a := [zr (n2)]) ok_J5_add q3391 q3392 q3393 rfl dX1_settle_142 g (Nat.le_refl _) (Nat.zero_le _) rfl H (fun v7 h8 H => ?_) (fun n9 h9 H => zPx.out rfl H)
            obtain ⟨r3, rfl, H⟩ := H
            show zP s0 m_X1_settle (d + 1) _ _ [.int (r3)] _ _ _
            refine z_pop (M := m_X1_settle) rfl dX1_settle_145 ?_
            refine z_goto (M := m_X1_settle) 84 rfl dX1_settle_146 ?_
            exact zP.weak (ls' := [some (zr (x0)), some (zr (x1)), some (.int (x2)), some (.int (x3)), some (.int (x4)), some (zr (x5)), none, some (zr (x7)), some (zr (x8)), none]) (zle rfl) (zsub_so (zsub_so (zsub_so (zsub_so (zsub_so (zsub_so (zsub_no (zsub_so (zsub_so (zsub_no zsub_nil)))))))))) H
          · have H := H.2 hc
            refine z_aload (M := m_X1_settle) (i := 9) rfl dX1_settle_129 ?_
            obtain ⟨g, H⟩ := H
            refine z_get (M := m_X1_settle) f_X1_881 dX1_settle_131 g ?_
            refine z_iload_n (M := m_X1_settle) (k := 2) rfl dX1_settle_134 ?_
            refine z_icmpge (M := m_X1_settle) 146 rfl dX1_settle_135 (fun hc => ?_) (fun hc => ?_)
            · have H := H.1 hc
              refine z_goto (M := m_X1_settle) 84 rfl dX1_settle_146 ?_
              exact zP.weak (ls' := [some (zr (x0)), some (zr (x1)), some (.int (x2)), some (.int (x3)), some (.int (x4)), some (zr (x5)), none, some (zr (x7)), some (zr (x8)), none]) (zle rfl) (zsub_so (zsub_so (zsub_so (zsub_so (zsub_so (zsub_so (zsub_no (zsub_so (zsub_so (zsub_no zsub_nil)))))))))) H
            · have H := H.2 hc
              refine z_aload (M := m_X1_settle) (i := 7) rfl dX1_settle_138 ?_
              refine z_aload (M := m_X1_settle) (i := 9) rfl dX1_settle_140 ?_
              obtain ⟨⟨fs9, g⟩, H⟩ := H
              refine z_invV (M := m_X1_settle) (cn := 2044) (a := [zr (n2)]) ok_J5_add q3391 q3392 q3393 rfl dX1_settle_142 g (Nat.le_refl _) (Nat.zero_le _) rfl H (fun v8 h9 H => ?_) (fun n9 h9 H => zPx.out rfl H)
              obtain ⟨r4, rfl, H⟩ := H
              show zP s0 m_X1_settle (d + 1) _ _ [.int (r4)] _ _ _
              refine z_pop (M := m_X1_settle) rfl dX1_settle_145 ?_
              refine z_goto (M := m_X1_settle) 84 rfl dX1_settle_146 ?_
              exact zP.weak (ls' := [some (zr (x0)), some (zr (x1)), some (.int (x2)), some (.int (x3)), some (.int (x4)), some (zr (x5)), none, some (zr (x7)), some (zr (x8)), none]) (zle rfl) (zsub_so (zsub_so (zsub_so (zsub_so (zsub_so (zsub_so (zsub_no (zsub_so (zsub_so (zsub_no zsub_nil)))))))))) H
theorem b_X1_settle_176 {s0 : zE} {d : Nat} {x7 : Nat} {x8 : Int32} {h : zH} {Q : Value → zH → Prop} {E : Nat → zH → Prop} (H : (fC h x7 2044 ∧ zX s0 m_J5_size d [zr x7] h (fun v1 h1 => ∃ r1 : Int32, v1 = .int (r1) ∧ ((r1 ≤ x8 → (Q .null h1)) ∧ (¬ r1 ≤ x8 → ((fC h1 x7 2044 ∧ zX s0 m_J5_get d [zr x7, .int (x8)] h1 (fun v2 h2 => ∃ n1 : Nat, v2 = zr (n1) ∧ ((n1 = 0 ∨ zCast h2 n1 "RelayHall$Unacked") ∧ ((fC h2 n1 26) ∧ (∀ h3, h3 = zput h2 n1 4 (.int (1)) → (zP s0 m_X1_settle (d + 1) 176 [none, none, none, none, none, none, none, some (zr (x7)), some (.int (x8 + 1)), none] [] h3 Q E))))) E))))) E)) : zP s0 m_X1_settle (d + 1) 176 [none, none, none, none, none, none, none, some (zr (x7)), some (.int (x8)), none] [] h Q E := by
  refine z_iload (M := m_X1_settle) (i := 8) rfl dX1_settle_176 ?_
  refine z_aload (M := m_X1_settle) (i := 7) rfl dX1_settle_178 ?_
  obtain ⟨⟨fs9, g⟩, H⟩ := H
  refine z_invV (M := m_X1_settle) (cn := 2044) (a := []) ok_J5_size q1841 q1519 q5664 rfl dX1_settle_180 g (Nat.le_refl _) (Nat.le_trans (zcati zcat0) (zle rfl)) rfl H (fun v1 h1 H => ?_) (fun n9 h9 H => zPx.out rfl H)
  obtain ⟨r1, rfl, H⟩ := H
  show zP s0 m_X1_settle (d + 1) _ _ [.int (r1), .int (x8)] _ _ _
  refine z_icmpge (M := m_X1_settle) 210 rfl dX1_settle_183 (fun hc => ?_) (fun hc => ?_)
  · have H := H.1 hc
    refine z_goto (M := m_X1_settle) 222 rfl dX1_settle_210 ?_
    exact z_return (M := m_X1_settle) rfl dX1_settle_222 H
  · have H := H.2 hc
    refine z_aload (M := m_X1_settle) (i := 7) rfl dX1_settle_186 ?_
    refine z_iload (M := m_X1_settle) (i := 8) rfl dX1_settle_188 ?_
    obtain ⟨⟨fs9, g⟩, H⟩ := H
    refine z_invV (M := m_X1_settle) (cn := 2044) (a := [.int (x8)]) ok_J5_get q903 q904 q905 rfl dX1_settle_190 g (Nat.le_refl _) (Nat.zero_le _) rfl H (fun v2 h2 H => ?_) (fun n9 h9 H => zPx.out rfl H)
    obtain ⟨n1, rfl, H⟩ := H
    show zP s0 m_X1_settle (d + 1) _ _ [zr (n1)] _ _ _
    obtain ⟨g, H⟩ := H
    refine z_checkcast (M := m_X1_settle) q2646 dX1_settle_193 g ?_
    refine z_astore (M := m_X1_settle) 9 (zlt rfl) rfl dX1_settle_196 ?_
    show zP s0 m_X1_settle (d + 1) _ [none, none, none, none, none, none, none, some (zr (x7)), some (.int (x8)), some (zr (n1))] _ _ _ _
    refine z_aload (M := m_X1_settle) (i := 9) rfl dX1_settle_198 ?_
    refine z_iconst (M := m_X1_settle) (v := 1) (by decide) dX1_settle_200 ?_
    obtain ⟨g, H⟩ := H
    refine zz_put (M := m_X1_settle) f_X1_874 dX1_settle_201 rfl (fn_26_4) g (ft_26_4 (Or.inr rfl)) (fun h3 e => ?_)
    have H := H h3 e
    refine z_inc (M := m_X1_settle) 8 (x8 + 1) 1 (by decide) rfl rfl (zr_cat _) dX1_settle_204 ?_
    show zP s0 m_X1_settle (d + 1) _ [none, none, none, none, none, none, none, some (zr (x7)), some (.int (x8 + 1)), some (zr (n1))] _ _ _ _
    refine z_goto (M := m_X1_settle) 176 rfl dX1_settle_207 ?_
    exact zP.weak (ls' := [none, none, none, none, none, none, none, some (zr (x7)), some (.int (x8 + 1)), none]) (zle rfl) (zsub_no (zsub_no (zsub_no (zsub_no (zsub_no (zsub_no (zsub_no (zsub_so (zsub_so (zsub_no zsub_nil)))))))))) H
theorem b_X21_first_0 {s0 : zE} {d : Nat} {x0 : Nat} {h : zH} {Q : Value → zH → Prop} {E : Nat → zH → Prop} (H : (fR h x0 [19] 4) ∧ ((fC h (gR h x0 4) 2047 ∧ zX s0 m_J0_isEmpty d [zr (gR h x0 4)] h (fun v1 h1 => ∃ r1 : Int32, v1 = .int (r1) ∧ ((r1 = 0 → ((fR h1 x0 [19] 4) ∧ ((fC h1 (gR h1 x0 4) 2047 ∧ zX s0 m_J9_pollFirstEntry d [zr (gR h1 x0 4)] h1 (fun v2 h2 => ∃ n1 : Nat, v2 = zr (n1) ∧ ((fC h2 n1 2066 ∧ zX s0 m_J45_getValue d [zr n1] h2 (fun v3 h3 => ∃ n2 : Nat, v3 = zr (n2) ∧ ((n2 = 0 ∨ zCast h3 n2 "RelayHall$Message") ∧ (Q (zr n2) h3))) E))) E)))) ∧ (¬ r1 = 0 → (Q (zr 0) h1)))) E))) : zP s0 m_X21_first (d + 1) 0 [some (zr (x0))] [] h Q E := by
  refine z_aload_n (M := m_X21_first) (k := 0) rfl dX21_first_0 ?_
  obtain ⟨g, H⟩ := H
  refine z_get (M := m_X21_first) f_X21_12 dX21_first_1 g ?_
  obtain ⟨⟨fs9, g⟩, H⟩ := H
  refine z_invU (M := m_X21_first) (cn := 2047) (a := []) ok_J0_isEmpty (by change _ = some 0; decide +kernel) q2787 q2559 ⟨by decide, by decide⟩ (Or.inl rfl) q2562 q2561 rfl dX21_first_4 g (Nat.le_refl _) (Nat.zero_le _) rfl H (fun v1 h1 H => ?_) (fun n9 h9 H => zPx.out rfl H)
  obtain ⟨r1, rfl, H⟩ := H
  show zP s0 m_X21_first (d + 1) _ _ [.int (r1)] _ _ _
  refine z_ifeq (M := m_X21_first) 14 rfl dX21_first_7 (fun hc => ?_) (fun hc => ?_)
  · have H := H.1 hc
    refine z_aload_n (M := m_X21_first) (k := 0) rfl dX21_first_14 ?_
    obtain ⟨g, H⟩ := H
    refine z_get (M := m_X21_first) f_X21_12 dX21_first_15 g ?_
    obtain ⟨⟨fs9, g⟩, H⟩ := H
    refine z_invV (M := m_X21_first) (cn := 2047) (a := []) ok_J9_pollFirstEntry q2788 q2789 q2790 rfl dX21_first_18 g (Nat.le_refl _) (Nat.zero_le _) rfl H (fun v2 h2 H => ?_) (fun n9 h9 H => zPx.out rfl H)
    obtain ⟨n1, rfl, H⟩ := H
    show zP s0 m_X21_first (d + 1) _ _ [zr (n1)] _ _ _
    obtain ⟨⟨fs9, g⟩, H⟩ := H
    refine z_invF (M := m_X21_first) (cn := 2066) (a := []) ok_J45_getValue (by change _ = some 0; decide +kernel) ⟨by decide, by decide⟩ q2793 q2617 q2616 q2621 q2619 q2590 q2620 q2618 rfl dX21_first_21 g (Nat.le_refl _) (Nat.zero_le _) rfl H (fun v3 h3 H => ?_) (fun n9 h9 H => zPx.out rfl H)
    obtain ⟨n2, rfl, H⟩ := H
    show zP s0 m_X21_first (d + 1) _ _ [zr (n2)] _ _ _
    obtain ⟨g, H⟩ := H
    refine z_checkcast (M := m_X21_first) q2794 dX21_first_26 g ?_
    exact z_areturn (M := m_X21_first) rfl (Or.inl ⟨_, rfl⟩) dX21_first_29 H
  · have H := H.2 hc
    refine z_null (M := m_X21_first) dX21_first_10 ?_
    refine z_goto (M := m_X21_first) 29 rfl dX21_first_11 ?_
    exact z_areturn (M := m_X21_first) rfl (Or.inl ⟨_, rfl⟩) dX21_first_29 H
theorem c_X21_first {s0 : zE} {d : Nat} {x0 : Nat} {h : zH} {Q : Value → zH → Prop} {E : Nat → zH → Prop} (H : (fR h x0 [19] 4) ∧ ((fC h (gR h x0 4) 2047 ∧ zX s0 m_J0_isEmpty d [zr (gR h x0 4)] h (fun v1 h1 => ∃ r1 : Int32, v1 = .int (r1) ∧ ((r1 = 0 → ((fR h1 x0 [19] 4) ∧ ((fC h1 (gR h1 x0 4) 2047 ∧ zX s0 m_J9_pollFirstEntry d [zr (gR h1 x0 4)] h1 (fun v2 h2 => ∃ n1 : Nat, v2 = zr (n1) ∧ ((fC h2 n1 2066 ∧ zX s0 m_J45_getValue d [zr n1] h2 (fun v3 h3 => ∃ n2 : Nat, v3 = zr (n2) ∧ ((n2 = 0 ∨ zCast h3 n2 "RelayHall$Message") ∧ (Q (zr n2) h3))) E))) E)))) ∧ (¬ r1 = 0 → (Q (zr 0) h1)))) E))) : zX s0 m_X21_first (d + 1) [zr (x0)] h Q E := zX.of2 rfl (by decide +kernel) (zlay_r (zlay_n znone0)) (zle rfl) (b_X21_first_0 H)
theorem b_X23_init_0 {s0 : zE} {d : Nat} {x0 : Nat} {x1 : Nat} {x2 : Nat} {x3 : Nat} {x4 : Nat} {h : zH} {Q : Value → zH → Prop} {E : Nat → zH → Prop} (H : (∃ c, fC h x0 c) ∧ ((zroom s0 h 3) ∧ (∀ n1, n1 = h.2.1 → (∀ h1, h1 = znew h 44 [.int 0, zr 0, .int 0] 3 → ((∃ c, fC h1 n1 c) ∧ (zX s0 m_J5_init d [zr n1] h1 (fun _ h2 => ((fC h2 x0 21) ∧ (∀ h3, h3 = zput h2 x0 4 (zr (n1)) → ((fC h3 x0 21) ∧ (∀ h4, h4 = zput h3 x0 0 (zr (x1)) → ((fC h4 x0 21) ∧ (∀ h5, h5 = zput h4 x0 1 (zr (x2)) → ((fC h5 x0 21) ∧ (∀ h6, h6 = zput h5 x0 2 (zr (x3)) → ((fC h6 x0 21) ∧ (∀ h7, h7 = zput h6 x0 3 (zr (x4)) → ((fR h7 x4 [14] 0) ∧ ((fC h7 (gR h7 x4 0) 2043 ∧ zX s0 m_J2_entrySet d [zr (gR h7 x4 0)] h7 (fun v2 h8 => ∃ n2 : Nat, v2 = zr (n2) ∧ ((fC h8 n2 2064 ∧ zX s0 m_J43_iterator d [zr n2] h8 (fun v3 h9 => ∃ n3 : Nat, v3 = zr (n3) ∧ (zP s0 m_X23_init (d + 1) 51 [some (zr (x0)), none, none, none, none, some (zr (n3)), none] [] h9 Q E)) E))) E)))))))))))))) E)))))) : zP s0 m_X23_init (d + 1) 0 [some (zr (x0)), some (zr (x1)), some (zr (x2)), some (zr (x3)), some (zr (x4)), none, none] [] h Q E := by
  refine z_aload_n (M := m_X23_init) (k := 0) rfl dX23_init_0 ?_
  obtain ⟨⟨c9, g⟩, H⟩ := H
  refine zz_objInit (M := m_X23_init) q3556 dX23_init_1 g (Nat.zero_le _) ?_
  refine z_aload_n (M := m_X23_init) (k := 0) rfl dX23_init_4 ?_
  obtain ⟨g, H⟩ := H
  refine zz_new (M := m_X23_init) (fs := [.int 0, zr 0, .int 0]) (w := 3) (c := 44) rfl q3557 q414 rfl znf_J5 dX23_init_5 g (fun n1 e1 h1 e2 => ?_)
  have H := H n1 e1 h1 e2
  refine z_dup (M := m_X23_init) (zr_cat _) dX23_init_8 ?_
  obtain ⟨⟨c9, g⟩, H⟩ := H
  refine zz_invI (M := m_X23_init) (a := []) ok_J5_init rfl rfl q3558 q416 dX23_init_9 g (Nat.le_trans (zcatr (zcatr zcat0)) (zle rfl)) rfl H (fun v1 h2 H => ?_) (fun n9 h9 H => zPx.out rfl H)
  obtain ⟨g, H⟩ := H
  refine zz_put (M := m_X23_init) f_X23_10 dX23_init_12 rfl (⟨_, rfl, Or.inr ⟨rfl, rfl, rfl, q3581⟩⟩) g (ft_21_4) (fun h3 e => ?_)
  have H := H h3 e
  refine z_aload_n (M := m_X23_init) (k := 0) rfl dX23_init_15 ?_
  refine z_aload_n (M := m_X23_init) (k := 1) rfl dX23_init_16 ?_
  obtain ⟨g, H⟩ := H
  refine zz_put (M := m_X23_init) f_X23_16 dX23_init_17 rfl (⟨_, rfl, Or.inr ⟨rfl, rfl, rfl, q3572⟩⟩) g (ft_21_0) (fun h4 e => ?_)
  have H := H h4 e
  refine z_aload_n (M := m_X23_init) (k := 0) rfl dX23_init_20 ?_
  refine z_aload_n (M := m_X23_init) (k := 2) rfl dX23_init_21 ?_
  obtain ⟨g, H⟩ := H
  refine zz_put (M := m_X23_init) f_X23_20 dX23_init_22 rfl (⟨_, rfl, Or.inr ⟨rfl, rfl, rfl, q3573⟩⟩) g (ft_21_1) (fun h5 e => ?_)
  have H := H h5 e
  refine z_aload_n (M := m_X23_init) (k := 0) rfl dX23_init_25 ?_
  refine z_aload_n (M := m_X23_init) (k := 3) rfl dX23_init_26 ?_
  obtain ⟨g, H⟩ := H
  refine zz_put (M := m_X23_init) f_X23_24 dX23_init_27 rfl (⟨_, rfl, Or.inr ⟨rfl, rfl, rfl, q3576⟩⟩) g (ft_21_2) (fun h6 e => ?_)
  have H := H h6 e
  refine z_aload_n (M := m_X23_init) (k := 0) rfl dX23_init_30 ?_
  refine z_aload (M := m_X23_init) (i := 4) rfl dX23_init_31 ?_
  obtain ⟨g, H⟩ := H
  refine zz_put (M := m_X23_init) f_X23_28 dX23_init_33 rfl (⟨_, rfl, Or.inr ⟨rfl, rfl, rfl, q3579⟩⟩) g (ft_21_3) (fun h7 e => ?_)
  have H := H h7 e
  refine z_aload (M := m_X23_init) (i := 4) rfl dX23_init_36 ?_
  obtain ⟨g, H⟩ := H
  refine z_get (M := m_X23_init) f_X23_32 dX23_init_38 g ?_
  obtain ⟨⟨fs9, g⟩, H⟩ := H
  refine z_invV (M := m_X23_init) (cn := 2043) (a := []) ok_J2_entrySet q3559 q3467 q5674 rfl dX23_init_41 g (Nat.le_refl _) (Nat.zero_le _) rfl H (fun v2 h8 H => ?_) (fun n9 h9 H => zPx.out rfl H)
  obtain ⟨n2, rfl, H⟩ := H
  show zP s0 m_X23_init (d + 1) _ _ [zr (n2)] _ _ _
  obtain ⟨⟨fs9, g⟩, H⟩ := H
  refine z_invF (M := m_X23_init) (cn := 2064) (a := []) ok_J43_iterator (by change _ = some 0; decide +kernel) ⟨by decide, by decide⟩ q3561 q3506 q3505 q3510 q3509 q3507 q1585 q3508 rfl dX23_init_44 g (Nat.le_refl _) (Nat.zero_le _) rfl H (fun v3 h9 H => ?_) (fun n9 h9 H => zPx.out rfl H)
  obtain ⟨n3, rfl, H⟩ := H
  show zP s0 m_X23_init (d + 1) _ _ [zr (n3)] _ _ _
  refine z_astore (M := m_X23_init) 5 (zlt rfl) (zr_cat _) dX23_init_49 ?_
  show zP s0 m_X23_init (d + 1) _ [some (zr (x0)), some (zr (x1)), some (zr (x2)), some (zr (x3)), some (zr (x4)), some (zr (n3)), none] _ _ _ _
  exact zP.weak (ls' := [some (zr (x0)), none, none, none, none, some (zr (n3)), none]) (zle rfl) (zsub_so (zsub_no (zsub_no (zsub_no (zsub_no (zsub_so (zsub_no zsub_nil))))))) H
theorem c_X23_init {s0 : zE} {d : Nat} {x0 : Nat} {x1 : Nat} {x2 : Nat} {x3 : Nat} {x4 : Nat} {h : zH} {Q : Value → zH → Prop} {E : Nat → zH → Prop} (H : (∃ c, fC h x0 c) ∧ ((zroom s0 h 3) ∧ (∀ n1, n1 = h.2.1 → (∀ h1, h1 = znew h 44 [.int 0, zr 0, .int 0] 3 → ((∃ c, fC h1 n1 c) ∧ (zX s0 m_J5_init d [zr n1] h1 (fun _ h2 => ((fC h2 x0 21) ∧ (∀ h3, h3 = zput h2 x0 4 (zr (n1)) → ((fC h3 x0 21) ∧ (∀ h4, h4 = zput h3 x0 0 (zr (x1)) → ((fC h4 x0 21) ∧ (∀ h5, h5 = zput h4 x0 1 (zr (x2)) → ((fC h5 x0 21) ∧ (∀ h6, h6 = zput h5 x0 2 (zr (x3)) → ((fC h6 x0 21) ∧ (∀ h7, h7 = zput h6 x0 3 (zr (x4)) → ((fR h7 x4 [14] 0) ∧ ((fC h7 (gR h7 x4 0) 2043 ∧ zX s0 m_J2_entrySet d [zr (gR h7 x4 0)] h7 (fun v2 h8 => ∃ n2 : Nat, v2 = zr (n2) ∧ ((fC h8 n2 2064 ∧ zX s0 m_J43_iterator d [zr n2] h8 (fun v3 h9 => ∃ n3 : Nat, v3 = zr (n3) ∧ (zP s0 m_X23_init (d + 1) 51 [some (zr (x0)), none, none, none, none, some (zr (n3)), none] [] h9 Q E)) E))) E)))))))))))))) E)))))) : zX s0 m_X23_init (d + 1) [zr (x0), zr (x1), zr (x2), zr (x3), zr (x4)] h Q E := zX.of2 rfl (by decide +kernel) (zlay_r (zlay_r (zlay_r (zlay_r (zlay_r (zlay_n (znoneS (znoneS znone0)))))))) (zle rfl) (b_X23_init_0 H)
theorem b_X23_init_51 {s0 : zE} {d : Nat} {x0 : Nat} {x5 : Nat} {h : zH} {Q : Value → zH → Prop} {E : Nat → zH → Prop} (H : (fC h x5 2055 ∧ zX s0 m_J28_hasNext d [zr x5] h (fun v1 h1 => ∃ r1 : Int32, v1 = .int (r1) ∧ ((r1 = 0 → (Q .null h1)) ∧ (¬ r1 = 0 → ((fC h1 x5 2055 ∧ zX s0 m_J29_next d [zr x5] h1 (fun v2 h2 => ∃ n1 : Nat, v2 = zr (n1) ∧ ((n1 = 0 ∨ zCast h2 n1 "java/util/Map$Entry") ∧ ((fC h2 n1 2062 ∧ zX s0 m_J39_getKey d [zr n1] h2 (fun v3 h3 => ∃ n2 : Nat, v3 = zr (n2) ∧ ((n2 = 0 ∨ zCast h3 n2 "java/lang/String") ∧ ((fC h3 n2 2048 ∧ zX s0 m_J12_equals d [zr n2, zr (zls s0 "RelayHall$Binding" 67)] h3 (fun v4 h4 => ∃ r2 : Int32, v4 = .int (r2) ∧ ((¬ r2 = 0 → (zP s0 m_X23_init (d + 1) 51 [some (zr (x0)), none, none, none, none, some (zr (x5)), none] [] h4 Q E)) ∧ (r2 = 0 → ((fR h4 x0 [21] 4) ∧ ((fC h4 n1 2062 ∧ zX s0 m_J39_getKey d [zr n1] h4 (fun v5 h5 => ∃ n3 : Nat, v5 = zr (n3) ∧ ((n3 = 0 ∨ zCast h5 n3 "java/lang/String") ∧ ((fC h5 (gR h4 x0 4) 2044 ∧ zX s0 m_J5_add d [zr (gR h4 x0 4), zr (n3)] h5 (fun v6 h6 => ∃ r3 : Int32, v6 = .int (r3) ∧ (zP s0 m_X23_init (d + 1) 51 [some (zr (x0)), none, none, none, none, some (zr (x5)), none] [] h6 Q E)) E)))) E) ∨ (fC h4 n1 2063 ∧ zX s0 m_J39_getKey d [zr n1] h4 (fun v5 h5 => ∃ n3 : Nat, v5 = zr (n3) ∧ ((n3 = 0 ∨ zCast h5 n3 "java/lang/String") ∧ ((fC h5 (gR h4 x0 4) 2044 ∧ zX s0 m_J5_add d [zr (gR h4 x0 4), zr (n3)] h5 (fun v6 h6 => ∃ r3 : Int32, v6 = .int (r3) ∧ (zP s0 m_X23_init (d + 1) 51 [some (zr (x0)), none, none, none, none, some (zr (x5)), none] [] h6 Q E)) E)))) E)))))) E)))) E) ∨ (fC h2 n1 2063 ∧ zX s0 m_J39_getKey d [zr n1] h2 (fun v3 h3 => ∃ n2 : Nat, v3 = zr (n2) ∧ ((n2 = 0 ∨ zCast h3 n2 "java/lang/String") ∧ ((fC h3 n2 2048 ∧ zX s0 m_J12_equals d [zr n2, zr (zls s0 "RelayHall$Binding" 67)] h3 (fun v4 h4 => ∃ r2 : Int32, v4 = .int (r2) ∧ ((¬ r2 = 0 → (zP s0 m_X23_init (d + 1) 51 [some (zr (x0)), none, none, none, none, some (zr (x5)), none] [] h4 Q E)) ∧ (r2 = 0 → ((fR h4 x0 [21] 4) ∧ ((fC h4 n1 2062 ∧ zX s0 m_J39_getKey d [zr n1] h4 (fun v5 h5 => ∃ n3 : Nat, v5 = zr (n3) ∧ ((n3 = 0 ∨ zCast h5 n3 "java/lang/String") ∧ ((fC h5 (gR h4 x0 4) 2044 ∧ zX s0 m_J5_add d [zr (gR h4 x0 4), zr (n3)] h5 (fun v6 h6 => ∃ r3 : Int32, v6 = .int (r3) ∧ (zP s0 m_X23_init (d + 1) 51 [some (zr (x0)), none, none, none, none, some (zr (x5)), none] [] h6 Q E)) E)))) E) ∨ (fC h4 n1 2063 ∧ zX s0 m_J39_getKey d [zr n1] h4 (fun v5 h5 => ∃ n3 : Nat, v5 = zr (n3) ∧ ((n3 = 0 ∨ zCast h5 n3 "java/lang/String") ∧ ((fC h5 (gR h4 x0 4) 2044 ∧ zX s0 m_J5_add d [zr (gR h4 x0 4), zr (n3)] h5 (fun v6 h6 => ∃ r3 : Int32, v6 = .int (r3) ∧ (zP s0 m_X23_init (d + 1) 51 [some (zr (x0)), none, none, none, none, some (zr (x5)), none] [] h6 Q E)) E)))) E)))))) E)))) E)))) E))))) E)) : zP s0 m_X23_init (d + 1) 51 [some (zr (x0)), none, none, none, none, some (zr (x5)), none] [] h Q E := by
  refine z_aload (M := m_X23_init) (i := 5) rfl dX23_init_51 ?_
  obtain ⟨⟨fs9, g⟩, H⟩ := H
  refine z_invF (M := m_X23_init) (cn := 2055) (a := []) ok_J28_hasNext (by change _ = some 0; decide +kernel) ⟨by decide, by decide⟩ q3563 q1674 q1673 q1691 q1689 q1687 q1690 q1688 rfl dX23_init_53 g (Nat.le_refl _) (Nat.zero_le _) rfl H (fun v1 h1 H => ?_) (fun n9 h9 H => zPx.out rfl H)
  obtain ⟨r1, rfl, H⟩ := H
  show zP s0 m_X23_init (d + 1) _ _ [.int (r1)] _ _ _
  refine z_ifeq (M := m_X23_init) 112 rfl dX23_init_58 (fun hc => ?_) (fun hc => ?_)
  · have H := H.1 hc
    exact z_return (M := m_X23_init) rfl dX23_init_112 H
  · have H := H.2 hc
    refine z_aload (M := m_X23_init) (i := 5) rfl dX23_init_61 ?_
    obtain ⟨⟨fs9, g⟩, H⟩ := H
    refine z_invF (M := m_X23_init) (cn := 2055) (a := []) ok_J29_next (by change _ = some 0; decide +kernel) ⟨by decide, by decide⟩ q3565 q1709 q1708 q1754 q1752 q1687 q1753 q1751 rfl dX23_init_63 g (Nat.le_refl _) (Nat.zero_le _) rfl H (fun v2 h2 H => ?_) (fun n9 h9 H => zPx.out rfl H)
    obtain ⟨n1, rfl, H⟩ := H
    show zP s0 m_X23_init (d + 1) _ _ [zr (n1)] _ _ _
    obtain ⟨g, H⟩ := H
    refine z_checkcast (M := m_X23_init) q3566 dX23_init_68 g ?_
    refine z_astore (M := m_X23_init) 6 (zlt rfl) (zr_cat _) dX23_init_71 ?_
    show zP s0 m_X23_init (d + 1) _ [some (zr (x0)), none, none, none, none, some (zr (x5)), some (zr (n1))] _ _ _ _
    refine z_aload (M := m_X23_init) (i := 6) rfl dX23_init_73 ?_
    rcases H with ⟨⟨fs9, g⟩, H⟩ | ⟨⟨fs9, g⟩, H⟩
    · refine z_invF (M := m_X23_init) (cn := 2062) (a := []) ok_J39_getKey (by change _ = some 0; decide +kernel) ⟨by decide, by decide⟩ q3568 q2589 q2588 q2600 q2607 q2605 q2599 q2606 rfl dX23_init_75 g (Nat.le_refl _) (Nat.zero_le _) rfl H (fun v3 h3 H => ?_) (fun n9 h9 H => zPx.out rfl H)
      obtain ⟨n2, rfl, H⟩ := H
      show zP s0 m_X23_init (d + 1) _ _ [zr (n2)] _ _ _
      obtain ⟨g, H⟩ := H
      refine z_checkcast (M := m_X23_init) q3569 dX23_init_80 g ?_
      refine z_ldcS (M := m_X23_init) (k_s_RelayHall_Binding_67 (s0 := s0)) dX23_init_83 ?_
      obtain ⟨⟨fs9, g⟩, H⟩ := H
      refine z_invV (M := m_X23_init) (cn := 2048) (a := [zr (zls s0 "RelayHall$Binding" 67)]) ok_J12_equals q3439 q943 q944 rfl dX23_init_85 g (Nat.le_refl _) (Nat.zero_le _) rfl H (fun v4 h4 H => ?_) (fun n9 h9 H => zPx.out rfl H)
      obtain ⟨r2, rfl, H⟩ := H
      show zP s0 m_X23_init (d + 1) _ _ [.int (r2)] _ _ _
      refine z_ifne (M := m_X23_init) 109 rfl dX23_init_88 (fun hc => ?_) (fun hc => ?_)
      · have H := H.1 hc
        refine z_goto (M := m_X23_init) 51 rfl dX23_init_109 ?_
        exact zP.weak (ls' := [some (zr (x0)), none, none, none, none, some (zr (x5)), none]) (zle rfl) (zsub_so (zsub_no (zsub_no (zsub_no (zsub_no (zsub_so (zsub_no zsub_nil))))))) H
      · have H := H.2 hc
        refine z_aload_n (M := m_X23_init) (k := 0) rfl dX23_init_91 ?_
        obtain ⟨g, H⟩ := H
        refine z_get (M := m_X23_init) f_X23_10 dX23_init_92 g ?_
        refine z_aload (M := m_X23_init) (i := 6) rfl dX23_init_95 ?_
        rcases H with ⟨⟨fs9, g⟩, H⟩ | ⟨⟨fs9, g⟩, H⟩
        · refine z_invF (M := m_X23_init) (cn := 2062) (a := []) ok_J39_getKey (by change _ = some 0; decide +kernel) ⟨by decide, by decide⟩ q3568 q2589 q2588 q2600 q2607 q2605 q2599 q2606 rfl dX23_init_97 g (Nat.le_refl _) (Nat.le_trans (zcatr zcat0) (zle rfl)) rfl H (fun v5 h5 H => ?_) (fun n9 h9 H => zPx.out rfl H)
          obtain ⟨n3, rfl, H⟩ := H
          show zP s0 m_X23_init (d + 1) _ _ [zr (n3), zr (gR h4 x0 4)] _ _ _
          obtain ⟨g, H⟩ := H
          refine z_checkcast (M := m_X23_init) q3569 dX23_init_102 g ?_
          obtain ⟨⟨fs9, g⟩, H⟩ := H
          refine z_invV (M := m_X23_init) (cn := 2044) (a := [zr (n3)]) ok_J5_add q3571 q3392 q3393 rfl dX23_init_105 g (Nat.le_refl _) (Nat.zero_le _) rfl H (fun v6 h6 H => ?_) (fun n9 h9 H => zPx.out rfl H)
          obtain ⟨r3, rfl, H⟩ := H
          show zP s0 m_X23_init (d + 1) _ _ [.int (r3)] _ _ _
          refine z_pop (M := m_X23_init) rfl dX23_init_108 ?_
          refine z_goto (M := m_X23_init) 51 rfl dX23_init_109 ?_
          exact zP.weak (ls' := [some (zr (x0)), none, none, none, none, some (zr (x5)), none]) (zle rfl) (zsub_so (zsub_no (zsub_no (zsub_no (zsub_no (zsub_so (zsub_no zsub_nil))))))) H
        · refine z_invF (M := m_X23_init) (cn := 2063) (a := []) ok_J39_getKey (by change _ = some 0; decide +kernel) ⟨by decide, by decide⟩ q3568 q2589 q2588 q2600 q2604 q2602 q2599 q2603 rfl dX23_init_97 g (Nat.le_refl _) (Nat.le_trans (zcatr zcat0) (zle rfl)) rfl H (fun v5 h5 H => ?_) (fun n9 h9 H => zPx.out rfl H)
          obtain ⟨n3, rfl, H⟩ := H
          show zP s0 m_X23_init (d + 1) _ _ [zr (n3), zr (gR h4 x0 4)] _ _ _
          obtain ⟨g, H⟩ := H
          refine z_checkcast (M := m_X23_init) q3569 dX23_init_102 g ?_
          obtain ⟨⟨fs9, g⟩, H⟩ := H
          refine z_invV (M := m_X23_init) (cn := 2044) (a := [zr (n3)]) ok_J5_add q3571 q3392 q3393 rfl dX23_init_105 g (Nat.le_refl _) (Nat.zero_le _) rfl H (fun v6 h6 H => ?_) (fun n9 h9 H => zPx.out rfl H)
          obtain ⟨r3, rfl, H⟩ := H
          show zP s0 m_X23_init (d + 1) _ _ [.int (r3)] _ _ _
          refine z_pop (M := m_X23_init) rfl dX23_init_108 ?_
          refine z_goto (M := m_X23_init) 51 rfl dX23_init_109 ?_
          exact zP.weak (ls' := [some (zr (x0)), none, none, none, none, some (zr (x5)), none]) (zle rfl) (zsub_so (zsub_no (zsub_no (zsub_no (zsub_no (zsub_so (zsub_no zsub_nil))))))) H
    · refine z_invF (M := m_X23_init) (cn := 2063) (a := []) ok_J39_getKey (by change _ = some 0; decide +kernel) ⟨by decide, by decide⟩ q3568 q2589 q2588 q2600 q2604 q2602 q2599 q2603 rfl dX23_init_75 g (Nat.le_refl _) (Nat.zero_le _) rfl H (fun v3 h3 H => ?_) (fun n9 h9 H => zPx.out rfl H)
      obtain ⟨n2, rfl, H⟩ := H
      show zP s0 m_X23_init (d + 1) _ _ [zr (n2)] _ _ _
      obtain ⟨g, H⟩ := H
      refine z_checkcast (M := m_X23_init) q3569 dX23_init_80 g ?_
      refine z_ldcS (M := m_X23_init) (k_s_RelayHall_Binding_67 (s0 := s0)) dX23_init_83 ?_
      obtain ⟨⟨fs9, g⟩, H⟩ := H
      refine z_invV (M := m_X23_init) (cn := 2048) (a := [zr (zls s0 "RelayHall$Binding" 67)]) ok_J12_equals q3439 q943 q944 rfl dX23_init_85 g (Nat.le_refl _) (Nat.zero_le _) rfl H (fun v4 h4 H => ?_) (fun n9 h9 H => zPx.out rfl H)
      obtain ⟨r2, rfl, H⟩ := H
      show zP s0 m_X23_init (d + 1) _ _ [.int (r2)] _ _ _
      refine z_ifne (M := m_X23_init) 109 rfl dX23_init_88 (fun hc => ?_) (fun hc => ?_)
      · have H := H.1 hc
        refine z_goto (M := m_X23_init) 51 rfl dX23_init_109 ?_
        exact zP.weak (ls' := [some (zr (x0)), none, none, none, none, some (zr (x5)), none]) (zle rfl) (zsub_so (zsub_no (zsub_no (zsub_no (zsub_no (zsub_so (zsub_no zsub_nil))))))) H
      · have H := H.2 hc
        refine z_aload_n (M := m_X23_init) (k := 0) rfl dX23_init_91 ?_
        obtain ⟨g, H⟩ := H
        refine z_get (M := m_X23_init) f_X23_10 dX23_init_92 g ?_
        refine z_aload (M := m_X23_init) (i := 6) rfl dX23_init_95 ?_
        rcases H with ⟨⟨fs9, g⟩, H⟩ | ⟨⟨fs9, g⟩, H⟩
        · refine z_invF (M := m_X23_init) (cn := 2062) (a := []) ok_J39_getKey (by change _ = some 0; decide +kernel) ⟨by decide, by decide⟩ q3568 q2589 q2588 q2600 q2607 q2605 q2599 q2606 rfl dX23_init_97 g (Nat.le_refl _) (Nat.le_trans (zcatr zcat0) (zle rfl)) rfl H (fun v5 h5 H => ?_) (fun n9 h9 H => zPx.out rfl H)
          obtain ⟨n3, rfl, H⟩ := H
          show zP s0 m_X23_init (d + 1) _ _ [zr (n3), zr (gR h4 x0 4)] _ _ _
          obtain ⟨g, H⟩ := H
          refine z_checkcast (M := m_X23_init) q3569 dX23_init_102 g ?_
          obtain ⟨⟨fs9, g⟩, H⟩ := H
          refine z_invV (M := m_X23_init) (cn := 2044) (a := [zr (n3)]) ok_J5_add q3571 q3392 q3393 rfl dX23_init_105 g (Nat.le_refl _) (Nat.zero_le _) rfl H (fun v6 h6 H => ?_) (fun n9 h9 H => zPx.out rfl H)
          obtain ⟨r3, rfl, H⟩ := H
          show zP s0 m_X23_init (d + 1) _ _ [.int (r3)] _ _ _
          refine z_pop (M := m_X23_init) rfl dX23_init_108 ?_
          refine z_goto (M := m_X23_init) 51 rfl dX23_init_109 ?_
          exact zP.weak (ls' := [some (zr (x0)), none, none, none, none, some (zr (x5)), none]) (zle rfl) (zsub_so (zsub_no (zsub_no (zsub_no (zsub_no (zsub_so (zsub_no zsub_nil))))))) H
        · refine z_invF (M := m_X23_init) (cn := 2063) (a := []) ok_J39_getKey (by change _ = some 0; decide +kernel) ⟨by decide, by decide⟩ q3568 q2589 q2588 q2600 q2604 q2602 q2599 q2603 rfl dX23_init_97 g (Nat.le_refl _) (Nat.le_trans (zcatr zcat0) (zle rfl)) rfl H (fun v5 h5 H => ?_) (fun n9 h9 H => zPx.out rfl H)
          obtain ⟨n3, rfl, H⟩ := H
          show zP s0 m_X23_init (d + 1) _ _ [zr (n3), zr (gR h4 x0 4)] _ _ _
          obtain ⟨g, H⟩ := H
          refine z_checkcast (M := m_X23_init) q3569 dX23_init_102 g ?_
          obtain ⟨⟨fs9, g⟩, H⟩ := H
          refine z_invV (M := m_X23_init) (cn := 2044) (a := [zr (n3)]) ok_J5_add q3571 q3392 q3393 rfl dX23_init_105 g (Nat.le_refl _) (Nat.zero_le _) rfl H (fun v6 h6 H => ?_) (fun n9 h9 H => zPx.out rfl H)
          obtain ⟨r3, rfl, H⟩ := H
          show zP s0 m_X23_init (d + 1) _ _ [.int (r3)] _ _ _
          refine z_pop (M := m_X23_init) rfl dX23_init_108 ?_
          refine z_goto (M := m_X23_init) 51 rfl dX23_init_109 ?_
          exact zP.weak (ls' := [some (zr (x0)), none, none, none, none, some (zr (x5)), none]) (zle rfl) (zsub_so (zsub_no (zsub_no (zsub_no (zsub_no (zsub_so (zsub_no zsub_nil))))))) H
