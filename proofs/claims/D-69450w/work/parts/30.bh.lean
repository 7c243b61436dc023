/-! methods with handlers: fit to be called; blocks of their callers -/
set_option maxRecDepth 100000
theorem okH_X1_frame : zMokH m_X1_frame 4 := ⟨by decide, q2879, q243, ⟨by decide, by decide⟩, by decide +kernel, by decide⟩
theorem okH_J27_remove : zMokH m_J27_remove 0 := ⟨by decide, q1878, q282, ⟨by decide, by decide⟩, by decide +kernel, by decide⟩
theorem okH_J0_equals : zMokH m_J0_equals 1 := ⟨by decide, q3449, q244, ⟨by decide, by decide⟩, by decide +kernel, by decide⟩
theorem b_X1_oneFrame_0 {s0 : zE} {d : Nat} {x0 : Nat} {x1 : Nat} {h : zH} {Q : Value → zH → Prop} {E : Nat → zH → Prop} (H : (fI h x1 [5] 8) ∧ ((7 ≤ gI h x1 8 → ((fR h x0 [0] 6) ∧ ((fR h x1 [5] 7) ∧ ((fC h (gR h x0 6) 3 ∧ zX s0 m_X4_over d [zr (gR h x0 6), zr (gR h x1 7), .int (0), .int (7)] h (fun v1 h1 => ∃ n1 : Nat, v1 = zr (n1) ∧ ((fR h1 x0 [0] 6) ∧ ((fC h1 (gR h1 x0 6) 3 ∧ zX s0 m_X4_u8 d [zr (gR h1 x0 6)] h1 (fun v2 h2 => ∃ r1 : Int32, v2 = .int (r1) ∧ ((fR h2 x0 [0] 6) ∧ ((fC h2 (gR h2 x0 6) 3 ∧ zX s0 m_X4_u16 d [zr (gR h2 x0 6)] h2 (fun v3 h3 => ∃ r2 : Int32, v3 = .int (r2) ∧ ((fR h3 x0 [0] 6) ∧ ((fC h3 (gR h3 x0 6) 3 ∧ zX s0 m_X4_u32 d [zr (gR h3 x0 6)] h3 (fun v4 h4 => ∃ r3 : Int64, v4 = .long (r3) ∧ ((r1 = 1 → (zP s0 m_X1_oneFrame (d + 1) 72 [some (zr (x0)), some (zr (x1)), some (.int (r1)), some (.int (r2)), some (.long (r3)), none, none, none, none] [] h4 Q E)) ∧ (¬ r1 = 1 → ((r1 = 2 → (zP s0 m_X1_oneFrame (d + 1) 72 [some (zr (x0)), some (zr (x1)), some (.int (r1)), some (.int (r2)), some (.long (r3)), none, none, none, none] [] h4 Q E)) ∧ (¬ r1 = 2 → ((r1 = 3 → (zP s0 m_X1_oneFrame (d + 1) 72 [some (zr (x0)), some (zr (x1)), some (.int (r1)), some (.int (r2)), some (.long (r3)), none, none, none, none] [] h4 Q E)) ∧ (¬ r1 = 3 → ((¬ r1 = 8 → (zP s0 m_X1_oneFrame (d + 1) 85 [some (zr (x0)), some (zr (x1)), some (.int (r1)), some (.int (r2)), some (.long (r3)), none, none, none, none] [] h4 Q E)) ∧ (r1 = 8 → (zP s0 m_X1_oneFrame (d + 1) 72 [some (zr (x0)), some (zr (x1)), some (.int (r1)), some (.int (r2)), some (.long (r3)), none, none, none, none] [] h4 Q E)))))))))) E)))) E)))) E)))) E))))) ∧ (¬ 7 ≤ gI h x1 8 → (Q (.int 0) h)))) : zP s0 m_X1_oneFrame (d + 1) 0 [some (zr (x0)), some (zr (x1)), none, none, none, none, none, none, none] [] h Q E := by
  refine z_aload_n (M := m_X1_oneFrame) (k := 1) rfl dX1_oneFrame_0 ?_
  obtain ⟨g, H⟩ := H
  refine z_get (M := m_X1_oneFrame) f_X1_129 dX1_oneFrame_1 g ?_
  refine z_bipush (M := m_X1_oneFrame) (v := 7) (by decide) dX1_oneFrame_4 ?_
  refine z_icmpge (M := m_X1_oneFrame) 11 rfl dX1_oneFrame_6 (fun hc => ?_) (fun hc => ?_)
  · have H := H.1 hc
    refine z_aload_n (M := m_X1_oneFrame) (k := 0) rfl dX1_oneFrame_11 ?_
    obtain ⟨g, H⟩ := H
    refine z_get (M := m_X1_oneFrame) f_X1_53 dX1_oneFrame_12 g ?_
    refine z_aload_n (M := m_X1_oneFrame) (k := 1) rfl dX1_oneFrame_15 ?_
    obtain ⟨g, H⟩ := H
    refine z_get (M := m_X1_oneFrame) f_X1_541 dX1_oneFrame_16 g ?_
    refine z_iconst (M := m_X1_oneFrame) (v := 0) (by decide) dX1_oneFrame_19 ?_
    refine z_bipush (M := m_X1_oneFrame) (v := 7) (by decide) dX1_oneFrame_20 ?_
    obtain ⟨⟨fs9, g⟩, H⟩ := H
    refine z_invV (M := m_X1_oneFrame) (cn := 3) (a := [zr (gR h x1 7), .int (0), .int (7)]) ok_X4_over q2843 q2844 q2845 rfl dX1_oneFrame_22 g (Nat.le_refl _) (Nat.zero_le _) rfl H (fun v1 h1 H => ?_) (fun n9 h9 H => zPx.out rfl H)
    obtain ⟨n1, rfl, H⟩ := H
    show zP s0 m_X1_oneFrame (d + 1) _ _ [zr (n1)] _ _ _
    refine z_pop (M := m_X1_oneFrame) (zr_cat _) dX1_oneFrame_25 ?_
    refine z_aload_n (M := m_X1_oneFrame) (k := 0) rfl dX1_oneFrame_26 ?_
    obtain ⟨g, H⟩ := H
    refine z_get (M := m_X1_oneFrame) f_X1_53 dX1_oneFrame_27 g ?_
    obtain ⟨⟨fs9, g⟩, H⟩ := H
    refine z_invV (M := m_X1_oneFrame) (cn := 3) (a := []) ok_X4_u8 q2847 q2848 q2849 rfl dX1_oneFrame_30 g (Nat.le_refl _) (Nat.zero_le _) rfl H (fun v2 h2 H => ?_) (fun n9 h9 H => zPx.out rfl H)
    obtain ⟨r1, rfl, H⟩ := H
    show zP s0 m_X1_oneFrame (d + 1) _ _ [.int (r1)] _ _ _
    refine z_istore_n (M := m_X1_oneFrame) (k := 2) 2 rfl (zlt rfl) (zr_cat _) dX1_oneFrame_33 ?_
    show zP s0 m_X1_oneFrame (d + 1) _ [some (zr (x0)), some (zr (x1)), some (.int (r1)), none, none, none, none, none, none] _ _ _ _
    refine z_aload_n (M := m_X1_oneFrame) (k := 0) rfl dX1_oneFrame_34 ?_
    obtain ⟨g, H⟩ := H
    refine z_get (M := m_X1_oneFrame) f_X1_53 dX1_oneFrame_35 g ?_
    obtain ⟨⟨fs9, g⟩, H⟩ := H
    refine z_invV (M := m_X1_oneFrame) (cn := 3) (a := []) ok_X4_u16 q2851 q2852 q2853 rfl dX1_oneFrame_38 g (Nat.le_refl _) (Nat.zero_le _) rfl H (fun v3 h3 H => ?_) (fun n9 h9 H => zPx.out rfl H)
    obtain ⟨r2, rfl, H⟩ := H
    show zP s0 m_X1_oneFrame (d + 1) _ _ [.int (r2)] _ _ _
    refine z_istore_n (M := m_X1_oneFrame) (k := 3) 3 rfl (zlt rfl) rfl dX1_oneFrame_41 ?_
    show zP s0 m_X1_oneFrame (d + 1) _ [some (zr (x0)), some (zr (x1)), some (.int (r1)), some (.int (r2)), none, none, none, none, none] _ _ _ _
    refine z_aload_n (M := m_X1_oneFrame) (k := 0) rfl dX1_oneFrame_42 ?_
    obtain ⟨g, H⟩ := H
    refine z_get (M := m_X1_oneFrame) f_X1_53 dX1_oneFrame_43 g ?_
    obtain ⟨⟨fs9, g⟩, H⟩ := H
    refine z_invV (M := m_X1_oneFrame) (cn := 3) (a := []) ok_X4_u32 q2856 q2857 q2858 rfl dX1_oneFrame_46 g (Nat.le_refl _) (Nat.zero_le _) rfl H (fun v4 h4 H => ?_) (fun n9 h9 H => zPx.out rfl H)
    obtain ⟨r3, rfl, H⟩ := H
    show zP s0 m_X1_oneFrame (d + 1) _ _ [.long (r3)] _ _ _
    refine z_lstore (M := m_X1_oneFrame) 4 (zlt rfl) rfl dX1_oneFrame_49 ?_
    show zP s0 m_X1_oneFrame (d + 1) _ [some (zr (x0)), some (zr (x1)), some (.int (r1)), some (.int (r2)), some (.long (r3)), none, none, none, none] _ _ _ _
    refine z_iload_n (M := m_X1_oneFrame) (k := 2) rfl dX1_oneFrame_51 ?_
    refine z_iconst (M := m_X1_oneFrame) (v := 1) (by decide) dX1_oneFrame_52 ?_
    refine z_icmpeq (M := m_X1_oneFrame) 72 rfl dX1_oneFrame_53 (fun hc => ?_) (fun hc => ?_)
    · have H := H.1 hc
      exact H
    · have H := H.2 hc
      refine z_iload_n (M := m_X1_oneFrame) (k := 2) rfl dX1_oneFrame_56 ?_
      refine z_iconst (M := m_X1_oneFrame) (v := 2) (by decide) dX1_oneFrame_57 ?_
      refine z_icmpeq (M := m_X1_oneFrame) 72 rfl dX1_oneFrame_58 (fun hc => ?_) (fun hc => ?_)
      · have H := H.1 hc
        exact H
      · have H := H.2 hc
        refine z_iload_n (M := m_X1_oneFrame) (k := 2) rfl dX1_oneFrame_61 ?_
        refine z_iconst (M := m_X1_oneFrame) (v := 3) (by decide) dX1_oneFrame_62 ?_
        refine z_icmpeq (M := m_X1_oneFrame) 72 rfl dX1_oneFrame_63 (fun hc => ?_) (fun hc => ?_)
        · have H := H.1 hc
          exact H
        · have H := H.2 hc
          refine z_iload_n (M := m_X1_oneFrame) (k := 2) rfl dX1_oneFrame_66 ?_
          refine z_bipush (M := m_X1_oneFrame) (v := 8) (by decide) dX1_oneFrame_67 ?_
          refine z_icmpne (M := m_X1_oneFrame) 85 rfl dX1_oneFrame_69 (fun hc => ?_) (fun hc => ?_)
          · have H := H.1 hc
            exact H
          · have H := H.2 hc
            exact H
  · have H := H.2 hc
    refine z_iconst (M := m_X1_oneFrame) (v := 0) (by decide) dX1_oneFrame_9 ?_
    exact z_ireturn (M := m_X1_oneFrame) rfl rfl dX1_oneFrame_10 H
theorem c_X1_oneFrame {s0 : zE} {d : Nat} {x0 : Nat} {x1 : Nat} {h : zH} {Q : Value → zH → Prop} {E : Nat → zH → Prop} (H : (fI h x1 [5] 8) ∧ ((7 ≤ gI h x1 8 → ((fR h x0 [0] 6) ∧ ((fR h x1 [5] 7) ∧ ((fC h (gR h x0 6) 3 ∧ zX s0 m_X4_over d [zr (gR h x0 6), zr (gR h x1 7), .int (0), .int (7)] h (fun v1 h1 => ∃ n1 : Nat, v1 = zr (n1) ∧ ((fR h1 x0 [0] 6) ∧ ((fC h1 (gR h1 x0 6) 3 ∧ zX s0 m_X4_u8 d [zr (gR h1 x0 6)] h1 (fun v2 h2 => ∃ r1 : Int32, v2 = .int (r1) ∧ ((fR h2 x0 [0] 6) ∧ ((fC h2 (gR h2 x0 6) 3 ∧ zX s0 m_X4_u16 d [zr (gR h2 x0 6)] h2 (fun v3 h3 => ∃ r2 : Int32, v3 = .int (r2) ∧ ((fR h3 x0 [0] 6) ∧ ((fC h3 (gR h3 x0 6) 3 ∧ zX s0 m_X4_u32 d [zr (gR h3 x0 6)] h3 (fun v4 h4 => ∃ r3 : Int64, v4 = .long (r3) ∧ ((r1 = 1 → (zP s0 m_X1_oneFrame (d + 1) 72 [some (zr (x0)), some (zr (x1)), some (.int (r1)), some (.int (r2)), some (.long (r3)), none, none, none, none] [] h4 Q E)) ∧ (¬ r1 = 1 → ((r1 = 2 → (zP s0 m_X1_oneFrame (d + 1) 72 [some (zr (x0)), some (zr (x1)), some (.int (r1)), some (.int (r2)), some (.long (r3)), none, none, none, none] [] h4 Q E)) ∧ (¬ r1 = 2 → ((r1 = 3 → (zP s0 m_X1_oneFrame (d + 1) 72 [some (zr (x0)), some (zr (x1)), some (.int (r1)), some (.int (r2)), some (.long (r3)), none, none, none, none] [] h4 Q E)) ∧ (¬ r1 = 3 → ((¬ r1 = 8 → (zP s0 m_X1_oneFrame (d + 1) 85 [some (zr (x0)), some (zr (x1)), some (.int (r1)), some (.int (r2)), some (.long (r3)), none, none, none, none] [] h4 Q E)) ∧ (r1 = 8 → (zP s0 m_X1_oneFrame (d + 1) 72 [some (zr (x0)), some (zr (x1)), some (.int (r1)), some (.int (r2)), some (.long (r3)), none, none, none, none] [] h4 Q E)))))))))) E)))) E)))) E)))) E))))) ∧ (¬ 7 ≤ gI h x1 8 → (Q (.int 0) h)))) : zX s0 m_X1_oneFrame (d + 1) [zr (x0), zr (x1)] h Q E := zX.of2 rfl (by decide +kernel) (zlay_r (zlay_r (zlay_n (znoneS (znoneS (znoneS (znoneS (znoneS (znoneS (znoneS znone0)))))))))) (zle rfl) (b_X1_oneFrame_0 H)
theorem b_X1_oneFrame_72 {s0 : zE} {d : Nat} {x0 : Nat} {x1 : Nat} {x2 : Int32} {x3 : Int32} {x4 : Int64} {h : zH} {Q : Value → zH → Prop} {E : Nat → zH → Prop} (H : (0 < lg_cmp x4 400 → (zP s0 m_X1_oneFrame (d + 1) 85 [some (zr (x0)), some (zr (x1)), some (.int (x2)), some (.int (x3)), some (.long (x4)), none, none, none, none] [] h Q E)) ∧ (¬ 0 < lg_cmp x4 400 → (zP s0 m_X1_oneFrame (d + 1) 86 [some (zr (x0)), some (zr (x1)), some (.int (x2)), some (.int (x3)), some (.long (x4)), none, none, none, none] [.int (1)] h Q E))) : zP s0 m_X1_oneFrame (d + 1) 72 [some (zr (x0)), some (zr (x1)), some (.int (x2)), some (.int (x3)), some (.long (x4)), none, none, none, none] [] h Q E := by
  refine z_lload (M := m_X1_oneFrame) (i := 4) rfl dX1_oneFrame_72 ?_
  refine z_ldc2 (M := m_X1_oneFrame) (v := 400) q2866 dX1_oneFrame_74 ?_
  refine z_lcmp (M := m_X1_oneFrame) dX1_oneFrame_77 ?_
  refine z_ifgt (M := m_X1_oneFrame) 85 rfl dX1_oneFrame_78 (fun hc => ?_) (fun hc => ?_)
  · have H := H.1 hc
    exact H
  · have H := H.2 hc
    refine z_iconst (M := m_X1_oneFrame) (v := 1) (by decide) dX1_oneFrame_81 ?_
    refine z_goto (M := m_X1_oneFrame) 86 rfl dX1_oneFrame_82 ?_
    exact H
theorem b_X1_oneFrame_85 {s0 : zE} {d : Nat} {x0 : Nat} {x1 : Nat} {x2 : Int32} {x3 : Int32} {x4 : Int64} {h : zH} {Q : Value → zH → Prop} {E : Nat → zH → Prop} (H : zP s0 m_X1_oneFrame (d + 1) 86 [some (zr (x0)), some (zr (x1)), some (.int (x2)), some (.int (x3)), some (.long (x4)), none, none, none, none] [.int (0)] h Q E) : zP s0 m_X1_oneFrame (d + 1) 85 [some (zr (x0)), some (zr (x1)), some (.int (x2)), some (.int (x3)), some (.long (x4)), none, none, none, none] [] h Q E := by
  refine z_iconst (M := m_X1_oneFrame) (v := 0) (by decide) dX1_oneFrame_85 ?_
  exact H
theorem b_X1_oneFrame_86 {s0 : zE} {d : Nat} {x0 : Nat} {x1 : Nat} {x2 : Int32} {x3 : Int32} {x4 : Int64} {t0 : Int32} {h : zH} {Q : Value → zH → Prop} {E : Nat → zH → Prop} (H : (t0 = 0 → (zP s0 m_X1_oneFrame (d + 1) 100 [some (zr (x0)), some (zr (x1)), some (.int (x2)), some (.int (x3)), none, none, some (.int (t0)), none, none] [.int (0)] h Q E)) ∧ (¬ t0 = 0 → (zP s0 m_X1_oneFrame (d + 1) 100 [some (zr (x0)), some (zr (x1)), some (.int (x2)), some (.int (x3)), none, none, some (.int (t0)), none, none] [.int (x4.toInt32)] h Q E))) : zP s0 m_X1_oneFrame (d + 1) 86 [some (zr (x0)), some (zr (x1)), some (.int (x2)), some (.int (x3)), some (.long (x4)), none, none, none, none] [.int (t0)] h Q E := by
  refine z_istore (M := m_X1_oneFrame) 6 (zlt rfl) trivial dX1_oneFrame_86 ?_
  show zP s0 m_X1_oneFrame (d + 1) _ [some (zr (x0)), some (zr (x1)), some (.int (x2)), some (.int (x3)), some (.long (x4)), none, some (.int (t0)), none, none] _ _ _ _
  refine z_iload (M := m_X1_oneFrame) (i := 6) rfl dX1_oneFrame_88 ?_
  refine z_ifeq (M := m_X1_oneFrame) 99 rfl dX1_oneFrame_90 (fun hc => ?_) (fun hc => ?_)
  · have H := H.1 hc
    refine z_iconst (M := m_X1_oneFrame) (v := 0) (by decide) dX1_oneFrame_99 ?_
    exact zP.weak (ls' := [some (zr (x0)), some (zr (x1)), some (.int (x2)), some (.int (x3)), none, none, some (.int (t0)), none, none]) (zle rfl) (zsub_so (zsub_so (zsub_so (zsub_so (zsub_no (zsub_no (zsub_so (zsub_no (zsub_no zsub_nil))))))))) H
  · have H := H.2 hc
    refine z_lload (M := m_X1_oneFrame) (i := 4) rfl dX1_oneFrame_93 ?_
    refine z_l2i (M := m_X1_oneFrame) dX1_oneFrame_95 ?_
    refine z_goto (M := m_X1_oneFrame) 100 rfl dX1_oneFrame_96 ?_
    exact zP.weak (ls' := [some (zr (x0)), some (zr (x1)), some (.int (x2)), some (.int (x3)), none, none, some (.int (t0)), none, none]) (zle rfl) (zsub_so (zsub_so (zsub_so (zsub_so (zsub_no (zsub_no (zsub_so (zsub_no (zsub_no zsub_nil))))))))) H
theorem b_X1_oneFrame_100 {s0 : zE} {d : Nat} {x0 : Nat} {x1 : Nat} {x2 : Int32} {x3 : Int32} {x6 : Int32} {t0 : Int32} {h : zH} {Q : Value → zH → Prop} {E : Nat → zH → Prop} (H : (x6 = 0 → (zP s0 m_X1_oneFrame (d + 1) 121 [some (zr (x0)), some (zr (x1)), some (.int (x2)), some (.int (x3)), none, none, some (.int (x6)), some (.int (t0)), none] [] h Q E)) ∧ (¬ x6 = 0 → ((fI h x1 [5] 8) ∧ ((t0 + 8 ≤ gI h x1 8 → (zP s0 m_X1_oneFrame (d + 1) 121 [some (zr (x0)), some (zr (x1)), some (.int (x2)), some (.int (x3)), none, none, some (.int (x6)), some (.int (t0)), none] [] h Q E)) ∧ (¬ t0 + 8 ≤ gI h x1 8 → (Q (.int 0) h)))))) : zP s0 m_X1_oneFrame (d + 1) 100 [some (zr (x0)), some (zr (x1)), some (.int (x2)), some (.int (x3)), none, none, some (.int (x6)), none, none] [.int (t0)] h Q E := by
  refine z_istore (M := m_X1_oneFrame) 7 (zlt rfl) rfl dX1_oneFrame_100 ?_
  show zP s0 m_X1_oneFrame (d + 1) _ [some (zr (x0)), some (zr (x1)), some (.int (x2)), some (.int (x3)), none, none, some (.int (x6)), some (.int (t0)), none] _ _ _ _
  refine z_iload (M := m_X1_oneFrame) (i := 6) rfl dX1_oneFrame_102 ?_
  refine z_ifeq (M := m_X1_oneFrame) 121 rfl dX1_oneFrame_104 (fun hc => ?_) (fun hc => ?_)
  · have H := H.1 hc
    exact H
  · have H := H.2 hc
    refine z_aload_n (M := m_X1_oneFrame) (k := 1) rfl dX1_oneFrame_107 ?_
    obtain ⟨g, H⟩ := H
    refine z_get (M := m_X1_oneFrame) f_X1_129 dX1_oneFrame_108 g ?_
    refine z_iload (M := m_X1_oneFrame) (i := 7) rfl dX1_oneFrame_111 ?_
    refine z_bipush (M := m_X1_oneFrame) (v := 8) (by decide) dX1_oneFrame_113 ?_
    refine z_iadd (M := m_X1_oneFrame) dX1_oneFrame_115 ?_
    refine z_icmpge (M := m_X1_oneFrame) 121 rfl dX1_oneFrame_116 (fun hc => ?_) (fun hc => ?_)
    · have H := H.1 hc
      exact H
    · have H := H.2 hc
      refine z_iconst (M := m_X1_oneFrame) (v := 0) (by decide) dX1_oneFrame_119 ?_
      exact z_ireturn (M := m_X1_oneFrame) rfl rfl dX1_oneFrame_120 H
theorem b_X1_oneFrame_121 {s0 : zE} {d : Nat} {x0 : Nat} {x1 : Nat} {x2 : Int32} {x3 : Int32} {x6 : Int32} {x7 : Int32} {h : zH} {Q : Value → zH → Prop} {E : Nat → zH → Prop} (H : (x6 = 0 → (zP s0 m_X1_oneFrame (d + 1) 146 [some (zr (x0)), some (zr (x1)), none, none, none, none, none, none, none] [] h Q E)) ∧ (¬ x6 = 0 → ((fR h x1 [5] 7) ∧ ((fE h (gR h x1 7) 0 (x7 + 7) (.int (eI h (gR h x1 7) (x7 + 7)))) ∧ (((eI h (gR h x1 7) (x7 + 7)) &&& 255 = 206 → (zP s0 m_X1_oneFrame (d + 1) 157 [some (zr (x0)), some (zr (x1)), some (.int (x2)), some (.int (x3)), none, none, none, some (.int (x7)), some (.int (0))] [] h Q E)) ∧ (¬ (eI h (gR h x1 7) (x7 + 7)) &&& 255 = 206 → (zP s0 m_X1_oneFrame (d + 1) 146 [some (zr (x0)), some (zr (x1)), none, none, none, none, none, none, none] [] h Q E))))))) : zP s0 m_X1_oneFrame (d + 1) 121 [some (zr (x0)), some (zr (x1)), some (.int (x2)), some (.int (x3)), none, none, some (.int (x6)), some (.int (x7)), none] [] h Q E := by
  refine z_iload (M := m_X1_oneFrame) (i := 6) rfl dX1_oneFrame_121 ?_
  refine z_ifeq (M := m_X1_oneFrame) 146 rfl dX1_oneFrame_123 (fun hc => ?_) (fun hc => ?_)
  · have H := H.1 hc
    exact zP.weak (ls' := [some (zr (x0)), some (zr (x1)), none, none, none, none, none, none, none]) (zle rfl) (zsub_so (zsub_so (zsub_no (zsub_no (zsub_no (zsub_no (zsub_no (zsub_no (zsub_no zsub_nil))))))))) H
  · have H := H.2 hc
    refine z_aload_n (M := m_X1_oneFrame) (k := 1) rfl dX1_oneFrame_126 ?_
    obtain ⟨g, H⟩ := H
    refine z_get (M := m_X1_oneFrame) f_X1_541 dX1_oneFrame_127 g ?_
    refine z_iload (M := m_X1_oneFrame) (i := 7) rfl dX1_oneFrame_130 ?_
    refine z_bipush (M := m_X1_oneFrame) (v := 7) (by decide) dX1_oneFrame_132 ?_
    refine z_iadd (M := m_X1_oneFrame) dX1_oneFrame_134 ?_
    obtain ⟨g, H⟩ := H
    refine z_ildB (M := m_X1_oneFrame) dX1_oneFrame_135 g ?_
    refine z_sipush (M := m_X1_oneFrame) (v := 255) (by decide) dX1_oneFrame_136 ?_
    refine z_iand (M := m_X1_oneFrame) dX1_oneFrame_139 ?_
    refine z_sipush (M := m_X1_oneFrame) (v := 206) (by decide) dX1_oneFrame_140 ?_
    refine z_icmpeq (M := m_X1_oneFrame) 154 rfl dX1_oneFrame_143 (fun hc => ?_) (fun hc => ?_)
    · have H := H.1 hc
      refine z_iconst (M := m_X1_oneFrame) (v := 0) (by decide) dX1_oneFrame_154 ?_
      refine z_istore (M := m_X1_oneFrame) 8 (zlt rfl) rfl dX1_oneFrame_155 ?_
      show zP s0 m_X1_oneFrame (d + 1) _ [some (zr (x0)), some (zr (x1)), some (.int (x2)), some (.int (x3)), none, none, some (.int (x6)), some (.int (x7)), some (.int (0))] _ _ _ _
      exact zP.weak (ls' := [some (zr (x0)), some (zr (x1)), some (.int (x2)), some (.int (x3)), none, none, none, some (.int (x7)), some (.int (0))]) (zle rfl) (zsub_so (zsub_so (zsub_so (zsub_so (zsub_no (zsub_no (zsub_no (zsub_so (zsub_so zsub_nil))))))))) H
    · have H := H.2 hc
      exact zP.weak (ls' := [some (zr (x0)), some (zr (x1)), none, none, none, none, none, none, none]) (zle rfl) (zsub_so (zsub_so (zsub_no (zsub_no (zsub_no (zsub_no (zsub_no (zsub_no (zsub_no zsub_nil))))))))) H
theorem b_X1_oneFrame_146 {s0 : zE} {d : Nat} {x0 : Nat} {x1 : Nat} {h : zH} {Q : Value → zH → Prop} {E : Nat → zH → Prop} (H : (fC h x0 0 ∧ zX s0 m_X1_noFrame d [zr x0, zr (x1)] h (fun _ h1 => ((fC h1 x0 0 ∧ zX s0 m_X1_dispatch d [zr x0] h1 (fun _ h2 => (Q (.int 1) h2)) E))) E)) : zP s0 m_X1_oneFrame (d + 1) 146 [some (zr (x0)), some (zr (x1)), none, none, none, none, none, none, none] [] h Q E := by
  refine z_aload_n (M := m_X1_oneFrame) (k := 0) rfl dX1_oneFrame_146 ?_
  refine z_aload_n (M := m_X1_oneFrame) (k := 1) rfl dX1_oneFrame_147 ?_
  obtain ⟨⟨fs9, g⟩, H⟩ := H
  refine z_invV (M := m_X1_oneFrame) (cn := 0) (a := [zr (x1)]) ok_X1_noFrame q2867 q2869 qs32 rfl dX1_oneFrame_148 g (Nat.le_refl _) (Nat.zero_le _) rfl H (fun v1 h1 H => ?_) (fun n9 h9 H => zPx.out rfl H)
  show zP s0 m_X1_oneFrame (d + 1) _ _ [] _ _ _
  refine z_goto (M := m_X1_oneFrame) 205 rfl dX1_oneFrame_151 ?_
  refine z_aload_n (M := m_X1_oneFrame) (k := 0) rfl dX1_oneFrame_205 ?_
  obtain ⟨⟨fs9, g⟩, H⟩ := H
  refine z_invV (M := m_X1_oneFrame) (cn := 0) (a := []) ok_X1_dispatch q4047 q4049 qs96 rfl dX1_oneFrame_206 g (Nat.le_refl _) (Nat.zero_le _) rfl H (fun v2 h2 H => ?_) (fun n9 h9 H => zPx.out rfl H)
  show zP s0 m_X1_oneFrame (d + 1) _ _ [] _ _ _
  refine z_iconst (M := m_X1_oneFrame) (v := 1) (by decide) dX1_oneFrame_209 ?_
  exact z_ireturn (M := m_X1_oneFrame) rfl rfl dX1_oneFrame_210 H
theorem b_X1_oneFrame_157 {s0 : zE} {d : Nat} {x0 : Nat} {x1 : Nat} {x2 : Int32} {x3 : Int32} {x7 : Int32} {x8 : Int32} {h : zH} {Q : Value → zH → Prop} {E : Nat → zH → Prop} (H : (x7 ≤ x8 → ((fC h x1 5 ∧ zX s0 m_X6_skip d [zr x1, .int (x7 + 8)] h (fun _ h1 => ((fC h1 x0 0 ∧ zX s0 m_X1_frame d [zr x0, zr (x1), .int (x2), .int (x3), .int (x7)] h1 (fun _ h2 => ((fC h2 x0 0 ∧ zX s0 m_X1_dispatch d [zr x0] h2 (fun _ h3 => (Q (.int 1) h3)) E))) E))) E))) ∧ (¬ x7 ≤ x8 → ((fR h x0 [0] 8) ∧ ((fR h x1 [5] 7) ∧ ((fE h (gR h x1 7) 0 (7 + x8) (.int (eI h (gR h x1 7) (7 + x8)))) ∧ ((fS s0 h (gR h x0 8) 0 x8) ∧ (∀ h4, h4 = zput h (gR h x0 8) (x8).toNatClampNeg (narrow .byte (.int (eI h (gR h x1 7) (7 + x8)))) → (zP s0 m_X1_oneFrame (d + 1) 157 [some (zr (x0)), some (zr (x1)), some (.int (x2)), some (.int (x3)), none, none, none, some (.int (x7)), some (.int (x8 + 1))] [] h4 Q E)))))))) : zP s0 m_X1_oneFrame (d + 1) 157 [some (zr (x0)), some (zr (x1)), some (.int (x2)), some (.int (x3)), none, none, none, some (.int (x7)), some (.int (x8))] [] h Q E := by
  refine z_iload (M := m_X1_oneFrame) (i := 8) rfl dX1_oneFrame_157 ?_
  refine z_iload (M := m_X1_oneFrame) (i := 7) rfl dX1_oneFrame_159 ?_
  refine z_icmpge (M := m_X1_oneFrame) 187 rfl dX1_oneFrame_161 (fun hc => ?_) (fun hc => ?_)
  · have H := H.1 hc
    refine z_aload_n (M := m_X1_oneFrame) (k := 1) rfl dX1_oneFrame_187 ?_
    refine z_iload (M := m_X1_oneFrame) (i := 7) rfl dX1_oneFrame_188 ?_
    refine z_bipush (M := m_X1_oneFrame) (v := 8) (by decide) dX1_oneFrame_190 ?_
    refine z_iadd (M := m_X1_oneFrame) dX1_oneFrame_192 ?_
    obtain ⟨⟨fs9, g⟩, H⟩ := H
    refine z_invV (M := m_X1_oneFrame) (cn := 5) (a := [.int (x7 + 8)]) ok_X6_skip q871 q872 q873 rfl dX1_oneFrame_193 g (Nat.le_refl _) (Nat.zero_le _) rfl H (fun v1 h1 H => ?_) (fun n9 h9 H => zPx.out rfl H)
    show zP s0 m_X1_oneFrame (d + 1) _ _ [] _ _ _
    refine z_aload_n (M := m_X1_oneFrame) (k := 0) rfl dX1_oneFrame_196 ?_
    refine z_aload_n (M := m_X1_oneFrame) (k := 1) rfl dX1_oneFrame_197 ?_
    refine z_iload_n (M := m_X1_oneFrame) (k := 2) rfl dX1_oneFrame_198 ?_
    refine z_iload_n (M := m_X1_oneFrame) (k := 3) rfl dX1_oneFrame_199 ?_
    refine z_iload (M := m_X1_oneFrame) (i := 7) rfl dX1_oneFrame_200 ?_
    obtain ⟨⟨fs9, g⟩, H⟩ := H
    refine z_invVH (M := m_X1_oneFrame) (cn := 0) (a := [zr (x1), .int (x2), .int (x3), .int (x7)]) okH_X1_frame q2876 q2878 qs34 rfl dX1_oneFrame_202 g (Nat.le_refl _) (Nat.zero_le _) rfl H (fun v2 h2 H => ?_) (fun n9 h9 H => zPx.out rfl H)
    show zP s0 m_X1_oneFrame (d + 1) _ _ [] _ _ _
    refine z_aload_n (M := m_X1_oneFrame) (k := 0) rfl dX1_oneFrame_205 ?_
    obtain ⟨⟨fs9, g⟩, H⟩ := H
    refine z_invV (M := m_X1_oneFrame) (cn := 0) (a := []) ok_X1_dispatch q4047 q4049 qs96 rfl dX1_oneFrame_206 g (Nat.le_refl _) (Nat.zero_le _) rfl H (fun v3 h3 H => ?_) (fun n9 h9 H => zPx.out rfl H)
    show zP s0 m_X1_oneFrame (d + 1) _ _ [] _ _ _
    refine z_iconst (M := m_X1_oneFrame) (v := 1) (by decide) dX1_oneFrame_209 ?_
    exact z_ireturn (M := m_X1_oneFrame) rfl rfl dX1_oneFrame_210 H
  · have H := H.2 hc
    refine z_aload_n (M := m_X1_oneFrame) (k := 0) rfl dX1_oneFrame_164 ?_
    obtain ⟨g, H⟩ := H
    refine z_get (M := m_X1_oneFrame) f_X1_64 dX1_oneFrame_165 g ?_
    refine z_iload (M := m_X1_oneFrame) (i := 8) rfl dX1_oneFrame_168 ?_
    refine z_aload_n (M := m_X1_oneFrame) (k := 1) rfl dX1_oneFrame_170 ?_
    obtain ⟨g, H⟩ := H
    refine z_get (M := m_X1_oneFrame) f_X1_541 dX1_oneFrame_171 g ?_
    refine z_bipush (M := m_X1_oneFrame) (v := 7) (by decide) dX1_oneFrame_174 ?_
    refine z_iload (M := m_X1_oneFrame) (i := 8) rfl dX1_oneFrame_176 ?_
    refine z_iadd (M := m_X1_oneFrame) dX1_oneFrame_178 ?_
    obtain ⟨g, H⟩ := H
    refine z_ildB (M := m_X1_oneFrame) dX1_oneFrame_179 g ?_
    obtain ⟨g, H⟩ := H
    refine zz_istB (M := m_X1_oneFrame) dX1_oneFrame_180 g (fun h4 e => ?_)
    have H := H h4 e
    refine z_inc (M := m_X1_oneFrame) 8 (x8 + 1) 1 (by decide) rfl rfl rfl dX1_oneFrame_181 ?_
    show zP s0 m_X1_oneFrame (d + 1) _ [some (zr (x0)), some (zr (x1)), some (.int (x2)), some (.int (x3)), none, none, none, some (.int (x7)), some (.int (x8 + 1))] _ _ _ _
    refine z_goto (M := m_X1_oneFrame) 157 rfl dX1_oneFrame_184 ?_
    exact H
theorem b_X1_unbindAll_0 {s0 : zE} {d : Nat} {x0 : Nat} {x1 : Nat} {x2 : Nat} {h : zH} {Q : Value → zH → Prop} {E : Nat → zH → Prop} (H : (fR h x1 [16] 4) ∧ ((fC h (gR h x1 4) 2044 ∧ zX s0 m_J5_iterator d [zr (gR h x1 4)] h (fun v1 h1 => ∃ n1 : Nat, v1 = zr (n1) ∧ (zP s0 m_X1_unbindAll (d + 1) 11 [some (zr (x0)), some (zr (x1)), some (zr (x2)), some (.int (0)), some (zr (n1))] [] h1 Q E)) E))) : zP s0 m_X1_unbindAll (d + 1) 0 [some (zr (x0)), some (zr (x1)), some (zr (x2)), none, none] [] h Q E := by
  refine z_iconst (M := m_X1_unbindAll) (v := 0) (by decide) dX1_unbindAll_0 ?_
  refine z_istore_n (M := m_X1_unbindAll) (k := 3) 3 rfl (zlt rfl) (zr_cat _) dX1_unbindAll_1 ?_
  show zP s0 m_X1_unbindAll (d + 1) _ [some (zr (x0)), some (zr (x1)), some (zr (x2)), some (.int (0)), none] _ _ _ _
  refine z_aload_n (M := m_X1_unbindAll) (k := 1) rfl dX1_unbindAll_2 ?_
  obtain ⟨g, H⟩ := H
  refine z_get (M := m_X1_unbindAll) f_X1_385 dX1_unbindAll_3 g ?_
  obtain ⟨⟨fs9, g⟩, H⟩ := H
  refine z_invV (M := m_X1_unbindAll) (cn := 2044) (a := []) ok_J5_iterator q1847 q1563 q5665 rfl dX1_unbindAll_6 g (Nat.le_refl _) (Nat.zero_le _) rfl H (fun v1 h1 H => ?_) (fun n9 h9 H => zPx.out rfl H)
  obtain ⟨n1, rfl, H⟩ := H
  show zP s0 m_X1_unbindAll (d + 1) _ _ [zr (n1)] _ _ _
  refine z_astore (M := m_X1_unbindAll) 4 (zlt rfl) rfl dX1_unbindAll_9 ?_
  show zP s0 m_X1_unbindAll (d + 1) _ [some (zr (x0)), some (zr (x1)), some (zr (x2)), some (.int (0)), some (zr (n1))] _ _ _ _
  exact H
theorem c_X1_unbindAll {s0 : zE} {d : Nat} {x0 : Nat} {x1 : Nat} {x2 : Nat} {h : zH} {Q : Value → zH → Prop} {E : Nat → zH → Prop} (H : (fR h x1 [16] 4) ∧ ((fC h (gR h x1 4) 2044 ∧ zX s0 m_J5_iterator d [zr (gR h x1 4)] h (fun v1 h1 => ∃ n1 : Nat, v1 = zr (n1) ∧ (zP s0 m_X1_unbindAll (d + 1) 11 [some (zr (x0)), some (zr (x1)), some (zr (x2)), some (.int (0)), some (zr (n1))] [] h1 Q E)) E))) : zX s0 m_X1_unbindAll (d + 1) [zr (x0), zr (x1), zr (x2)] h Q E := zX.of2 rfl (by decide +kernel) (zlay_r (zlay_r (zlay_r (zlay_n (znoneS (znoneS znone0)))))) (zle rfl) (b_X1_unbindAll_0 H)
theorem b_X1_unbindAll_11 {s0 : zE} {d : Nat} {x0 : Nat} {x1 : Nat} {x2 : Nat} {x3 : Int32} {x4 : Nat} {h : zH} {Q : Value → zH → Prop} {E : Nat → zH → Prop} (H : (fC h x4 2054 ∧ zX s0 m_J27_hasNext d [zr x4] h (fun v1 h1 => ∃ r1 : Int32, v1 = .int (r1) ∧ ((r1 = 0 → ((x3 = 0 → (Q .null h1)) ∧ (¬ x3 = 0 → ((fC h1 x0 0 ∧ zX s0 m_X1_isLoose d [zr x0, zr (x1)] h1 (fun _ h2 => (Q .null h2)) E))))) ∧ (¬ r1 = 0 → ((fC h1 x4 2054 ∧ zX s0 m_J27_next d [zr x4] h1 (fun v3 h3 => ∃ n1 : Nat, v3 = zr (n1) ∧ ((n1 = 0 ∨ zCast h3 n1 "RelayHall$Binding") ∧ ((fR h3 n1 [21] 1) ∧ ((gR h3 n1 1 = x2 → ((fC h3 x4 2054 ∧ zX s0 m_J27_remove d [zr x4] h3 (fun _ h4 => ((fI h4 x0 [0] 13) ∧ ((fC h4 x0 0) ∧ (∀ h5, h5 = zput h4 x0 13 (.int ((gI h4 x0 13) - 1)) → (zP s0 m_X1_unbindAll (d + 1) 11 [some (zr (x0)), some (zr (x1)), some (zr (x2)), some (.int (1)), some (zr (x4))] [] h5 Q E))))) E))) ∧ (¬ gR h3 n1 1 = x2 → (zP s0 m_X1_unbindAll (d + 1) 11 [some (zr (x0)), some (zr (x1)), some (zr (x2)), some (.int (x3)), some (zr (x4))] [] h3 Q E)))))) E))))) E)) : zP s0 m_X1_unbindAll (d + 1) 11 [some (zr (x0)), some (zr (x1)), some (zr (x2)), some (.int (x3)), some (zr (x4))] [] h Q E := by
  refine z_aload (M := m_X1_unbindAll) (i := 4) rfl dX1_unbindAll_11 ?_
  obtain ⟨⟨fs9, g⟩, H⟩ := H
  refine z_invF (M := m_X1_unbindAll) (cn := 2054) (a := []) ok_J27_hasNext (by change _ = some 0; decide +kernel) ⟨by decide, by decide⟩ q1849 q1674 q1673 q1685 q1683 q1681 q1684 q1682 rfl dX1_unbindAll_13 g (Nat.le_refl _) (Nat.zero_le _) rfl H (fun v1 h1 H => ?_) (fun n9 h9 H => zPx.out rfl H)
  obtain ⟨r1, rfl, H⟩ := H
  show zP s0 m_X1_unbindAll (d + 1) _ _ [.int (r1)] _ _ _
  refine z_ifeq (M := m_X1_unbindAll) 63 rfl dX1_unbindAll_18 (fun hc => ?_) (fun hc => ?_)
  · have H := H.1 hc
    refine z_iload_n (M := m_X1_unbindAll) (k := 3) rfl dX1_unbindAll_63 ?_
    refine z_ifeq (M := m_X1_unbindAll) 72 rfl dX1_unbindAll_64 (fun hc => ?_) (fun hc => ?_)
    · have H := H.1 hc
      exact z_return (M := m_X1_unbindAll) rfl dX1_unbindAll_72 H
    · have H := H.2 hc
      refine z_aload_n (M := m_X1_unbindAll) (k := 0) rfl dX1_unbindAll_67 ?_
      refine z_aload_n (M := m_X1_unbindAll) (k := 1) rfl dX1_unbindAll_68 ?_
      obtain ⟨⟨fs9, g⟩, H⟩ := H
      refine z_invV (M := m_X1_unbindAll) (cn := 0) (a := [zr (x1)]) ok_X1_isLoose q2320 q2322 qs20 rfl dX1_unbindAll_69 g (Nat.le_refl _) (Nat.zero_le _) rfl H (fun v2 h2 H => ?_) (fun n9 h9 H => zPx.out rfl H)
      show zP s0 m_X1_unbindAll (d + 1) _ _ [] _ _ _
      exact z_return (M := m_X1_unbindAll) rfl dX1_unbindAll_72 H
  · have H := H.2 hc
    refine z_aload (M := m_X1_unbindAll) (i := 4) rfl dX1_unbindAll_21 ?_
    obtain ⟨⟨fs9, g⟩, H⟩ := H
    refine z_invF (M := m_X1_unbindAll) (cn := 2054) (a := []) ok_J27_next (by change _ = some 0; decide +kernel) ⟨by decide, by decide⟩ q1851 q1709 q1708 q1743 q1741 q1681 q1742 q1740 rfl dX1_unbindAll_23 g (Nat.le_refl _) (Nat.zero_le _) rfl H (fun v3 h3 H => ?_) (fun n9 h9 H => zPx.out rfl H)
    obtain ⟨n1, rfl, H⟩ := H
    show zP s0 m_X1_unbindAll (d + 1) _ _ [zr (n1)] _ _ _
    obtain ⟨g, H⟩ := H
    refine z_checkcast (M := m_X1_unbindAll) q1852 dX1_unbindAll_28 g ?_
    obtain ⟨g, H⟩ := H
    refine z_get (M := m_X1_unbindAll) f_X1_402 dX1_unbindAll_31 g ?_
    refine z_aload_n (M := m_X1_unbindAll) (k := 2) rfl dX1_unbindAll_34 ?_
    refine z_acmpeq (M := m_X1_unbindAll) 41 rfl dX1_unbindAll_35 (fun hc => ?_) (fun hc => ?_)
    · have H := H.1 hc
      refine z_aload (M := m_X1_unbindAll) (i := 4) rfl dX1_unbindAll_41 ?_
      obtain ⟨⟨fs9, g⟩, H⟩ := H
      refine z_invFH (M := m_X1_unbindAll) (cn := 2054) (a := []) okH_J27_remove (by change _ = some 0; decide +kernel) ⟨by decide, by decide⟩ q1854 q1856 q1855 q1877 q1875 q1681 q1876 q1874 rfl dX1_unbindAll_43 g (Nat.le_refl _) (Nat.zero_le _) rfl H (fun v4 h4 H => ?_) (fun n9 h9 H => zPx.out rfl H)
      show zP s0 m_X1_unbindAll (d + 1) _ _ [] _ _ _
      refine z_aload_n (M := m_X1_unbindAll) (k := 0) rfl dX1_unbindAll_48 ?_
      refine z_dup (M := m_X1_unbindAll) (zr_cat _) dX1_unbindAll_49 ?_
      obtain ⟨g, H⟩ := H
      refine z_get (M := m_X1_unbindAll) f_X1_405 dX1_unbindAll_50 g ?_
      refine z_iconst (M := m_X1_unbindAll) (v := 1) (by decide) dX1_unbindAll_53 ?_
      refine z_isub (M := m_X1_unbindAll) dX1_unbindAll_54 ?_
      obtain ⟨g, H⟩ := H
      refine zz_put (M := m_X1_unbindAll) f_X1_405 dX1_unbindAll_55 rfl (fn_0_13) g (ft_0_13) (fun h5 e => ?_)
      have H := H h5 e
      refine z_iconst (M := m_X1_unbindAll) (v := 1) (by decide) dX1_unbindAll_58 ?_
      refine z_istore_n (M := m_X1_unbindAll) (k := 3) 3 rfl (zlt rfl) (zr_cat _) dX1_unbindAll_59 ?_
      show zP s0 m_X1_unbindAll (d + 1) _ [some (zr (x0)), some (zr (x1)), some (zr (x2)), some (.int (1)), some (zr (x4))] _ _ _ _
      refine z_goto (M := m_X1_unbindAll) 11 rfl dX1_unbindAll_60 ?_
      exact H
    · have H := H.2 hc
      refine z_goto (M := m_X1_unbindAll) 11 rfl dX1_unbindAll_38 ?_
      exact H
theorem b_X2_goneExchange_0 {s0 : zE} {d : Nat} {x0 : Nat} {x1 : Nat} {h : zH} {Q : Value → zH → Prop} {E : Nat → zH → Prop} (H : (fR h x0 [1] 1) ∧ ((fC h (gR h x0 1) 2043 ∧ zX s0 m_J1_remove d [zr (gR h x0 1), zr (x1)] h (fun v1 h1 => ∃ n1 : Nat, v1 = zr (n1) ∧ ((fR h1 x0 [1] 3) ∧ ((fC h1 (gR h1 x0 3) 2044 ∧ zX s0 m_J5_iterator d [zr (gR h1 x0 3)] h1 (fun v2 h2 => ∃ n2 : Nat, v2 = zr (n2) ∧ (zP s0 m_X2_goneExchange (d + 1) 17 [none, some (zr (x1)), some (zr (n2))] [] h2 Q E)) E)))) E))) : zP s0 m_X2_goneExchange (d + 1) 0 [some (zr (x0)), some (zr (x1)), none] [] h Q E := by
  refine z_aload_n (M := m_X2_goneExchange) (k := 0) rfl dX2_goneExchange_0 ?_
  obtain ⟨g, H⟩ := H
  refine z_get (M := m_X2_goneExchange) f_X2_19 dX2_goneExchange_1 g ?_
  refine z_aload_n (M := m_X2_goneExchange) (k := 1) rfl dX2_goneExchange_4 ?_
  obtain ⟨⟨fs9, g⟩, H⟩ := H
  refine z_invU (M := m_X2_goneExchange) (cn := 2043) (a := [zr (x1)]) ok_J1_remove (by change _ = some 1; decide +kernel) q4248 q2333 ⟨by decide, by decide⟩ (Or.inl rfl) q2336 q2335 rfl dX2_goneExchange_5 g (Nat.le_refl _) (Nat.zero_le _) rfl H (fun v1 h1 H => ?_) (fun n9 h9 H => zPx.out rfl H)
  obtain ⟨n1, rfl, H⟩ := H
  show zP s0 m_X2_goneExchange (d + 1) _ _ [zr (n1)] _ _ _
  refine z_pop (M := m_X2_goneExchange) (zr_cat _) dX2_goneExchange_8 ?_
  refine z_aload_n (M := m_X2_goneExchange) (k := 0) rfl dX2_goneExchange_9 ?_
  obtain ⟨g, H⟩ := H
  refine z_get (M := m_X2_goneExchange) f_X2_29 dX2_goneExchange_10 g ?_
  obtain ⟨⟨fs9, g⟩, H⟩ := H
  refine z_invV (M := m_X2_goneExchange) (cn := 2044) (a := []) ok_J5_iterator q4249 q1563 q5665 rfl dX2_goneExchange_13 g (Nat.le_refl _) (Nat.zero_le _) rfl H (fun v2 h2 H => ?_) (fun n9 h9 H => zPx.out rfl H)
  obtain ⟨n2, rfl, H⟩ := H
  show zP s0 m_X2_goneExchange (d + 1) _ _ [zr (n2)] _ _ _
  refine z_astore_n (M := m_X2_goneExchange) (k := 2) 2 rfl (zlt rfl) (zr_cat _) dX2_goneExchange_16 ?_
  show zP s0 m_X2_goneExchange (d + 1) _ [some (zr (x0)), some (zr (x1)), some (zr (n2))] _ _ _ _
  exact zP.weak (ls' := [none, some (zr (x1)), some (zr (n2))]) (zle rfl) (zsub_no (zsub_so (zsub_so zsub_nil))) H
theorem c_X2_goneExchange {s0 : zE} {d : Nat} {x0 : Nat} {x1 : Nat} {h : zH} {Q : Value → zH → Prop} {E : Nat → zH → Prop} (H : (fR h x0 [1] 1) ∧ ((fC h (gR h x0 1) 2043 ∧ zX s0 m_J1_remove d [zr (gR h x0 1), zr (x1)] h (fun v1 h1 => ∃ n1 : Nat, v1 = zr (n1) ∧ ((fR h1 x0 [1] 3) ∧ ((fC h1 (gR h1 x0 3) 2044 ∧ zX s0 m_J5_iterator d [zr (gR h1 x0 3)] h1 (fun v2 h2 => ∃ n2 : Nat, v2 = zr (n2) ∧ (zP s0 m_X2_goneExchange (d + 1) 17 [none, some (zr (x1)), some (zr (n2))] [] h2 Q E)) E)))) E))) : zX s0 m_X2_goneExchange (d + 1) [zr (x0), zr (x1)] h Q E := zX.of2 rfl (by decide +kernel) (zlay_r (zlay_r (zlay_n (znoneS znone0)))) (zle rfl) (b_X2_goneExchange_0 H)
theorem b_X2_goneExchange_17 {s0 : zE} {d : Nat} {x1 : Nat} {x2 : Nat} {h : zH} {Q : Value → zH → Prop} {E : Nat → zH → Prop} (H : (fC h x2 2054 ∧ zX s0 m_J27_hasNext d [zr x2] h (fun v1 h1 => ∃ r1 : Int32, v1 = .int (r1) ∧ ((r1 = 0 → (Q .null h1)) ∧ (¬ r1 = 0 → ((fC h1 x2 2054 ∧ zX s0 m_J27_next d [zr x2] h1 (fun v2 h2 => ∃ n1 : Nat, v2 = zr (n1) ∧ ((n1 = 0 ∨ zCast h2 n1 "RelayHall$Bound") ∧ ((fC h2 n1 22 ∧ zX s0 m_X24_exchange d [zr n1] h2 (fun v3 h3 => ∃ n2 : Nat, v3 = zr (n2) ∧ ((fC h3 n2 2048 ∧ zX s0 m_J12_equals d [zr n2, zr (x1)] h3 (fun v4 h4 => ∃ r2 : Int32, v4 = .int (r2) ∧ ((r2 = 0 → (zP s0 m_X2_goneExchange (d + 1) 17 [none, some (zr (x1)), some (zr (x2))] [] h4 Q E)) ∧ (¬ r2 = 0 → ((fC h4 x2 2054 ∧ zX s0 m_J27_remove d [zr x2] h4 (fun _ h5 => (zP s0 m_X2_goneExchange (d + 1) 17 [none, some (zr (x1)), some (zr (x2))] [] h5 Q E)) E))))) E))) E)))) E))))) E)) : zP s0 m_X2_goneExchange (d + 1) 17 [none, some (zr (x1)), some (zr (x2))] [] h Q E := by
  refine z_aload_n (M := m_X2_goneExchange) (k := 2) rfl dX2_goneExchange_17 ?_
  obtain ⟨⟨fs9, g⟩, H⟩ := H
  refine z_invF (M := m_X2_goneExchange) (cn := 2054) (a := []) ok_J27_hasNext (by change _ = some 0; decide +kernel) ⟨by decide, by decide⟩ q4251 q1674 q1673 q1685 q1683 q1681 q1684 q1682 rfl dX2_goneExchange_18 g (Nat.le_refl _) (Nat.zero_le _) rfl H (fun v1 h1 H => ?_) (fun n9 h9 H => zPx.out rfl H)
  obtain ⟨r1, rfl, H⟩ := H
  show zP s0 m_X2_goneExchange (d + 1) _ _ [.int (r1)] _ _ _
  refine z_ifeq (M := m_X2_goneExchange) 54 rfl dX2_goneExchange_23 (fun hc => ?_) (fun hc => ?_)
  · have H := H.1 hc
    exact z_return (M := m_X2_goneExchange) rfl dX2_goneExchange_54 H
  · have H := H.2 hc
    refine z_aload_n (M := m_X2_goneExchange) (k := 2) rfl dX2_goneExchange_26 ?_
    obtain ⟨⟨fs9, g⟩, H⟩ := H
    refine z_invF (M := m_X2_goneExchange) (cn := 2054) (a := []) ok_J27_next (by change _ = some 0; decide +kernel) ⟨by decide, by decide⟩ q4253 q1709 q1708 q1743 q1741 q1681 q1742 q1740 rfl dX2_goneExchange_27 g (Nat.le_refl _) (Nat.zero_le _) rfl H (fun v2 h2 H => ?_) (fun n9 h9 H => zPx.out rfl H)
    obtain ⟨n1, rfl, H⟩ := H
    show zP s0 m_X2_goneExchange (d + 1) _ _ [zr (n1)] _ _ _
    obtain ⟨g, H⟩ := H
    refine z_checkcast (M := m_X2_goneExchange) q4254 dX2_goneExchange_32 g ?_
    obtain ⟨⟨fs9, g⟩, H⟩ := H
    refine z_invV (M := m_X2_goneExchange) (cn := 22) (a := []) ok_X24_exchange q4255 q4256 q4257 rfl dX2_goneExchange_35 g (Nat.le_refl _) (Nat.zero_le _) rfl H (fun v3 h3 H => ?_) (fun n9 h9 H => zPx.out rfl H)
    obtain ⟨n2, rfl, H⟩ := H
    show zP s0 m_X2_goneExchange (d + 1) _ _ [zr (n2)] _ _ _
    refine z_aload_n (M := m_X2_goneExchange) (k := 1) rfl dX2_goneExchange_38 ?_
    obtain ⟨⟨fs9, g⟩, H⟩ := H
    refine z_invV (M := m_X2_goneExchange) (cn := 2048) (a := [zr (x1)]) ok_J12_equals q4259 q943 q944 rfl dX2_goneExchange_39 g (Nat.le_refl _) (Nat.zero_le _) rfl H (fun v4 h4 H => ?_) (fun n9 h9 H => zPx.out rfl H)
    obtain ⟨r2, rfl, H⟩ := H
    show zP s0 m_X2_goneExchange (d + 1) _ _ [.int (r2)] _ _ _
    refine z_ifeq (M := m_X2_goneExchange) 17 rfl dX2_goneExchange_42 (fun hc => ?_) (fun hc => ?_)
    · have H := H.1 hc
      exact H
    · have H := H.2 hc
      refine z_aload_n (M := m_X2_goneExchange) (k := 2) rfl dX2_goneExchange_45 ?_
      obtain ⟨⟨fs9, g⟩, H⟩ := H
      refine z_invFH (M := m_X2_goneExchange) (cn := 2054) (a := []) okH_J27_remove (by change _ = some 0; decide +kernel) ⟨by decide, by decide⟩ q4261 q1856 q1855 q1877 q1875 q1681 q1876 q1874 rfl dX2_goneExchange_46 g (Nat.le_refl _) (Nat.zero_le _) rfl H (fun v5 h5 H => ?_) (fun n9 h9 H => zPx.out rfl H)
      show zP s0 m_X2_goneExchange (d + 1) _ _ [] _ _ _
      refine z_goto (M := m_X2_goneExchange) 17 rfl dX2_goneExchange_51 ?_
      exact H
theorem b_X2_goneQueue_0 {s0 : zE} {d : Nat} {x0 : Nat} {x1 : Nat} {h : zH} {Q : Value → zH → Prop} {E : Nat → zH → Prop} (H : (fR h x0 [1] 2) ∧ ((fC h (gR h x0 2) 2043 ∧ zX s0 m_J1_remove d [zr (gR h x0 2), zr (x1)] h (fun v1 h1 => ∃ n1 : Nat, v1 = zr (n1) ∧ ((fR h1 x0 [1] 3) ∧ ((fC h1 (gR h1 x0 3) 2044 ∧ zX s0 m_J5_iterator d [zr (gR h1 x0 3)] h1 (fun v2 h2 => ∃ n2 : Nat, v2 = zr (n2) ∧ (zP s0 m_X2_goneQueue (d + 1) 17 [none, some (zr (x1)), some (zr (n2))] [] h2 Q E)) E)))) E))) : zP s0 m_X2_goneQueue (d + 1) 0 [some (zr (x0)), some (zr (x1)), none] [] h Q E := by
  refine z_aload_n (M := m_X2_goneQueue) (k := 0) rfl dX2_goneQueue_0 ?_
  obtain ⟨g, H⟩ := H
  refine z_get (M := m_X2_goneQueue) f_X2_23 dX2_goneQueue_1 g ?_
  refine z_aload_n (M := m_X2_goneQueue) (k := 1) rfl dX2_goneQueue_4 ?_
  obtain ⟨⟨fs9, g⟩, H⟩ := H
  refine z_invU (M := m_X2_goneQueue) (cn := 2043) (a := [zr (x1)]) ok_J1_remove (by change _ = some 1; decide +kernel) q4248 q2333 ⟨by decide, by decide⟩ (Or.inl rfl) q2336 q2335 rfl dX2_goneQueue_5 g (Nat.le_refl _) (Nat.zero_le _) rfl H (fun v1 h1 H => ?_) (fun n9 h9 H => zPx.out rfl H)
  obtain ⟨n1, rfl, H⟩ := H
  show zP s0 m_X2_goneQueue (d + 1) _ _ [zr (n1)] _ _ _
  refine z_pop (M := m_X2_goneQueue) (zr_cat _) dX2_goneQueue_8 ?_
  refine z_aload_n (M := m_X2_goneQueue) (k := 0) rfl dX2_goneQueue_9 ?_
  obtain ⟨g, H⟩ := H
  refine z_get (M := m_X2_goneQueue) f_X2_29 dX2_goneQueue_10 g ?_
  obtain ⟨⟨fs9, g⟩, H⟩ := H
  refine z_invV (M := m_X2_goneQueue) (cn := 2044) (a := []) ok_J5_iterator q4249 q1563 q5665 rfl dX2_goneQueue_13 g (Nat.le_refl _) (Nat.zero_le _) rfl H (fun v2 h2 H => ?_) (fun n9 h9 H => zPx.out rfl H)
  obtain ⟨n2, rfl, H⟩ := H
  show zP s0 m_X2_goneQueue (d + 1) _ _ [zr (n2)] _ _ _
  refine z_astore_n (M := m_X2_goneQueue) (k := 2) 2 rfl (zlt rfl) (zr_cat _) dX2_goneQueue_16 ?_
  show zP s0 m_X2_goneQueue (d + 1) _ [some (zr (x0)), some (zr (x1)), some (zr (n2))] _ _ _ _
  exact zP.weak (ls' := [none, some (zr (x1)), some (zr (n2))]) (zle rfl) (zsub_no (zsub_so (zsub_so zsub_nil))) H
theorem c_X2_goneQueue {s0 : zE} {d : Nat} {x0 : Nat} {x1 : Nat} {h : zH} {Q : Value → zH → Prop} {E : Nat → zH → Prop} (H : (fR h x0 [1] 2) ∧ ((fC h (gR h x0 2) 2043 ∧ zX s0 m_J1_remove d [zr (gR h x0 2), zr (x1)] h (fun v1 h1 => ∃ n1 : Nat, v1 = zr (n1) ∧ ((fR h1 x0 [1] 3) ∧ ((fC h1 (gR h1 x0 3) 2044 ∧ zX s0 m_J5_iterator d [zr (gR h1 x0 3)] h1 (fun v2 h2 => ∃ n2 : Nat, v2 = zr (n2) ∧ (zP s0 m_X2_goneQueue (d + 1) 17 [none, some (zr (x1)), some (zr (n2))] [] h2 Q E)) E)))) E))) : zX s0 m_X2_goneQueue (d + 1) [zr (x0), zr (x1)] h Q E := zX.of2 rfl (by decide +kernel) (zlay_r (zlay_r (zlay_n (znoneS znone0)))) (zle rfl) (b_X2_goneQueue_0 H)
theorem b_X2_goneQueue_17 {s0 : zE} {d : Nat} {x1 : Nat} {x2 : Nat} {h : zH} {Q : Value → zH → Prop} {E : Nat → zH → Prop} (H : (fC h x2 2054 ∧ zX s0 m_J27_hasNext d [zr x2] h (fun v1 h1 => ∃ r1 : Int32, v1 = .int (r1) ∧ ((r1 = 0 → (Q .null h1)) ∧ (¬ r1 = 0 → ((fC h1 x2 2054 ∧ zX s0 m_J27_next d [zr x2] h1 (fun v2 h2 => ∃ n1 : Nat, v2 = zr (n1) ∧ ((n1 = 0 ∨ zCast h2 n1 "RelayHall$Bound") ∧ ((fC h2 n1 22 ∧ zX s0 m_X24_queue d [zr n1] h2 (fun v3 h3 => ∃ n2 : Nat, v3 = zr (n2) ∧ ((fC h3 n2 2048 ∧ zX s0 m_J12_equals d [zr n2, zr (x1)] h3 (fun v4 h4 => ∃ r2 : Int32, v4 = .int (r2) ∧ ((r2 = 0 → (zP s0 m_X2_goneQueue (d + 1) 17 [none, some (zr (x1)), some (zr (x2))] [] h4 Q E)) ∧ (¬ r2 = 0 → ((fC h4 x2 2054 ∧ zX s0 m_J27_remove d [zr x2] h4 (fun _ h5 => (zP s0 m_X2_goneQueue (d + 1) 17 [none, some (zr (x1)), some (zr (x2))] [] h5 Q E)) E))))) E))) E)))) E))))) E)) : zP s0 m_X2_goneQueue (d + 1) 17 [none, some (zr (x1)), some (zr (x2))] [] h Q E := by
  refine z_aload_n (M := m_X2_goneQueue) (k := 2) rfl dX2_goneQueue_17 ?_
  obtain ⟨⟨fs9, g⟩, H⟩ := H
  refine z_invF (M := m_X2_goneQueue) (cn := 2054) (a := []) ok_J27_hasNext (by change _ = some 0; decide +kernel) ⟨by decide, by decide⟩ q4251 q1674 q1673 q1685 q1683 q1681 q1684 q1682 rfl dX2_goneQueue_18 g (Nat.le_refl _) (Nat.zero_le _) rfl H (fun v1 h1 H => ?_) (fun n9 h9 H => zPx.out rfl H)
  obtain ⟨r1, rfl, H⟩ := H
  show zP s0 m_X2_goneQueue (d + 1) _ _ [.int (r1)] _ _ _
  refine z_ifeq (M := m_X2_goneQueue) 54 rfl dX2_goneQueue_23 (fun hc => ?_) (fun hc => ?_)
  · have H := H.1 hc
    exact z_return (M := m_X2_goneQueue) rfl dX2_goneQueue_54 H
  · have H := H.2 hc
    refine z_aload_n (M := m_X2_goneQueue) (k := 2) rfl dX2_goneQueue_26 ?_
    obtain ⟨⟨fs9, g⟩, H⟩ := H
    refine z_invF (M := m_X2_goneQueue) (cn := 2054) (a := []) ok_J27_next (by change _ = some 0; decide +kernel) ⟨by decide, by decide⟩ q4253 q1709 q1708 q1743 q1741 q1681 q1742 q1740 rfl dX2_goneQueue_27 g (Nat.le_refl _) (Nat.zero_le _) rfl H (fun v2 h2 H => ?_) (fun n9 h9 H => zPx.out rfl H)
    obtain ⟨n1, rfl, H⟩ := H
    show zP s0 m_X2_goneQueue (d + 1) _ _ [zr (n1)] _ _ _
    obtain ⟨g, H⟩ := H
    refine z_checkcast (M := m_X2_goneQueue) q4254 dX2_goneQueue_32 g ?_
    obtain ⟨⟨fs9, g⟩, H⟩ := H
    refine z_invV (M := m_X2_goneQueue) (cn := 22) (a := []) ok_X24_queue q4294 q4295 q4296 rfl dX2_goneQueue_35 g (Nat.le_refl _) (Nat.zero_le _) rfl H (fun v3 h3 H => ?_) (fun n9 h9 H => zPx.out rfl H)
    obtain ⟨n2, rfl, H⟩ := H
    show zP s0 m_X2_goneQueue (d + 1) _ _ [zr (n2)] _ _ _
    refine z_aload_n (M := m_X2_goneQueue) (k := 1) rfl dX2_goneQueue_38 ?_
    obtain ⟨⟨fs9, g⟩, H⟩ := H
    refine z_invV (M := m_X2_goneQueue) (cn := 2048) (a := [zr (x1)]) ok_J12_equals q4259 q943 q944 rfl dX2_goneQueue_39 g (Nat.le_refl _) (Nat.zero_le _) rfl H (fun v4 h4 H => ?_) (fun n9 h9 H => zPx.out rfl H)
    obtain ⟨r2, rfl, H⟩ := H
    show zP s0 m_X2_goneQueue (d + 1) _ _ [.int (r2)] _ _ _
    refine z_ifeq (M := m_X2_goneQueue) 17 rfl dX2_goneQueue_42 (fun hc => ?_) (fun hc => ?_)
    · have H := H.1 hc
      exact H
    · have H := H.2 hc
      refine z_aload_n (M := m_X2_goneQueue) (k := 2) rfl dX2_goneQueue_45 ?_
      obtain ⟨⟨fs9, g⟩, H⟩ := H
      refine z_invFH (M := m_X2_goneQueue) (cn := 2054) (a := []) okH_J27_remove (by change _ = some 0; decide +kernel) ⟨by decide, by decide⟩ q4261 q1856 q1855 q1877 q1875 q1681 q1876 q1874 rfl dX2_goneQueue_46 g (Nat.le_refl _) (Nat.zero_le _) rfl H (fun v5 h5 H => ?_) (fun n9 h9 H => zPx.out rfl H)
      show zP s0 m_X2_goneQueue (d + 1) _ _ [] _ _ _
      refine z_goto (M := m_X2_goneQueue) 17 rfl dX2_goneQueue_51 ?_
      exact H
theorem b_X2_unbound_0 {s0 : zE} {d : Nat} {x0 : Nat} {x1 : Nat} {h : zH} {Q : Value → zH → Prop} {E : Nat → zH → Prop} (H : (fR h x0 [1] 3) ∧ ((fC h (gR h x0 3) 2044 ∧ zX s0 m_J5_iterator d [zr (gR h x0 3)] h (fun v1 h1 => ∃ n1 : Nat, v1 = zr (n1) ∧ (zP s0 m_X2_unbound (d + 1) 8 [none, some (zr (x1)), some (zr (n1))] [] h1 Q E)) E))) : zP s0 m_X2_unbound (d + 1) 0 [some (zr (x0)), some (zr (x1)), none] [] h Q E := by
  refine z_aload_n (M := m_X2_unbound) (k := 0) rfl dX2_unbound_0 ?_
  obtain ⟨g, H⟩ := H
  refine z_get (M := m_X2_unbound) f_X2_29 dX2_unbound_1 g ?_
  obtain ⟨⟨fs9, g⟩, H⟩ := H
  refine z_invV (M := m_X2_unbound) (cn := 2044) (a := []) ok_J5_iterator q4249 q1563 q5665 rfl dX2_unbound_4 g (Nat.le_refl _) (Nat.zero_le _) rfl H (fun v1 h1 H => ?_) (fun n9 h9 H => zPx.out rfl H)
  obtain ⟨n1, rfl, H⟩ := H
  show zP s0 m_X2_unbound (d + 1) _ _ [zr (n1)] _ _ _
  refine z_astore_n (M := m_X2_unbound) (k := 2) 2 rfl (zlt rfl) (zr_cat _) dX2_unbound_7 ?_
  show zP s0 m_X2_unbound (d + 1) _ [some (zr (x0)), some (zr (x1)), some (zr (n1))] _ _ _ _
  exact zP.weak (ls' := [none, some (zr (x1)), some (zr (n1))]) (zle rfl) (zsub_no (zsub_so (zsub_so zsub_nil))) H
theorem c_X2_unbound {s0 : zE} {d : Nat} {x0 : Nat} {x1 : Nat} {h : zH} {Q : Value → zH → Prop} {E : Nat → zH → Prop} (H : (fR h x0 [1] 3) ∧ ((fC h (gR h x0 3) 2044 ∧ zX s0 m_J5_iterator d [zr (gR h x0 3)] h (fun v1 h1 => ∃ n1 : Nat, v1 = zr (n1) ∧ (zP s0 m_X2_unbound (d + 1) 8 [none, some (zr (x1)), some (zr (n1))] [] h1 Q E)) E))) : zX s0 m_X2_unbound (d + 1) [zr (x0), zr (x1)] h Q E := zX.of2 rfl (by decide +kernel) (zlay_r (zlay_r (zlay_n (znoneS znone0)))) (zle rfl) (b_X2_unbound_0 H)
theorem b_X2_unbound_8 {s0 : zE} {d : Nat} {x1 : Nat} {x2 : Nat} {h : zH} {Q : Value → zH → Prop} {E : Nat → zH → Prop} (H : (fC h x2 2054 ∧ zX s0 m_J27_hasNext d [zr x2] h (fun v1 h1 => ∃ r1 : Int32, v1 = .int (r1) ∧ ((r1 = 0 → (Q .null h1)) ∧ (¬ r1 = 0 → ((fC h1 x2 2054 ∧ zX s0 m_J27_next d [zr x2] h1 (fun v2 h2 => ∃ n1 : Nat, v2 = zr (n1) ∧ ((n1 = 0 ∨ zCast h2 n1 "RelayHall$Bound") ∧ ((fC h2 n1 22 ∧ zX s0 m_X24_isLike d [zr n1, zr (x1)] h2 (fun v3 h3 => ∃ r2 : Int32, v3 = .int (r2) ∧ ((r2 = 0 → (zP s0 m_X2_unbound (d + 1) 8 [none, some (zr (x1)), some (zr (x2))] [] h3 Q E)) ∧ (¬ r2 = 0 → ((fC h3 x2 2054 ∧ zX s0 m_J27_remove d [zr x2] h3 (fun _ h4 => (zP s0 m_X2_unbound (d + 1) 8 [none, some (zr (x1)), some (zr (x2))] [] h4 Q E)) E))))) E)))) E))))) E)) : zP s0 m_X2_unbound (d + 1) 8 [none, some (zr (x1)), some (zr (x2))] [] h Q E := by
  refine z_aload_n (M := m_X2_unbound) (k := 2) rfl dX2_unbound_8 ?_
  obtain ⟨⟨fs9, g⟩, H⟩ := H
  refine z_invF (M := m_X2_unbound) (cn := 2054) (a := []) ok_J27_hasNext (by change _ = some 0; decide +kernel) ⟨by decide, by decide⟩ q4251 q1674 q1673 q1685 q1683 q1681 q1684 q1682 rfl dX2_unbound_9 g (Nat.le_refl _) (Nat.zero_le _) rfl H (fun v1 h1 H => ?_) (fun n9 h9 H => zPx.out rfl H)
  obtain ⟨r1, rfl, H⟩ := H
  show zP s0 m_X2_unbound (d + 1) _ _ [.int (r1)] _ _ _
  refine z_ifeq (M := m_X2_unbound) 42 rfl dX2_unbound_14 (fun hc => ?_) (fun hc => ?_)
  · have H := H.1 hc
    exact z_return (M := m_X2_unbound) rfl dX2_unbound_42 H
  · have H := H.2 hc
    refine z_aload_n (M := m_X2_unbound) (k := 2) rfl dX2_unbound_17 ?_
    obtain ⟨⟨fs9, g⟩, H⟩ := H
    refine z_invF (M := m_X2_unbound) (cn := 2054) (a := []) ok_J27_next (by change _ = some 0; decide +kernel) ⟨by decide, by decide⟩ q4253 q1709 q1708 q1743 q1741 q1681 q1742 q1740 rfl dX2_unbound_18 g (Nat.le_refl _) (Nat.zero_le _) rfl H (fun v2 h2 H => ?_) (fun n9 h9 H => zPx.out rfl H)
    obtain ⟨n1, rfl, H⟩ := H
    show zP s0 m_X2_unbound (d + 1) _ _ [zr (n1)] _ _ _
    obtain ⟨g, H⟩ := H
    refine z_checkcast (M := m_X2_unbound) q4254 dX2_unbound_23 g ?_
    refine z_aload_n (M := m_X2_unbound) (k := 1) rfl dX2_unbound_26 ?_
    obtain ⟨⟨fs9, g⟩, H⟩ := H
    refine z_invV (M := m_X2_unbound) (cn := 22) (a := [zr (x1)]) ok_X24_isLike q4308 q4309 q4310 rfl dX2_unbound_27 g (Nat.le_refl _) (Nat.zero_le _) rfl H (fun v3 h3 H => ?_) (fun n9 h9 H => zPx.out rfl H)
    obtain ⟨r2, rfl, H⟩ := H
    show zP s0 m_X2_unbound (d + 1) _ _ [.int (r2)] _ _ _
    refine z_ifeq (M := m_X2_unbound) 8 rfl dX2_unbound_30 (fun hc => ?_) (fun hc => ?_)
    · have H := H.1 hc
      exact H
    · have H := H.2 hc
      refine z_aload_n (M := m_X2_unbound) (k := 2) rfl dX2_unbound_33 ?_
      obtain ⟨⟨fs9, g⟩, H⟩ := H
      refine z_invFH (M := m_X2_unbound) (cn := 2054) (a := []) okH_J27_remove (by change _ = some 0; decide +kernel) ⟨by decide, by decide⟩ q4261 q1856 q1855 q1877 q1875 q1681 q1876 q1874 rfl dX2_unbound_34 g (Nat.le_refl _) (Nat.zero_le _) rfl H (fun v4 h4 H => ?_) (fun n9 h9 H => zPx.out rfl H)
      show zP s0 m_X2_unbound (d + 1) _ _ [] _ _ _
      refine z_goto (M := m_X2_unbound) 8 rfl dX2_unbound_39 ?_
      exact H
