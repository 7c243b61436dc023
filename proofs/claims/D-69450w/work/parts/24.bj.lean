/-! blocks of J0_init, J1_clear, J1_init, J1_size, J2_afterNodeAccess, J2_afterNodeInsertion, J2_afterNodeRemoval, J2_entrySet, J2_get, J2_init, J2_linkNodeAtEnd, J2_newNode, J2_newTreeNode, J2_removeEldestEntry, J2_replacementNode, J2_replacementTreeNode, J2_sequencedEntrySet, J2_transferLinks, J2_values, J2_valuesToArray, J3_init, J4_init, J5_add, J5_add_2, J5_clear, J5_elementData, J5_get, J5_grow, J5_grow_2, J5_indexOf, J5_init, J5_isEmpty, J5_iterator, J5_remove_2, J5_size, J5_toArray, J6_add, J6_addLast, J6_circularClear, J6_clear, J6_dec, J6_elementAt, J6_inc, J6_init, J6_isEmpty, J6_iterator, J6_newCapacity, J6_nonNullElementAt, J6_poll, J6_pollFirst, J6_size, J6_sub, J6_toArray, J8_init, J8_init_2, J9_addEntry, J9_addEntryToEmptyMap, J9_clear, J9_colorOf, J9_containsKey, J9_deleteEntry, J9_entrySet, J9_exportEntry, J9_firstEntry, J9_fixAfterDeletion, J9_fixAfterInsertion, J9_get, J9_getFirstEntry, J9_init, J9_leftOf, J9_parentOf, J9_pollFirstEntry, J9_put, J9_remove, J9_rightOf, J9_rotateLeft, J9_rotateRight, J9_setColor, J9_size, J9_successor, J10_checkIndex, J10_requireNonNull, J11_checkFromIndexSize, J11_checkFromToIndex, J11_checkIndex, J12_charAt, J12_checkBoundsBeginEnd, J12_checkBoundsOffCount, J12_checkIndex, J12_checkOffset, J12_coder, J12_compareTo, J12_compareTo_2, J12_equals, J12_hashCode, J12_init, J12_isEmpty, J12_isLatin1, J12_length, J13_canEncode, J13_charAt, J13_compareTo, J13_compareToUTF16, J13_compareToUTF16Values, J13_compareToUTF16_2, J13_compareTo_2, J13_equals, J13_getChar, J13_hashCode, J13_inflate, J13_length, J14_init, J15_checkLength, J16_max, J16_min, J16_min_2, J17_init, J17_iterator, J17_size, J17_toArray, J18_init, J18_init_2, J19_init, J20_getValue, J20_init, J20_isLatin1, J20_length, J20_newCapacity, J21_compareTo, J21_init, J21_toString, J23_init, J24_compare, J24_compareTo, J24_compareTo_2, J24_equals, J24_getChars, J24_hashCode, J24_hashCode_2, J24_init, J24_intValue, J24_numberOfLeadingZeros, J24_numberOfTrailingZeros, J24_stringSize, J26_hasNext, J26_init, J26_next, J26_postDelete, J26_remove, J27_checkForComodification, J27_hasNext, J27_init, J27_next, J27_remove, J28_hasNext, J28_init, J28_nextNode, J28_remove, J29_init, J29_next, J29_next_2, J30_init, J30_next, J31_hasNext, J31_init, J31_nextEntry, J31_remove, J32_init, J32_next, J32_next_2, J33_init, J33_next, J34_init, J34_init_2, J35_init, J36_init, J39_getKey, J39_getValue, J39_init, J40_init, J41_balanceDeletion, J41_balanceInsertion, J41_getTreeNode, J41_init, J41_moveRootToFront, J41_removeTreeNode, J41_root, J41_rotateLeft, J41_rotateRight, J41_split, J41_treeify, J42_init, J43_init, J43_iterator, J43_size, J44_init, J44_iterator, J44_size, J45_getKey, J45_getValue, J46_getKey, J46_getValue, J46_init, J47_equals, J48_init, J48_iterator, J48_size, J49_init, J50_init, J51_equals, J51_init, J52_getUTF16Char: printed by dec.py -/
set_option maxRecDepth 100000
theorem b_J0_init_0 {s0 : zE} {d : Nat} {x0 : Nat} {h : zH} {Q : Value → zH → Prop} {E : Nat → zH → Prop} (H : (∃ c, fC h x0 c) ∧ (Q .null h)) : zP s0 m_J0_init (d + 1) 0 [some (zr (x0))] [] h Q E := by
  refine z_aload_n (M := m_J0_init) (k := 0) rfl dJ0_init_0 ?_
  obtain ⟨⟨c9, g⟩, H⟩ := H
  refine zz_objInit (M := m_J0_init) q363 dJ0_init_1 g (Nat.zero_le _) ?_
  exact z_return (M := m_J0_init) rfl dJ0_init_4 H
theorem c_J0_init {s0 : zE} {d : Nat} {x0 : Nat} {h : zH} {Q : Value → zH → Prop} {E : Nat → zH → Prop} (H : (∃ c, fC h x0 c) ∧ (Q .null h)) : zX s0 m_J0_init (d + 1) [zr (x0)] h Q E := zX.of2 rfl (by decide +kernel) (zlay_r (zlay_n znone0)) (zle rfl) (b_J0_init_0 H)
theorem b_J1_clear_0 {s0 : zE} {d : Nat} {x0 : Nat} {h : zH} {Q : Value → zH → Prop} {E : Nat → zH → Prop} (H : (fI h x0 [43] 3) ∧ ((fC h x0 43) ∧ (∀ h1, h1 = zput h x0 3 (.int ((gI h x0 3) + 1)) → ((fR h1 x0 [43] 0) ∧ ((gR h1 x0 0 = 0 → (Q .null h1)) ∧ (¬ gR h1 x0 0 = 0 → ((fI h1 x0 [43] 2) ∧ ((gI h1 x0 2 ≤ 0 → (Q .null h1)) ∧ (¬ gI h1 x0 2 ≤ 0 → ((fC h1 x0 43) ∧ (∀ h2, h2 = zput h1 x0 2 (.int (0)) → (zP s0 m_J1_clear d 33 [none, some (zr (gR h1 x0 0)), some (.int (0))] [] h2 Q E)))))))))))) : zP s0 m_J1_clear d 0 [some (zr (x0)), none, none] [] h Q E := by
  refine z_aload_n (M := m_J1_clear) (k := 0) rfl dJ1_clear_0 ?_
  refine z_dup (M := m_J1_clear) (zr_cat _) dJ1_clear_1 ?_
  obtain ⟨g, H⟩ := H
  refine z_get (M := m_J1_clear) f_J1_202 dJ1_clear_2 g ?_
  refine z_iconst (M := m_J1_clear) (v := 1) (by decide) dJ1_clear_5 ?_
  refine z_iadd (M := m_J1_clear) dJ1_clear_6 ?_
  obtain ⟨g, H⟩ := H
  refine zz_put (M := m_J1_clear) f_J1_202 dJ1_clear_7 rfl (fn_43_3) g (ft_43_3) (fun h1 e => ?_)
  have H := H h1 e
  refine z_aload_n (M := m_J1_clear) (k := 0) rfl dJ1_clear_10 ?_
  obtain ⟨g, H⟩ := H
  refine z_get (M := m_J1_clear) f_J1_105 dJ1_clear_11 g ?_
  refine z_dup (M := m_J1_clear) (zr_cat _) dJ1_clear_14 ?_
  refine z_astore_n (M := m_J1_clear) (k := 1) 1 rfl (zlt rfl) (zr_cat _) dJ1_clear_15 ?_
  show zP s0 m_J1_clear d _ [some (zr (x0)), some (zr (gR h1 x0 0)), none] _ _ _ _
  refine z_ifnull (M := m_J1_clear) 49 rfl dJ1_clear_16 (fun hc => ?_) (fun hc => ?_)
  · have H := H.1 hc
    exact z_return (M := m_J1_clear) rfl dJ1_clear_49 H
  · have H := H.2 hc
    refine z_aload_n (M := m_J1_clear) (k := 0) rfl dJ1_clear_19 ?_
    obtain ⟨g, H⟩ := H
    refine z_get (M := m_J1_clear) f_J1_156 dJ1_clear_20 g ?_
    refine z_ifle (M := m_J1_clear) 49 rfl dJ1_clear_23 (fun hc => ?_) (fun hc => ?_)
    · have H := H.1 hc
      exact z_return (M := m_J1_clear) rfl dJ1_clear_49 H
    · have H := H.2 hc
      refine z_aload_n (M := m_J1_clear) (k := 0) rfl dJ1_clear_26 ?_
      refine z_iconst (M := m_J1_clear) (v := 0) (by decide) dJ1_clear_27 ?_
      obtain ⟨g, H⟩ := H
      refine zz_put (M := m_J1_clear) f_J1_156 dJ1_clear_28 rfl (fn_43_2) g (ft_43_2) (fun h2 e => ?_)
      have H := H h2 e
      refine z_iconst (M := m_J1_clear) (v := 0) (by decide) dJ1_clear_31 ?_
      refine z_istore_n (M := m_J1_clear) (k := 2) 2 rfl (zlt rfl) (zr_cat _) dJ1_clear_32 ?_
      show zP s0 m_J1_clear d _ [some (zr (x0)), some (zr (gR h1 x0 0)), some (.int (0))] _ _ _ _
      exact zP.weak (ls' := [none, some (zr (gR h1 x0 0)), some (.int (0))]) (zle rfl) (zsub_no (zsub_so (zsub_so zsub_nil))) H
theorem c_J1_clear {s0 : zE} {d : Nat} {x0 : Nat} {h : zH} {Q : Value → zH → Prop} {E : Nat → zH → Prop} (H : (fI h x0 [43] 3) ∧ ((fC h x0 43) ∧ (∀ h1, h1 = zput h x0 3 (.int ((gI h x0 3) + 1)) → ((fR h1 x0 [43] 0) ∧ ((gR h1 x0 0 = 0 → (Q .null h1)) ∧ (¬ gR h1 x0 0 = 0 → ((fI h1 x0 [43] 2) ∧ ((gI h1 x0 2 ≤ 0 → (Q .null h1)) ∧ (¬ gI h1 x0 2 ≤ 0 → ((fC h1 x0 43) ∧ (∀ h2, h2 = zput h1 x0 2 (.int (0)) → (zP s0 m_J1_clear d 33 [none, some (zr (gR h1 x0 0)), some (.int (0))] [] h2 Q E)))))))))))) : zX s0 m_J1_clear d [zr (x0)] h Q E := zX.of2 rfl (by decide +kernel) (zlay_r (zlay_n (znoneS (znoneS znone0)))) (zle rfl) (b_J1_clear_0 H)
theorem b_J1_clear_33 {s0 : zE} {d : Nat} {x1 : Nat} {x2 : Int32} {h : zH} {Q : Value → zH → Prop} {E : Nat → zH → Prop} (H : (fC h x1 1009) ∧ ((Int32.ofNat (gA h x1).length ≤ x2 → (Q .null h)) ∧ (¬ Int32.ofNat (gA h x1).length ≤ x2 → ((fS s0 h x1 9 x2) ∧ ((0 = 0 ∨ zAsg h 0 (.object "java/util/HashMap$Node")) ∧ (∀ h1, h1 = zput h x1 (x2).toNatClampNeg (zr 0) → (zP s0 m_J1_clear d 33 [none, some (zr (x1)), some (.int (x2 + 1))] [] h1 Q E))))))) : zP s0 m_J1_clear d 33 [none, some (zr (x1)), some (.int (x2))] [] h Q E := by
  refine z_iload_n (M := m_J1_clear) (k := 2) rfl dJ1_clear_33 ?_
  refine z_aload_n (M := m_J1_clear) (k := 1) rfl dJ1_clear_34 ?_
  obtain ⟨g, H⟩ := H
  refine z_len (M := m_J1_clear) (t := 9) rfl dJ1_clear_35 g ?_
  refine z_icmpge (M := m_J1_clear) 49 rfl dJ1_clear_36 (fun hc => ?_) (fun hc => ?_)
  · have H := H.1 hc
    exact z_return (M := m_J1_clear) rfl dJ1_clear_49 H
  · have H := H.2 hc
    refine z_aload_n (M := m_J1_clear) (k := 1) rfl dJ1_clear_39 ?_
    refine z_iload_n (M := m_J1_clear) (k := 2) rfl dJ1_clear_40 ?_
    refine z_null (M := m_J1_clear) dJ1_clear_41 ?_
    obtain ⟨g, gm, H⟩ := H
    refine zz_istA (M := m_J1_clear) (t := 9) rfl dJ1_clear_42 g gm (fun h1 e => ?_)
    have H := H h1 e
    refine z_inc (M := m_J1_clear) 2 (x2 + 1) 1 (by decide) rfl rfl (zr_cat _) dJ1_clear_43 ?_
    show zP s0 m_J1_clear d _ [none, some (zr (x1)), some (.int (x2 + 1))] _ _ _ _
    refine z_goto (M := m_J1_clear) 33 rfl dJ1_clear_46 ?_
    exact H
theorem b_J1_init_0 {s0 : zE} {d : Nat} {x0 : Nat} {h : zH} {Q : Value → zH → Prop} {E : Nat → zH → Prop} (H : (∃ c, fC h x0 c) ∧ (zX s0 m_J0_init d [zr x0] h (fun _ h1 => ((fC h1 x0 43) ∧ (∀ h2, h2 = zput h1 x0 5 (.float (1061158912)) → (Q .null h2)))) E)) : zP s0 m_J1_init (d + 1) 0 [some (zr (x0))] [] h Q E := by
  refine z_aload_n (M := m_J1_init) (k := 0) rfl dJ1_init_0 ?_
  obtain ⟨⟨c9, g⟩, H⟩ := H
  refine zz_invI (M := m_J1_init) (a := []) ok_J0_init rfl rfl q360 q361 dJ1_init_1 g (Nat.zero_le _) rfl H (fun v1 h1 H => ?_) (fun n9 h9 H => zPx.out rfl H)
  refine z_aload_n (M := m_J1_init) (k := 0) rfl dJ1_init_4 ?_
  refine z_ldcf (M := m_J1_init) (v := 1061158912) q364 dJ1_init_5 ?_
  obtain ⟨g, H⟩ := H
  refine zz_put (M := m_J1_init) f_J1_81 dJ1_init_7 rfl (⟨_, rfl, Or.inr ⟨rfl, rfl, rfl, q383⟩⟩) g (ft_43_5) (fun h2 e => ?_)
  have H := H h2 e
  exact z_return (M := m_J1_init) rfl dJ1_init_10 H
theorem c_J1_init {s0 : zE} {d : Nat} {x0 : Nat} {h : zH} {Q : Value → zH → Prop} {E : Nat → zH → Prop} (H : (∃ c, fC h x0 c) ∧ (zX s0 m_J0_init d [zr x0] h (fun _ h1 => ((fC h1 x0 43) ∧ (∀ h2, h2 = zput h1 x0 5 (.float (1061158912)) → (Q .null h2)))) E)) : zX s0 m_J1_init (d + 1) [zr (x0)] h Q E := zX.of2 rfl (by decide +kernel) (zlay_r (zlay_n znone0)) (zle rfl) (b_J1_init_0 H)
theorem b_J1_size_0 {s0 : zE} {d : Nat} {x0 : Nat} {h : zH} {Q : Value → zH → Prop} {E : Nat → zH → Prop} (H : (fI h x0 [43] 2) ∧ (Q (.int (gI h x0 2)) h)) : zP s0 m_J1_size d 0 [some (zr (x0))] [] h Q E := by
  refine z_aload_n (M := m_J1_size) (k := 0) rfl dJ1_size_0 ?_
  obtain ⟨g, H⟩ := H
  refine z_get (M := m_J1_size) f_J1_156 dJ1_size_1 g ?_
  exact z_ireturn (M := m_J1_size) rfl rfl dJ1_size_4 H
theorem c_J1_size {s0 : zE} {d : Nat} {x0 : Nat} {h : zH} {Q : Value → zH → Prop} {E : Nat → zH → Prop} (H : (fI h x0 [43] 2) ∧ (Q (.int (gI h x0 2)) h)) : zX s0 m_J1_size d [zr (x0)] h Q E := zX.of2 rfl (by decide +kernel) (zlay_r (zlay_n znone0)) (zle rfl) (b_J1_size_0 H)
theorem b_J2_afterNodeAccess_0 {s0 : zE} {d : Nat} {x0 : Nat} {x1 : Nat} {h : zH} {Q : Value → zH → Prop} {E : Nat → zH → Prop} (H : (fI h x0 [43] 11) ∧ ((gI h x0 11 = 2 → (zP s0 m_J2_afterNodeAccess d 22 [some (zr (x0)), some (zr (x1)), none, none, none, none, none] [] h Q E)) ∧ (¬ gI h x0 11 = 2 → ((fI h x0 [43] 11) ∧ ((¬ gI h x0 11 = 0 → (zP s0 m_J2_afterNodeAccess d 141 [some (zr (x0)), some (zr (x1)), none, none, none, none, none] [] h Q E)) ∧ (gI h x0 11 = 0 → ((fI h x0 [43] 10) ∧ ((gI h x0 10 = 0 → (zP s0 m_J2_afterNodeAccess d 141 [some (zr (x0)), some (zr (x1)), none, none, none, none, none] [] h Q E)) ∧ (¬ gI h x0 10 = 0 → (zP s0 m_J2_afterNodeAccess d 22 [some (zr (x0)), some (zr (x1)), none, none, none, none, none] [] h Q E)))))))))) : zP s0 m_J2_afterNodeAccess d 0 [some (zr (x0)), some (zr (x1)), none, none, none, none, none] [] h Q E := by
  refine z_aload_n (M := m_J2_afterNodeAccess) (k := 0) rfl dJ2_afterNodeAccess_0 ?_
  obtain ⟨g, H⟩ := H
  refine z_get (M := m_J2_afterNodeAccess) f_J2_1 dJ2_afterNodeAccess_1 g ?_
  refine z_iconst (M := m_J2_afterNodeAccess) (v := 2) (by decide) dJ2_afterNodeAccess_4 ?_
  refine z_icmpeq (M := m_J2_afterNodeAccess) 22 rfl dJ2_afterNodeAccess_5 (fun hc => ?_) (fun hc => ?_)
  · have H := H.1 hc
    exact H
  · have H := H.2 hc
    refine z_aload_n (M := m_J2_afterNodeAccess) (k := 0) rfl dJ2_afterNodeAccess_8 ?_
    obtain ⟨g, H⟩ := H
    refine z_get (M := m_J2_afterNodeAccess) f_J2_1 dJ2_afterNodeAccess_9 g ?_
    refine z_ifne (M := m_J2_afterNodeAccess) 141 rfl dJ2_afterNodeAccess_12 (fun hc => ?_) (fun hc => ?_)
    · have H := H.1 hc
      exact H
    · have H := H.2 hc
      refine z_aload_n (M := m_J2_afterNodeAccess) (k := 0) rfl dJ2_afterNodeAccess_15 ?_
      obtain ⟨g, H⟩ := H
      refine z_get (M := m_J2_afterNodeAccess) f_J2_64 dJ2_afterNodeAccess_16 g ?_
      refine z_ifeq (M := m_J2_afterNodeAccess) 141 rfl dJ2_afterNodeAccess_19 (fun hc => ?_) (fun hc => ?_)
      · have H := H.1 hc
        exact H
      · have H := H.2 hc
        exact H
theorem c_J2_afterNodeAccess {s0 : zE} {d : Nat} {x0 : Nat} {x1 : Nat} {h : zH} {Q : Value → zH → Prop} {E : Nat → zH → Prop} (H : (fI h x0 [43] 11) ∧ ((gI h x0 11 = 2 → (zP s0 m_J2_afterNodeAccess d 22 [some (zr (x0)), some (zr (x1)), none, none, none, none, none] [] h Q E)) ∧ (¬ gI h x0 11 = 2 → ((fI h x0 [43] 11) ∧ ((¬ gI h x0 11 = 0 → (zP s0 m_J2_afterNodeAccess d 141 [some (zr (x0)), some (zr (x1)), none, none, none, none, none] [] h Q E)) ∧ (gI h x0 11 = 0 → ((fI h x0 [43] 10) ∧ ((gI h x0 10 = 0 → (zP s0 m_J2_afterNodeAccess d 141 [some (zr (x0)), some (zr (x1)), none, none, none, none, none] [] h Q E)) ∧ (¬ gI h x0 10 = 0 → (zP s0 m_J2_afterNodeAccess d 22 [some (zr (x0)), some (zr (x1)), none, none, none, none, none] [] h Q E)))))))))) : zX s0 m_J2_afterNodeAccess d [zr (x0), zr (x1)] h Q E := zX.of2 rfl (by decide +kernel) (zlay_r (zlay_r (zlay_n (znoneS (znoneS (znoneS (znoneS (znoneS znone0)))))))) (zle rfl) (b_J2_afterNodeAccess_0 H)
theorem b_J2_afterNodeAccess_22 {s0 : zE} {d : Nat} {x0 : Nat} {x1 : Nat} {h : zH} {Q : Value → zH → Prop} {E : Nat → zH → Prop} (H : (fR h x0 [43] 9) ∧ ((gR h x0 9 = x1 → (zP s0 m_J2_afterNodeAccess d 141 [some (zr (x0)), some (zr (x1)), none, none, none, none, none] [] h Q E)) ∧ (¬ gR h x0 9 = x1 → ((x1 = 0 ∨ zCast h x1 "java/util/LinkedHashMap$Entry") ∧ ((fR h x1 [62, 63] 4) ∧ ((fR h x1 [62, 63] 5) ∧ ((∃ c ∈ ([62, 63] : List Nat), fC h x1 c) ∧ (∀ h1, h1 = zput h x1 5 (zr (0)) → ((¬ gR h x1 4 = 0 → ((∃ c ∈ ([62, 63] : List Nat), fC h1 (gR h x1 4) c) ∧ (∀ h2, h2 = zput h1 (gR h x1 4) 5 (zr (gR h x1 5)) → (zP s0 m_J2_afterNodeAccess d 79 [some (zr (x0)), none, some (zr (gR h x0 9)), none, some (zr (x1)), some (zr (gR h x1 4)), some (zr (gR h x1 5))] [] h2 Q E)))) ∧ (gR h x1 4 = 0 → ((fC h1 x0 43) ∧ (∀ h3, h3 = zput h1 x0 8 (zr (gR h x1 5)) → (zP s0 m_J2_afterNodeAccess d 79 [some (zr (x0)), none, some (zr (gR h x0 9)), none, some (zr (x1)), some (zr (gR h x1 4)), some (zr (gR h x1 5))] [] h3 Q E))))))))))))) : zP s0 m_J2_afterNodeAccess d 22 [some (zr (x0)), some (zr (x1)), none, none, none, none, none] [] h Q E := by
  refine z_aload_n (M := m_J2_afterNodeAccess) (k := 0) rfl dJ2_afterNodeAccess_22 ?_
  obtain ⟨g, H⟩ := H
  refine z_get (M := m_J2_afterNodeAccess) f_J2_11 dJ2_afterNodeAccess_23 g ?_
  refine z_dup (M := m_J2_afterNodeAccess) (zr_cat _) dJ2_afterNodeAccess_26 ?_
  refine z_astore_n (M := m_J2_afterNodeAccess) (k := 2) 2 rfl (zlt rfl) (zr_cat _) dJ2_afterNodeAccess_27 ?_
  show zP s0 m_J2_afterNodeAccess d _ [some (zr (x0)), some (zr (x1)), some (zr (gR h x0 9)), none, none, none, none] _ _ _ _
  refine z_aload_n (M := m_J2_afterNodeAccess) (k := 1) rfl dJ2_afterNodeAccess_28 ?_
  refine z_acmpeq (M := m_J2_afterNodeAccess) 141 rfl dJ2_afterNodeAccess_29 (fun hc => ?_) (fun hc => ?_)
  · have H := H.1 hc
    exact zP.weak (ls' := [some (zr (x0)), some (zr (x1)), none, none, none, none, none]) (zle rfl) (zsub_so (zsub_so (zsub_no (zsub_no (zsub_no (zsub_no (zsub_no zsub_nil))))))) H
  · have H := H.2 hc
    refine z_aload_n (M := m_J2_afterNodeAccess) (k := 1) rfl dJ2_afterNodeAccess_32 ?_
    obtain ⟨g, H⟩ := H
    refine z_checkcast (M := m_J2_afterNodeAccess) q2201 dJ2_afterNodeAccess_33 g ?_
    refine z_astore (M := m_J2_afterNodeAccess) 4 (zlt rfl) trivial dJ2_afterNodeAccess_36 ?_
    show zP s0 m_J2_afterNodeAccess d _ [some (zr (x0)), some (zr (x1)), some (zr (gR h x0 9)), none, some (zr (x1)), none, none] _ _ _ _
    refine z_aload (M := m_J2_afterNodeAccess) (i := 4) rfl dJ2_afterNodeAccess_38 ?_
    obtain ⟨g, H⟩ := H
    refine z_get (M := m_J2_afterNodeAccess) f_J2_19 dJ2_afterNodeAccess_40 g ?_
    refine z_astore (M := m_J2_afterNodeAccess) 5 (zlt rfl) (zr_cat _) dJ2_afterNodeAccess_43 ?_
    show zP s0 m_J2_afterNodeAccess d _ [some (zr (x0)), some (zr (x1)), some (zr (gR h x0 9)), none, some (zr (x1)), some (zr (gR h x1 4)), none] _ _ _ _
    refine z_aload (M := m_J2_afterNodeAccess) (i := 4) rfl dJ2_afterNodeAccess_45 ?_
    obtain ⟨g, H⟩ := H
    refine z_get (M := m_J2_afterNodeAccess) f_J2_14 dJ2_afterNodeAccess_47 g ?_
    refine z_astore (M := m_J2_afterNodeAccess) 6 (zlt rfl) (zr_cat _) dJ2_afterNodeAccess_50 ?_
    show zP s0 m_J2_afterNodeAccess d _ [some (zr (x0)), some (zr (x1)), some (zr (gR h x0 9)), none, some (zr (x1)), some (zr (gR h x1 4)), some (zr (gR h x1 5))] _ _ _ _
    refine z_aload (M := m_J2_afterNodeAccess) (i := 4) rfl dJ2_afterNodeAccess_52 ?_
    refine z_null (M := m_J2_afterNodeAccess) dJ2_afterNodeAccess_54 ?_
    obtain ⟨g, H⟩ := H
    refine zz_putM (M := m_J2_afterNodeAccess) f_J2_14 dJ2_afterNodeAccess_55 (fun c hc => by simp only [List.mem_cons, List.not_mem_nil, or_false] at hc; rcases hc with rfl | rfl <;> exact rfl) (fun c hc => by simp only [List.mem_cons, List.not_mem_nil, or_false] at hc; rcases hc with rfl | rfl <;> exact ⟨_, rfl, Or.inl rfl⟩) g (fun c hc => by simp only [List.mem_cons, List.not_mem_nil, or_false] at hc; rcases hc with rfl | rfl <;> exact (zfit_r rfl rfl rfl)) (fun h1 e => ?_)
    have H := H h1 e
    refine z_aload (M := m_J2_afterNodeAccess) (i := 5) rfl dJ2_afterNodeAccess_58 ?_
    refine z_ifnonnull (M := m_J2_afterNodeAccess) 72 rfl dJ2_afterNodeAccess_60 (fun hc => ?_) (fun hc => ?_)
    · have H := H.1 hc
      refine z_aload (M := m_J2_afterNodeAccess) (i := 5) rfl dJ2_afterNodeAccess_72 ?_
      refine z_aload (M := m_J2_afterNodeAccess) (i := 6) rfl dJ2_afterNodeAccess_74 ?_
      obtain ⟨g, H⟩ := H
      refine zz_putM (M := m_J2_afterNodeAccess) f_J2_14 dJ2_afterNodeAccess_76 (fun c hc => by simp only [List.mem_cons, List.not_mem_nil, or_false] at hc; rcases hc with rfl | rfl <;> exact rfl) (fun c hc => by simp only [List.mem_cons, List.not_mem_nil, or_false] at hc; rcases hc with rfl | rfl <;> exact ⟨_, rfl, Or.inl rfl⟩) g (fun c hc => by simp only [List.mem_cons, List.not_mem_nil, or_false] at hc; rcases hc with rfl | rfl <;> exact (zfit_r rfl rfl rfl)) (fun h2 e => ?_)
      have H := H h2 e
      exact zP.weak (ls' := [some (zr (x0)), none, some (zr (gR h x0 9)), none, some (zr (x1)), some (zr (gR h x1 4)), some (zr (gR h x1 5))]) (zle rfl) (zsub_so (zsub_no (zsub_so (zsub_no (zsub_so (zsub_so (zsub_so zsub_nil))))))) H
    · have H := H.2 hc
      refine z_aload_n (M := m_J2_afterNodeAccess) (k := 0) rfl dJ2_afterNodeAccess_63 ?_
      refine z_aload (M := m_J2_afterNodeAccess) (i := 6) rfl dJ2_afterNodeAccess_64 ?_
      obtain ⟨g, H⟩ := H
      refine zz_put (M := m_J2_afterNodeAccess) f_J2_7 dJ2_afterNodeAccess_66 rfl (fn_43_8) g (ft_43_8) (fun h3 e => ?_)
      have H := H h3 e
      refine z_goto (M := m_J2_afterNodeAccess) 79 rfl dJ2_afterNodeAccess_69 ?_
      exact zP.weak (ls' := [some (zr (x0)), none, some (zr (gR h x0 9)), none, some (zr (x1)), some (zr (gR h x1 4)), some (zr (gR h x1 5))]) (zle rfl) (zsub_so (zsub_no (zsub_so (zsub_no (zsub_so (zsub_so (zsub_so zsub_nil))))))) H
theorem b_J2_afterNodeAccess_79 {s0 : zE} {d : Nat} {x0 : Nat} {x2 : Nat} {x4 : Nat} {x5 : Nat} {x6 : Nat} {h : zH} {Q : Value → zH → Prop} {E : Nat → zH → Prop} (H : (x6 = 0 → (zP s0 m_J2_afterNodeAccess d 97 [some (zr (x0)), none, some (zr (x5)), none, some (zr (x4)), none, none] [] h Q E)) ∧ (¬ x6 = 0 → ((∃ c ∈ ([62, 63] : List Nat), fC h x6 c) ∧ (∀ h1, h1 = zput h x6 4 (zr (x5)) → (zP s0 m_J2_afterNodeAccess d 97 [some (zr (x0)), none, some (zr (x2)), none, some (zr (x4)), none, none] [] h1 Q E))))) : zP s0 m_J2_afterNodeAccess d 79 [some (zr (x0)), none, some (zr (x2)), none, some (zr (x4)), some (zr (x5)), some (zr (x6))] [] h Q E := by
  refine z_aload (M := m_J2_afterNodeAccess) (i := 6) rfl dJ2_afterNodeAccess_79 ?_
  refine z_ifnull (M := m_J2_afterNodeAccess) 94 rfl dJ2_afterNodeAccess_81 (fun hc => ?_) (fun hc => ?_)
  · have H := H.1 hc
    refine z_aload (M := m_J2_afterNodeAccess) (i := 5) rfl dJ2_afterNodeAccess_94 ?_
    refine z_astore_n (M := m_J2_afterNodeAccess) (k := 2) 2 rfl (zlt rfl) trivial dJ2_afterNodeAccess_96 ?_
    show zP s0 m_J2_afterNodeAccess d _ [some (zr (x0)), none, some (zr (x5)), none, some (zr (x4)), some (zr (x5)), some (zr (x6))] _ _ _ _
    exact zP.weak (ls' := [some (zr (x0)), none, some (zr (x5)), none, some (zr (x4)), none, none]) (zle rfl) (zsub_so (zsub_no (zsub_so (zsub_no (zsub_so (zsub_no (zsub_no zsub_nil))))))) H
  · have H := H.2 hc
    refine z_aload (M := m_J2_afterNodeAccess) (i := 6) rfl dJ2_afterNodeAccess_84 ?_
    refine z_aload (M := m_J2_afterNodeAccess) (i := 5) rfl dJ2_afterNodeAccess_86 ?_
    obtain ⟨g, H⟩ := H
    refine zz_putM (M := m_J2_afterNodeAccess) f_J2_19 dJ2_afterNodeAccess_88 (fun c hc => by simp only [List.mem_cons, List.not_mem_nil, or_false] at hc; rcases hc with rfl | rfl <;> exact rfl) (fun c hc => by simp only [List.mem_cons, List.not_mem_nil, or_false] at hc; rcases hc with rfl | rfl <;> exact ⟨_, rfl, Or.inl rfl⟩) g (fun c hc => by simp only [List.mem_cons, List.not_mem_nil, or_false] at hc; rcases hc with rfl | rfl <;> exact (zfit_r rfl rfl rfl)) (fun h1 e => ?_)
    have H := H h1 e
    refine z_goto (M := m_J2_afterNodeAccess) 97 rfl dJ2_afterNodeAccess_91 ?_
    exact zP.weak (ls' := [some (zr (x0)), none, some (zr (x2)), none, some (zr (x4)), none, none]) (zle rfl) (zsub_so (zsub_no (zsub_so (zsub_no (zsub_so (zsub_no (zsub_no zsub_nil))))))) H
theorem b_J2_afterNodeAccess_97 {s0 : zE} {d : Nat} {x0 : Nat} {x2 : Nat} {x4 : Nat} {h : zH} {Q : Value → zH → Prop} {E : Nat → zH → Prop} (H : (¬ x2 = 0 → ((∃ c ∈ ([62, 63] : List Nat), fC h x4 c) ∧ (∀ h1, h1 = zput h x4 4 (zr (x2)) → ((∃ c ∈ ([62, 63] : List Nat), fC h1 x2 c) ∧ (∀ h2, h2 = zput h1 x2 5 (zr (x4)) → (zP s0 m_J2_afterNodeAccess d 122 [some (zr (x0)), none, none, none, some (zr (x4)), none, none] [] h2 Q E)))))) ∧ (x2 = 0 → ((fC h x0 43) ∧ (∀ h3, h3 = zput h x0 8 (zr (x4)) → (zP s0 m_J2_afterNodeAccess d 122 [some (zr (x0)), none, none, none, some (zr (x4)), none, none] [] h3 Q E))))) : zP s0 m_J2_afterNodeAccess d 97 [some (zr (x0)), none, some (zr (x2)), none, some (zr (x4)), none, none] [] h Q E := by
  refine z_aload_n (M := m_J2_afterNodeAccess) (k := 2) rfl dJ2_afterNodeAccess_97 ?_
  refine z_ifnonnull (M := m_J2_afterNodeAccess) 110 rfl dJ2_afterNodeAccess_98 (fun hc => ?_) (fun hc => ?_)
  · have H := H.1 hc
    refine z_aload (M := m_J2_afterNodeAccess) (i := 4) rfl dJ2_afterNodeAccess_110 ?_
    refine z_aload_n (M := m_J2_afterNodeAccess) (k := 2) rfl dJ2_afterNodeAccess_112 ?_
    obtain ⟨g, H⟩ := H
    refine zz_putM (M := m_J2_afterNodeAccess) f_J2_19 dJ2_afterNodeAccess_113 (fun c hc => by simp only [List.mem_cons, List.not_mem_nil, or_false] at hc; rcases hc with rfl | rfl <;> exact rfl) (fun c hc => by simp only [List.mem_cons, List.not_mem_nil, or_false] at hc; rcases hc with rfl | rfl <;> exact ⟨_, rfl, Or.inl rfl⟩) g (fun c hc => by simp only [List.mem_cons, List.not_mem_nil, or_false] at hc; rcases hc with rfl | rfl <;> exact (zfit_r rfl rfl rfl)) (fun h1 e => ?_)
    have H := H h1 e
    refine z_aload_n (M := m_J2_afterNodeAccess) (k := 2) rfl dJ2_afterNodeAccess_116 ?_
    refine z_aload (M := m_J2_afterNodeAccess) (i := 4) rfl dJ2_afterNodeAccess_117 ?_
    obtain ⟨g, H⟩ := H
    refine zz_putM (M := m_J2_afterNodeAccess) f_J2_14 dJ2_afterNodeAccess_119 (fun c hc => by simp only [List.mem_cons, List.not_mem_nil, or_false] at hc; rcases hc with rfl | rfl <;> exact rfl) (fun c hc => by simp only [List.mem_cons, List.not_mem_nil, or_false] at hc; rcases hc with rfl | rfl <;> exact ⟨_, rfl, Or.inl rfl⟩) g (fun c hc => by simp only [List.mem_cons, List.not_mem_nil, or_false] at hc; rcases hc with rfl | rfl <;> exact (zfit_r rfl rfl rfl)) (fun h2 e => ?_)
    have H := H h2 e
    exact zP.weak (ls' := [some (zr (x0)), none, none, none, some (zr (x4)), none, none]) (zle rfl) (zsub_so (zsub_no (zsub_no (zsub_no (zsub_so (zsub_no (zsub_no zsub_nil))))))) H
  · have H := H.2 hc
    refine z_aload_n (M := m_J2_afterNodeAccess) (k := 0) rfl dJ2_afterNodeAccess_101 ?_
    refine z_aload (M := m_J2_afterNodeAccess) (i := 4) rfl dJ2_afterNodeAccess_102 ?_
    obtain ⟨g, H⟩ := H
    refine zz_put (M := m_J2_afterNodeAccess) f_J2_7 dJ2_afterNodeAccess_104 rfl (fn_43_8) g (ft_43_8) (fun h3 e => ?_)
    have H := H h3 e
    refine z_goto (M := m_J2_afterNodeAccess) 122 rfl dJ2_afterNodeAccess_107 ?_
    exact zP.weak (ls' := [some (zr (x0)), none, none, none, some (zr (x4)), none, none]) (zle rfl) (zsub_so (zsub_no (zsub_no (zsub_no (zsub_so (zsub_no (zsub_no zsub_nil))))))) H
theorem b_J2_afterNodeAccess_122 {s0 : zE} {d : Nat} {x0 : Nat} {x4 : Nat} {h : zH} {Q : Value → zH → Prop} {E : Nat → zH → Prop} (H : (fC h x0 43) ∧ (∀ h1, h1 = zput h x0 9 (zr (x4)) → ((fI h1 x0 [43] 3) ∧ ((fC h1 x0 43) ∧ (∀ h2, h2 = zput h1 x0 3 (.int ((gI h1 x0 3) + 1)) → (Q .null h2)))))) : zP s0 m_J2_afterNodeAccess d 122 [some (zr (x0)), none, none, none, some (zr (x4)), none, none] [] h Q E := by
  refine z_aload_n (M := m_J2_afterNodeAccess) (k := 0) rfl dJ2_afterNodeAccess_122 ?_
  refine z_aload (M := m_J2_afterNodeAccess) (i := 4) rfl dJ2_afterNodeAccess_123 ?_
  obtain ⟨g, H⟩ := H
  refine zz_put (M := m_J2_afterNodeAccess) f_J2_11 dJ2_afterNodeAccess_125 rfl (fn_43_9) g (ft_43_9) (fun h1 e => ?_)
  have H := H h1 e
  refine z_aload_n (M := m_J2_afterNodeAccess) (k := 0) rfl dJ2_afterNodeAccess_128 ?_
  refine z_dup (M := m_J2_afterNodeAccess) (zr_cat _) dJ2_afterNodeAccess_129 ?_
  obtain ⟨g, H⟩ := H
  refine z_get (M := m_J2_afterNodeAccess) f_J2_68 dJ2_afterNodeAccess_130 g ?_
  refine z_iconst (M := m_J2_afterNodeAccess) (v := 1) (by decide) dJ2_afterNodeAccess_133 ?_
  refine z_iadd (M := m_J2_afterNodeAccess) dJ2_afterNodeAccess_134 ?_
  obtain ⟨g, H⟩ := H
  refine zz_put (M := m_J2_afterNodeAccess) f_J2_68 dJ2_afterNodeAccess_135 rfl (fn_43_3) g (ft_43_3) (fun h2 e => ?_)
  have H := H h2 e
  refine z_goto (M := m_J2_afterNodeAccess) 265 rfl dJ2_afterNodeAccess_138 ?_
  exact z_return (M := m_J2_afterNodeAccess) rfl dJ2_afterNodeAccess_265 H
theorem b_J2_afterNodeAccess_141 {s0 : zE} {d : Nat} {x0 : Nat} {x1 : Nat} {h : zH} {Q : Value → zH → Prop} {E : Nat → zH → Prop} (H : (fI h x0 [43] 11) ∧ ((¬ gI h x0 11 = 1 → (Q .null h)) ∧ (gI h x0 11 = 1 → ((fR h x0 [43] 8) ∧ ((gR h x0 8 = x1 → (Q .null h)) ∧ (¬ gR h x0 8 = x1 → ((x1 = 0 ∨ zCast h x1 "java/util/LinkedHashMap$Entry") ∧ ((fR h x1 [62, 63] 4) ∧ ((fR h x1 [62, 63] 5) ∧ ((∃ c ∈ ([62, 63] : List Nat), fC h x1 c) ∧ (∀ h1, h1 = zput h x1 4 (zr (0)) → ((¬ gR h x1 5 = 0 → ((∃ c ∈ ([62, 63] : List Nat), fC h1 (gR h x1 5) c) ∧ (∀ h2, h2 = zput h1 (gR h x1 5) 4 (zr (gR h x1 4)) → (zP s0 m_J2_afterNodeAccess d 206 [some (zr (x0)), none, none, some (zr (gR h x0 8)), some (zr (x1)), some (zr (gR h x1 4)), some (zr (gR h x1 5))] [] h2 Q E)))) ∧ (gR h x1 5 = 0 → ((fC h1 x0 43) ∧ (∀ h3, h3 = zput h1 x0 9 (zr (gR h x1 4)) → (zP s0 m_J2_afterNodeAccess d 206 [some (zr (x0)), none, none, some (zr (gR h x0 8)), some (zr (x1)), some (zr (gR h x1 4)), some (zr (gR h x1 5))] [] h3 Q E)))))))))))))))) : zP s0 m_J2_afterNodeAccess d 141 [some (zr (x0)), some (zr (x1)), none, none, none, none, none] [] h Q E := by
  refine z_aload_n (M := m_J2_afterNodeAccess) (k := 0) rfl dJ2_afterNodeAccess_141 ?_
  obtain ⟨g, H⟩ := H
  refine z_get (M := m_J2_afterNodeAccess) f_J2_1 dJ2_afterNodeAccess_142 g ?_
  refine z_iconst (M := m_J2_afterNodeAccess) (v := 1) (by decide) dJ2_afterNodeAccess_145 ?_
  refine z_icmpne (M := m_J2_afterNodeAccess) 265 rfl dJ2_afterNodeAccess_146 (fun hc => ?_) (fun hc => ?_)
  · have H := H.1 hc
    exact z_return (M := m_J2_afterNodeAccess) rfl dJ2_afterNodeAccess_265 H
  · have H := H.2 hc
    refine z_aload_n (M := m_J2_afterNodeAccess) (k := 0) rfl dJ2_afterNodeAccess_149 ?_
    obtain ⟨g, H⟩ := H
    refine z_get (M := m_J2_afterNodeAccess) f_J2_7 dJ2_afterNodeAccess_150 g ?_
    refine z_dup (M := m_J2_afterNodeAccess) (zr_cat _) dJ2_afterNodeAccess_153 ?_
    refine z_astore_n (M := m_J2_afterNodeAccess) (k := 3) 3 rfl (zlt rfl) trivial dJ2_afterNodeAccess_154 ?_
    show zP s0 m_J2_afterNodeAccess d _ [some (zr (x0)), some (zr (x1)), none, some (zr (gR h x0 8)), none, none, none] _ _ _ _
    refine z_aload_n (M := m_J2_afterNodeAccess) (k := 1) rfl dJ2_afterNodeAccess_155 ?_
    refine z_acmpeq (M := m_J2_afterNodeAccess) 265 rfl dJ2_afterNodeAccess_156 (fun hc => ?_) (fun hc => ?_)
    · have H := H.1 hc
      exact z_return (M := m_J2_afterNodeAccess) rfl dJ2_afterNodeAccess_265 H
    · have H := H.2 hc
      refine z_aload_n (M := m_J2_afterNodeAccess) (k := 1) rfl dJ2_afterNodeAccess_159 ?_
      obtain ⟨g, H⟩ := H
      refine z_checkcast (M := m_J2_afterNodeAccess) q2201 dJ2_afterNodeAccess_160 g ?_
      refine z_astore (M := m_J2_afterNodeAccess) 4 (zlt rfl) (zr_cat _) dJ2_afterNodeAccess_163 ?_
      show zP s0 m_J2_afterNodeAccess d _ [some (zr (x0)), some (zr (x1)), none, some (zr (gR h x0 8)), some (zr (x1)), none, none] _ _ _ _
      refine z_aload (M := m_J2_afterNodeAccess) (i := 4) rfl dJ2_afterNodeAccess_165 ?_
      obtain ⟨g, H⟩ := H
      refine z_get (M := m_J2_afterNodeAccess) f_J2_19 dJ2_afterNodeAccess_167 g ?_
      refine z_astore (M := m_J2_afterNodeAccess) 5 (zlt rfl) (zr_cat _) dJ2_afterNodeAccess_170 ?_
      show zP s0 m_J2_afterNodeAccess d _ [some (zr (x0)), some (zr (x1)), none, some (zr (gR h x0 8)), some (zr (x1)), some (zr (gR h x1 4)), none] _ _ _ _
      refine z_aload (M := m_J2_afterNodeAccess) (i := 4) rfl dJ2_afterNodeAccess_172 ?_
      obtain ⟨g, H⟩ := H
      refine z_get (M := m_J2_afterNodeAccess) f_J2_14 dJ2_afterNodeAccess_174 g ?_
      refine z_astore (M := m_J2_afterNodeAccess) 6 (zlt rfl) (zr_cat _) dJ2_afterNodeAccess_177 ?_
      show zP s0 m_J2_afterNodeAccess d _ [some (zr (x0)), some (zr (x1)), none, some (zr (gR h x0 8)), some (zr (x1)), some (zr (gR h x1 4)), some (zr (gR h x1 5))] _ _ _ _
      refine z_aload (M := m_J2_afterNodeAccess) (i := 4) rfl dJ2_afterNodeAccess_179 ?_
      refine z_null (M := m_J2_afterNodeAccess) dJ2_afterNodeAccess_181 ?_
      obtain ⟨g, H⟩ := H
      refine zz_putM (M := m_J2_afterNodeAccess) f_J2_19 dJ2_afterNodeAccess_182 (fun c hc => by simp only [List.mem_cons, List.not_mem_nil, or_false] at hc; rcases hc with rfl | rfl <;> exact rfl) (fun c hc => by simp only [List.mem_cons, List.not_mem_nil, or_false] at hc; rcases hc with rfl | rfl <;> exact ⟨_, rfl, Or.inl rfl⟩) g (fun c hc => by simp only [List.mem_cons, List.not_mem_nil, or_false] at hc; rcases hc with rfl | rfl <;> exact (zfit_r rfl rfl rfl)) (fun h1 e => ?_)
      have H := H h1 e
      refine z_aload (M := m_J2_afterNodeAccess) (i := 6) rfl dJ2_afterNodeAccess_185 ?_
      refine z_ifnonnull (M := m_J2_afterNodeAccess) 199 rfl dJ2_afterNodeAccess_187 (fun hc => ?_) (fun hc => ?_)
      · have H := H.1 hc
        refine z_aload (M := m_J2_afterNodeAccess) (i := 6) rfl dJ2_afterNodeAccess_199 ?_
        refine z_aload (M := m_J2_afterNodeAccess) (i := 5) rfl dJ2_afterNodeAccess_201 ?_
        obtain ⟨g, H⟩ := H
        refine zz_putM (M := m_J2_afterNodeAccess) f_J2_19 dJ2_afterNodeAccess_203 (fun c hc => by simp only [List.mem_cons, List.not_mem_nil, or_false] at hc; rcases hc with rfl | rfl <;> exact rfl) (fun c hc => by simp only [List.mem_cons, List.not_mem_nil, or_false] at hc; rcases hc with rfl | rfl <;> exact ⟨_, rfl, Or.inl rfl⟩) g (fun c hc => by simp only [List.mem_cons, List.not_mem_nil, or_false] at hc; rcases hc with rfl | rfl <;> exact (zfit_r rfl rfl rfl)) (fun h2 e => ?_)
        have H := H h2 e
        exact zP.weak (ls' := [some (zr (x0)), none, none, some (zr (gR h x0 8)), some (zr (x1)), some (zr (gR h x1 4)), some (zr (gR h x1 5))]) (zle rfl) (zsub_so (zsub_no (zsub_no (zsub_so (zsub_so (zsub_so (zsub_so zsub_nil))))))) H
      · have H := H.2 hc
        refine z_aload_n (M := m_J2_afterNodeAccess) (k := 0) rfl dJ2_afterNodeAccess_190 ?_
        refine z_aload (M := m_J2_afterNodeAccess) (i := 5) rfl dJ2_afterNodeAccess_191 ?_
        obtain ⟨g, H⟩ := H
        refine zz_put (M := m_J2_afterNodeAccess) f_J2_11 dJ2_afterNodeAccess_193 rfl (fn_43_9) g (ft_43_9) (fun h3 e => ?_)
        have H := H h3 e
        refine z_goto (M := m_J2_afterNodeAccess) 206 rfl dJ2_afterNodeAccess_196 ?_
        exact zP.weak (ls' := [some (zr (x0)), none, none, some (zr (gR h x0 8)), some (zr (x1)), some (zr (gR h x1 4)), some (zr (gR h x1 5))]) (zle rfl) (zsub_so (zsub_no (zsub_no (zsub_so (zsub_so (zsub_so (zsub_so zsub_nil))))))) H
theorem b_J2_afterNodeAccess_206 {s0 : zE} {d : Nat} {x0 : Nat} {x3 : Nat} {x4 : Nat} {x5 : Nat} {x6 : Nat} {h : zH} {Q : Value → zH → Prop} {E : Nat → zH → Prop} (H : (x5 = 0 → (zP s0 m_J2_afterNodeAccess d 224 [some (zr (x0)), none, none, some (zr (x6)), some (zr (x4)), none, none] [] h Q E)) ∧ (¬ x5 = 0 → ((∃ c ∈ ([62, 63] : List Nat), fC h x5 c) ∧ (∀ h1, h1 = zput h x5 5 (zr (x6)) → (zP s0 m_J2_afterNodeAccess d 224 [some (zr (x0)), none, none, some (zr (x3)), some (zr (x4)), none, none] [] h1 Q E))))) : zP s0 m_J2_afterNodeAccess d 206 [some (zr (x0)), none, none, some (zr (x3)), some (zr (x4)), some (zr (x5)), some (zr (x6))] [] h Q E := by
  refine z_aload (M := m_J2_afterNodeAccess) (i := 5) rfl dJ2_afterNodeAccess_206 ?_
  refine z_ifnull (M := m_J2_afterNodeAccess) 221 rfl dJ2_afterNodeAccess_208 (fun hc => ?_) (fun hc => ?_)
  · have H := H.1 hc
    refine z_aload (M := m_J2_afterNodeAccess) (i := 6) rfl dJ2_afterNodeAccess_221 ?_
    refine z_astore_n (M := m_J2_afterNodeAccess) (k := 3) 3 rfl (zlt rfl) trivial dJ2_afterNodeAccess_223 ?_
    show zP s0 m_J2_afterNodeAccess d _ [some (zr (x0)), none, none, some (zr (x6)), some (zr (x4)), some (zr (x5)), some (zr (x6))] _ _ _ _
    exact zP.weak (ls' := [some (zr (x0)), none, none, some (zr (x6)), some (zr (x4)), none, none]) (zle rfl) (zsub_so (zsub_no (zsub_no (zsub_so (zsub_so (zsub_no (zsub_no zsub_nil))))))) H
  · have H := H.2 hc
    refine z_aload (M := m_J2_afterNodeAccess) (i := 5) rfl dJ2_afterNodeAccess_211 ?_
    refine z_aload (M := m_J2_afterNodeAccess) (i := 6) rfl dJ2_afterNodeAccess_213 ?_
    obtain ⟨g, H⟩ := H
    refine zz_putM (M := m_J2_afterNodeAccess) f_J2_14 dJ2_afterNodeAccess_215 (fun c hc => by simp only [List.mem_cons, List.not_mem_nil, or_false] at hc; rcases hc with rfl | rfl <;> exact rfl) (fun c hc => by simp only [List.mem_cons, List.not_mem_nil, or_false] at hc; rcases hc with rfl | rfl <;> exact ⟨_, rfl, Or.inl rfl⟩) g (fun c hc => by simp only [List.mem_cons, List.not_mem_nil, or_false] at hc; rcases hc with rfl | rfl <;> exact (zfit_r rfl rfl rfl)) (fun h1 e => ?_)
    have H := H h1 e
    refine z_goto (M := m_J2_afterNodeAccess) 224 rfl dJ2_afterNodeAccess_218 ?_
    exact zP.weak (ls' := [some (zr (x0)), none, none, some (zr (x3)), some (zr (x4)), none, none]) (zle rfl) (zsub_so (zsub_no (zsub_no (zsub_so (zsub_so (zsub_no (zsub_no zsub_nil))))))) H
theorem b_J2_afterNodeAccess_224 {s0 : zE} {d : Nat} {x0 : Nat} {x3 : Nat} {x4 : Nat} {h : zH} {Q : Value → zH → Prop} {E : Nat → zH → Prop} (H : (¬ x3 = 0 → ((∃ c ∈ ([62, 63] : List Nat), fC h x4 c) ∧ (∀ h1, h1 = zput h x4 5 (zr (x3)) → ((∃ c ∈ ([62, 63] : List Nat), fC h1 x3 c) ∧ (∀ h2, h2 = zput h1 x3 4 (zr (x4)) → (zP s0 m_J2_afterNodeAccess d 249 [some (zr (x0)), none, none, none, some (zr (x4)), none, none] [] h2 Q E)))))) ∧ (x3 = 0 → ((fC h x0 43) ∧ (∀ h3, h3 = zput h x0 9 (zr (x4)) → (zP s0 m_J2_afterNodeAccess d 249 [some (zr (x0)), none, none, none, some (zr (x4)), none, none] [] h3 Q E))))) : zP s0 m_J2_afterNodeAccess d 224 [some (zr (x0)), none, none, some (zr (x3)), some (zr (x4)), none, none] [] h Q E := by
  refine z_aload_n (M := m_J2_afterNodeAccess) (k := 3) rfl dJ2_afterNodeAccess_224 ?_
  refine z_ifnonnull (M := m_J2_afterNodeAccess) 237 rfl dJ2_afterNodeAccess_225 (fun hc => ?_) (fun hc => ?_)
  · have H := H.1 hc
    refine z_aload (M := m_J2_afterNodeAccess) (i := 4) rfl dJ2_afterNodeAccess_237 ?_
    refine z_aload_n (M := m_J2_afterNodeAccess) (k := 3) rfl dJ2_afterNodeAccess_239 ?_
    obtain ⟨g, H⟩ := H
    refine zz_putM (M := m_J2_afterNodeAccess) f_J2_14 dJ2_afterNodeAccess_240 (fun c hc => by simp only [List.mem_cons, List.not_mem_nil, or_false] at hc; rcases hc with rfl | rfl <;> exact rfl) (fun c hc => by simp only [List.mem_cons, List.not_mem_nil, or_false] at hc; rcases hc with rfl | rfl <;> exact ⟨_, rfl, Or.inl rfl⟩) g (fun c hc => by simp only [List.mem_cons, List.not_mem_nil, or_false] at hc; rcases hc with rfl | rfl <;> exact (zfit_r rfl rfl rfl)) (fun h1 e => ?_)
    have H := H h1 e
    refine z_aload_n (M := m_J2_afterNodeAccess) (k := 3) rfl dJ2_afterNodeAccess_243 ?_
    refine z_aload (M := m_J2_afterNodeAccess) (i := 4) rfl dJ2_afterNodeAccess_244 ?_
    obtain ⟨g, H⟩ := H
    refine zz_putM (M := m_J2_afterNodeAccess) f_J2_19 dJ2_afterNodeAccess_246 (fun c hc => by simp only [List.mem_cons, List.not_mem_nil, or_false] at hc; rcases hc with rfl | rfl <;> exact rfl) (fun c hc => by simp only [List.mem_cons, List.not_mem_nil, or_false] at hc; rcases hc with rfl | rfl <;> exact ⟨_, rfl, Or.inl rfl⟩) g (fun c hc => by simp only [List.mem_cons, List.not_mem_nil, or_false] at hc; rcases hc with rfl | rfl <;> exact (zfit_r rfl rfl rfl)) (fun h2 e => ?_)
    have H := H h2 e
    exact zP.weak (ls' := [some (zr (x0)), none, none, none, some (zr (x4)), none, none]) (zle rfl) (zsub_so (zsub_no (zsub_no (zsub_no (zsub_so (zsub_no (zsub_no zsub_nil))))))) H
  · have H := H.2 hc
    refine z_aload_n (M := m_J2_afterNodeAccess) (k := 0) rfl dJ2_afterNodeAccess_228 ?_
    refine z_aload (M := m_J2_afterNodeAccess) (i := 4) rfl dJ2_afterNodeAccess_229 ?_
    obtain ⟨g, H⟩ := H
    refine zz_put (M := m_J2_afterNodeAccess) f_J2_11 dJ2_afterNodeAccess_231 rfl (fn_43_9) g (ft_43_9) (fun h3 e => ?_)
    have H := H h3 e
    refine z_goto (M := m_J2_afterNodeAccess) 249 rfl dJ2_afterNodeAccess_234 ?_
    exact zP.weak (ls' := [some (zr (x0)), none, none, none, some (zr (x4)), none, none]) (zle rfl) (zsub_so (zsub_no (zsub_no (zsub_no (zsub_so (zsub_no (zsub_no zsub_nil))))))) H
theorem b_J2_afterNodeAccess_249 {s0 : zE} {d : Nat} {x0 : Nat} {x4 : Nat} {h : zH} {Q : Value → zH → Prop} {E : Nat → zH → Prop} (H : (fC h x0 43) ∧ (∀ h1, h1 = zput h x0 8 (zr (x4)) → ((fI h1 x0 [43] 3) ∧ ((fC h1 x0 43) ∧ (∀ h2, h2 = zput h1 x0 3 (.int ((gI h1 x0 3) + 1)) → (Q .null h2)))))) : zP s0 m_J2_afterNodeAccess d 249 [some (zr (x0)), none, none, none, some (zr (x4)), none, none] [] h Q E := by
  refine z_aload_n (M := m_J2_afterNodeAccess) (k := 0) rfl dJ2_afterNodeAccess_249 ?_
  refine z_aload (M := m_J2_afterNodeAccess) (i := 4) rfl dJ2_afterNodeAccess_250 ?_
  obtain ⟨g, H⟩ := H
  refine zz_put (M := m_J2_afterNodeAccess) f_J2_7 dJ2_afterNodeAccess_252 rfl (fn_43_8) g (ft_43_8) (fun h1 e => ?_)
  have H := H h1 e
  refine z_aload_n (M := m_J2_afterNodeAccess) (k := 0) rfl dJ2_afterNodeAccess_255 ?_
  refine z_dup (M := m_J2_afterNodeAccess) (zr_cat _) dJ2_afterNodeAccess_256 ?_
  obtain ⟨g, H⟩ := H
  refine z_get (M := m_J2_afterNodeAccess) f_J2_68 dJ2_afterNodeAccess_257 g ?_
  refine z_iconst (M := m_J2_afterNodeAccess) (v := 1) (by decide) dJ2_afterNodeAccess_260 ?_
  refine z_iadd (M := m_J2_afterNodeAccess) dJ2_afterNodeAccess_261 ?_
  obtain ⟨g, H⟩ := H
  refine zz_put (M := m_J2_afterNodeAccess) f_J2_68 dJ2_afterNodeAccess_262 rfl (fn_43_3) g (ft_43_3) (fun h2 e => ?_)
  have H := H h2 e
  exact z_return (M := m_J2_afterNodeAccess) rfl dJ2_afterNodeAccess_265 H
theorem b_J2_afterNodeInsertion_0 {s0 : zE} {d : Nat} {x0 : Nat} {x1 : Int32} {h : zH} {Q : Value → zH → Prop} {E : Nat → zH → Prop} (H : (x1 = 0 → (Q .null h)) ∧ (¬ x1 = 0 → ((fR h x0 [43] 8) ∧ ((gR h x0 8 = 0 → (Q .null h)) ∧ (¬ gR h x0 8 = 0 → ((fC h x0 43 ∧ zX s0 m_J2_removeEldestEntry d [zr x0, zr (gR h x0 8)] h (fun v1 h1 => ∃ r1 : Int32, v1 = .int (r1) ∧ ((r1 = 0 → (Q .null h1)) ∧ (¬ r1 = 0 → ((fR h1 (gR h x0 8) [62, 63] 1) ∧ (False))))) E))))))) : zP s0 m_J2_afterNodeInsertion (d + 1) 0 [some (zr (x0)), some (.int (x1)), none, none] [] h Q E := by
  refine z_iload_n (M := m_J2_afterNodeInsertion) (k := 1) rfl dJ2_afterNodeInsertion_0 ?_
  refine z_ifeq (M := m_J2_afterNodeInsertion) 39 rfl dJ2_afterNodeInsertion_1 (fun hc => ?_) (fun hc => ?_)
  · have H := H.1 hc
    exact z_return (M := m_J2_afterNodeInsertion) rfl dJ2_afterNodeInsertion_39 H
  · have H := H.2 hc
    refine z_aload_n (M := m_J2_afterNodeInsertion) (k := 0) rfl dJ2_afterNodeInsertion_4 ?_
    obtain ⟨g, H⟩ := H
    refine z_get (M := m_J2_afterNodeInsertion) f_J2_7 dJ2_afterNodeInsertion_5 g ?_
    refine z_dup (M := m_J2_afterNodeInsertion) (zr_cat _) dJ2_afterNodeInsertion_8 ?_
    refine z_astore_n (M := m_J2_afterNodeInsertion) (k := 2) 2 rfl (zlt rfl) rfl dJ2_afterNodeInsertion_9 ?_
    show zP s0 m_J2_afterNodeInsertion (d + 1) _ [some (zr (x0)), some (.int (x1)), some (zr (gR h x0 8)), none] _ _ _ _
    refine z_ifnull (M := m_J2_afterNodeInsertion) 39 rfl dJ2_afterNodeInsertion_10 (fun hc => ?_) (fun hc => ?_)
    · have H := H.1 hc
      exact z_return (M := m_J2_afterNodeInsertion) rfl dJ2_afterNodeInsertion_39 H
    · have H := H.2 hc
      refine z_aload_n (M := m_J2_afterNodeInsertion) (k := 0) rfl dJ2_afterNodeInsertion_13 ?_
      refine z_aload_n (M := m_J2_afterNodeInsertion) (k := 2) rfl dJ2_afterNodeInsertion_14 ?_
      obtain ⟨⟨fs9, g⟩, H⟩ := H
      refine z_invV (M := m_J2_afterNodeInsertion) (cn := 43) (a := [zr (gR h x0 8)]) ok_J2_removeEldestEntry q3141 q3142 q3143 rfl dJ2_afterNodeInsertion_15 g (Nat.le_refl _) (Nat.zero_le _) rfl H (fun v1 h1 H => ?_) (fun n9 h9 H => zPx.out rfl H)
      obtain ⟨r1, rfl, H⟩ := H
      show zP s0 m_J2_afterNodeInsertion (d + 1) _ _ [.int (r1)] _ _ _
      refine z_ifeq (M := m_J2_afterNodeInsertion) 39 rfl dJ2_afterNodeInsertion_18 (fun hc => ?_) (fun hc => ?_)
      · have H := H.1 hc
        exact z_return (M := m_J2_afterNodeInsertion) rfl dJ2_afterNodeInsertion_39 H
      · have H := H.2 hc
        refine z_aload_n (M := m_J2_afterNodeInsertion) (k := 2) rfl dJ2_afterNodeInsertion_21 ?_
        obtain ⟨g, H⟩ := H
        refine z_get (M := m_J2_afterNodeInsertion) f_J2_39 dJ2_afterNodeInsertion_22 g ?_
        refine z_astore_n (M := m_J2_afterNodeInsertion) (k := 3) 3 rfl (zlt rfl) (zr_cat _) dJ2_afterNodeInsertion_25 ?_
        show zP s0 m_J2_afterNodeInsertion (d + 1) _ [some (zr (x0)), some (.int (x1)), some (zr (gR h x0 8)), some (zr (gR h1 (gR h x0 8) 1))] _ _ _ _
        refine z_aload_n (M := m_J2_afterNodeInsertion) (k := 0) rfl dJ2_afterNodeInsertion_26 ?_
        refine z_aload_n (M := m_J2_afterNodeInsertion) (k := 3) rfl dJ2_afterNodeInsertion_27 ?_
        exact H.elim
theorem c_J2_afterNodeInsertion {s0 : zE} {d : Nat} {x0 : Nat} {x1 : Int32} {h : zH} {Q : Value → zH → Prop} {E : Nat → zH → Prop} (H : (x1 = 0 → (Q .null h)) ∧ (¬ x1 = 0 → ((fR h x0 [43] 8) ∧ ((gR h x0 8 = 0 → (Q .null h)) ∧ (¬ gR h x0 8 = 0 → ((fC h x0 43 ∧ zX s0 m_J2_removeEldestEntry d [zr x0, zr (gR h x0 8)] h (fun v1 h1 => ∃ r1 : Int32, v1 = .int (r1) ∧ ((r1 = 0 → (Q .null h1)) ∧ (¬ r1 = 0 → ((fR h1 (gR h x0 8) [62, 63] 1) ∧ (False))))) E))))))) : zX s0 m_J2_afterNodeInsertion (d + 1) [zr (x0), .int (x1)] h Q E := zX.of2 rfl (by decide +kernel) (zlay_r (zlay_i (zlay_n (znoneS (znoneS znone0))))) (zle rfl) (b_J2_afterNodeInsertion_0 H)
theorem b_J2_afterNodeRemoval_0 {s0 : zE} {d : Nat} {x0 : Nat} {x1 : Nat} {h : zH} {Q : Value → zH → Prop} {E : Nat → zH → Prop} (H : (x1 = 0 ∨ zCast h x1 "java/util/LinkedHashMap$Entry") ∧ ((fR h x1 [62, 63] 4) ∧ ((fR h x1 [62, 63] 5) ∧ ((∃ c ∈ ([62, 63] : List Nat), fC h x1 c) ∧ (∀ h1, h1 = zput h x1 5 (zr (0)) → ((∃ c ∈ ([62, 63] : List Nat), fC h1 x1 c) ∧ (∀ h2, h2 = zput h1 x1 4 (zr (0)) → ((¬ gR h x1 4 = 0 → ((∃ c ∈ ([62, 63] : List Nat), fC h2 (gR h x1 4) c) ∧ (∀ h3, h3 = zput h2 (gR h x1 4) 5 (zr (gR h x1 5)) → (zP s0 m_J2_afterNodeRemoval d 45 [some (zr (x0)), none, none, some (zr (gR h x1 4)), some (zr (gR h x1 5))] [] h3 Q E)))) ∧ (gR h x1 4 = 0 → ((fC h2 x0 43) ∧ (∀ h4, h4 = zput h2 x0 8 (zr (gR h x1 5)) → (zP s0 m_J2_afterNodeRemoval d 45 [some (zr (x0)), none, none, some (zr (gR h x1 4)), some (zr (gR h x1 5))] [] h4 Q E)))))))))))) : zP s0 m_J2_afterNodeRemoval d 0 [some (zr (x0)), some (zr (x1)), none, none, none] [] h Q E := by
  refine z_aload_n (M := m_J2_afterNodeRemoval) (k := 1) rfl dJ2_afterNodeRemoval_0 ?_
  obtain ⟨g, H⟩ := H
  refine z_checkcast (M := m_J2_afterNodeRemoval) q2201 dJ2_afterNodeRemoval_1 g ?_
  refine z_astore_n (M := m_J2_afterNodeRemoval) (k := 2) 2 rfl (zlt rfl) (zr_cat _) dJ2_afterNodeRemoval_4 ?_
  show zP s0 m_J2_afterNodeRemoval d _ [some (zr (x0)), some (zr (x1)), some (zr (x1)), none, none] _ _ _ _
  refine z_aload_n (M := m_J2_afterNodeRemoval) (k := 2) rfl dJ2_afterNodeRemoval_5 ?_
  obtain ⟨g, H⟩ := H
  refine z_get (M := m_J2_afterNodeRemoval) f_J2_19 dJ2_afterNodeRemoval_6 g ?_
  refine z_astore_n (M := m_J2_afterNodeRemoval) (k := 3) 3 rfl (zlt rfl) (zr_cat _) dJ2_afterNodeRemoval_9 ?_
  show zP s0 m_J2_afterNodeRemoval d _ [some (zr (x0)), some (zr (x1)), some (zr (x1)), some (zr (gR h x1 4)), none] _ _ _ _
  refine z_aload_n (M := m_J2_afterNodeRemoval) (k := 2) rfl dJ2_afterNodeRemoval_10 ?_
  obtain ⟨g, H⟩ := H
  refine z_get (M := m_J2_afterNodeRemoval) f_J2_14 dJ2_afterNodeRemoval_11 g ?_
  refine z_astore (M := m_J2_afterNodeRemoval) 4 (zlt rfl) (zr_cat _) dJ2_afterNodeRemoval_14 ?_
  show zP s0 m_J2_afterNodeRemoval d _ [some (zr (x0)), some (zr (x1)), some (zr (x1)), some (zr (gR h x1 4)), some (zr (gR h x1 5))] _ _ _ _
  refine z_aload_n (M := m_J2_afterNodeRemoval) (k := 2) rfl dJ2_afterNodeRemoval_16 ?_
  refine z_aload_n (M := m_J2_afterNodeRemoval) (k := 2) rfl dJ2_afterNodeRemoval_17 ?_
  refine z_null (M := m_J2_afterNodeRemoval) dJ2_afterNodeRemoval_18 ?_
  refine z_dup_x1 (M := m_J2_afterNodeRemoval) (zr_cat _) (zr_cat _) dJ2_afterNodeRemoval_19 ?_
  obtain ⟨g, H⟩ := H
  refine zz_putM (M := m_J2_afterNodeRemoval) f_J2_14 dJ2_afterNodeRemoval_20 (fun c hc => by simp only [List.mem_cons, List.not_mem_nil, or_false] at hc; rcases hc with rfl | rfl <;> exact rfl) (fun c hc => by simp only [List.mem_cons, List.not_mem_nil, or_false] at hc; rcases hc with rfl | rfl <;> exact ⟨_, rfl, Or.inl rfl⟩) g (fun c hc => by simp only [List.mem_cons, List.not_mem_nil, or_false] at hc; rcases hc with rfl | rfl <;> exact (zfit_r rfl rfl rfl)) (fun h1 e => ?_)
  have H := H h1 e
  obtain ⟨g, H⟩ := H
  refine zz_putM (M := m_J2_afterNodeRemoval) f_J2_19 dJ2_afterNodeRemoval_23 (fun c hc => by simp only [List.mem_cons, List.not_mem_nil, or_false] at hc; rcases hc with rfl | rfl <;> exact rfl) (fun c hc => by simp only [List.mem_cons, List.not_mem_nil, or_false] at hc; rcases hc with rfl | rfl <;> exact ⟨_, rfl, Or.inl rfl⟩) g (fun c hc => by simp only [List.mem_cons, List.not_mem_nil, or_false] at hc; rcases hc with rfl | rfl <;> exact (zfit_r rfl rfl rfl)) (fun h2 e => ?_)
  have H := H h2 e
  refine z_aload_n (M := m_J2_afterNodeRemoval) (k := 3) rfl dJ2_afterNodeRemoval_26 ?_
  refine z_ifnonnull (M := m_J2_afterNodeRemoval) 39 rfl dJ2_afterNodeRemoval_27 (fun hc => ?_) (fun hc => ?_)
  · have H := H.1 hc
    refine z_aload_n (M := m_J2_afterNodeRemoval) (k := 3) rfl dJ2_afterNodeRemoval_39 ?_
    refine z_aload (M := m_J2_afterNodeRemoval) (i := 4) rfl dJ2_afterNodeRemoval_40 ?_
    obtain ⟨g, H⟩ := H
    refine zz_putM (M := m_J2_afterNodeRemoval) f_J2_14 dJ2_afterNodeRemoval_42 (fun c hc => by simp only [List.mem_cons, List.not_mem_nil, or_false] at hc; rcases hc with rfl | rfl <;> exact rfl) (fun c hc => by simp only [List.mem_cons, List.not_mem_nil, or_false] at hc; rcases hc with rfl | rfl <;> exact ⟨_, rfl, Or.inl rfl⟩) g (fun c hc => by simp only [List.mem_cons, List.not_mem_nil, or_false] at hc; rcases hc with rfl | rfl <;> exact (zfit_r rfl rfl rfl)) (fun h3 e => ?_)
    have H := H h3 e
    exact zP.weak (ls' := [some (zr (x0)), none, none, some (zr (gR h x1 4)), some (zr (gR h x1 5))]) (zle rfl) (zsub_so (zsub_no (zsub_no (zsub_so (zsub_so zsub_nil))))) H
  · have H := H.2 hc
    refine z_aload_n (M := m_J2_afterNodeRemoval) (k := 0) rfl dJ2_afterNodeRemoval_30 ?_
    refine z_aload (M := m_J2_afterNodeRemoval) (i := 4) rfl dJ2_afterNodeRemoval_31 ?_
    obtain ⟨g, H⟩ := H
    refine zz_put (M := m_J2_afterNodeRemoval) f_J2_7 dJ2_afterNodeRemoval_33 rfl (fn_43_8) g (ft_43_8) (fun h4 e => ?_)
    have H := H h4 e
    refine z_goto (M := m_J2_afterNodeRemoval) 45 rfl dJ2_afterNodeRemoval_36 ?_
    exact zP.weak (ls' := [some (zr (x0)), none, none, some (zr (gR h x1 4)), some (zr (gR h x1 5))]) (zle rfl) (zsub_so (zsub_no (zsub_no (zsub_so (zsub_so zsub_nil))))) H
theorem c_J2_afterNodeRemoval {s0 : zE} {d : Nat} {x0 : Nat} {x1 : Nat} {h : zH} {Q : Value → zH → Prop} {E : Nat → zH → Prop} (H : (x1 = 0 ∨ zCast h x1 "java/util/LinkedHashMap$Entry") ∧ ((fR h x1 [62, 63] 4) ∧ ((fR h x1 [62, 63] 5) ∧ ((∃ c ∈ ([62, 63] : List Nat), fC h x1 c) ∧ (∀ h1, h1 = zput h x1 5 (zr (0)) → ((∃ c ∈ ([62, 63] : List Nat), fC h1 x1 c) ∧ (∀ h2, h2 = zput h1 x1 4 (zr (0)) → ((¬ gR h x1 4 = 0 → ((∃ c ∈ ([62, 63] : List Nat), fC h2 (gR h x1 4) c) ∧ (∀ h3, h3 = zput h2 (gR h x1 4) 5 (zr (gR h x1 5)) → (zP s0 m_J2_afterNodeRemoval d 45 [some (zr (x0)), none, none, some (zr (gR h x1 4)), some (zr (gR h x1 5))] [] h3 Q E)))) ∧ (gR h x1 4 = 0 → ((fC h2 x0 43) ∧ (∀ h4, h4 = zput h2 x0 8 (zr (gR h x1 5)) → (zP s0 m_J2_afterNodeRemoval d 45 [some (zr (x0)), none, none, some (zr (gR h x1 4)), some (zr (gR h x1 5))] [] h4 Q E)))))))))))) : zX s0 m_J2_afterNodeRemoval d [zr (x0), zr (x1)] h Q E := zX.of2 rfl (by decide +kernel) (zlay_r (zlay_r (zlay_n (znoneS (znoneS (znoneS znone0)))))) (zle rfl) (b_J2_afterNodeRemoval_0 H)
theorem b_J2_afterNodeRemoval_45 {s0 : zE} {d : Nat} {x0 : Nat} {x3 : Nat} {x4 : Nat} {h : zH} {Q : Value → zH → Prop} {E : Nat → zH → Prop} (H : (¬ x4 = 0 → ((∃ c ∈ ([62, 63] : List Nat), fC h x4 c) ∧ (∀ h1, h1 = zput h x4 4 (zr (x3)) → (Q .null h1)))) ∧ (x4 = 0 → ((fC h x0 43) ∧ (∀ h2, h2 = zput h x0 9 (zr (x3)) → (Q .null h2))))) : zP s0 m_J2_afterNodeRemoval d 45 [some (zr (x0)), none, none, some (zr (x3)), some (zr (x4))] [] h Q E := by
  refine z_aload (M := m_J2_afterNodeRemoval) (i := 4) rfl dJ2_afterNodeRemoval_45 ?_
  refine z_ifnonnull (M := m_J2_afterNodeRemoval) 58 rfl dJ2_afterNodeRemoval_47 (fun hc => ?_) (fun hc => ?_)
  · have H := H.1 hc
    refine z_aload (M := m_J2_afterNodeRemoval) (i := 4) rfl dJ2_afterNodeRemoval_58 ?_
    refine z_aload_n (M := m_J2_afterNodeRemoval) (k := 3) rfl dJ2_afterNodeRemoval_60 ?_
    obtain ⟨g, H⟩ := H
    refine zz_putM (M := m_J2_afterNodeRemoval) f_J2_19 dJ2_afterNodeRemoval_61 (fun c hc => by simp only [List.mem_cons, List.not_mem_nil, or_false] at hc; rcases hc with rfl | rfl <;> exact rfl) (fun c hc => by simp only [List.mem_cons, List.not_mem_nil, or_false] at hc; rcases hc with rfl | rfl <;> exact ⟨_, rfl, Or.inl rfl⟩) g (fun c hc => by simp only [List.mem_cons, List.not_mem_nil, or_false] at hc; rcases hc with rfl | rfl <;> exact (zfit_r rfl rfl rfl)) (fun h1 e => ?_)
    have H := H h1 e
    exact z_return (M := m_J2_afterNodeRemoval) rfl dJ2_afterNodeRemoval_64 H
  · have H := H.2 hc
    refine z_aload_n (M := m_J2_afterNodeRemoval) (k := 0) rfl dJ2_afterNodeRemoval_50 ?_
    refine z_aload_n (M := m_J2_afterNodeRemoval) (k := 3) rfl dJ2_afterNodeRemoval_51 ?_
    obtain ⟨g, H⟩ := H
    refine zz_put (M := m_J2_afterNodeRemoval) f_J2_11 dJ2_afterNodeRemoval_52 rfl (fn_43_9) g (ft_43_9) (fun h2 e => ?_)
    have H := H h2 e
    refine z_goto (M := m_J2_afterNodeRemoval) 64 rfl dJ2_afterNodeRemoval_55 ?_
    exact z_return (M := m_J2_afterNodeRemoval) rfl dJ2_afterNodeRemoval_64 H
theorem b_J2_entrySet_0 {s0 : zE} {d : Nat} {x0 : Nat} {h : zH} {Q : Value → zH → Prop} {E : Nat → zH → Prop} (H : (fC h x0 43 ∧ zX s0 m_J2_sequencedEntrySet d [zr x0] h (fun v1 h1 => ∃ n1 : Nat, v1 = zr (n1) ∧ (Q (zr n1) h1)) E)) : zP s0 m_J2_entrySet (d + 1) 0 [some (zr (x0))] [] h Q E := by
  refine z_aload_n (M := m_J2_entrySet) (k := 0) rfl dJ2_entrySet_0 ?_
  obtain ⟨⟨fs9, g⟩, H⟩ := H
  refine z_invV (M := m_J2_entrySet) (cn := 43) (a := []) ok_J2_sequencedEntrySet q3469 q3470 q3471 rfl dJ2_entrySet_1 g (Nat.le_refl _) (Nat.zero_le _) rfl H (fun v1 h1 H => ?_) (fun n9 h9 H => zPx.out rfl H)
  obtain ⟨n1, rfl, H⟩ := H
  show zP s0 m_J2_entrySet (d + 1) _ _ [zr (n1)] _ _ _
  exact z_areturn (M := m_J2_entrySet) rfl (Or.inl ⟨_, rfl⟩) dJ2_entrySet_4 H
theorem c_J2_entrySet {s0 : zE} {d : Nat} {x0 : Nat} {h : zH} {Q : Value → zH → Prop} {E : Nat → zH → Prop} (H : (fC h x0 43 ∧ zX s0 m_J2_sequencedEntrySet d [zr x0] h (fun v1 h1 => ∃ n1 : Nat, v1 = zr (n1) ∧ (Q (zr n1) h1)) E)) : zX s0 m_J2_entrySet (d + 1) [zr (x0)] h Q E := zX.of2 rfl (by decide +kernel) (zlay_r (zlay_n znone0)) (zle rfl) (b_J2_entrySet_0 H)
theorem b_J2_get_0 {s0 : zE} {d : Nat} {x0 : Nat} {x1 : Nat} {h : zH} {Q : Value → zH → Prop} {E : Nat → zH → Prop} (H : (fC h x0 43 ∧ zX s0 m_J1_getNode d [zr x0, zr (x1)] h (fun v1 h1 => ∃ n1 : Nat, v1 = zr (n1) ∧ ((¬ n1 = 0 → ((fI h1 x0 [43] 10) ∧ ((gI h1 x0 10 = 0 → ((fR h1 n1 [62, 63] 2) ∧ (Q (zr (gR h1 n1 2)) h1))) ∧ (¬ gI h1 x0 10 = 0 → ((fC h1 x0 43 ∧ zX s0 m_J2_afterNodeAccess d [zr x0, zr (n1)] h1 (fun _ h2 => ((fR h2 n1 [62, 63] 2) ∧ (Q (zr (gR h2 n1 2)) h2))) E)))))) ∧ (n1 = 0 → (Q (zr 0) h1)))) E)) : zP s0 m_J2_get (d + 1) 0 [some (zr (x0)), some (zr (x1)), none] [] h Q E := by
  refine z_aload_n (M := m_J2_get) (k := 0) rfl dJ2_get_0 ?_
  refine z_aload_n (M := m_J2_get) (k := 1) rfl dJ2_get_1 ?_
  obtain ⟨⟨fs9, g⟩, H⟩ := H
  refine z_invU (M := m_J2_get) (cn := 43) (a := [zr (x1)]) ok_J1_getNode (by change _ = some 1; decide +kernel) q3154 q3155 ⟨by decide, by decide⟩ (Or.inl rfl) q3158 q3157 rfl dJ2_get_2 g (Nat.le_refl _) (Nat.zero_le _) rfl H (fun v1 h1 H => ?_) (fun n9 h9 H => zPx.out rfl H)
  obtain ⟨n1, rfl, H⟩ := H
  show zP s0 m_J2_get (d + 1) _ _ [zr (n1)] _ _ _
  refine z_dup (M := m_J2_get) (zr_cat _) dJ2_get_5 ?_
  refine z_astore_n (M := m_J2_get) (k := 2) 2 rfl (zlt rfl) (zr_cat _) dJ2_get_6 ?_
  show zP s0 m_J2_get (d + 1) _ [some (zr (x0)), some (zr (x1)), some (zr (n1))] _ _ _ _
  refine z_ifnonnull (M := m_J2_get) 12 rfl dJ2_get_7 (fun hc => ?_) (fun hc => ?_)
  · have H := H.1 hc
    refine z_aload_n (M := m_J2_get) (k := 0) rfl dJ2_get_12 ?_
    obtain ⟨g, H⟩ := H
    refine z_get (M := m_J2_get) f_J2_64 dJ2_get_13 g ?_
    refine z_ifeq (M := m_J2_get) 24 rfl dJ2_get_16 (fun hc => ?_) (fun hc => ?_)
    · have H := H.1 hc
      refine z_aload_n (M := m_J2_get) (k := 2) rfl dJ2_get_24 ?_
      obtain ⟨g, H⟩ := H
      refine z_get (M := m_J2_get) f_J2_107 dJ2_get_25 g ?_
      exact z_areturn (M := m_J2_get) rfl (Or.inl ⟨_, rfl⟩) dJ2_get_28 H
    · have H := H.2 hc
      refine z_aload_n (M := m_J2_get) (k := 0) rfl dJ2_get_19 ?_
      refine z_aload_n (M := m_J2_get) (k := 2) rfl dJ2_get_20 ?_
      obtain ⟨⟨fs9, g⟩, H⟩ := H
      refine z_invV (M := m_J2_get) (cn := 43) (a := [zr (n1)]) ok_J2_afterNodeAccess q3160 q3132 q5670 rfl dJ2_get_21 g (Nat.le_refl _) (Nat.zero_le _) rfl H (fun v2 h2 H => ?_) (fun n9 h9 H => zPx.out rfl H)
      show zP s0 m_J2_get (d + 1) _ _ [] _ _ _
      refine z_aload_n (M := m_J2_get) (k := 2) rfl dJ2_get_24 ?_
      obtain ⟨g, H⟩ := H
      refine z_get (M := m_J2_get) f_J2_107 dJ2_get_25 g ?_
      exact z_areturn (M := m_J2_get) rfl (Or.inl ⟨_, rfl⟩) dJ2_get_28 H
  · have H := H.2 hc
    refine z_null (M := m_J2_get) dJ2_get_10 ?_
    exact z_areturn (M := m_J2_get) rfl (Or.inl ⟨_, rfl⟩) dJ2_get_11 H
theorem c_J2_get {s0 : zE} {d : Nat} {x0 : Nat} {x1 : Nat} {h : zH} {Q : Value → zH → Prop} {E : Nat → zH → Prop} (H : (fC h x0 43 ∧ zX s0 m_J1_getNode d [zr x0, zr (x1)] h (fun v1 h1 => ∃ n1 : Nat, v1 = zr (n1) ∧ ((¬ n1 = 0 → ((fI h1 x0 [43] 10) ∧ ((gI h1 x0 10 = 0 → ((fR h1 n1 [62, 63] 2) ∧ (Q (zr (gR h1 n1 2)) h1))) ∧ (¬ gI h1 x0 10 = 0 → ((fC h1 x0 43 ∧ zX s0 m_J2_afterNodeAccess d [zr x0, zr (n1)] h1 (fun _ h2 => ((fR h2 n1 [62, 63] 2) ∧ (Q (zr (gR h2 n1 2)) h2))) E)))))) ∧ (n1 = 0 → (Q (zr 0) h1)))) E)) : zX s0 m_J2_get (d + 1) [zr (x0), zr (x1)] h Q E := zX.of2 rfl (by decide +kernel) (zlay_r (zlay_r (zlay_n (znoneS znone0)))) (zle rfl) (b_J2_get_0 H)
theorem b_J2_init_0 {s0 : zE} {d : Nat} {x0 : Nat} {h : zH} {Q : Value → zH → Prop} {E : Nat → zH → Prop} (H : (∃ c, fC h x0 c) ∧ (zX s0 m_J1_init d [zr x0] h (fun _ h1 => ((fC h1 x0 43) ∧ (∀ h2, h2 = zput h1 x0 11 (.int (0)) → ((fC h2 x0 43) ∧ (∀ h3, h3 = zput h2 x0 10 (.int (0)) → (Q .null h3)))))) E)) : zP s0 m_J2_init (d + 1) 0 [some (zr (x0))] [] h Q E := by
  refine z_aload_n (M := m_J2_init) (k := 0) rfl dJ2_init_0 ?_
  obtain ⟨⟨c9, g⟩, H⟩ := H
  refine zz_invI (M := m_J2_init) (a := []) ok_J1_init rfl rfl q357 q358 dJ2_init_1 g (Nat.zero_le _) rfl H (fun v1 h1 H => ?_) (fun n9 h9 H => zPx.out rfl H)
  refine z_aload_n (M := m_J2_init) (k := 0) rfl dJ2_init_4 ?_
  refine z_iconst (M := m_J2_init) (v := 0) (by decide) dJ2_init_5 ?_
  obtain ⟨g, H⟩ := H
  refine zz_put (M := m_J2_init) f_J2_1 dJ2_init_6 rfl (fn_43_11) g (ft_43_11) (fun h2 e => ?_)
  have H := H h2 e
  refine z_aload_n (M := m_J2_init) (k := 0) rfl dJ2_init_9 ?_
  refine z_iconst (M := m_J2_init) (v := 0) (by decide) dJ2_init_10 ?_
  obtain ⟨g, H⟩ := H
  refine zz_put (M := m_J2_init) f_J2_64 dJ2_init_11 rfl (⟨_, rfl, Or.inr ⟨rfl, rfl, rfl, q369⟩⟩) g (ft_43_10 (Or.inl rfl)) (fun h3 e => ?_)
  have H := H h3 e
  exact z_return (M := m_J2_init) rfl dJ2_init_14 H
theorem c_J2_init {s0 : zE} {d : Nat} {x0 : Nat} {h : zH} {Q : Value → zH → Prop} {E : Nat → zH → Prop} (H : (∃ c, fC h x0 c) ∧ (zX s0 m_J1_init d [zr x0] h (fun _ h1 => ((fC h1 x0 43) ∧ (∀ h2, h2 = zput h1 x0 11 (.int (0)) → ((fC h2 x0 43) ∧ (∀ h3, h3 = zput h2 x0 10 (.int (0)) → (Q .null h3)))))) E)) : zX s0 m_J2_init (d + 1) [zr (x0)] h Q E := zX.of2 rfl (by decide +kernel) (zlay_r (zlay_n znone0)) (zle rfl) (b_J2_init_0 H)
theorem b_J2_linkNodeAtEnd_0 {s0 : zE} {d : Nat} {x0 : Nat} {x1 : Nat} {h : zH} {Q : Value → zH → Prop} {E : Nat → zH → Prop} (H : (fI h x0 [43] 11) ∧ ((¬ gI h x0 11 = 1 → ((fR h x0 [43] 9) ∧ ((fC h x0 43) ∧ (∀ h1, h1 = zput h x0 9 (zr (x1)) → ((¬ gR h x0 9 = 0 → ((∃ c ∈ ([62, 63] : List Nat), fC h1 x1 c) ∧ (∀ h2, h2 = zput h1 x1 4 (zr (gR h x0 9)) → ((∃ c ∈ ([62, 63] : List Nat), fC h2 (gR h x0 9) c) ∧ (∀ h3, h3 = zput h2 (gR h x0 9) 5 (zr (x1)) → (Q .null h3)))))) ∧ (gR h x0 9 = 0 → ((fC h1 x0 43) ∧ (∀ h4, h4 = zput h1 x0 8 (zr (x1)) → (Q .null h4))))))))) ∧ (gI h x0 11 = 1 → ((fR h x0 [43] 8) ∧ ((fC h x0 43) ∧ (∀ h5, h5 = zput h x0 8 (zr (x1)) → ((¬ gR h x0 8 = 0 → ((∃ c ∈ ([62, 63] : List Nat), fC h5 x1 c) ∧ (∀ h6, h6 = zput h5 x1 5 (zr (gR h x0 8)) → ((∃ c ∈ ([62, 63] : List Nat), fC h6 (gR h x0 8) c) ∧ (∀ h7, h7 = zput h6 (gR h x0 8) 4 (zr (x1)) → (Q .null h7)))))) ∧ (gR h x0 8 = 0 → ((fC h5 x0 43) ∧ (∀ h8, h8 = zput h5 x0 9 (zr (x1)) → (Q .null h8))))))))))) : zP s0 m_J2_linkNodeAtEnd d 0 [some (zr (x0)), some (zr (x1)), none] [] h Q E := by
  refine z_aload_n (M := m_J2_linkNodeAtEnd) (k := 0) rfl dJ2_linkNodeAtEnd_0 ?_
  obtain ⟨g, H⟩ := H
  refine z_get (M := m_J2_linkNodeAtEnd) f_J2_1 dJ2_linkNodeAtEnd_1 g ?_
  refine z_iconst (M := m_J2_linkNodeAtEnd) (v := 1) (by decide) dJ2_linkNodeAtEnd_4 ?_
  refine z_icmpne (M := m_J2_linkNodeAtEnd) 43 rfl dJ2_linkNodeAtEnd_5 (fun hc => ?_) (fun hc => ?_)
  · have H := H.1 hc
    refine z_aload_n (M := m_J2_linkNodeAtEnd) (k := 0) rfl dJ2_linkNodeAtEnd_43 ?_
    obtain ⟨g, H⟩ := H
    refine z_get (M := m_J2_linkNodeAtEnd) f_J2_11 dJ2_linkNodeAtEnd_44 g ?_
    refine z_astore_n (M := m_J2_linkNodeAtEnd) (k := 2) 2 rfl (zlt rfl) (zr_cat _) dJ2_linkNodeAtEnd_47 ?_
    show zP s0 m_J2_linkNodeAtEnd d _ [some (zr (x0)), some (zr (x1)), some (zr (gR h x0 9))] _ _ _ _
    refine z_aload_n (M := m_J2_linkNodeAtEnd) (k := 0) rfl dJ2_linkNodeAtEnd_48 ?_
    refine z_aload_n (M := m_J2_linkNodeAtEnd) (k := 1) rfl dJ2_linkNodeAtEnd_49 ?_
    obtain ⟨g, H⟩ := H
    refine zz_put (M := m_J2_linkNodeAtEnd) f_J2_11 dJ2_linkNodeAtEnd_50 rfl (fn_43_9) g (ft_43_9) (fun h1 e => ?_)
    have H := H h1 e
    refine z_aload_n (M := m_J2_linkNodeAtEnd) (k := 2) rfl dJ2_linkNodeAtEnd_53 ?_
    refine z_ifnonnull (M := m_J2_linkNodeAtEnd) 65 rfl dJ2_linkNodeAtEnd_54 (fun hc => ?_) (fun hc => ?_)
    · have H := H.1 hc
      refine z_aload_n (M := m_J2_linkNodeAtEnd) (k := 1) rfl dJ2_linkNodeAtEnd_65 ?_
      refine z_aload_n (M := m_J2_linkNodeAtEnd) (k := 2) rfl dJ2_linkNodeAtEnd_66 ?_
      obtain ⟨g, H⟩ := H
      refine zz_putM (M := m_J2_linkNodeAtEnd) f_J2_19 dJ2_linkNodeAtEnd_67 (fun c hc => by simp only [List.mem_cons, List.not_mem_nil, or_false] at hc; rcases hc with rfl | rfl <;> exact rfl) (fun c hc => by simp only [List.mem_cons, List.not_mem_nil, or_false] at hc; rcases hc with rfl | rfl <;> exact ⟨_, rfl, Or.inl rfl⟩) g (fun c hc => by simp only [List.mem_cons, List.not_mem_nil, or_false] at hc; rcases hc with rfl | rfl <;> exact (zfit_r rfl rfl rfl)) (fun h2 e => ?_)
      have H := H h2 e
      refine z_aload_n (M := m_J2_linkNodeAtEnd) (k := 2) rfl dJ2_linkNodeAtEnd_70 ?_
      refine z_aload_n (M := m_J2_linkNodeAtEnd) (k := 1) rfl dJ2_linkNodeAtEnd_71 ?_
      obtain ⟨g, H⟩ := H
      refine zz_putM (M := m_J2_linkNodeAtEnd) f_J2_14 dJ2_linkNodeAtEnd_72 (fun c hc => by simp only [List.mem_cons, List.not_mem_nil, or_false] at hc; rcases hc with rfl | rfl <;> exact rfl) (fun c hc => by simp only [List.mem_cons, List.not_mem_nil, or_false] at hc; rcases hc with rfl | rfl <;> exact ⟨_, rfl, Or.inl rfl⟩) g (fun c hc => by simp only [List.mem_cons, List.not_mem_nil, or_false] at hc; rcases hc with rfl | rfl <;> exact (zfit_r rfl rfl rfl)) (fun h3 e => ?_)
      have H := H h3 e
      exact z_return (M := m_J2_linkNodeAtEnd) rfl dJ2_linkNodeAtEnd_75 H
    · have H := H.2 hc
      refine z_aload_n (M := m_J2_linkNodeAtEnd) (k := 0) rfl dJ2_linkNodeAtEnd_57 ?_
      refine z_aload_n (M := m_J2_linkNodeAtEnd) (k := 1) rfl dJ2_linkNodeAtEnd_58 ?_
      obtain ⟨g, H⟩ := H
      refine zz_put (M := m_J2_linkNodeAtEnd) f_J2_7 dJ2_linkNodeAtEnd_59 rfl (fn_43_8) g (ft_43_8) (fun h4 e => ?_)
      have H := H h4 e
      refine z_goto (M := m_J2_linkNodeAtEnd) 75 rfl dJ2_linkNodeAtEnd_62 ?_
      exact z_return (M := m_J2_linkNodeAtEnd) rfl dJ2_linkNodeAtEnd_75 H
  · have H := H.2 hc
    refine z_aload_n (M := m_J2_linkNodeAtEnd) (k := 0) rfl dJ2_linkNodeAtEnd_8 ?_
    obtain ⟨g, H⟩ := H
    refine z_get (M := m_J2_linkNodeAtEnd) f_J2_7 dJ2_linkNodeAtEnd_9 g ?_
    refine z_astore_n (M := m_J2_linkNodeAtEnd) (k := 2) 2 rfl (zlt rfl) (zr_cat _) dJ2_linkNodeAtEnd_12 ?_
    show zP s0 m_J2_linkNodeAtEnd d _ [some (zr (x0)), some (zr (x1)), some (zr (gR h x0 8))] _ _ _ _
    refine z_aload_n (M := m_J2_linkNodeAtEnd) (k := 0) rfl dJ2_linkNodeAtEnd_13 ?_
    refine z_aload_n (M := m_J2_linkNodeAtEnd) (k := 1) rfl dJ2_linkNodeAtEnd_14 ?_
    obtain ⟨g, H⟩ := H
    refine zz_put (M := m_J2_linkNodeAtEnd) f_J2_7 dJ2_linkNodeAtEnd_15 rfl (fn_43_8) g (ft_43_8) (fun h5 e => ?_)
    have H := H h5 e
    refine z_aload_n (M := m_J2_linkNodeAtEnd) (k := 2) rfl dJ2_linkNodeAtEnd_18 ?_
    refine z_ifnonnull (M := m_J2_linkNodeAtEnd) 30 rfl dJ2_linkNodeAtEnd_19 (fun hc => ?_) (fun hc => ?_)
    · have H := H.1 hc
      refine z_aload_n (M := m_J2_linkNodeAtEnd) (k := 1) rfl dJ2_linkNodeAtEnd_30 ?_
      refine z_aload_n (M := m_J2_linkNodeAtEnd) (k := 2) rfl dJ2_linkNodeAtEnd_31 ?_
      obtain ⟨g, H⟩ := H
      refine zz_putM (M := m_J2_linkNodeAtEnd) f_J2_14 dJ2_linkNodeAtEnd_32 (fun c hc => by simp only [List.mem_cons, List.not_mem_nil, or_false] at hc; rcases hc with rfl | rfl <;> exact rfl) (fun c hc => by simp only [List.mem_cons, List.not_mem_nil, or_false] at hc; rcases hc with rfl | rfl <;> exact ⟨_, rfl, Or.inl rfl⟩) g (fun c hc => by simp only [List.mem_cons, List.not_mem_nil, or_false] at hc; rcases hc with rfl | rfl <;> exact (zfit_r rfl rfl rfl)) (fun h6 e => ?_)
      have H := H h6 e
      refine z_aload_n (M := m_J2_linkNodeAtEnd) (k := 2) rfl dJ2_linkNodeAtEnd_35 ?_
      refine z_aload_n (M := m_J2_linkNodeAtEnd) (k := 1) rfl dJ2_linkNodeAtEnd_36 ?_
      obtain ⟨g, H⟩ := H
      refine zz_putM (M := m_J2_linkNodeAtEnd) f_J2_19 dJ2_linkNodeAtEnd_37 (fun c hc => by simp only [List.mem_cons, List.not_mem_nil, or_false] at hc; rcases hc with rfl | rfl <;> exact rfl) (fun c hc => by simp only [List.mem_cons, List.not_mem_nil, or_false] at hc; rcases hc with rfl | rfl <;> exact ⟨_, rfl, Or.inl rfl⟩) g (fun c hc => by simp only [List.mem_cons, List.not_mem_nil, or_false] at hc; rcases hc with rfl | rfl <;> exact (zfit_r rfl rfl rfl)) (fun h7 e => ?_)
      have H := H h7 e
      refine z_goto (M := m_J2_linkNodeAtEnd) 75 rfl dJ2_linkNodeAtEnd_40 ?_
      exact z_return (M := m_J2_linkNodeAtEnd) rfl dJ2_linkNodeAtEnd_75 H
    · have H := H.2 hc
      refine z_aload_n (M := m_J2_linkNodeAtEnd) (k := 0) rfl dJ2_linkNodeAtEnd_22 ?_
      refine z_aload_n (M := m_J2_linkNodeAtEnd) (k := 1) rfl dJ2_linkNodeAtEnd_23 ?_
      obtain ⟨g, H⟩ := H
      refine zz_put (M := m_J2_linkNodeAtEnd) f_J2_11 dJ2_linkNodeAtEnd_24 rfl (fn_43_9) g (ft_43_9) (fun h8 e => ?_)
      have H := H h8 e
      refine z_goto (M := m_J2_linkNodeAtEnd) 40 rfl dJ2_linkNodeAtEnd_27 ?_
      refine z_goto (M := m_J2_linkNodeAtEnd) 75 rfl dJ2_linkNodeAtEnd_40 ?_
      exact z_return (M := m_J2_linkNodeAtEnd) rfl dJ2_linkNodeAtEnd_75 H
theorem c_J2_linkNodeAtEnd {s0 : zE} {d : Nat} {x0 : Nat} {x1 : Nat} {h : zH} {Q : Value → zH → Prop} {E : Nat → zH → Prop} (H : (fI h x0 [43] 11) ∧ ((¬ gI h x0 11 = 1 → ((fR h x0 [43] 9) ∧ ((fC h x0 43) ∧ (∀ h1, h1 = zput h x0 9 (zr (x1)) → ((¬ gR h x0 9 = 0 → ((∃ c ∈ ([62, 63] : List Nat), fC h1 x1 c) ∧ (∀ h2, h2 = zput h1 x1 4 (zr (gR h x0 9)) → ((∃ c ∈ ([62, 63] : List Nat), fC h2 (gR h x0 9) c) ∧ (∀ h3, h3 = zput h2 (gR h x0 9) 5 (zr (x1)) → (Q .null h3)))))) ∧ (gR h x0 9 = 0 → ((fC h1 x0 43) ∧ (∀ h4, h4 = zput h1 x0 8 (zr (x1)) → (Q .null h4))))))))) ∧ (gI h x0 11 = 1 → ((fR h x0 [43] 8) ∧ ((fC h x0 43) ∧ (∀ h5, h5 = zput h x0 8 (zr (x1)) → ((¬ gR h x0 8 = 0 → ((∃ c ∈ ([62, 63] : List Nat), fC h5 x1 c) ∧ (∀ h6, h6 = zput h5 x1 5 (zr (gR h x0 8)) → ((∃ c ∈ ([62, 63] : List Nat), fC h6 (gR h x0 8) c) ∧ (∀ h7, h7 = zput h6 (gR h x0 8) 4 (zr (x1)) → (Q .null h7)))))) ∧ (gR h x0 8 = 0 → ((fC h5 x0 43) ∧ (∀ h8, h8 = zput h5 x0 9 (zr (x1)) → (Q .null h8))))))))))) : zX s0 m_J2_linkNodeAtEnd d [zr (x0), zr (x1)] h Q E := zX.of2 rfl (by decide +kernel) (zlay_r (zlay_r (zlay_n (znoneS znone0)))) (zle rfl) (b_J2_linkNodeAtEnd_0 H)
theorem b_J2_newNode_0 {s0 : zE} {d : Nat} {x0 : Nat} {x1 : Int32} {x2 : Nat} {x3 : Nat} {x4 : Nat} {h : zH} {Q : Value → zH → Prop} {E : Nat → zH → Prop} (H : (zroom s0 h 6) ∧ (∀ n1, n1 = h.2.1 → (∀ h1, h1 = znew h 62 [.int 0, zr 0, zr 0, zr 0, zr 0, zr 0] 6 → ((∃ c, fC h1 n1 c) ∧ (zX s0 m_J40_init d [zr n1, .int (x1), zr (x2), zr (x3), zr (x4)] h1 (fun _ h2 => ((fC h2 x0 43 ∧ zX s0 m_J2_linkNodeAtEnd d [zr x0, zr (n1)] h2 (fun _ h3 => (Q (zr n1) h3)) E))) E))))) : zP s0 m_J2_newNode (d + 1) 0 [some (zr (x0)), some (.int (x1)), some (zr (x2)), some (zr (x3)), some (zr (x4)), none] [] h Q E := by
  obtain ⟨g, H⟩ := H
  refine zz_new (M := m_J2_newNode) (fs := [.int 0, zr 0, zr 0, zr 0, zr 0, zr 0]) (w := 6) (c := 62) rfl q2201 q2202 rfl znf_J40 dJ2_newNode_0 g (fun n1 e1 h1 e2 => ?_)
  have H := H n1 e1 h1 e2
  refine z_dup (M := m_J2_newNode) (zr_cat _) dJ2_newNode_3 ?_
  refine z_iload_n (M := m_J2_newNode) (k := 1) rfl dJ2_newNode_4 ?_
  refine z_aload_n (M := m_J2_newNode) (k := 2) rfl dJ2_newNode_5 ?_
  refine z_aload_n (M := m_J2_newNode) (k := 3) rfl dJ2_newNode_6 ?_
  refine z_aload (M := m_J2_newNode) (i := 4) rfl dJ2_newNode_7 ?_
  obtain ⟨⟨c9, g⟩, H⟩ := H
  refine zz_invI (M := m_J2_newNode) (a := [.int (x1), zr (x2), zr (x3), zr (x4)]) ok_J40_init rfl rfl q2203 q2204 dJ2_newNode_9 g (Nat.le_trans (zcatr zcat0) (zle rfl)) rfl H (fun v1 h2 H => ?_) (fun n9 h9 H => zPx.out rfl H)
  refine z_astore (M := m_J2_newNode) 5 (zlt rfl) (zr_cat _) dJ2_newNode_12 ?_
  show zP s0 m_J2_newNode (d + 1) _ [some (zr (x0)), some (.int (x1)), some (zr (x2)), some (zr (x3)), some (zr (x4)), some (zr (n1))] _ _ _ _
  refine z_aload_n (M := m_J2_newNode) (k := 0) rfl dJ2_newNode_14 ?_
  refine z_aload (M := m_J2_newNode) (i := 5) rfl dJ2_newNode_15 ?_
  obtain ⟨⟨fs9, g⟩, H⟩ := H
  refine z_invV (M := m_J2_newNode) (cn := 43) (a := [zr (n1)]) ok_J2_linkNodeAtEnd q3070 q3072 qs53 rfl dJ2_newNode_17 g (Nat.le_refl _) (Nat.zero_le _) rfl H (fun v2 h3 H => ?_) (fun n9 h9 H => zPx.out rfl H)
  show zP s0 m_J2_newNode (d + 1) _ _ [] _ _ _
  refine z_aload (M := m_J2_newNode) (i := 5) rfl dJ2_newNode_20 ?_
  exact z_areturn (M := m_J2_newNode) rfl (Or.inl ⟨_, rfl⟩) dJ2_newNode_22 H
theorem c_J2_newNode {s0 : zE} {d : Nat} {x0 : Nat} {x1 : Int32} {x2 : Nat} {x3 : Nat} {x4 : Nat} {h : zH} {Q : Value → zH → Prop} {E : Nat → zH → Prop} (H : (zroom s0 h 6) ∧ (∀ n1, n1 = h.2.1 → (∀ h1, h1 = znew h 62 [.int 0, zr 0, zr 0, zr 0, zr 0, zr 0] 6 → ((∃ c, fC h1 n1 c) ∧ (zX s0 m_J40_init d [zr n1, .int (x1), zr (x2), zr (x3), zr (x4)] h1 (fun _ h2 => ((fC h2 x0 43 ∧ zX s0 m_J2_linkNodeAtEnd d [zr x0, zr (n1)] h2 (fun _ h3 => (Q (zr n1) h3)) E))) E))))) : zX s0 m_J2_newNode (d + 1) [zr (x0), .int (x1), zr (x2), zr (x3), zr (x4)] h Q E := zX.of2 rfl (by decide +kernel) (zlay_r (zlay_i (zlay_r (zlay_r (zlay_r (zlay_n (znoneS znone0))))))) (zle rfl) (b_J2_newNode_0 H)
theorem b_J2_newTreeNode_0 {s0 : zE} {d : Nat} {x0 : Nat} {x1 : Int32} {x2 : Nat} {x3 : Nat} {x4 : Nat} {h : zH} {Q : Value → zH → Prop} {E : Nat → zH → Prop} (H : (zroom s0 h 11) ∧ (∀ n1, n1 = h.2.1 → (∀ h1, h1 = znew h 63 [.int 0, zr 0, zr 0, zr 0, zr 0, zr 0, zr 0, zr 0, zr 0, zr 0, .int 0] 11 → ((∃ c, fC h1 n1 c) ∧ (zX s0 m_J41_init d [zr n1, .int (x1), zr (x2), zr (x3), zr (x4)] h1 (fun _ h2 => ((fC h2 x0 43 ∧ zX s0 m_J2_linkNodeAtEnd d [zr x0, zr (n1)] h2 (fun _ h3 => (Q (zr n1) h3)) E))) E))))) : zP s0 m_J2_newTreeNode (d + 1) 0 [some (zr (x0)), some (.int (x1)), some (zr (x2)), some (zr (x3)), some (zr (x4)), none] [] h Q E := by
  obtain ⟨g, H⟩ := H
  refine zz_new (M := m_J2_newTreeNode) (fs := [.int 0, zr 0, zr 0, zr 0, zr 0, zr 0, zr 0, zr 0, zr 0, zr 0, .int 0]) (w := 11) (c := 63) rfl q3085 q3086 rfl znf_J41 dJ2_newTreeNode_0 g (fun n1 e1 h1 e2 => ?_)
  have H := H n1 e1 h1 e2
  refine z_dup (M := m_J2_newTreeNode) (zr_cat _) dJ2_newTreeNode_3 ?_
  refine z_iload_n (M := m_J2_newTreeNode) (k := 1) rfl dJ2_newTreeNode_4 ?_
  refine z_aload_n (M := m_J2_newTreeNode) (k := 2) rfl dJ2_newTreeNode_5 ?_
  refine z_aload_n (M := m_J2_newTreeNode) (k := 3) rfl dJ2_newTreeNode_6 ?_
  refine z_aload (M := m_J2_newTreeNode) (i := 4) rfl dJ2_newTreeNode_7 ?_
  obtain ⟨⟨c9, g⟩, H⟩ := H
  refine zz_invI (M := m_J2_newTreeNode) (a := [.int (x1), zr (x2), zr (x3), zr (x4)]) ok_J41_init rfl rfl q3087 q3088 dJ2_newTreeNode_9 g (Nat.le_trans (zcatr zcat0) (zle rfl)) rfl H (fun v1 h2 H => ?_) (fun n9 h9 H => zPx.out rfl H)
  refine z_astore (M := m_J2_newTreeNode) 5 (zlt rfl) (zr_cat _) dJ2_newTreeNode_12 ?_
  show zP s0 m_J2_newTreeNode (d + 1) _ [some (zr (x0)), some (.int (x1)), some (zr (x2)), some (zr (x3)), some (zr (x4)), some (zr (n1))] _ _ _ _
  refine z_aload_n (M := m_J2_newTreeNode) (k := 0) rfl dJ2_newTreeNode_14 ?_
  refine z_aload (M := m_J2_newTreeNode) (i := 5) rfl dJ2_newTreeNode_15 ?_
  obtain ⟨⟨fs9, g⟩, H⟩ := H
  refine z_invV (M := m_J2_newTreeNode) (cn := 43) (a := [zr (n1)]) ok_J2_linkNodeAtEnd q3070 q3072 qs53 rfl dJ2_newTreeNode_17 g (Nat.le_refl _) (Nat.zero_le _) rfl H (fun v2 h3 H => ?_) (fun n9 h9 H => zPx.out rfl H)
  show zP s0 m_J2_newTreeNode (d + 1) _ _ [] _ _ _
  refine z_aload (M := m_J2_newTreeNode) (i := 5) rfl dJ2_newTreeNode_20 ?_
  exact z_areturn (M := m_J2_newTreeNode) rfl (Or.inl ⟨_, rfl⟩) dJ2_newTreeNode_22 H
theorem c_J2_newTreeNode {s0 : zE} {d : Nat} {x0 : Nat} {x1 : Int32} {x2 : Nat} {x3 : Nat} {x4 : Nat} {h : zH} {Q : Value → zH → Prop} {E : Nat → zH → Prop} (H : (zroom s0 h 11) ∧ (∀ n1, n1 = h.2.1 → (∀ h1, h1 = znew h 63 [.int 0, zr 0, zr 0, zr 0, zr 0, zr 0, zr 0, zr 0, zr 0, zr 0, .int 0] 11 → ((∃ c, fC h1 n1 c) ∧ (zX s0 m_J41_init d [zr n1, .int (x1), zr (x2), zr (x3), zr (x4)] h1 (fun _ h2 => ((fC h2 x0 43 ∧ zX s0 m_J2_linkNodeAtEnd d [zr x0, zr (n1)] h2 (fun _ h3 => (Q (zr n1) h3)) E))) E))))) : zX s0 m_J2_newTreeNode (d + 1) [zr (x0), .int (x1), zr (x2), zr (x3), zr (x4)] h Q E := zX.of2 rfl (by decide +kernel) (zlay_r (zlay_i (zlay_r (zlay_r (zlay_r (zlay_n (znoneS znone0))))))) (zle rfl) (b_J2_newTreeNode_0 H)
theorem b_J2_removeEldestEntry_0 {s0 : zE} {d : Nat} {x0 : Nat} {x1 : Nat} {h : zH} {Q : Value → zH → Prop} {E : Nat → zH → Prop} (H : Q (.int 0) h) : zP s0 m_J2_removeEldestEntry d 0 [some (zr (x0)), some (zr (x1))] [] h Q E := by
  refine z_iconst (M := m_J2_removeEldestEntry) (v := 0) (by decide) dJ2_removeEldestEntry_0 ?_
  exact z_ireturn (M := m_J2_removeEldestEntry) rfl rfl dJ2_removeEldestEntry_1 H
theorem c_J2_removeEldestEntry {s0 : zE} {d : Nat} {x0 : Nat} {x1 : Nat} {h : zH} {Q : Value → zH → Prop} {E : Nat → zH → Prop} (H : Q (.int 0) h) : zX s0 m_J2_removeEldestEntry d [zr (x0), zr (x1)] h Q E := zX.of2 rfl (by decide +kernel) (zlay_r (zlay_r (zlay_n znone0))) (zle rfl) (b_J2_removeEldestEntry_0 H)
theorem b_J2_replacementNode_0 {s0 : zE} {d : Nat} {x0 : Nat} {x1 : Nat} {x2 : Nat} {h : zH} {Q : Value → zH → Prop} {E : Nat → zH → Prop} (H : (x1 = 0 ∨ zCast h x1 "java/util/LinkedHashMap$Entry") ∧ ((zroom s0 h 6) ∧ (∀ n1, n1 = h.2.1 → (∀ h1, h1 = znew h 62 [.int 0, zr 0, zr 0, zr 0, zr 0, zr 0] 6 → ((fI h1 x1 [62, 63] 0) ∧ ((fR h1 x1 [62, 63] 1) ∧ ((fR h1 x1 [62, 63] 2) ∧ ((∃ c, fC h1 n1 c) ∧ (zX s0 m_J40_init d [zr n1, .int (gI h1 x1 0), zr (gR h1 x1 1), zr (gR h1 x1 2), zr (x2)] h1 (fun _ h2 => ((fC h2 x0 43 ∧ zX s0 m_J2_transferLinks d [zr x0, zr (x1), zr (n1)] h2 (fun _ h3 => (Q (zr n1) h3)) E))) E))))))))) : zP s0 m_J2_replacementNode (d + 1) 0 [some (zr (x0)), some (zr (x1)), some (zr (x2)), none, none] [] h Q E := by
  refine z_aload_n (M := m_J2_replacementNode) (k := 1) rfl dJ2_replacementNode_0 ?_
  obtain ⟨g, H⟩ := H
  refine z_checkcast (M := m_J2_replacementNode) q2201 dJ2_replacementNode_1 g ?_
  refine z_astore_n (M := m_J2_replacementNode) (k := 3) 3 rfl (zlt rfl) (zr_cat _) dJ2_replacementNode_4 ?_
  show zP s0 m_J2_replacementNode (d + 1) _ [some (zr (x0)), some (zr (x1)), some (zr (x2)), some (zr (x1)), none] _ _ _ _
  obtain ⟨g, H⟩ := H
  refine zz_new (M := m_J2_replacementNode) (fs := [.int 0, zr 0, zr 0, zr 0, zr 0, zr 0]) (w := 6) (c := 62) rfl q2201 q2202 rfl znf_J40 dJ2_replacementNode_5 g (fun n1 e1 h1 e2 => ?_)
  have H := H n1 e1 h1 e2
  refine z_dup (M := m_J2_replacementNode) (zr_cat _) dJ2_replacementNode_8 ?_
  refine z_aload_n (M := m_J2_replacementNode) (k := 3) rfl dJ2_replacementNode_9 ?_
  obtain ⟨g, H⟩ := H
  refine z_get (M := m_J2_replacementNode) f_J2_36 dJ2_replacementNode_10 g ?_
  refine z_aload_n (M := m_J2_replacementNode) (k := 3) rfl dJ2_replacementNode_13 ?_
  obtain ⟨g, H⟩ := H
  refine z_get (M := m_J2_replacementNode) f_J2_39 dJ2_replacementNode_14 g ?_
  refine z_aload_n (M := m_J2_replacementNode) (k := 3) rfl dJ2_replacementNode_17 ?_
  obtain ⟨g, H⟩ := H
  refine z_get (M := m_J2_replacementNode) f_J2_43 dJ2_replacementNode_18 g ?_
  refine z_aload_n (M := m_J2_replacementNode) (k := 2) rfl dJ2_replacementNode_21 ?_
  obtain ⟨⟨c9, g⟩, H⟩ := H
  refine zz_invI (M := m_J2_replacementNode) (a := [.int (gI h1 x1 0), zr (gR h1 x1 1), zr (gR h1 x1 2), zr (x2)]) ok_J40_init rfl rfl q2203 q2204 dJ2_replacementNode_22 g (Nat.le_trans (zcatr zcat0) (zle rfl)) rfl H (fun v1 h2 H => ?_) (fun n9 h9 H => zPx.out rfl H)
  refine z_astore (M := m_J2_replacementNode) 4 (zlt rfl) (zr_cat _) dJ2_replacementNode_25 ?_
  show zP s0 m_J2_replacementNode (d + 1) _ [some (zr (x0)), some (zr (x1)), some (zr (x2)), some (zr (x1)), some (zr (n1))] _ _ _ _
  refine z_aload_n (M := m_J2_replacementNode) (k := 0) rfl dJ2_replacementNode_27 ?_
  refine z_aload_n (M := m_J2_replacementNode) (k := 3) rfl dJ2_replacementNode_28 ?_
  refine z_aload (M := m_J2_replacementNode) (i := 4) rfl dJ2_replacementNode_29 ?_
  obtain ⟨⟨fs9, g⟩, H⟩ := H
  refine z_invV (M := m_J2_replacementNode) (cn := 43) (a := [zr (x1), zr (n1)]) ok_J2_transferLinks q2253 q2255 qs15 rfl dJ2_replacementNode_31 g (Nat.le_refl _) (Nat.zero_le _) rfl H (fun v2 h3 H => ?_) (fun n9 h9 H => zPx.out rfl H)
  show zP s0 m_J2_replacementNode (d + 1) _ _ [] _ _ _
  refine z_aload (M := m_J2_replacementNode) (i := 4) rfl dJ2_replacementNode_34 ?_
  exact z_areturn (M := m_J2_replacementNode) rfl (Or.inl ⟨_, rfl⟩) dJ2_replacementNode_36 H
theorem c_J2_replacementNode {s0 : zE} {d : Nat} {x0 : Nat} {x1 : Nat} {x2 : Nat} {h : zH} {Q : Value → zH → Prop} {E : Nat → zH → Prop} (H : (x1 = 0 ∨ zCast h x1 "java/util/LinkedHashMap$Entry") ∧ ((zroom s0 h 6) ∧ (∀ n1, n1 = h.2.1 → (∀ h1, h1 = znew h 62 [.int 0, zr 0, zr 0, zr 0, zr 0, zr 0] 6 → ((fI h1 x1 [62, 63] 0) ∧ ((fR h1 x1 [62, 63] 1) ∧ ((fR h1 x1 [62, 63] 2) ∧ ((∃ c, fC h1 n1 c) ∧ (zX s0 m_J40_init d [zr n1, .int (gI h1 x1 0), zr (gR h1 x1 1), zr (gR h1 x1 2), zr (x2)] h1 (fun _ h2 => ((fC h2 x0 43 ∧ zX s0 m_J2_transferLinks d [zr x0, zr (x1), zr (n1)] h2 (fun _ h3 => (Q (zr n1) h3)) E))) E))))))))) : zX s0 m_J2_replacementNode (d + 1) [zr (x0), zr (x1), zr (x2)] h Q E := zX.of2 rfl (by decide +kernel) (zlay_r (zlay_r (zlay_r (zlay_n (znoneS (znoneS znone0)))))) (zle rfl) (b_J2_replacementNode_0 H)
theorem b_J2_replacementTreeNode_0 {s0 : zE} {d : Nat} {x0 : Nat} {x1 : Nat} {x2 : Nat} {h : zH} {Q : Value → zH → Prop} {E : Nat → zH → Prop} (H : (x1 = 0 ∨ zCast h x1 "java/util/LinkedHashMap$Entry") ∧ ((zroom s0 h 11) ∧ (∀ n1, n1 = h.2.1 → (∀ h1, h1 = znew h 63 [.int 0, zr 0, zr 0, zr 0, zr 0, zr 0, zr 0, zr 0, zr 0, zr 0, .int 0] 11 → ((fI h1 x1 [62, 63] 0) ∧ ((fR h1 x1 [62, 63] 1) ∧ ((fR h1 x1 [62, 63] 2) ∧ ((∃ c, fC h1 n1 c) ∧ (zX s0 m_J41_init d [zr n1, .int (gI h1 x1 0), zr (gR h1 x1 1), zr (gR h1 x1 2), zr (x2)] h1 (fun _ h2 => ((fC h2 x0 43 ∧ zX s0 m_J2_transferLinks d [zr x0, zr (x1), zr (n1)] h2 (fun _ h3 => (Q (zr n1) h3)) E))) E))))))))) : zP s0 m_J2_replacementTreeNode (d + 1) 0 [some (zr (x0)), some (zr (x1)), some (zr (x2)), none, none] [] h Q E := by
  refine z_aload_n (M := m_J2_replacementTreeNode) (k := 1) rfl dJ2_replacementTreeNode_0 ?_
  obtain ⟨g, H⟩ := H
  refine z_checkcast (M := m_J2_replacementTreeNode) q2201 dJ2_replacementTreeNode_1 g ?_
  refine z_astore_n (M := m_J2_replacementTreeNode) (k := 3) 3 rfl (zlt rfl) (zr_cat _) dJ2_replacementTreeNode_4 ?_
  show zP s0 m_J2_replacementTreeNode (d + 1) _ [some (zr (x0)), some (zr (x1)), some (zr (x2)), some (zr (x1)), none] _ _ _ _
  obtain ⟨g, H⟩ := H
  refine zz_new (M := m_J2_replacementTreeNode) (fs := [.int 0, zr 0, zr 0, zr 0, zr 0, zr 0, zr 0, zr 0, zr 0, zr 0, .int 0]) (w := 11) (c := 63) rfl q3085 q3086 rfl znf_J41 dJ2_replacementTreeNode_5 g (fun n1 e1 h1 e2 => ?_)
  have H := H n1 e1 h1 e2
  refine z_dup (M := m_J2_replacementTreeNode) (zr_cat _) dJ2_replacementTreeNode_8 ?_
  refine z_aload_n (M := m_J2_replacementTreeNode) (k := 3) rfl dJ2_replacementTreeNode_9 ?_
  obtain ⟨g, H⟩ := H
  refine z_get (M := m_J2_replacementTreeNode) f_J2_36 dJ2_replacementTreeNode_10 g ?_
  refine z_aload_n (M := m_J2_replacementTreeNode) (k := 3) rfl dJ2_replacementTreeNode_13 ?_
  obtain ⟨g, H⟩ := H
  refine z_get (M := m_J2_replacementTreeNode) f_J2_39 dJ2_replacementTreeNode_14 g ?_
  refine z_aload_n (M := m_J2_replacementTreeNode) (k := 3) rfl dJ2_replacementTreeNode_17 ?_
  obtain ⟨g, H⟩ := H
  refine z_get (M := m_J2_replacementTreeNode) f_J2_43 dJ2_replacementTreeNode_18 g ?_
  refine z_aload_n (M := m_J2_replacementTreeNode) (k := 2) rfl dJ2_replacementTreeNode_21 ?_
  obtain ⟨⟨c9, g⟩, H⟩ := H
  refine zz_invI (M := m_J2_replacementTreeNode) (a := [.int (gI h1 x1 0), zr (gR h1 x1 1), zr (gR h1 x1 2), zr (x2)]) ok_J41_init rfl rfl q3087 q3088 dJ2_replacementTreeNode_22 g (Nat.le_trans (zcatr zcat0) (zle rfl)) rfl H (fun v1 h2 H => ?_) (fun n9 h9 H => zPx.out rfl H)
  refine z_astore (M := m_J2_replacementTreeNode) 4 (zlt rfl) (zr_cat _) dJ2_replacementTreeNode_25 ?_
  show zP s0 m_J2_replacementTreeNode (d + 1) _ [some (zr (x0)), some (zr (x1)), some (zr (x2)), some (zr (x1)), some (zr (n1))] _ _ _ _
  refine z_aload_n (M := m_J2_replacementTreeNode) (k := 0) rfl dJ2_replacementTreeNode_27 ?_
  refine z_aload_n (M := m_J2_replacementTreeNode) (k := 3) rfl dJ2_replacementTreeNode_28 ?_
  refine z_aload (M := m_J2_replacementTreeNode) (i := 4) rfl dJ2_replacementTreeNode_29 ?_
  obtain ⟨⟨fs9, g⟩, H⟩ := H
  refine z_invV (M := m_J2_replacementTreeNode) (cn := 43) (a := [zr (x1), zr (n1)]) ok_J2_transferLinks q2253 q2255 qs15 rfl dJ2_replacementTreeNode_31 g (Nat.le_refl _) (Nat.zero_le _) rfl H (fun v2 h3 H => ?_) (fun n9 h9 H => zPx.out rfl H)
  show zP s0 m_J2_replacementTreeNode (d + 1) _ _ [] _ _ _
  refine z_aload (M := m_J2_replacementTreeNode) (i := 4) rfl dJ2_replacementTreeNode_34 ?_
  exact z_areturn (M := m_J2_replacementTreeNode) rfl (Or.inl ⟨_, rfl⟩) dJ2_replacementTreeNode_36 H
theorem c_J2_replacementTreeNode {s0 : zE} {d : Nat} {x0 : Nat} {x1 : Nat} {x2 : Nat} {h : zH} {Q : Value → zH → Prop} {E : Nat → zH → Prop} (H : (x1 = 0 ∨ zCast h x1 "java/util/LinkedHashMap$Entry") ∧ ((zroom s0 h 11) ∧ (∀ n1, n1 = h.2.1 → (∀ h1, h1 = znew h 63 [.int 0, zr 0, zr 0, zr 0, zr 0, zr 0, zr 0, zr 0, zr 0, zr 0, .int 0] 11 → ((fI h1 x1 [62, 63] 0) ∧ ((fR h1 x1 [62, 63] 1) ∧ ((fR h1 x1 [62, 63] 2) ∧ ((∃ c, fC h1 n1 c) ∧ (zX s0 m_J41_init d [zr n1, .int (gI h1 x1 0), zr (gR h1 x1 1), zr (gR h1 x1 2), zr (x2)] h1 (fun _ h2 => ((fC h2 x0 43 ∧ zX s0 m_J2_transferLinks d [zr x0, zr (x1), zr (n1)] h2 (fun _ h3 => (Q (zr n1) h3)) E))) E))))))))) : zX s0 m_J2_replacementTreeNode (d + 1) [zr (x0), zr (x1), zr (x2)] h Q E := zX.of2 rfl (by decide +kernel) (zlay_r (zlay_r (zlay_r (zlay_n (znoneS (znoneS znone0)))))) (zle rfl) (b_J2_replacementTreeNode_0 H)
theorem b_J2_sequencedEntrySet_0 {s0 : zE} {d : Nat} {x0 : Nat} {h : zH} {Q : Value → zH → Prop} {E : Nat → zH → Prop} (H : (fR h x0 [43] 1) ∧ ((¬ gR h x0 1 = 0 → ((gR h x0 1 = 0 ∨ zCast h (gR h x0 1) "java/util/SequencedSet") ∧ (Q (zr (gR h x0 1)) h))) ∧ (gR h x0 1 = 0 → ((zroom s0 h 2) ∧ (∀ n1, n1 = h.2.1 → (∀ h1, h1 = znew h 64 [.int 0, zr 0] 2 → ((∃ c, fC h1 n1 c) ∧ (zX s0 m_J43_init d [zr n1, zr (x0), .int (0)] h1 (fun _ h2 => ((fC h2 x0 43) ∧ (∀ h3, h3 = zput h2 x0 1 (zr (n1)) → (Q (zr n1) h3)))) E)))))))) : zP s0 m_J2_sequencedEntrySet (d + 1) 0 [some (zr (x0)), none, none] [] h Q E := by
  refine z_aload_n (M := m_J2_sequencedEntrySet) (k := 0) rfl dJ2_sequencedEntrySet_0 ?_
  obtain ⟨g, H⟩ := H
  refine z_get (M := m_J2_sequencedEntrySet) f_J2_151 dJ2_sequencedEntrySet_1 g ?_
  refine z_astore_n (M := m_J2_sequencedEntrySet) (k := 1) 1 rfl (zlt rfl) (zr_cat _) dJ2_sequencedEntrySet_4 ?_
  show zP s0 m_J2_sequencedEntrySet (d + 1) _ [some (zr (x0)), some (zr (gR h x0 1)), none] _ _ _ _
  refine z_aload_n (M := m_J2_sequencedEntrySet) (k := 1) rfl dJ2_sequencedEntrySet_5 ?_
  refine z_ifnonnull (M := m_J2_sequencedEntrySet) 26 rfl dJ2_sequencedEntrySet_6 (fun hc => ?_) (fun hc => ?_)
  · have H := H.1 hc
    refine z_aload_n (M := m_J2_sequencedEntrySet) (k := 1) rfl dJ2_sequencedEntrySet_26 ?_
    obtain ⟨g, H⟩ := H
    refine z_checkcast (M := m_J2_sequencedEntrySet) q3489 dJ2_sequencedEntrySet_27 g ?_
    exact z_areturn (M := m_J2_sequencedEntrySet) rfl (Or.inl ⟨_, rfl⟩) dJ2_sequencedEntrySet_30 H
  · have H := H.2 hc
    obtain ⟨g, H⟩ := H
    refine zz_new (M := m_J2_sequencedEntrySet) (fs := [.int 0, zr 0]) (w := 2) (c := 64) rfl q3473 q3474 rfl znf_J43 dJ2_sequencedEntrySet_9 g (fun n1 e1 h1 e2 => ?_)
    have H := H n1 e1 h1 e2
    refine z_dup (M := m_J2_sequencedEntrySet) (zr_cat _) dJ2_sequencedEntrySet_12 ?_
    refine z_aload_n (M := m_J2_sequencedEntrySet) (k := 0) rfl dJ2_sequencedEntrySet_13 ?_
    refine z_iconst (M := m_J2_sequencedEntrySet) (v := 0) (by decide) dJ2_sequencedEntrySet_14 ?_
    obtain ⟨⟨c9, g⟩, H⟩ := H
    refine zz_invI (M := m_J2_sequencedEntrySet) (a := [zr (x0), .int (0)]) ok_J43_init rfl rfl q3475 q3476 dJ2_sequencedEntrySet_15 g (Nat.le_trans (zcatr zcat0) (zle rfl)) rfl H (fun v1 h2 H => ?_) (fun n9 h9 H => zPx.out rfl H)
    refine z_astore_n (M := m_J2_sequencedEntrySet) (k := 2) 2 rfl (zlt rfl) (zr_cat _) dJ2_sequencedEntrySet_18 ?_
    show zP s0 m_J2_sequencedEntrySet (d + 1) _ [some (zr (x0)), some (zr (gR h x0 1)), some (zr (n1))] _ _ _ _
    refine z_aload_n (M := m_J2_sequencedEntrySet) (k := 0) rfl dJ2_sequencedEntrySet_19 ?_
    refine z_aload_n (M := m_J2_sequencedEntrySet) (k := 2) rfl dJ2_sequencedEntrySet_20 ?_
    obtain ⟨g, H⟩ := H
    refine zz_put (M := m_J2_sequencedEntrySet) f_J2_151 dJ2_sequencedEntrySet_21 rfl (fn_43_1) g (ft_43_1) (fun h3 e => ?_)
    have H := H h3 e
    refine z_aload_n (M := m_J2_sequencedEntrySet) (k := 2) rfl dJ2_sequencedEntrySet_24 ?_
    exact z_areturn (M := m_J2_sequencedEntrySet) rfl (Or.inl ⟨_, rfl⟩) dJ2_sequencedEntrySet_25 H
theorem c_J2_sequencedEntrySet {s0 : zE} {d : Nat} {x0 : Nat} {h : zH} {Q : Value → zH → Prop} {E : Nat → zH → Prop} (H : (fR h x0 [43] 1) ∧ ((¬ gR h x0 1 = 0 → ((gR h x0 1 = 0 ∨ zCast h (gR h x0 1) "java/util/SequencedSet") ∧ (Q (zr (gR h x0 1)) h))) ∧ (gR h x0 1 = 0 → ((zroom s0 h 2) ∧ (∀ n1, n1 = h.2.1 → (∀ h1, h1 = znew h 64 [.int 0, zr 0] 2 → ((∃ c, fC h1 n1 c) ∧ (zX s0 m_J43_init d [zr n1, zr (x0), .int (0)] h1 (fun _ h2 => ((fC h2 x0 43) ∧ (∀ h3, h3 = zput h2 x0 1 (zr (n1)) → (Q (zr n1) h3)))) E)))))))) : zX s0 m_J2_sequencedEntrySet (d + 1) [zr (x0)] h Q E := zX.of2 rfl (by decide +kernel) (zlay_r (zlay_n (znoneS (znoneS znone0)))) (zle rfl) (b_J2_sequencedEntrySet_0 H)
theorem b_J2_transferLinks_0 {s0 : zE} {d : Nat} {x0 : Nat} {x1 : Nat} {x2 : Nat} {h : zH} {Q : Value → zH → Prop} {E : Nat → zH → Prop} (H : (fR h x1 [62, 63] 4) ∧ ((∃ c ∈ ([62, 63] : List Nat), fC h x2 c) ∧ (∀ h1, h1 = zput h x2 4 (zr (gR h x1 4)) → ((fR h1 x1 [62, 63] 5) ∧ ((∃ c ∈ ([62, 63] : List Nat), fC h1 x2 c) ∧ (∀ h2, h2 = zput h1 x2 5 (zr (gR h1 x1 5)) → ((¬ gR h x1 4 = 0 → ((∃ c ∈ ([62, 63] : List Nat), fC h2 (gR h x1 4) c) ∧ (∀ h3, h3 = zput h2 (gR h x1 4) 5 (zr (x2)) → (zP s0 m_J2_transferLinks d 38 [some (zr (x0)), none, some (zr (x2)), none, some (zr (gR h1 x1 5))] [] h3 Q E)))) ∧ (gR h x1 4 = 0 → ((fC h2 x0 43) ∧ (∀ h4, h4 = zput h2 x0 8 (zr (x2)) → (zP s0 m_J2_transferLinks d 38 [some (zr (x0)), none, some (zr (x2)), none, some (zr (gR h1 x1 5))] [] h4 Q E))))))))))) : zP s0 m_J2_transferLinks d 0 [some (zr (x0)), some (zr (x1)), some (zr (x2)), none, none] [] h Q E := by
  refine z_aload_n (M := m_J2_transferLinks) (k := 2) rfl dJ2_transferLinks_0 ?_
  refine z_aload_n (M := m_J2_transferLinks) (k := 1) rfl dJ2_transferLinks_1 ?_
  obtain ⟨g, H⟩ := H
  refine z_get (M := m_J2_transferLinks) f_J2_19 dJ2_transferLinks_2 g ?_
  refine z_dup_x1 (M := m_J2_transferLinks) (zr_cat _) (zr_cat _) dJ2_transferLinks_5 ?_
  obtain ⟨g, H⟩ := H
  refine zz_putM (M := m_J2_transferLinks) f_J2_19 dJ2_transferLinks_6 (fun c hc => by simp only [List.mem_cons, List.not_mem_nil, or_false] at hc; rcases hc with rfl | rfl <;> exact rfl) (fun c hc => by simp only [List.mem_cons, List.not_mem_nil, or_false] at hc; rcases hc with rfl | rfl <;> exact ⟨_, rfl, Or.inl rfl⟩) g (fun c hc => by simp only [List.mem_cons, List.not_mem_nil, or_false] at hc; rcases hc with rfl | rfl <;> exact (zfit_r rfl rfl rfl)) (fun h1 e => ?_)
  have H := H h1 e
  refine z_astore_n (M := m_J2_transferLinks) (k := 3) 3 rfl (zlt rfl) (zr_cat _) dJ2_transferLinks_9 ?_
  show zP s0 m_J2_transferLinks d _ [some (zr (x0)), some (zr (x1)), some (zr (x2)), some (zr (gR h x1 4)), none] _ _ _ _
  refine z_aload_n (M := m_J2_transferLinks) (k := 2) rfl dJ2_transferLinks_10 ?_
  refine z_aload_n (M := m_J2_transferLinks) (k := 1) rfl dJ2_transferLinks_11 ?_
  obtain ⟨g, H⟩ := H
  refine z_get (M := m_J2_transferLinks) f_J2_14 dJ2_transferLinks_12 g ?_
  refine z_dup_x1 (M := m_J2_transferLinks) (zr_cat _) (zr_cat _) dJ2_transferLinks_15 ?_
  obtain ⟨g, H⟩ := H
  refine zz_putM (M := m_J2_transferLinks) f_J2_14 dJ2_transferLinks_16 (fun c hc => by simp only [List.mem_cons, List.not_mem_nil, or_false] at hc; rcases hc with rfl | rfl <;> exact rfl) (fun c hc => by simp only [List.mem_cons, List.not_mem_nil, or_false] at hc; rcases hc with rfl | rfl <;> exact ⟨_, rfl, Or.inl rfl⟩) g (fun c hc => by simp only [List.mem_cons, List.not_mem_nil, or_false] at hc; rcases hc with rfl | rfl <;> exact (zfit_r rfl rfl rfl)) (fun h2 e => ?_)
  have H := H h2 e
  refine z_astore (M := m_J2_transferLinks) 4 (zlt rfl) (zr_cat _) dJ2_transferLinks_19 ?_
  show zP s0 m_J2_transferLinks d _ [some (zr (x0)), some (zr (x1)), some (zr (x2)), some (zr (gR h x1 4)), some (zr (gR h1 x1 5))] _ _ _ _
  refine z_aload_n (M := m_J2_transferLinks) (k := 3) rfl dJ2_transferLinks_21 ?_
  refine z_ifnonnull (M := m_J2_transferLinks) 33 rfl dJ2_transferLinks_22 (fun hc => ?_) (fun hc => ?_)
  · have H := H.1 hc
    refine z_aload_n (M := m_J2_transferLinks) (k := 3) rfl dJ2_transferLinks_33 ?_
    refine z_aload_n (M := m_J2_transferLinks) (k := 2) rfl dJ2_transferLinks_34 ?_
    obtain ⟨g, H⟩ := H
    refine zz_putM (M := m_J2_transferLinks) f_J2_14 dJ2_transferLinks_35 (fun c hc => by simp only [List.mem_cons, List.not_mem_nil, or_false] at hc; rcases hc with rfl | rfl <;> exact rfl) (fun c hc => by simp only [List.mem_cons, List.not_mem_nil, or_false] at hc; rcases hc with rfl | rfl <;> exact ⟨_, rfl, Or.inl rfl⟩) g (fun c hc => by simp only [List.mem_cons, List.not_mem_nil, or_false] at hc; rcases hc with rfl | rfl <;> exact (zfit_r rfl rfl rfl)) (fun h3 e => ?_)
    have H := H h3 e
    exact zP.weak (ls' := [some (zr (x0)), none, some (zr (x2)), none, some (zr (gR h1 x1 5))]) (zle rfl) (zsub_so (zsub_no (zsub_so (zsub_no (zsub_so zsub_nil))))) H
  · have H := H.2 hc
    refine z_aload_n (M := m_J2_transferLinks) (k := 0) rfl dJ2_transferLinks_25 ?_
    refine z_aload_n (M := m_J2_transferLinks) (k := 2) rfl dJ2_transferLinks_26 ?_
    obtain ⟨g, H⟩ := H
    refine zz_put (M := m_J2_transferLinks) f_J2_7 dJ2_transferLinks_27 rfl (fn_43_8) g (ft_43_8) (fun h4 e => ?_)
    have H := H h4 e
    refine z_goto (M := m_J2_transferLinks) 38 rfl dJ2_transferLinks_30 ?_
    exact zP.weak (ls' := [some (zr (x0)), none, some (zr (x2)), none, some (zr (gR h1 x1 5))]) (zle rfl) (zsub_so (zsub_no (zsub_so (zsub_no (zsub_so zsub_nil))))) H
theorem c_J2_transferLinks {s0 : zE} {d : Nat} {x0 : Nat} {x1 : Nat} {x2 : Nat} {h : zH} {Q : Value → zH → Prop} {E : Nat → zH → Prop} (H : (fR h x1 [62, 63] 4) ∧ ((∃ c ∈ ([62, 63] : List Nat), fC h x2 c) ∧ (∀ h1, h1 = zput h x2 4 (zr (gR h x1 4)) → ((fR h1 x1 [62, 63] 5) ∧ ((∃ c ∈ ([62, 63] : List Nat), fC h1 x2 c) ∧ (∀ h2, h2 = zput h1 x2 5 (zr (gR h1 x1 5)) → ((¬ gR h x1 4 = 0 → ((∃ c ∈ ([62, 63] : List Nat), fC h2 (gR h x1 4) c) ∧ (∀ h3, h3 = zput h2 (gR h x1 4) 5 (zr (x2)) → (zP s0 m_J2_transferLinks d 38 [some (zr (x0)), none, some (zr (x2)), none, some (zr (gR h1 x1 5))] [] h3 Q E)))) ∧ (gR h x1 4 = 0 → ((fC h2 x0 43) ∧ (∀ h4, h4 = zput h2 x0 8 (zr (x2)) → (zP s0 m_J2_transferLinks d 38 [some (zr (x0)), none, some (zr (x2)), none, some (zr (gR h1 x1 5))] [] h4 Q E))))))))))) : zX s0 m_J2_transferLinks d [zr (x0), zr (x1), zr (x2)] h Q E := zX.of2 rfl (by decide +kernel) (zlay_r (zlay_r (zlay_r (zlay_n (znoneS (znoneS znone0)))))) (zle rfl) (b_J2_transferLinks_0 H)
theorem b_J2_transferLinks_38 {s0 : zE} {d : Nat} {x0 : Nat} {x2 : Nat} {x4 : Nat} {h : zH} {Q : Value → zH → Prop} {E : Nat → zH → Prop} (H : (¬ x4 = 0 → ((∃ c ∈ ([62, 63] : List Nat), fC h x4 c) ∧ (∀ h1, h1 = zput h x4 4 (zr (x2)) → (Q .null h1)))) ∧ (x4 = 0 → ((fC h x0 43) ∧ (∀ h2, h2 = zput h x0 9 (zr (x2)) → (Q .null h2))))) : zP s0 m_J2_transferLinks d 38 [some (zr (x0)), none, some (zr (x2)), none, some (zr (x4))] [] h Q E := by
  refine z_aload (M := m_J2_transferLinks) (i := 4) rfl dJ2_transferLinks_38 ?_
  refine z_ifnonnull (M := m_J2_transferLinks) 51 rfl dJ2_transferLinks_40 (fun hc => ?_) (fun hc => ?_)
  · have H := H.1 hc
    refine z_aload (M := m_J2_transferLinks) (i := 4) rfl dJ2_transferLinks_51 ?_
    refine z_aload_n (M := m_J2_transferLinks) (k := 2) rfl dJ2_transferLinks_53 ?_
    obtain ⟨g, H⟩ := H
    refine zz_putM (M := m_J2_transferLinks) f_J2_19 dJ2_transferLinks_54 (fun c hc => by simp only [List.mem_cons, List.not_mem_nil, or_false] at hc; rcases hc with rfl | rfl <;> exact rfl) (fun c hc => by simp only [List.mem_cons, List.not_mem_nil, or_false] at hc; rcases hc with rfl | rfl <;> exact ⟨_, rfl, Or.inl rfl⟩) g (fun c hc => by simp only [List.mem_cons, List.not_mem_nil, or_false] at hc; rcases hc with rfl | rfl <;> exact (zfit_r rfl rfl rfl)) (fun h1 e => ?_)
    have H := H h1 e
    exact z_return (M := m_J2_transferLinks) rfl dJ2_transferLinks_57 H
  · have H := H.2 hc
    refine z_aload_n (M := m_J2_transferLinks) (k := 0) rfl dJ2_transferLinks_43 ?_
    refine z_aload_n (M := m_J2_transferLinks) (k := 2) rfl dJ2_transferLinks_44 ?_
    obtain ⟨g, H⟩ := H
    refine zz_put (M := m_J2_transferLinks) f_J2_11 dJ2_transferLinks_45 rfl (fn_43_9) g (ft_43_9) (fun h2 e => ?_)
    have H := H h2 e
    refine z_goto (M := m_J2_transferLinks) 57 rfl dJ2_transferLinks_48 ?_
    exact z_return (M := m_J2_transferLinks) rfl dJ2_transferLinks_57 H
theorem b_J2_values_0 {s0 : zE} {d : Nat} {x0 : Nat} {h : zH} {Q : Value → zH → Prop} {E : Nat → zH → Prop} (H : (fC h x0 43 ∧ zX s0 m_J2_sequencedValues d [zr x0] h (fun v1 h1 => ∃ n1 : Nat, v1 = zr (n1) ∧ (Q (zr n1) h1)) E)) : zP s0 m_J2_values (d + 1) 0 [some (zr (x0))] [] h Q E := by
  refine z_aload_n (M := m_J2_values) (k := 0) rfl dJ2_values_0 ?_
  obtain ⟨⟨fs9, g⟩, H⟩ := H
  refine z_invV (M := m_J2_values) (cn := 43) (a := []) ok_J2_sequencedValues q1206 q1207 q1208 rfl dJ2_values_1 g (Nat.le_refl _) (Nat.zero_le _) rfl H (fun v1 h1 H => ?_) (fun n9 h9 H => zPx.out rfl H)
  obtain ⟨n1, rfl, H⟩ := H
  show zP s0 m_J2_values (d + 1) _ _ [zr (n1)] _ _ _
  exact z_areturn (M := m_J2_values) rfl (Or.inl ⟨_, rfl⟩) dJ2_values_4 H
theorem c_J2_values {s0 : zE} {d : Nat} {x0 : Nat} {h : zH} {Q : Value → zH → Prop} {E : Nat → zH → Prop} (H : (fC h x0 43 ∧ zX s0 m_J2_sequencedValues d [zr x0] h (fun v1 h1 => ∃ n1 : Nat, v1 = zr (n1) ∧ (Q (zr n1) h1)) E)) : zX s0 m_J2_values (d + 1) [zr (x0)] h Q E := zX.of2 rfl (by decide +kernel) (zlay_r (zlay_n znone0)) (zle rfl) (b_J2_values_0 H)
theorem b_J2_valuesToArray_0 {s0 : zE} {d : Nat} {x0 : Nat} {x1 : Nat} {x2 : Int32} {h : zH} {Q : Value → zH → Prop} {E : Nat → zH → Prop} (H : (x2 = 0 → ((fR h x0 [43] 8) ∧ (zP s0 m_J2_valuesToArray d 51 [none, some (zr (x1)), none, some (zr (x1)), some (.int (0)), some (zr (gR h x0 8))] [] h Q E))) ∧ (¬ x2 = 0 → ((fR h x0 [43] 9) ∧ (zP s0 m_J2_valuesToArray d 15 [none, some (zr (x1)), none, some (zr (x1)), some (.int (0)), some (zr (gR h x0 9))] [] h Q E)))) : zP s0 m_J2_valuesToArray d 0 [some (zr (x0)), some (zr (x1)), some (.int (x2)), none, none, none] [] h Q E := by
  refine z_aload_n (M := m_J2_valuesToArray) (k := 1) rfl dJ2_valuesToArray_0 ?_
  refine z_astore_n (M := m_J2_valuesToArray) (k := 3) 3 rfl (zlt rfl) rfl dJ2_valuesToArray_1 ?_
  show zP s0 m_J2_valuesToArray d _ [some (zr (x0)), some (zr (x1)), some (.int (x2)), some (zr (x1)), none, none] _ _ _ _
  refine z_iconst (M := m_J2_valuesToArray) (v := 0) (by decide) dJ2_valuesToArray_2 ?_
  refine z_istore (M := m_J2_valuesToArray) 4 (zlt rfl) (zr_cat _) dJ2_valuesToArray_3 ?_
  show zP s0 m_J2_valuesToArray d _ [some (zr (x0)), some (zr (x1)), some (.int (x2)), some (zr (x1)), some (.int (0)), none] _ _ _ _
  refine z_iload_n (M := m_J2_valuesToArray) (k := 2) rfl dJ2_valuesToArray_5 ?_
  refine z_ifeq (M := m_J2_valuesToArray) 45 rfl dJ2_valuesToArray_6 (fun hc => ?_) (fun hc => ?_)
  · have H := H.1 hc
    refine z_aload_n (M := m_J2_valuesToArray) (k := 0) rfl dJ2_valuesToArray_45 ?_
    obtain ⟨g, H⟩ := H
    refine z_get (M := m_J2_valuesToArray) f_J2_7 dJ2_valuesToArray_46 g ?_
    refine z_astore (M := m_J2_valuesToArray) 5 (zlt rfl) rfl dJ2_valuesToArray_49 ?_
    show zP s0 m_J2_valuesToArray d _ [some (zr (x0)), some (zr (x1)), some (.int (x2)), some (zr (x1)), some (.int (0)), some (zr (gR h x0 8))] _ _ _ _
    exact zP.weak (ls' := [none, some (zr (x1)), none, some (zr (x1)), some (.int (0)), some (zr (gR h x0 8))]) (zle rfl) (zsub_no (zsub_so (zsub_no (zsub_so (zsub_so (zsub_so zsub_nil)))))) H
  · have H := H.2 hc
    refine z_aload_n (M := m_J2_valuesToArray) (k := 0) rfl dJ2_valuesToArray_9 ?_
    obtain ⟨g, H⟩ := H
    refine z_get (M := m_J2_valuesToArray) f_J2_11 dJ2_valuesToArray_10 g ?_
    refine z_astore (M := m_J2_valuesToArray) 5 (zlt rfl) rfl dJ2_valuesToArray_13 ?_
    show zP s0 m_J2_valuesToArray d _ [some (zr (x0)), some (zr (x1)), some (.int (x2)), some (zr (x1)), some (.int (0)), some (zr (gR h x0 9))] _ _ _ _
    exact zP.weak (ls' := [none, some (zr (x1)), none, some (zr (x1)), some (.int (0)), some (zr (gR h x0 9))]) (zle rfl) (zsub_no (zsub_so (zsub_no (zsub_so (zsub_so (zsub_so zsub_nil)))))) H
theorem c_J2_valuesToArray {s0 : zE} {d : Nat} {x0 : Nat} {x1 : Nat} {x2 : Int32} {h : zH} {Q : Value → zH → Prop} {E : Nat → zH → Prop} (H : (x2 = 0 → ((fR h x0 [43] 8) ∧ (zP s0 m_J2_valuesToArray d 51 [none, some (zr (x1)), none, some (zr (x1)), some (.int (0)), some (zr (gR h x0 8))] [] h Q E))) ∧ (¬ x2 = 0 → ((fR h x0 [43] 9) ∧ (zP s0 m_J2_valuesToArray d 15 [none, some (zr (x1)), none, some (zr (x1)), some (.int (0)), some (zr (gR h x0 9))] [] h Q E)))) : zX s0 m_J2_valuesToArray d [zr (x0), zr (x1), .int (x2)] h Q E := zX.of2 rfl (by decide +kernel) (zlay_r (zlay_r (zlay_i (zlay_n (znoneS (znoneS (znoneS znone0))))))) (zle rfl) (b_J2_valuesToArray_0 H)
theorem b_J2_valuesToArray_15 {s0 : zE} {d : Nat} {x1 : Nat} {x3 : Nat} {x4 : Int32} {x5 : Nat} {h : zH} {Q : Value → zH → Prop} {E : Nat → zH → Prop} (H : (x5 = 0 → (Q (zr x1) h)) ∧ (¬ x5 = 0 → ((fR h x5 [62, 63] 2) ∧ ((fS s0 h x3 6 x4) ∧ ((gR h x5 2 = 0 ∨ zAsg h (gR h x5 2) (.object "java/lang/Object")) ∧ (∀ h1, h1 = zput h x3 (x4).toNatClampNeg (zr (gR h x5 2)) → ((fR h1 x5 [62, 63] 4) ∧ (zP s0 m_J2_valuesToArray d 15 [none, some (zr (x1)), none, some (zr (x3)), some (.int (x4 + 1)), some (zr (gR h1 x5 4))] [] h1 Q E)))))))) : zP s0 m_J2_valuesToArray d 15 [none, some (zr (x1)), none, some (zr (x3)), some (.int (x4)), some (zr (x5))] [] h Q E := by
  refine z_aload (M := m_J2_valuesToArray) (i := 5) rfl dJ2_valuesToArray_15 ?_
  refine z_ifnull (M := m_J2_valuesToArray) 42 rfl dJ2_valuesToArray_17 (fun hc => ?_) (fun hc => ?_)
  · have H := H.1 hc
    refine z_goto (M := m_J2_valuesToArray) 78 rfl dJ2_valuesToArray_42 ?_
    refine z_aload_n (M := m_J2_valuesToArray) (k := 1) rfl dJ2_valuesToArray_78 ?_
    exact z_areturn (M := m_J2_valuesToArray) rfl (Or.inr ⟨_, rfl⟩) dJ2_valuesToArray_79 H
  · have H := H.2 hc
    refine z_aload_n (M := m_J2_valuesToArray) (k := 3) rfl dJ2_valuesToArray_20 ?_
    refine z_iload (M := m_J2_valuesToArray) (i := 4) rfl dJ2_valuesToArray_21 ?_
    refine z_inc (M := m_J2_valuesToArray) 4 (x4 + 1) 1 (by decide) rfl rfl (zr_cat _) dJ2_valuesToArray_23 ?_
    show zP s0 m_J2_valuesToArray d _ [none, some (zr (x1)), none, some (zr (x3)), some (.int (x4 + 1)), some (zr (x5))] _ _ _ _
    refine z_aload (M := m_J2_valuesToArray) (i := 5) rfl dJ2_valuesToArray_26 ?_
    obtain ⟨g, H⟩ := H
    refine z_get (M := m_J2_valuesToArray) f_J2_43 dJ2_valuesToArray_28 g ?_
    obtain ⟨g, gm, H⟩ := H
    refine zz_istA (M := m_J2_valuesToArray) (t := 6) rfl dJ2_valuesToArray_31 g gm (fun h1 e => ?_)
    have H := H h1 e
    refine z_aload (M := m_J2_valuesToArray) (i := 5) rfl dJ2_valuesToArray_32 ?_
    obtain ⟨g, H⟩ := H
    refine z_get (M := m_J2_valuesToArray) f_J2_19 dJ2_valuesToArray_34 g ?_
    refine z_astore (M := m_J2_valuesToArray) 5 (zlt rfl) rfl dJ2_valuesToArray_37 ?_
    show zP s0 m_J2_valuesToArray d _ [none, some (zr (x1)), none, some (zr (x3)), some (.int (x4 + 1)), some (zr (gR h1 x5 4))] _ _ _ _
    refine z_goto (M := m_J2_valuesToArray) 15 rfl dJ2_valuesToArray_39 ?_
    exact H
theorem b_J2_valuesToArray_51 {s0 : zE} {d : Nat} {x1 : Nat} {x3 : Nat} {x4 : Int32} {x5 : Nat} {h : zH} {Q : Value → zH → Prop} {E : Nat → zH → Prop} (H : (x5 = 0 → (Q (zr x1) h)) ∧ (¬ x5 = 0 → ((fR h x5 [62, 63] 2) ∧ ((fS s0 h x3 6 x4) ∧ ((gR h x5 2 = 0 ∨ zAsg h (gR h x5 2) (.object "java/lang/Object")) ∧ (∀ h1, h1 = zput h x3 (x4).toNatClampNeg (zr (gR h x5 2)) → ((fR h1 x5 [62, 63] 5) ∧ (zP s0 m_J2_valuesToArray d 51 [none, some (zr (x1)), none, some (zr (x3)), some (.int (x4 + 1)), some (zr (gR h1 x5 5))] [] h1 Q E)))))))) : zP s0 m_J2_valuesToArray d 51 [none, some (zr (x1)), none, some (zr (x3)), some (.int (x4)), some (zr (x5))] [] h Q E := by
  refine z_aload (M := m_J2_valuesToArray) (i := 5) rfl dJ2_valuesToArray_51 ?_
  refine z_ifnull (M := m_J2_valuesToArray) 78 rfl dJ2_valuesToArray_53 (fun hc => ?_) (fun hc => ?_)
  · have H := H.1 hc
    refine z_aload_n (M := m_J2_valuesToArray) (k := 1) rfl dJ2_valuesToArray_78 ?_
    exact z_areturn (M := m_J2_valuesToArray) rfl (Or.inr ⟨_, rfl⟩) dJ2_valuesToArray_79 H
  · have H := H.2 hc
    refine z_aload_n (M := m_J2_valuesToArray) (k := 3) rfl dJ2_valuesToArray_56 ?_
    refine z_iload (M := m_J2_valuesToArray) (i := 4) rfl dJ2_valuesToArray_57 ?_
    refine z_inc (M := m_J2_valuesToArray) 4 (x4 + 1) 1 (by decide) rfl rfl (zr_cat _) dJ2_valuesToArray_59 ?_
    show zP s0 m_J2_valuesToArray d _ [none, some (zr (x1)), none, some (zr (x3)), some (.int (x4 + 1)), some (zr (x5))] _ _ _ _
    refine z_aload (M := m_J2_valuesToArray) (i := 5) rfl dJ2_valuesToArray_62 ?_
    obtain ⟨g, H⟩ := H
    refine z_get (M := m_J2_valuesToArray) f_J2_43 dJ2_valuesToArray_64 g ?_
    obtain ⟨g, gm, H⟩ := H
    refine zz_istA (M := m_J2_valuesToArray) (t := 6) rfl dJ2_valuesToArray_67 g gm (fun h1 e => ?_)
    have H := H h1 e
    refine z_aload (M := m_J2_valuesToArray) (i := 5) rfl dJ2_valuesToArray_68 ?_
    obtain ⟨g, H⟩ := H
    refine z_get (M := m_J2_valuesToArray) f_J2_14 dJ2_valuesToArray_70 g ?_
    refine z_astore (M := m_J2_valuesToArray) 5 (zlt rfl) rfl dJ2_valuesToArray_73 ?_
    show zP s0 m_J2_valuesToArray d _ [none, some (zr (x1)), none, some (zr (x3)), some (.int (x4 + 1)), some (zr (gR h1 x5 5))] _ _ _ _
    refine z_goto (M := m_J2_valuesToArray) 51 rfl dJ2_valuesToArray_75 ?_
    exact H
theorem b_J3_init_0 {s0 : zE} {d : Nat} {x0 : Nat} {h : zH} {Q : Value → zH → Prop} {E : Nat → zH → Prop} (H : (∃ c, fC h x0 c) ∧ (Q .null h)) : zP s0 m_J3_init (d + 1) 0 [some (zr (x0))] [] h Q E := by
  refine z_aload_n (M := m_J3_init) (k := 0) rfl dJ3_init_0 ?_
  obtain ⟨⟨c9, g⟩, H⟩ := H
  refine zz_objInit (M := m_J3_init) q424 dJ3_init_1 g (Nat.zero_le _) ?_
  exact z_return (M := m_J3_init) rfl dJ3_init_4 H
theorem c_J3_init {s0 : zE} {d : Nat} {x0 : Nat} {h : zH} {Q : Value → zH → Prop} {E : Nat → zH → Prop} (H : (∃ c, fC h x0 c) ∧ (Q .null h)) : zX s0 m_J3_init (d + 1) [zr (x0)] h Q E := zX.of2 rfl (by decide +kernel) (zlay_r (zlay_n znone0)) (zle rfl) (b_J3_init_0 H)
theorem b_J4_init_0 {s0 : zE} {d : Nat} {x0 : Nat} {h : zH} {Q : Value → zH → Prop} {E : Nat → zH → Prop} (H : (∃ c, fC h x0 c) ∧ (zX s0 m_J3_init d [zr x0] h (fun _ h1 => ((fC h1 x0 44) ∧ (∀ h2, h2 = zput h1 x0 0 (.int (0)) → (Q .null h2)))) E)) : zP s0 m_J4_init (d + 1) 0 [some (zr (x0))] [] h Q E := by
  refine z_aload_n (M := m_J4_init) (k := 0) rfl dJ4_init_0 ?_
  obtain ⟨⟨c9, g⟩, H⟩ := H
  refine zz_invI (M := m_J4_init) (a := []) ok_J3_init rfl rfl q421 q422 dJ4_init_1 g (Nat.zero_le _) rfl H (fun v1 h1 H => ?_) (fun n9 h9 H => zPx.out rfl H)
  refine z_aload_n (M := m_J4_init) (k := 0) rfl dJ4_init_4 ?_
  refine z_iconst (M := m_J4_init) (v := 0) (by decide) dJ4_init_5 ?_
  obtain ⟨g, H⟩ := H
  refine zz_put (M := m_J4_init) f_J4_7 dJ4_init_6 rfl (fn_44_0) g (ft_44_0) (fun h2 e => ?_)
  have H := H h2 e
  exact z_return (M := m_J4_init) rfl dJ4_init_9 H
theorem c_J4_init {s0 : zE} {d : Nat} {x0 : Nat} {h : zH} {Q : Value → zH → Prop} {E : Nat → zH → Prop} (H : (∃ c, fC h x0 c) ∧ (zX s0 m_J3_init d [zr x0] h (fun _ h1 => ((fC h1 x0 44) ∧ (∀ h2, h2 = zput h1 x0 0 (.int (0)) → (Q .null h2)))) E)) : zX s0 m_J4_init (d + 1) [zr (x0)] h Q E := zX.of2 rfl (by decide +kernel) (zlay_r (zlay_n znone0)) (zle rfl) (b_J4_init_0 H)
theorem b_J5_add_0 {s0 : zE} {d : Nat} {x0 : Nat} {x1 : Nat} {h : zH} {Q : Value → zH → Prop} {E : Nat → zH → Prop} (H : (fI h x0 [44] 0) ∧ ((fC h x0 44) ∧ (∀ h1, h1 = zput h x0 0 (.int ((gI h x0 0) + 1)) → ((fR h1 x0 [44] 1) ∧ ((fI h1 x0 [44] 2) ∧ ((fC h1 x0 44 ∧ zX s0 m_J5_add_2 d [zr x0, zr (x1), zr (gR h1 x0 1), .int (gI h1 x0 2)] h1 (fun _ h2 => (Q (.int 1) h2)) E))))))) : zP s0 m_J5_add (d + 1) 0 [some (zr (x0)), some (zr (x1))] [] h Q E := by
  refine z_aload_n (M := m_J5_add) (k := 0) rfl dJ5_add_0 ?_
  refine z_dup (M := m_J5_add) (zr_cat _) dJ5_add_1 ?_
  obtain ⟨g, H⟩ := H
  refine z_get (M := m_J5_add) f_J5_63 dJ5_add_2 g ?_
  refine z_iconst (M := m_J5_add) (v := 1) (by decide) dJ5_add_5 ?_
  refine z_iadd (M := m_J5_add) dJ5_add_6 ?_
  obtain ⟨g, H⟩ := H
  refine zz_put (M := m_J5_add) f_J5_63 dJ5_add_7 rfl (fn_44_0) g (ft_44_0) (fun h1 e => ?_)
  have H := H h1 e
  refine z_aload_n (M := m_J5_add) (k := 0) rfl dJ5_add_10 ?_
  refine z_aload_n (M := m_J5_add) (k := 1) rfl dJ5_add_11 ?_
  refine z_aload_n (M := m_J5_add) (k := 0) rfl dJ5_add_12 ?_
  obtain ⟨g, H⟩ := H
  refine z_get (M := m_J5_add) f_J5_9 dJ5_add_13 g ?_
  refine z_aload_n (M := m_J5_add) (k := 0) rfl dJ5_add_16 ?_
  obtain ⟨g, H⟩ := H
  refine z_get (M := m_J5_add) f_J5_48 dJ5_add_17 g ?_
  obtain ⟨⟨fs9, g⟩, H⟩ := H
  refine z_invV (M := m_J5_add) (cn := 44) (a := [zr (x1), zr (gR h1 x0 1), .int (gI h1 x0 2)]) ok_J5_add_2 q3395 q3397 qs63 rfl dJ5_add_20 g (Nat.le_refl _) (Nat.zero_le _) rfl H (fun v1 h2 H => ?_) (fun n9 h9 H => zPx.out rfl H)
  show zP s0 m_J5_add (d + 1) _ _ [] _ _ _
  refine z_iconst (M := m_J5_add) (v := 1) (by decide) dJ5_add_23 ?_
  exact z_ireturn (M := m_J5_add) rfl rfl dJ5_add_24 H
theorem c_J5_add {s0 : zE} {d : Nat} {x0 : Nat} {x1 : Nat} {h : zH} {Q : Value → zH → Prop} {E : Nat → zH → Prop} (H : (fI h x0 [44] 0) ∧ ((fC h x0 44) ∧ (∀ h1, h1 = zput h x0 0 (.int ((gI h x0 0) + 1)) → ((fR h1 x0 [44] 1) ∧ ((fI h1 x0 [44] 2) ∧ ((fC h1 x0 44 ∧ zX s0 m_J5_add_2 d [zr x0, zr (x1), zr (gR h1 x0 1), .int (gI h1 x0 2)] h1 (fun _ h2 => (Q (.int 1) h2)) E))))))) : zX s0 m_J5_add (d + 1) [zr (x0), zr (x1)] h Q E := zX.of2 rfl (by decide +kernel) (zlay_r (zlay_r (zlay_n znone0))) (zle rfl) (b_J5_add_0 H)
theorem b_J5_add_2_0 {s0 : zE} {d : Nat} {x0 : Nat} {x1 : Nat} {x2 : Nat} {x3 : Int32} {h : zH} {Q : Value → zH → Prop} {E : Nat → zH → Prop} (H : (fC h x2 1006) ∧ ((¬ x3 = Int32.ofNat (gA h x2).length → (zP s0 m_J5_add_2 (d + 1) 11 [some (zr (x0)), some (zr (x1)), some (zr (x2)), some (.int (x3))] [] h Q E)) ∧ (x3 = Int32.ofNat (gA h x2).length → ((fC h x0 44 ∧ zX s0 m_J5_grow d [zr x0] h (fun v1 h1 => ∃ n1 : Nat, v1 = zr (n1) ∧ (zP s0 m_J5_add_2 (d + 1) 11 [some (zr (x0)), some (zr (x1)), some (zr (n1)), some (.int (x3))] [] h1 Q E)) E))))) : zP s0 m_J5_add_2 (d + 1) 0 [some (zr (x0)), some (zr (x1)), some (zr (x2)), some (.int (x3))] [] h Q E := by
  refine z_iload_n (M := m_J5_add_2) (k := 3) rfl dJ5_add_2_0 ?_
  refine z_aload_n (M := m_J5_add_2) (k := 2) rfl dJ5_add_2_1 ?_
  obtain ⟨g, H⟩ := H
  refine z_len (M := m_J5_add_2) (t := 6) rfl dJ5_add_2_2 g ?_
  refine z_icmpne (M := m_J5_add_2) 11 rfl dJ5_add_2_3 (fun hc => ?_) (fun hc => ?_)
  · have H := H.1 hc
    exact H
  · have H := H.2 hc
    refine z_aload_n (M := m_J5_add_2) (k := 0) rfl dJ5_add_2_6 ?_
    obtain ⟨⟨fs9, g⟩, H⟩ := H
    refine z_invV (M := m_J5_add_2) (cn := 44) (a := []) ok_J5_grow q3399 q3401 qs64 rfl dJ5_add_2_7 g (Nat.le_refl _) (Nat.zero_le _) rfl H (fun v1 h1 H => ?_) (fun n9 h9 H => zPx.out rfl H)
    obtain ⟨n1, rfl, H⟩ := H
    show zP s0 m_J5_add_2 (d + 1) _ _ [zr (n1)] _ _ _
    refine z_astore_n (M := m_J5_add_2) (k := 2) 2 rfl (zlt rfl) (zr_cat _) dJ5_add_2_10 ?_
    show zP s0 m_J5_add_2 (d + 1) _ [some (zr (x0)), some (zr (x1)), some (zr (n1)), some (.int (x3))] _ _ _ _
    exact H
theorem c_J5_add_2 {s0 : zE} {d : Nat} {x0 : Nat} {x1 : Nat} {x2 : Nat} {x3 : Int32} {h : zH} {Q : Value → zH → Prop} {E : Nat → zH → Prop} (H : (fC h x2 1006) ∧ ((¬ x3 = Int32.ofNat (gA h x2).length → (zP s0 m_J5_add_2 (d + 1) 11 [some (zr (x0)), some (zr (x1)), some (zr (x2)), some (.int (x3))] [] h Q E)) ∧ (x3 = Int32.ofNat (gA h x2).length → ((fC h x0 44 ∧ zX s0 m_J5_grow d [zr x0] h (fun v1 h1 => ∃ n1 : Nat, v1 = zr (n1) ∧ (zP s0 m_J5_add_2 (d + 1) 11 [some (zr (x0)), some (zr (x1)), some (zr (n1)), some (.int (x3))] [] h1 Q E)) E))))) : zX s0 m_J5_add_2 (d + 1) [zr (x0), zr (x1), zr (x2), .int (x3)] h Q E := zX.of2 rfl (by decide +kernel) (zlay_r (zlay_r (zlay_r (zlay_i (zlay_n znone0))))) (zle rfl) (b_J5_add_2_0 H)
theorem b_J5_add_2_11 {s0 : zE} {d : Nat} {x0 : Nat} {x1 : Nat} {x2 : Nat} {x3 : Int32} {h : zH} {Q : Value → zH → Prop} {E : Nat → zH → Prop} (H : (fS s0 h x2 6 x3) ∧ ((x1 = 0 ∨ zAsg h x1 (.object "java/lang/Object")) ∧ (∀ h1, h1 = zput h x2 (x3).toNatClampNeg (zr x1) → ((fC h1 x0 44) ∧ (∀ h2, h2 = zput h1 x0 2 (.int (x3 + 1)) → (Q .null h2)))))) : zP s0 m_J5_add_2 (d + 1) 11 [some (zr (x0)), some (zr (x1)), some (zr (x2)), some (.int (x3))] [] h Q E := by
  refine z_aload_n (M := m_J5_add_2) (k := 2) rfl dJ5_add_2_11 ?_
  refine z_iload_n (M := m_J5_add_2) (k := 3) rfl dJ5_add_2_12 ?_
  refine z_aload_n (M := m_J5_add_2) (k := 1) rfl dJ5_add_2_13 ?_
  obtain ⟨g, gm, H⟩ := H
  refine zz_istA (M := m_J5_add_2) (t := 6) rfl dJ5_add_2_14 g gm (fun h1 e => ?_)
  have H := H h1 e
  refine z_aload_n (M := m_J5_add_2) (k := 0) rfl dJ5_add_2_15 ?_
  refine z_iload_n (M := m_J5_add_2) (k := 3) rfl dJ5_add_2_16 ?_
  refine z_iconst (M := m_J5_add_2) (v := 1) (by decide) dJ5_add_2_17 ?_
  refine z_iadd (M := m_J5_add_2) dJ5_add_2_18 ?_
  obtain ⟨g, H⟩ := H
  refine zz_put (M := m_J5_add_2) f_J5_48 dJ5_add_2_19 rfl (fn_44_2) g (ft_44_2) (fun h2 e => ?_)
  have H := H h2 e
  exact z_return (M := m_J5_add_2) rfl dJ5_add_2_22 H
theorem b_J5_clear_0 {s0 : zE} {d : Nat} {x0 : Nat} {h : zH} {Q : Value → zH → Prop} {E : Nat → zH → Prop} (H : (fI h x0 [44] 0) ∧ ((fC h x0 44) ∧ (∀ h1, h1 = zput h x0 0 (.int ((gI h x0 0) + 1)) → ((fR h1 x0 [44] 1) ∧ ((fI h1 x0 [44] 2) ∧ ((fC h1 x0 44) ∧ (∀ h2, h2 = zput h1 x0 2 (.int (0)) → (zP s0 m_J5_clear d 27 [none, some (zr (gR h1 x0 1)), some (.int (gI h1 x0 2)), some (.int (0))] [] h2 Q E)))))))) : zP s0 m_J5_clear d 0 [some (zr (x0)), none, none, none] [] h Q E := by
  refine z_aload_n (M := m_J5_clear) (k := 0) rfl dJ5_clear_0 ?_
  refine z_dup (M := m_J5_clear) (zr_cat _) dJ5_clear_1 ?_
  obtain ⟨g, H⟩ := H
  refine z_get (M := m_J5_clear) f_J5_63 dJ5_clear_2 g ?_
  refine z_iconst (M := m_J5_clear) (v := 1) (by decide) dJ5_clear_5 ?_
  refine z_iadd (M := m_J5_clear) dJ5_clear_6 ?_
  obtain ⟨g, H⟩ := H
  refine zz_put (M := m_J5_clear) f_J5_63 dJ5_clear_7 rfl (fn_44_0) g (ft_44_0) (fun h1 e => ?_)
  have H := H h1 e
  refine z_aload_n (M := m_J5_clear) (k := 0) rfl dJ5_clear_10 ?_
  obtain ⟨g, H⟩ := H
  refine z_get (M := m_J5_clear) f_J5_9 dJ5_clear_11 g ?_
  refine z_astore_n (M := m_J5_clear) (k := 1) 1 rfl (zlt rfl) (zr_cat _) dJ5_clear_14 ?_
  show zP s0 m_J5_clear d _ [some (zr (x0)), some (zr (gR h1 x0 1)), none, none] _ _ _ _
  refine z_aload_n (M := m_J5_clear) (k := 0) rfl dJ5_clear_15 ?_
  obtain ⟨g, H⟩ := H
  refine z_get (M := m_J5_clear) f_J5_48 dJ5_clear_16 g ?_
  refine z_istore_n (M := m_J5_clear) (k := 2) 2 rfl (zlt rfl) (zr_cat _) dJ5_clear_19 ?_
  show zP s0 m_J5_clear d _ [some (zr (x0)), some (zr (gR h1 x0 1)), some (.int (gI h1 x0 2)), none] _ _ _ _
  refine z_aload_n (M := m_J5_clear) (k := 0) rfl dJ5_clear_20 ?_
  refine z_iconst (M := m_J5_clear) (v := 0) (by decide) dJ5_clear_21 ?_
  refine z_dup_x1 (M := m_J5_clear) rfl (zr_cat _) dJ5_clear_22 ?_
  obtain ⟨g, H⟩ := H
  refine zz_put (M := m_J5_clear) f_J5_48 dJ5_clear_23 rfl (fn_44_2) g (ft_44_2) (fun h2 e => ?_)
  have H := H h2 e
  refine z_istore_n (M := m_J5_clear) (k := 3) 3 rfl (zlt rfl) rfl dJ5_clear_26 ?_
  show zP s0 m_J5_clear d _ [some (zr (x0)), some (zr (gR h1 x0 1)), some (.int (gI h1 x0 2)), some (.int (0))] _ _ _ _
  exact zP.weak (ls' := [none, some (zr (gR h1 x0 1)), some (.int (gI h1 x0 2)), some (.int (0))]) (zle rfl) (zsub_no (zsub_so (zsub_so (zsub_so zsub_nil)))) H
theorem c_J5_clear {s0 : zE} {d : Nat} {x0 : Nat} {h : zH} {Q : Value → zH → Prop} {E : Nat → zH → Prop} (H : (fI h x0 [44] 0) ∧ ((fC h x0 44) ∧ (∀ h1, h1 = zput h x0 0 (.int ((gI h x0 0) + 1)) → ((fR h1 x0 [44] 1) ∧ ((fI h1 x0 [44] 2) ∧ ((fC h1 x0 44) ∧ (∀ h2, h2 = zput h1 x0 2 (.int (0)) → (zP s0 m_J5_clear d 27 [none, some (zr (gR h1 x0 1)), some (.int (gI h1 x0 2)), some (.int (0))] [] h2 Q E)))))))) : zX s0 m_J5_clear d [zr (x0)] h Q E := zX.of2 rfl (by decide +kernel) (zlay_r (zlay_n (znoneS (znoneS (znoneS znone0))))) (zle rfl) (b_J5_clear_0 H)
theorem b_J5_clear_27 {s0 : zE} {d : Nat} {x1 : Nat} {x2 : Int32} {x3 : Int32} {h : zH} {Q : Value → zH → Prop} {E : Nat → zH → Prop} (H : (x2 ≤ x3 → (Q .null h)) ∧ (¬ x2 ≤ x3 → ((fS s0 h x1 6 x3) ∧ ((0 = 0 ∨ zAsg h 0 (.object "java/lang/Object")) ∧ (∀ h1, h1 = zput h x1 (x3).toNatClampNeg (zr 0) → (zP s0 m_J5_clear d 27 [none, some (zr (x1)), some (.int (x2)), some (.int (x3 + 1))] [] h1 Q E)))))) : zP s0 m_J5_clear d 27 [none, some (zr (x1)), some (.int (x2)), some (.int (x3))] [] h Q E := by
  refine z_iload_n (M := m_J5_clear) (k := 3) rfl dJ5_clear_27 ?_
  refine z_iload_n (M := m_J5_clear) (k := 2) rfl dJ5_clear_28 ?_
  refine z_icmpge (M := m_J5_clear) 42 rfl dJ5_clear_29 (fun hc => ?_) (fun hc => ?_)
  · have H := H.1 hc
    exact z_return (M := m_J5_clear) rfl dJ5_clear_42 H
  · have H := H.2 hc
    refine z_aload_n (M := m_J5_clear) (k := 1) rfl dJ5_clear_32 ?_
    refine z_iload_n (M := m_J5_clear) (k := 3) rfl dJ5_clear_33 ?_
    refine z_null (M := m_J5_clear) dJ5_clear_34 ?_
    obtain ⟨g, gm, H⟩ := H
    refine zz_istA (M := m_J5_clear) (t := 6) rfl dJ5_clear_35 g gm (fun h1 e => ?_)
    have H := H h1 e
    refine z_inc (M := m_J5_clear) 3 (x3 + 1) 1 (by decide) rfl rfl rfl dJ5_clear_36 ?_
    show zP s0 m_J5_clear d _ [none, some (zr (x1)), some (.int (x2)), some (.int (x3 + 1))] _ _ _ _
    refine z_goto (M := m_J5_clear) 27 rfl dJ5_clear_39 ?_
    exact H
theorem b_J5_elementData_0 {s0 : zE} {d : Nat} {x0 : Nat} {x1 : Int32} {h : zH} {Q : Value → zH → Prop} {E : Nat → zH → Prop} (H : (fR h x0 [44] 1) ∧ ((fE h (gR h x0 1) 6 x1 (zr (eR h (gR h x0 1) x1))) ∧ (Q (zr (eR h (gR h x0 1) x1)) h))) : zP s0 m_J5_elementData d 0 [some (zr (x0)), some (.int (x1))] [] h Q E := by
  refine z_aload_n (M := m_J5_elementData) (k := 0) rfl dJ5_elementData_0 ?_
  obtain ⟨g, H⟩ := H
  refine z_get (M := m_J5_elementData) f_J5_9 dJ5_elementData_1 g ?_
  refine z_iload_n (M := m_J5_elementData) (k := 1) rfl dJ5_elementData_4 ?_
  obtain ⟨g, H⟩ := H
  refine z_ildA (M := m_J5_elementData) (t := 6) rfl rfl dJ5_elementData_5 g ?_
  exact z_areturn (M := m_J5_elementData) rfl (Or.inl ⟨_, rfl⟩) dJ5_elementData_6 H
theorem c_J5_elementData {s0 : zE} {d : Nat} {x0 : Nat} {x1 : Int32} {h : zH} {Q : Value → zH → Prop} {E : Nat → zH → Prop} (H : (fR h x0 [44] 1) ∧ ((fE h (gR h x0 1) 6 x1 (zr (eR h (gR h x0 1) x1))) ∧ (Q (zr (eR h (gR h x0 1) x1)) h))) : zX s0 m_J5_elementData d [zr (x0), .int (x1)] h Q E := zX.of2 rfl (by decide +kernel) (zlay_r (zlay_i (zlay_n znone0))) (zle rfl) (b_J5_elementData_0 H)
theorem b_J5_get_0 {s0 : zE} {d : Nat} {x0 : Nat} {x1 : Int32} {h : zH} {Q : Value → zH → Prop} {E : Nat → zH → Prop} (H : (fI h x0 [44] 2) ∧ (zX s0 m_J10_checkIndex d [.int (x1), .int (gI h x0 2)] h (fun v1 h1 => ∃ r1 : Int32, v1 = .int (r1) ∧ ((fC h1 x0 44 ∧ zX s0 m_J5_elementData d [zr x0, .int (x1)] h1 (fun v2 h2 => ∃ n1 : Nat, v2 = zr (n1) ∧ (Q (zr n1) h2)) E))) E)) : zP s0 m_J5_get (d + 1) 0 [some (zr (x0)), some (.int (x1))] [] h Q E := by
  refine z_iload_n (M := m_J5_get) (k := 1) rfl dJ5_get_0 ?_
  refine z_aload_n (M := m_J5_get) (k := 0) rfl dJ5_get_1 ?_
  obtain ⟨g, H⟩ := H
  refine z_get (M := m_J5_get) f_J5_48 dJ5_get_2 g ?_
  refine z_invS (M := m_J5_get) (a := [.int (x1), .int (gI h x0 2)]) ok_J10_checkIndex q907 q908 dJ5_get_5 (Nat.le_refl _) (Nat.zero_le _) rfl H (fun v1 h1 H => ?_) (fun n9 h9 H => zPx.out rfl H)
  obtain ⟨r1, rfl, H⟩ := H
  show zP s0 m_J5_get (d + 1) _ _ [.int (r1)] _ _ _
  refine z_pop (M := m_J5_get) rfl dJ5_get_8 ?_
  refine z_aload_n (M := m_J5_get) (k := 0) rfl dJ5_get_9 ?_
  refine z_iload_n (M := m_J5_get) (k := 1) rfl dJ5_get_10 ?_
  obtain ⟨⟨fs9, g⟩, H⟩ := H
  refine z_invV (M := m_J5_get) (cn := 44) (a := [.int (x1)]) ok_J5_elementData q913 q914 q915 rfl dJ5_get_11 g (Nat.le_refl _) (Nat.zero_le _) rfl H (fun v2 h2 H => ?_) (fun n9 h9 H => zPx.out rfl H)
  obtain ⟨n1, rfl, H⟩ := H
  show zP s0 m_J5_get (d + 1) _ _ [zr (n1)] _ _ _
  exact z_areturn (M := m_J5_get) rfl (Or.inl ⟨_, rfl⟩) dJ5_get_14 H
theorem c_J5_get {s0 : zE} {d : Nat} {x0 : Nat} {x1 : Int32} {h : zH} {Q : Value → zH → Prop} {E : Nat → zH → Prop} (H : (fI h x0 [44] 2) ∧ (zX s0 m_J10_checkIndex d [.int (x1), .int (gI h x0 2)] h (fun v1 h1 => ∃ r1 : Int32, v1 = .int (r1) ∧ ((fC h1 x0 44 ∧ zX s0 m_J5_elementData d [zr x0, .int (x1)] h1 (fun v2 h2 => ∃ n1 : Nat, v2 = zr (n1) ∧ (Q (zr n1) h2)) E))) E)) : zX s0 m_J5_get (d + 1) [zr (x0), .int (x1)] h Q E := zX.of2 rfl (by decide +kernel) (zlay_r (zlay_i (zlay_n znone0))) (zle rfl) (b_J5_get_0 H)
theorem b_J5_grow_0 {s0 : zE} {d : Nat} {x0 : Nat} {h : zH} {Q : Value → zH → Prop} {E : Nat → zH → Prop} (H : (fI h x0 [44] 2) ∧ ((fC h x0 44 ∧ zX s0 m_J5_grow_2 d [zr x0, .int ((gI h x0 2) + 1)] h (fun v1 h1 => ∃ n1 : Nat, v1 = zr (n1) ∧ (Q (zr n1) h1)) E))) : zP s0 m_J5_grow (d + 1) 0 [some (zr (x0))] [] h Q E := by
  refine z_aload_n (M := m_J5_grow) (k := 0) rfl dJ5_grow_0 ?_
  refine z_aload_n (M := m_J5_grow) (k := 0) rfl dJ5_grow_1 ?_
  obtain ⟨g, H⟩ := H
  refine z_get (M := m_J5_grow) f_J5_48 dJ5_grow_2 g ?_
  refine z_iconst (M := m_J5_grow) (v := 1) (by decide) dJ5_grow_5 ?_
  refine z_iadd (M := m_J5_grow) dJ5_grow_6 ?_
  obtain ⟨⟨fs9, g⟩, H⟩ := H
  refine z_invV (M := m_J5_grow) (cn := 44) (a := [.int ((gI h x0 2) + 1)]) ok_J5_grow_2 q3403 q3405 qs65 rfl dJ5_grow_7 g (Nat.le_refl _) (Nat.zero_le _) rfl H (fun v1 h1 H => ?_) (fun n9 h9 H => zPx.out rfl H)
  obtain ⟨n1, rfl, H⟩ := H
  show zP s0 m_J5_grow (d + 1) _ _ [zr (n1)] _ _ _
  exact z_areturn (M := m_J5_grow) rfl (Or.inr ⟨_, rfl⟩) dJ5_grow_10 H
theorem c_J5_grow {s0 : zE} {d : Nat} {x0 : Nat} {h : zH} {Q : Value → zH → Prop} {E : Nat → zH → Prop} (H : (fI h x0 [44] 2) ∧ ((fC h x0 44 ∧ zX s0 m_J5_grow_2 d [zr x0, .int ((gI h x0 2) + 1)] h (fun v1 h1 => ∃ n1 : Nat, v1 = zr (n1) ∧ (Q (zr n1) h1)) E))) : zX s0 m_J5_grow (d + 1) [zr (x0)] h Q E := zX.of2 rfl (by decide +kernel) (zlay_r (zlay_n znone0)) (zle rfl) (b_J5_grow_0 H)
theorem b_J5_grow_2_0 {s0 : zE} {d : Nat} {x0 : Nat} {x1 : Int32} {h : zH} {Q : Value → zH → Prop} {E : Nat → zH → Prop} (H : (fR h x0 [44] 1) ∧ ((fC h (gR h x0 1) 1006) ∧ ((0 < Int32.ofNat (gA h (gR h x0 1)).length → (zP s0 m_J5_grow_2 (d + 1) 20 [some (zr (x0)), some (.int (x1)), some (.int (Int32.ofNat (gA h (gR h x0 1)).length)), none] [] h Q E)) ∧ (¬ 0 < Int32.ofNat (gA h (gR h x0 1)).length → ((fR h x0 [44] 1) ∧ ((gR h x0 1 = zst s0 "java/util/ArrayList" "DEFAULTCAPACITY_EMPTY_ELEMENTDATA" "[Ljava/lang/Object;" → (zX s0 m_J16_max d [.int (10), .int (x1)] h (fun v1 h1 => ∃ r1 : Int32, v1 = .int (r1) ∧ ((¬ r1 < 0) ∧ ((zroom s0 h1 (r1).toNatClampNeg) ∧ (∀ n1, n1 = h1.2.1 → (∀ h2, h2 = znew h1 1006 (List.replicate (r1).toNatClampNeg (zr 0)) (r1).toNatClampNeg → ((fC h2 x0 44) ∧ (∀ h3, h3 = zput h2 x0 1 (zr (n1)) → (Q (zr n1) h3)))))))) E)) ∧ (¬ gR h x0 1 = zst s0 "java/util/ArrayList" "DEFAULTCAPACITY_EMPTY_ELEMENTDATA" "[Ljava/lang/Object;" → (zP s0 m_J5_grow_2 (d + 1) 20 [some (zr (x0)), some (.int (x1)), some (.int (Int32.ofNat (gA h (gR h x0 1)).length)), none] [] h Q E)))))))) : zP s0 m_J5_grow_2 (d + 1) 0 [some (zr (x0)), some (.int (x1)), none, none] [] h Q E := by
  refine z_aload_n (M := m_J5_grow_2) (k := 0) rfl dJ5_grow_2_0 ?_
  obtain ⟨g, H⟩ := H
  refine z_get (M := m_J5_grow_2) f_J5_9 dJ5_grow_2_1 g ?_
  obtain ⟨g, H⟩ := H
  refine z_len (M := m_J5_grow_2) (t := 6) rfl dJ5_grow_2_4 g ?_
  refine z_istore_n (M := m_J5_grow_2) (k := 2) 2 rfl (zlt rfl) rfl dJ5_grow_2_5 ?_
  show zP s0 m_J5_grow_2 (d + 1) _ [some (zr (x0)), some (.int (x1)), some (.int (Int32.ofNat (gA h (gR h x0 1)).length)), none] _ _ _ _
  refine z_iload_n (M := m_J5_grow_2) (k := 2) rfl dJ5_grow_2_6 ?_
  refine z_ifgt (M := m_J5_grow_2) 20 rfl dJ5_grow_2_7 (fun hc => ?_) (fun hc => ?_)
  · have H := H.1 hc
    exact H
  · have H := H.2 hc
    refine z_aload_n (M := m_J5_grow_2) (k := 0) rfl dJ5_grow_2_10 ?_
    obtain ⟨g, H⟩ := H
    refine z_get (M := m_J5_grow_2) f_J5_9 dJ5_grow_2_11 g ?_
    refine z_gets (M := m_J5_grow_2) (k_ArrayList_DEFAULTCAPACITY_EMPTY_ELEMENTDATA (s0 := s0)) q425 dJ5_grow_2_14 ?_
    refine z_acmpeq (M := m_J5_grow_2) 45 rfl dJ5_grow_2_17 (fun hc => ?_) (fun hc => ?_)
    · have H := H.1 hc
      refine z_aload_n (M := m_J5_grow_2) (k := 0) rfl dJ5_grow_2_45 ?_
      refine z_bipush (M := m_J5_grow_2) (v := 10) (by decide) dJ5_grow_2_46 ?_
      refine z_iload_n (M := m_J5_grow_2) (k := 1) rfl dJ5_grow_2_48 ?_
      refine z_invS (M := m_J5_grow_2) (a := [.int (10), .int (x1)]) ok_J16_max q3408 q1308 dJ5_grow_2_49 (Nat.le_refl _) (Nat.le_trans (zcatr zcat0) (zle rfl)) rfl H (fun v1 h1 H => ?_) (fun n9 h9 H => zPx.out rfl H)
      obtain ⟨r1, rfl, H⟩ := H
      show zP s0 m_J5_grow_2 (d + 1) _ _ [.int (r1), zr (x0)] _ _ _
      obtain ⟨gn, H⟩ := H
      obtain ⟨g, H⟩ := H
      refine zz_anewarray (M := m_J5_grow_2) (t := 6) rfl q3409 q449 dJ5_grow_2_52 gn g (fun n1 e1 h2 e2 => ?_)
      have H := H n1 e1 h2 e2
      refine z_dup_x1 (M := m_J5_grow_2) (zr_cat _) (zr_cat _) dJ5_grow_2_55 ?_
      obtain ⟨g, H⟩ := H
      refine zz_put (M := m_J5_grow_2) f_J5_9 dJ5_grow_2_56 rfl (fn_44_1) g (ft_44_1) (fun h3 e => ?_)
      have H := H h3 e
      exact z_areturn (M := m_J5_grow_2) rfl (Or.inr ⟨_, rfl⟩) dJ5_grow_2_59 H
    · have H := H.2 hc
      exact H
theorem c_J5_grow_2 {s0 : zE} {d : Nat} {x0 : Nat} {x1 : Int32} {h : zH} {Q : Value → zH → Prop} {E : Nat → zH → Prop} (H : (fR h x0 [44] 1) ∧ ((fC h (gR h x0 1) 1006) ∧ ((0 < Int32.ofNat (gA h (gR h x0 1)).length → (zP s0 m_J5_grow_2 (d + 1) 20 [some (zr (x0)), some (.int (x1)), some (.int (Int32.ofNat (gA h (gR h x0 1)).length)), none] [] h Q E)) ∧ (¬ 0 < Int32.ofNat (gA h (gR h x0 1)).length → ((fR h x0 [44] 1) ∧ ((gR h x0 1 = zst s0 "java/util/ArrayList" "DEFAULTCAPACITY_EMPTY_ELEMENTDATA" "[Ljava/lang/Object;" → (zX s0 m_J16_max d [.int (10), .int (x1)] h (fun v1 h1 => ∃ r1 : Int32, v1 = .int (r1) ∧ ((¬ r1 < 0) ∧ ((zroom s0 h1 (r1).toNatClampNeg) ∧ (∀ n1, n1 = h1.2.1 → (∀ h2, h2 = znew h1 1006 (List.replicate (r1).toNatClampNeg (zr 0)) (r1).toNatClampNeg → ((fC h2 x0 44) ∧ (∀ h3, h3 = zput h2 x0 1 (zr (n1)) → (Q (zr n1) h3)))))))) E)) ∧ (¬ gR h x0 1 = zst s0 "java/util/ArrayList" "DEFAULTCAPACITY_EMPTY_ELEMENTDATA" "[Ljava/lang/Object;" → (zP s0 m_J5_grow_2 (d + 1) 20 [some (zr (x0)), some (.int (x1)), some (.int (Int32.ofNat (gA h (gR h x0 1)).length)), none] [] h Q E)))))))) : zX s0 m_J5_grow_2 (d + 1) [zr (x0), .int (x1)] h Q E := zX.of2 rfl (by decide +kernel) (zlay_r (zlay_i (zlay_n (znoneS (znoneS znone0))))) (zle rfl) (b_J5_grow_2_0 H)
theorem b_J5_grow_2_20 {s0 : zE} {d : Nat} {x0 : Nat} {x1 : Int32} {x2 : Int32} {h : zH} {Q : Value → zH → Prop} {E : Nat → zH → Prop} (H : zX s0 m_J25_newLength d [.int (x2), .int (x1 - x2), .int (x2 >>> (1 &&& 31))] h (fun v1 h1 => ∃ r1 : Int32, v1 = .int (r1) ∧ ((fR h1 x0 [44] 1) ∧ (zX s0 m_J15_copyOf d [zr (gR h1 x0 1), .int (r1)] h1 (fun v2 h2 => ∃ n1 : Nat, v2 = zr (n1) ∧ ((fC h2 x0 44) ∧ (∀ h3, h3 = zput h2 x0 1 (zr (n1)) → (Q (zr n1) h3)))) E))) E) : zP s0 m_J5_grow_2 (d + 1) 20 [some (zr (x0)), some (.int (x1)), some (.int (x2)), none] [] h Q E := by
  refine z_iload_n (M := m_J5_grow_2) (k := 2) rfl dJ5_grow_2_20 ?_
  refine z_iload_n (M := m_J5_grow_2) (k := 1) rfl dJ5_grow_2_21 ?_
  refine z_iload_n (M := m_J5_grow_2) (k := 2) rfl dJ5_grow_2_22 ?_
  refine z_isub (M := m_J5_grow_2) dJ5_grow_2_23 ?_
  refine z_iload_n (M := m_J5_grow_2) (k := 2) rfl dJ5_grow_2_24 ?_
  refine z_iconst (M := m_J5_grow_2) (v := 1) (by decide) dJ5_grow_2_25 ?_
  refine z_ishr (M := m_J5_grow_2) dJ5_grow_2_26 ?_
  refine z_invS (M := m_J5_grow_2) (a := [.int (x2), .int (x1 - x2), .int (x2 >>> (1 &&& 31))]) ok_J25_newLength q3407 q1305 dJ5_grow_2_27 (Nat.le_refl _) (Nat.zero_le _) rfl H (fun v1 h1 H => ?_) (fun n9 h9 H => zPx.out rfl H)
  obtain ⟨r1, rfl, H⟩ := H
  show zP s0 m_J5_grow_2 (d + 1) _ _ [.int (r1)] _ _ _
  refine z_istore_n (M := m_J5_grow_2) (k := 3) 3 rfl (zlt rfl) rfl dJ5_grow_2_30 ?_
  show zP s0 m_J5_grow_2 (d + 1) _ [some (zr (x0)), some (.int (x1)), some (.int (x2)), some (.int (r1))] _ _ _ _
  refine z_aload_n (M := m_J5_grow_2) (k := 0) rfl dJ5_grow_2_31 ?_
  refine z_aload_n (M := m_J5_grow_2) (k := 0) rfl dJ5_grow_2_32 ?_
  obtain ⟨g, H⟩ := H
  refine z_get (M := m_J5_grow_2) f_J5_9 dJ5_grow_2_33 g ?_
  refine z_iload_n (M := m_J5_grow_2) (k := 3) rfl dJ5_grow_2_36 ?_
  refine z_invS (M := m_J5_grow_2) (a := [zr (gR h1 x0 1), .int (r1)]) ok_J15_copyOf q1502 q1109 dJ5_grow_2_37 (Nat.le_refl _) (Nat.le_trans (zcatr zcat0) (zle rfl)) rfl H (fun v2 h2 H => ?_) (fun n9 h9 H => zPx.out rfl H)
  obtain ⟨n1, rfl, H⟩ := H
  show zP s0 m_J5_grow_2 (d + 1) _ _ [zr (n1), zr (x0)] _ _ _
  refine z_dup_x1 (M := m_J5_grow_2) (zr_cat _) (zr_cat _) dJ5_grow_2_40 ?_
  obtain ⟨g, H⟩ := H
  refine zz_put (M := m_J5_grow_2) f_J5_9 dJ5_grow_2_41 rfl (fn_44_1) g (ft_44_1) (fun h3 e => ?_)
  have H := H h3 e
  exact z_areturn (M := m_J5_grow_2) rfl (Or.inr ⟨_, rfl⟩) dJ5_grow_2_44 H
theorem b_J5_indexOf_0 {s0 : zE} {d : Nat} {x0 : Nat} {x1 : Nat} {h : zH} {Q : Value → zH → Prop} {E : Nat → zH → Prop} (H : (fI h x0 [44] 2) ∧ ((fC h x0 44 ∧ zX s0 m_J5_indexOfRange d [zr x0, zr (x1), .int (0), .int (gI h x0 2)] h (fun v1 h1 => ∃ r1 : Int32, v1 = .int (r1) ∧ (Q (.int r1) h1)) E))) : zP s0 m_J5_indexOf (d + 1) 0 [some (zr (x0)), some (zr (x1))] [] h Q E := by
  refine z_aload_n (M := m_J5_indexOf) (k := 0) rfl dJ5_indexOf_0 ?_
  refine z_aload_n (M := m_J5_indexOf) (k := 1) rfl dJ5_indexOf_1 ?_
  refine z_iconst (M := m_J5_indexOf) (v := 0) (by decide) dJ5_indexOf_2 ?_
  refine z_aload_n (M := m_J5_indexOf) (k := 0) rfl dJ5_indexOf_3 ?_
  obtain ⟨g, H⟩ := H
  refine z_get (M := m_J5_indexOf) f_J5_48 dJ5_indexOf_4 g ?_
  obtain ⟨⟨fs9, g⟩, H⟩ := H
  refine z_invV (M := m_J5_indexOf) (cn := 44) (a := [zr (x1), .int (0), .int (gI h x0 2)]) ok_J5_indexOfRange q3940 q3941 q3942 rfl dJ5_indexOf_7 g (Nat.le_refl _) (Nat.zero_le _) rfl H (fun v1 h1 H => ?_) (fun n9 h9 H => zPx.out rfl H)
  obtain ⟨r1, rfl, H⟩ := H
  show zP s0 m_J5_indexOf (d + 1) _ _ [.int (r1)] _ _ _
  exact z_ireturn (M := m_J5_indexOf) rfl rfl dJ5_indexOf_10 H
theorem c_J5_indexOf {s0 : zE} {d : Nat} {x0 : Nat} {x1 : Nat} {h : zH} {Q : Value → zH → Prop} {E : Nat → zH → Prop} (H : (fI h x0 [44] 2) ∧ ((fC h x0 44 ∧ zX s0 m_J5_indexOfRange d [zr x0, zr (x1), .int (0), .int (gI h x0 2)] h (fun v1 h1 => ∃ r1 : Int32, v1 = .int (r1) ∧ (Q (.int r1) h1)) E))) : zX s0 m_J5_indexOf (d + 1) [zr (x0), zr (x1)] h Q E := zX.of2 rfl (by decide +kernel) (zlay_r (zlay_r (zlay_n znone0))) (zle rfl) (b_J5_indexOf_0 H)
theorem b_J5_init_0 {s0 : zE} {d : Nat} {x0 : Nat} {h : zH} {Q : Value → zH → Prop} {E : Nat → zH → Prop} (H : (∃ c, fC h x0 c) ∧ (zX s0 m_J4_init d [zr x0] h (fun _ h1 => ((fC h1 x0 44) ∧ (∀ h2, h2 = zput h1 x0 1 (zr (zst s0 "java/util/ArrayList" "DEFAULTCAPACITY_EMPTY_ELEMENTDATA" "[Ljava/lang/Object;")) → (Q .null h2)))) E)) : zP s0 m_J5_init (d + 1) 0 [some (zr (x0))] [] h Q E := by
  refine z_aload_n (M := m_J5_init) (k := 0) rfl dJ5_init_0 ?_
  obtain ⟨⟨c9, g⟩, H⟩ := H
  refine zz_invI (M := m_J5_init) (a := []) ok_J4_init rfl rfl q418 q419 dJ5_init_1 g (Nat.zero_le _) rfl H (fun v1 h1 H => ?_) (fun n9 h9 H => zPx.out rfl H)
  refine z_aload_n (M := m_J5_init) (k := 0) rfl dJ5_init_4 ?_
  refine z_gets (M := m_J5_init) (k_ArrayList_DEFAULTCAPACITY_EMPTY_ELEMENTDATA (s0 := s0)) q425 dJ5_init_5 ?_
  obtain ⟨g, H⟩ := H
  refine zz_put (M := m_J5_init) f_J5_9 dJ5_init_8 rfl (fn_44_1) g (ft_44_1) (fun h2 e => ?_)
  have H := H h2 e
  exact z_return (M := m_J5_init) rfl dJ5_init_11 H
theorem c_J5_init {s0 : zE} {d : Nat} {x0 : Nat} {h : zH} {Q : Value → zH → Prop} {E : Nat → zH → Prop} (H : (∃ c, fC h x0 c) ∧ (zX s0 m_J4_init d [zr x0] h (fun _ h1 => ((fC h1 x0 44) ∧ (∀ h2, h2 = zput h1 x0 1 (zr (zst s0 "java/util/ArrayList" "DEFAULTCAPACITY_EMPTY_ELEMENTDATA" "[Ljava/lang/Object;")) → (Q .null h2)))) E)) : zX s0 m_J5_init (d + 1) [zr (x0)] h Q E := zX.of2 rfl (by decide +kernel) (zlay_r (zlay_n znone0)) (zle rfl) (b_J5_init_0 H)
theorem b_J5_isEmpty_0 {s0 : zE} {d : Nat} {x0 : Nat} {h : zH} {Q : Value → zH → Prop} {E : Nat → zH → Prop} (H : (fI h x0 [44] 2) ∧ ((¬ gI h x0 2 = 0 → (Q (.int 0) h)) ∧ (gI h x0 2 = 0 → (Q (.int 1) h)))) : zP s0 m_J5_isEmpty d 0 [some (zr (x0))] [] h Q E := by
  refine z_aload_n (M := m_J5_isEmpty) (k := 0) rfl dJ5_isEmpty_0 ?_
  obtain ⟨g, H⟩ := H
  refine z_get (M := m_J5_isEmpty) f_J5_48 dJ5_isEmpty_1 g ?_
  refine z_ifne (M := m_J5_isEmpty) 11 rfl dJ5_isEmpty_4 (fun hc => ?_) (fun hc => ?_)
  · have H := H.1 hc
    refine z_iconst (M := m_J5_isEmpty) (v := 0) (by decide) dJ5_isEmpty_11 ?_
    exact z_ireturn (M := m_J5_isEmpty) rfl rfl dJ5_isEmpty_12 H
  · have H := H.2 hc
    refine z_iconst (M := m_J5_isEmpty) (v := 1) (by decide) dJ5_isEmpty_7 ?_
    refine z_goto (M := m_J5_isEmpty) 12 rfl dJ5_isEmpty_8 ?_
    exact z_ireturn (M := m_J5_isEmpty) rfl rfl dJ5_isEmpty_12 H
theorem c_J5_isEmpty {s0 : zE} {d : Nat} {x0 : Nat} {h : zH} {Q : Value → zH → Prop} {E : Nat → zH → Prop} (H : (fI h x0 [44] 2) ∧ ((¬ gI h x0 2 = 0 → (Q (.int 0) h)) ∧ (gI h x0 2 = 0 → (Q (.int 1) h)))) : zX s0 m_J5_isEmpty d [zr (x0)] h Q E := zX.of2 rfl (by decide +kernel) (zlay_r (zlay_n znone0)) (zle rfl) (b_J5_isEmpty_0 H)
theorem b_J5_iterator_0 {s0 : zE} {d : Nat} {x0 : Nat} {h : zH} {Q : Value → zH → Prop} {E : Nat → zH → Prop} (H : (zroom s0 h 4) ∧ (∀ n1, n1 = h.2.1 → (∀ h1, h1 = znew h 54 [.int 0, .int 0, .int 0, zr 0] 4 → ((∃ c, fC h1 n1 c) ∧ (zX s0 m_J27_init d [zr n1, zr (x0)] h1 (fun _ h2 => (Q (zr n1) h2)) E))))) : zP s0 m_J5_iterator (d + 1) 0 [some (zr (x0))] [] h Q E := by
  obtain ⟨g, H⟩ := H
  refine zz_new (M := m_J5_iterator) (fs := [.int 0, .int 0, .int 0, zr 0]) (w := 4) (c := 54) rfl q1565 q1566 rfl znf_J27 dJ5_iterator_0 g (fun n1 e1 h1 e2 => ?_)
  have H := H n1 e1 h1 e2
  refine z_dup (M := m_J5_iterator) (zr_cat _) dJ5_iterator_3 ?_
  refine z_aload_n (M := m_J5_iterator) (k := 0) rfl dJ5_iterator_4 ?_
  obtain ⟨⟨c9, g⟩, H⟩ := H
  refine zz_invI (M := m_J5_iterator) (a := [zr (x0)]) ok_J27_init rfl rfl q1567 q1568 dJ5_iterator_5 g (Nat.le_trans (zcatr zcat0) (zle rfl)) rfl H (fun v1 h2 H => ?_) (fun n9 h9 H => zPx.out rfl H)
  exact z_areturn (M := m_J5_iterator) rfl (Or.inl ⟨_, rfl⟩) dJ5_iterator_8 H
theorem c_J5_iterator {s0 : zE} {d : Nat} {x0 : Nat} {h : zH} {Q : Value → zH → Prop} {E : Nat → zH → Prop} (H : (zroom s0 h 4) ∧ (∀ n1, n1 = h.2.1 → (∀ h1, h1 = znew h 54 [.int 0, .int 0, .int 0, zr 0] 4 → ((∃ c, fC h1 n1 c) ∧ (zX s0 m_J27_init d [zr n1, zr (x0)] h1 (fun _ h2 => (Q (zr n1) h2)) E))))) : zX s0 m_J5_iterator (d + 1) [zr (x0)] h Q E := zX.of2 rfl (by decide +kernel) (zlay_r (zlay_n znone0)) (zle rfl) (b_J5_iterator_0 H)
theorem b_J5_remove_2_0 {s0 : zE} {d : Nat} {x0 : Nat} {x1 : Int32} {h : zH} {Q : Value → zH → Prop} {E : Nat → zH → Prop} (H : (fI h x0 [44] 2) ∧ (zX s0 m_J10_checkIndex d [.int (x1), .int (gI h x0 2)] h (fun v1 h1 => ∃ r1 : Int32, v1 = .int (r1) ∧ ((fR h1 x0 [44] 1) ∧ ((fE h1 (gR h1 x0 1) 6 x1 (zr (eR h1 (gR h1 x0 1) x1))) ∧ ((fC h1 x0 44 ∧ zX s0 m_J5_fastRemove d [zr x0, zr (gR h1 x0 1), .int (x1)] h1 (fun _ h2 => (Q (zr (eR h1 (gR h1 x0 1) x1)) h2)) E))))) E)) : zP s0 m_J5_remove_2 (d + 1) 0 [some (zr (x0)), some (.int (x1)), none, none] [] h Q E := by
  refine z_iload_n (M := m_J5_remove_2) (k := 1) rfl dJ5_remove_2_0 ?_
  refine z_aload_n (M := m_J5_remove_2) (k := 0) rfl dJ5_remove_2_1 ?_
  obtain ⟨g, H⟩ := H
  refine z_get (M := m_J5_remove_2) f_J5_48 dJ5_remove_2_2 g ?_
  refine z_invS (M := m_J5_remove_2) (a := [.int (x1), .int (gI h x0 2)]) ok_J10_checkIndex q907 q908 dJ5_remove_2_5 (Nat.le_refl _) (Nat.zero_le _) rfl H (fun v1 h1 H => ?_) (fun n9 h9 H => zPx.out rfl H)
  obtain ⟨r1, rfl, H⟩ := H
  show zP s0 m_J5_remove_2 (d + 1) _ _ [.int (r1)] _ _ _
  refine z_pop (M := m_J5_remove_2) rfl dJ5_remove_2_8 ?_
  refine z_aload_n (M := m_J5_remove_2) (k := 0) rfl dJ5_remove_2_9 ?_
  obtain ⟨g, H⟩ := H
  refine z_get (M := m_J5_remove_2) f_J5_9 dJ5_remove_2_10 g ?_
  refine z_astore_n (M := m_J5_remove_2) (k := 2) 2 rfl (zlt rfl) rfl dJ5_remove_2_13 ?_
  show zP s0 m_J5_remove_2 (d + 1) _ [some (zr (x0)), some (.int (x1)), some (zr (gR h1 x0 1)), none] _ _ _ _
  refine z_aload_n (M := m_J5_remove_2) (k := 2) rfl dJ5_remove_2_14 ?_
  refine z_iload_n (M := m_J5_remove_2) (k := 1) rfl dJ5_remove_2_15 ?_
  obtain ⟨g, H⟩ := H
  refine z_ildA (M := m_J5_remove_2) (t := 6) rfl rfl dJ5_remove_2_16 g ?_
  refine z_astore_n (M := m_J5_remove_2) (k := 3) 3 rfl (zlt rfl) (zr_cat _) dJ5_remove_2_17 ?_
  show zP s0 m_J5_remove_2 (d + 1) _ [some (zr (x0)), some (.int (x1)), some (zr (gR h1 x0 1)), some (zr (eR h1 (gR h1 x0 1) x1))] _ _ _ _
  refine z_aload_n (M := m_J5_remove_2) (k := 0) rfl dJ5_remove_2_18 ?_
  refine z_aload_n (M := m_J5_remove_2) (k := 2) rfl dJ5_remove_2_19 ?_
  refine z_iload_n (M := m_J5_remove_2) (k := 1) rfl dJ5_remove_2_20 ?_
  obtain ⟨⟨fs9, g⟩, H⟩ := H
  refine z_invV (M := m_J5_remove_2) (cn := 44) (a := [zr (gR h1 x0 1), .int (x1)]) ok_J5_fastRemove q1042 q1044 qs9 rfl dJ5_remove_2_21 g (Nat.le_refl _) (Nat.zero_le _) rfl H (fun v2 h2 H => ?_) (fun n9 h9 H => zPx.out rfl H)
  show zP s0 m_J5_remove_2 (d + 1) _ _ [] _ _ _
  refine z_aload_n (M := m_J5_remove_2) (k := 3) rfl dJ5_remove_2_24 ?_
  exact z_areturn (M := m_J5_remove_2) rfl (Or.inl ⟨_, rfl⟩) dJ5_remove_2_25 H
theorem c_J5_remove_2 {s0 : zE} {d : Nat} {x0 : Nat} {x1 : Int32} {h : zH} {Q : Value → zH → Prop} {E : Nat → zH → Prop} (H : (fI h x0 [44] 2) ∧ (zX s0 m_J10_checkIndex d [.int (x1), .int (gI h x0 2)] h (fun v1 h1 => ∃ r1 : Int32, v1 = .int (r1) ∧ ((fR h1 x0 [44] 1) ∧ ((fE h1 (gR h1 x0 1) 6 x1 (zr (eR h1 (gR h1 x0 1) x1))) ∧ ((fC h1 x0 44 ∧ zX s0 m_J5_fastRemove d [zr x0, zr (gR h1 x0 1), .int (x1)] h1 (fun _ h2 => (Q (zr (eR h1 (gR h1 x0 1) x1)) h2)) E))))) E)) : zX s0 m_J5_remove_2 (d + 1) [zr (x0), .int (x1)] h Q E := zX.of2 rfl (by decide +kernel) (zlay_r (zlay_i (zlay_n (znoneS (znoneS znone0))))) (zle rfl) (b_J5_remove_2_0 H)
theorem b_J5_size_0 {s0 : zE} {d : Nat} {x0 : Nat} {h : zH} {Q : Value → zH → Prop} {E : Nat → zH → Prop} (H : (fI h x0 [44] 2) ∧ (Q (.int (gI h x0 2)) h)) : zP s0 m_J5_size d 0 [some (zr (x0))] [] h Q E := by
  refine z_aload_n (M := m_J5_size) (k := 0) rfl dJ5_size_0 ?_
  obtain ⟨g, H⟩ := H
  refine z_get (M := m_J5_size) f_J5_48 dJ5_size_1 g ?_
  exact z_ireturn (M := m_J5_size) rfl rfl dJ5_size_4 H
theorem c_J5_size {s0 : zE} {d : Nat} {x0 : Nat} {h : zH} {Q : Value → zH → Prop} {E : Nat → zH → Prop} (H : (fI h x0 [44] 2) ∧ (Q (.int (gI h x0 2)) h)) : zX s0 m_J5_size d [zr (x0)] h Q E := zX.of2 rfl (by decide +kernel) (zlay_r (zlay_n znone0)) (zle rfl) (b_J5_size_0 H)
theorem b_J5_toArray_0 {s0 : zE} {d : Nat} {x0 : Nat} {h : zH} {Q : Value → zH → Prop} {E : Nat → zH → Prop} (H : (fR h x0 [44] 1) ∧ ((fI h x0 [44] 2) ∧ (zX s0 m_J15_copyOf d [zr (gR h x0 1), .int (gI h x0 2)] h (fun v1 h1 => ∃ n1 : Nat, v1 = zr (n1) ∧ (Q (zr n1) h1)) E))) : zP s0 m_J5_toArray (d + 1) 0 [some (zr (x0))] [] h Q E := by
  refine z_aload_n (M := m_J5_toArray) (k := 0) rfl dJ5_toArray_0 ?_
  obtain ⟨g, H⟩ := H
  refine z_get (M := m_J5_toArray) f_J5_9 dJ5_toArray_1 g ?_
  refine z_aload_n (M := m_J5_toArray) (k := 0) rfl dJ5_toArray_4 ?_
  obtain ⟨g, H⟩ := H
  refine z_get (M := m_J5_toArray) f_J5_48 dJ5_toArray_5 g ?_
  refine z_invS (M := m_J5_toArray) (a := [zr (gR h x0 1), .int (gI h x0 2)]) ok_J15_copyOf q1502 q1109 dJ5_toArray_8 (Nat.le_refl _) (Nat.zero_le _) rfl H (fun v1 h1 H => ?_) (fun n9 h9 H => zPx.out rfl H)
  obtain ⟨n1, rfl, H⟩ := H
  show zP s0 m_J5_toArray (d + 1) _ _ [zr (n1)] _ _ _
  exact z_areturn (M := m_J5_toArray) rfl (Or.inr ⟨_, rfl⟩) dJ5_toArray_11 H
theorem c_J5_toArray {s0 : zE} {d : Nat} {x0 : Nat} {h : zH} {Q : Value → zH → Prop} {E : Nat → zH → Prop} (H : (fR h x0 [44] 1) ∧ ((fI h x0 [44] 2) ∧ (zX s0 m_J15_copyOf d [zr (gR h x0 1), .int (gI h x0 2)] h (fun v1 h1 => ∃ n1 : Nat, v1 = zr (n1) ∧ (Q (zr n1) h1)) E))) : zX s0 m_J5_toArray (d + 1) [zr (x0)] h Q E := zX.of2 rfl (by decide +kernel) (zlay_r (zlay_n znone0)) (zle rfl) (b_J5_toArray_0 H)
theorem b_J6_add_0 {s0 : zE} {d : Nat} {x0 : Nat} {x1 : Nat} {h : zH} {Q : Value → zH → Prop} {E : Nat → zH → Prop} (H : (fC h x0 45 ∧ zX s0 m_J6_addLast d [zr x0, zr (x1)] h (fun _ h1 => (Q (.int 1) h1)) E)) : zP s0 m_J6_add (d + 1) 0 [some (zr (x0)), some (zr (x1))] [] h Q E := by
  refine z_aload_n (M := m_J6_add) (k := 0) rfl dJ6_add_0 ?_
  refine z_aload_n (M := m_J6_add) (k := 1) rfl dJ6_add_1 ?_
  obtain ⟨⟨fs9, g⟩, H⟩ := H
  refine z_invV (M := m_J6_add) (cn := 45) (a := [zr (x1)]) ok_J6_addLast q1091 q1092 q1093 rfl dJ6_add_2 g (Nat.le_refl _) (Nat.zero_le _) rfl H (fun v1 h1 H => ?_) (fun n9 h9 H => zPx.out rfl H)
  show zP s0 m_J6_add (d + 1) _ _ [] _ _ _
  refine z_iconst (M := m_J6_add) (v := 1) (by decide) dJ6_add_5 ?_
  exact z_ireturn (M := m_J6_add) rfl rfl dJ6_add_6 H
theorem c_J6_add {s0 : zE} {d : Nat} {x0 : Nat} {x1 : Nat} {h : zH} {Q : Value → zH → Prop} {E : Nat → zH → Prop} (H : (fC h x0 45 ∧ zX s0 m_J6_addLast d [zr x0, zr (x1)] h (fun _ h1 => (Q (.int 1) h1)) E)) : zX s0 m_J6_add (d + 1) [zr (x0), zr (x1)] h Q E := zX.of2 rfl (by decide +kernel) (zlay_r (zlay_r (zlay_n znone0))) (zle rfl) (b_J6_add_0 H)
theorem b_J6_addLast_0 {s0 : zE} {d : Nat} {x0 : Nat} {x1 : Nat} {h : zH} {Q : Value → zH → Prop} {E : Nat → zH → Prop} (H : (¬ x1 = 0 → ((fR h x0 [45] 0) ∧ ((fI h x0 [45] 2) ∧ ((fS s0 h (gR h x0 0) 6 (gI h x0 2)) ∧ ((x1 = 0 ∨ zAsg h x1 (.object "java/lang/Object")) ∧ (∀ h1, h1 = zput h (gR h x0 0) ((gI h x0 2)).toNatClampNeg (zr x1) → ((fI h1 x0 [45] 1) ∧ ((fI h1 x0 [45] 2) ∧ ((fC h1 (gR h x0 0) 1006) ∧ (zX s0 m_J6_inc d [.int (gI h1 x0 2), .int (Int32.ofNat (gA h1 (gR h x0 0)).length)] h1 (fun v1 h2 => ∃ r1 : Int32, v1 = .int (r1) ∧ ((fC h2 x0 45) ∧ (∀ h3, h3 = zput h2 x0 2 (.int (r1)) → ((¬ gI h1 x0 1 = r1 → (Q .null h3)) ∧ (gI h1 x0 1 = r1 → ((fC h3 x0 45 ∧ zX s0 m_J6_grow d [zr x0, .int (1)] h3 (fun _ h4 => (Q .null h4)) E))))))) E)))))))))) ∧ (x1 = 0 → (False))) : zP s0 m_J6_addLast (d + 1) 0 [some (zr (x0)), some (zr (x1)), none] [] h Q E := by
  refine z_aload_n (M := m_J6_addLast) (k := 1) rfl dJ6_addLast_0 ?_
  refine z_ifnonnull (M := m_J6_addLast) 12 rfl dJ6_addLast_1 (fun hc => ?_) (fun hc => ?_)
  · have H := H.1 hc
    refine z_aload_n (M := m_J6_addLast) (k := 0) rfl dJ6_addLast_12 ?_
    obtain ⟨g, H⟩ := H
    refine z_get (M := m_J6_addLast) f_J6_3 dJ6_addLast_13 g ?_
    refine z_astore_n (M := m_J6_addLast) (k := 2) 2 rfl (zlt rfl) (zr_cat _) dJ6_addLast_16 ?_
    show zP s0 m_J6_addLast (d + 1) _ [some (zr (x0)), some (zr (x1)), some (zr (gR h x0 0))] _ _ _ _
    refine z_aload_n (M := m_J6_addLast) (k := 2) rfl dJ6_addLast_17 ?_
    refine z_aload_n (M := m_J6_addLast) (k := 0) rfl dJ6_addLast_18 ?_
    obtain ⟨g, H⟩ := H
    refine z_get (M := m_J6_addLast) f_J6_20 dJ6_addLast_19 g ?_
    refine z_aload_n (M := m_J6_addLast) (k := 1) rfl dJ6_addLast_22 ?_
    obtain ⟨g, gm, H⟩ := H
    refine zz_istA (M := m_J6_addLast) (t := 6) rfl dJ6_addLast_23 g gm (fun h1 e => ?_)
    have H := H h1 e
    refine z_aload_n (M := m_J6_addLast) (k := 0) rfl dJ6_addLast_24 ?_
    obtain ⟨g, H⟩ := H
    refine z_get (M := m_J6_addLast) f_J6_24 dJ6_addLast_25 g ?_
    refine z_aload_n (M := m_J6_addLast) (k := 0) rfl dJ6_addLast_28 ?_
    refine z_aload_n (M := m_J6_addLast) (k := 0) rfl dJ6_addLast_29 ?_
    obtain ⟨g, H⟩ := H
    refine z_get (M := m_J6_addLast) f_J6_20 dJ6_addLast_30 g ?_
    refine z_aload_n (M := m_J6_addLast) (k := 2) rfl dJ6_addLast_33 ?_
    obtain ⟨g, H⟩ := H
    refine z_len (M := m_J6_addLast) (t := 6) rfl dJ6_addLast_34 g ?_
    refine z_invS (M := m_J6_addLast) (a := [.int (gI h1 x0 2), .int (Int32.ofNat (gA h1 (gR h x0 0)).length)]) ok_J6_inc q1095 q1096 dJ6_addLast_35 (Nat.le_refl _) (Nat.le_trans (zcatr (zcati zcat0)) (zle rfl)) rfl H (fun v1 h2 H => ?_) (fun n9 h9 H => zPx.out rfl H)
    obtain ⟨r1, rfl, H⟩ := H
    show zP s0 m_J6_addLast (d + 1) _ _ [.int (r1), zr (x0), .int (gI h1 x0 1)] _ _ _
    refine z_dup_x1 (M := m_J6_addLast) rfl (zr_cat _) dJ6_addLast_38 ?_
    obtain ⟨g, H⟩ := H
    refine zz_put (M := m_J6_addLast) f_J6_20 dJ6_addLast_39 rfl (fn_45_2) g (ft_45_2) (fun h3 e => ?_)
    have H := H h3 e
    refine z_icmpne (M := m_J6_addLast) 50 rfl dJ6_addLast_42 (fun hc => ?_) (fun hc => ?_)
    · have H := H.1 hc
      exact z_return (M := m_J6_addLast) rfl dJ6_addLast_50 H
    · have H := H.2 hc
      refine z_aload_n (M := m_J6_addLast) (k := 0) rfl dJ6_addLast_45 ?_
      refine z_iconst (M := m_J6_addLast) (v := 1) (by decide) dJ6_addLast_46 ?_
      obtain ⟨⟨fs9, g⟩, H⟩ := H
      refine z_invV (M := m_J6_addLast) (cn := 45) (a := [.int (1)]) ok_J6_grow q1098 q1100 qs11 rfl dJ6_addLast_47 g (Nat.le_refl _) (Nat.zero_le _) rfl H (fun v2 h4 H => ?_) (fun n9 h9 H => zPx.out rfl H)
      show zP s0 m_J6_addLast (d + 1) _ _ [] _ _ _
      exact z_return (M := m_J6_addLast) rfl dJ6_addLast_50 H
  · have H := H.2 hc
    exact H.elim
theorem c_J6_addLast {s0 : zE} {d : Nat} {x0 : Nat} {x1 : Nat} {h : zH} {Q : Value → zH → Prop} {E : Nat → zH → Prop} (H : (¬ x1 = 0 → ((fR h x0 [45] 0) ∧ ((fI h x0 [45] 2) ∧ ((fS s0 h (gR h x0 0) 6 (gI h x0 2)) ∧ ((x1 = 0 ∨ zAsg h x1 (.object "java/lang/Object")) ∧ (∀ h1, h1 = zput h (gR h x0 0) ((gI h x0 2)).toNatClampNeg (zr x1) → ((fI h1 x0 [45] 1) ∧ ((fI h1 x0 [45] 2) ∧ ((fC h1 (gR h x0 0) 1006) ∧ (zX s0 m_J6_inc d [.int (gI h1 x0 2), .int (Int32.ofNat (gA h1 (gR h x0 0)).length)] h1 (fun v1 h2 => ∃ r1 : Int32, v1 = .int (r1) ∧ ((fC h2 x0 45) ∧ (∀ h3, h3 = zput h2 x0 2 (.int (r1)) → ((¬ gI h1 x0 1 = r1 → (Q .null h3)) ∧ (gI h1 x0 1 = r1 → ((fC h3 x0 45 ∧ zX s0 m_J6_grow d [zr x0, .int (1)] h3 (fun _ h4 => (Q .null h4)) E))))))) E)))))))))) ∧ (x1 = 0 → (False))) : zX s0 m_J6_addLast (d + 1) [zr (x0), zr (x1)] h Q E := zX.of2 rfl (by decide +kernel) (zlay_r (zlay_r (zlay_n (znoneS znone0)))) (zle rfl) (b_J6_addLast_0 H)
theorem b_J6_circularClear_0 {s0 : zE} {d : Nat} {x0 : Nat} {x1 : Int32} {x2 : Int32} {h : zH} {Q : Value → zH → Prop} {E : Nat → zH → Prop} (H : (x2 < x1 → ((fC h x0 1006) ∧ (zP s0 m_J6_circularClear d 11 [some (zr (x0)), some (.int (x1)), some (.int (x2)), none] [.int (Int32.ofNat (gA h x0).length)] h Q E))) ∧ (¬ x2 < x1 → (zP s0 m_J6_circularClear d 11 [some (zr (x0)), some (.int (x1)), some (.int (x2)), none] [.int (x2)] h Q E))) : zP s0 m_J6_circularClear d 0 [some (zr (x0)), some (.int (x1)), some (.int (x2)), none] [] h Q E := by
  refine z_iload_n (M := m_J6_circularClear) (k := 1) rfl dJ6_circularClear_0 ?_
  refine z_iload_n (M := m_J6_circularClear) (k := 2) rfl dJ6_circularClear_1 ?_
  refine z_icmpgt (M := m_J6_circularClear) 9 rfl dJ6_circularClear_2 (fun hc => ?_) (fun hc => ?_)
  · have H := H.1 hc
    refine z_aload_n (M := m_J6_circularClear) (k := 0) rfl dJ6_circularClear_9 ?_
    obtain ⟨g, H⟩ := H
    refine z_len (M := m_J6_circularClear) (t := 6) rfl dJ6_circularClear_10 g ?_
    exact H
  · have H := H.2 hc
    refine z_iload_n (M := m_J6_circularClear) (k := 2) rfl dJ6_circularClear_5 ?_
    refine z_goto (M := m_J6_circularClear) 11 rfl dJ6_circularClear_6 ?_
    exact H
theorem c_J6_circularClear {s0 : zE} {d : Nat} {x0 : Nat} {x1 : Int32} {x2 : Int32} {h : zH} {Q : Value → zH → Prop} {E : Nat → zH → Prop} (H : (x2 < x1 → ((fC h x0 1006) ∧ (zP s0 m_J6_circularClear d 11 [some (zr (x0)), some (.int (x1)), some (.int (x2)), none] [.int (Int32.ofNat (gA h x0).length)] h Q E))) ∧ (¬ x2 < x1 → (zP s0 m_J6_circularClear d 11 [some (zr (x0)), some (.int (x1)), some (.int (x2)), none] [.int (x2)] h Q E))) : zX s0 m_J6_circularClear d [zr (x0), .int (x1), .int (x2)] h Q E := zX.of2 rfl (by decide +kernel) (zlay_r (zlay_i (zlay_i (zlay_n (znoneS znone0))))) (zle rfl) (b_J6_circularClear_0 H)
theorem b_J6_circularClear_11 {s0 : zE} {d : Nat} {x0 : Nat} {x1 : Int32} {x2 : Int32} {t0 : Int32} {h : zH} {Q : Value → zH → Prop} {E : Nat → zH → Prop} (H : zP s0 m_J6_circularClear d 12 [some (zr (x0)), some (.int (x1)), some (.int (x2)), some (.int (t0))] [] h Q E) : zP s0 m_J6_circularClear d 11 [some (zr (x0)), some (.int (x1)), some (.int (x2)), none] [.int (t0)] h Q E := by
  refine z_istore_n (M := m_J6_circularClear) (k := 3) 3 rfl (zlt rfl) rfl dJ6_circularClear_11 ?_
  show zP s0 m_J6_circularClear d _ [some (zr (x0)), some (.int (x1)), some (.int (x2)), some (.int (t0))] _ _ _ _
  exact H
theorem b_J6_circularClear_12 {s0 : zE} {d : Nat} {x0 : Nat} {x1 : Int32} {x2 : Int32} {x3 : Int32} {h : zH} {Q : Value → zH → Prop} {E : Nat → zH → Prop} (H : (x3 ≤ x1 → ((¬ x3 = x2 → (zP s0 m_J6_circularClear d 12 [some (zr (x0)), some (.int (0)), some (.int (x2)), some (.int (x2))] [] h Q E)) ∧ (x3 = x2 → (Q .null h)))) ∧ (¬ x3 ≤ x1 → ((fS s0 h x0 6 x1) ∧ ((0 = 0 ∨ zAsg h 0 (.object "java/lang/Object")) ∧ (∀ h1, h1 = zput h x0 (x1).toNatClampNeg (zr 0) → (zP s0 m_J6_circularClear d 12 [some (zr (x0)), some (.int (x1 + 1)), some (.int (x2)), some (.int (x3))] [] h1 Q E)))))) : zP s0 m_J6_circularClear d 12 [some (zr (x0)), some (.int (x1)), some (.int (x2)), some (.int (x3))] [] h Q E := by
  refine z_iload_n (M := m_J6_circularClear) (k := 1) rfl dJ6_circularClear_12 ?_
  refine z_iload_n (M := m_J6_circularClear) (k := 3) rfl dJ6_circularClear_13 ?_
  refine z_icmpge (M := m_J6_circularClear) 27 rfl dJ6_circularClear_14 (fun hc => ?_) (fun hc => ?_)
  · have H := H.1 hc
    refine z_iload_n (M := m_J6_circularClear) (k := 3) rfl dJ6_circularClear_27 ?_
    refine z_iload_n (M := m_J6_circularClear) (k := 2) rfl dJ6_circularClear_28 ?_
    refine z_icmpne (M := m_J6_circularClear) 35 rfl dJ6_circularClear_29 (fun hc => ?_) (fun hc => ?_)
    · have H := H.1 hc
      refine z_iconst (M := m_J6_circularClear) (v := 0) (by decide) dJ6_circularClear_35 ?_
      refine z_istore_n (M := m_J6_circularClear) (k := 1) 1 rfl (zlt rfl) (zr_cat _) dJ6_circularClear_36 ?_
      show zP s0 m_J6_circularClear d _ [some (zr (x0)), some (.int (0)), some (.int (x2)), some (.int (x3))] _ _ _ _
      refine z_iload_n (M := m_J6_circularClear) (k := 2) rfl dJ6_circularClear_37 ?_
      refine z_istore_n (M := m_J6_circularClear) (k := 3) 3 rfl (zlt rfl) rfl dJ6_circularClear_38 ?_
      show zP s0 m_J6_circularClear d _ [some (zr (x0)), some (.int (0)), some (.int (x2)), some (.int (x2))] _ _ _ _
      refine z_goto (M := m_J6_circularClear) 12 rfl dJ6_circularClear_39 ?_
      exact H
    · have H := H.2 hc
      refine z_goto (M := m_J6_circularClear) 42 rfl dJ6_circularClear_32 ?_
      exact z_return (M := m_J6_circularClear) rfl dJ6_circularClear_42 H
  · have H := H.2 hc
    refine z_aload_n (M := m_J6_circularClear) (k := 0) rfl dJ6_circularClear_17 ?_
    refine z_iload_n (M := m_J6_circularClear) (k := 1) rfl dJ6_circularClear_18 ?_
    refine z_null (M := m_J6_circularClear) dJ6_circularClear_19 ?_
    obtain ⟨g, gm, H⟩ := H
    refine zz_istA (M := m_J6_circularClear) (t := 6) rfl dJ6_circularClear_20 g gm (fun h1 e => ?_)
    have H := H h1 e
    refine z_inc (M := m_J6_circularClear) 1 (x1 + 1) 1 (by decide) rfl rfl (zr_cat _) dJ6_circularClear_21 ?_
    show zP s0 m_J6_circularClear d _ [some (zr (x0)), some (.int (x1 + 1)), some (.int (x2)), some (.int (x3))] _ _ _ _
    refine z_goto (M := m_J6_circularClear) 12 rfl dJ6_circularClear_24 ?_
    exact H
theorem b_J6_clear_0 {s0 : zE} {d : Nat} {x0 : Nat} {h : zH} {Q : Value → zH → Prop} {E : Nat → zH → Prop} (H : (fR h x0 [45] 0) ∧ ((fI h x0 [45] 1) ∧ ((fI h x0 [45] 2) ∧ (zX s0 m_J6_circularClear d [zr (gR h x0 0), .int (gI h x0 1), .int (gI h x0 2)] h (fun _ h1 => ((fC h1 x0 45) ∧ (∀ h2, h2 = zput h1 x0 2 (.int (0)) → ((fC h2 x0 45) ∧ (∀ h3, h3 = zput h2 x0 1 (.int (0)) → (Q .null h3)))))) E)))) : zP s0 m_J6_clear (d + 1) 0 [some (zr (x0))] [] h Q E := by
  refine z_aload_n (M := m_J6_clear) (k := 0) rfl dJ6_clear_0 ?_
  obtain ⟨g, H⟩ := H
  refine z_get (M := m_J6_clear) f_J6_3 dJ6_clear_1 g ?_
  refine z_aload_n (M := m_J6_clear) (k := 0) rfl dJ6_clear_4 ?_
  obtain ⟨g, H⟩ := H
  refine z_get (M := m_J6_clear) f_J6_24 dJ6_clear_5 g ?_
  refine z_aload_n (M := m_J6_clear) (k := 0) rfl dJ6_clear_8 ?_
  obtain ⟨g, H⟩ := H
  refine z_get (M := m_J6_clear) f_J6_20 dJ6_clear_9 g ?_
  refine z_invS (M := m_J6_clear) (a := [zr (gR h x0 0), .int (gI h x0 1), .int (gI h x0 2)]) ok_J6_circularClear q4380 q4381 dJ6_clear_12 (Nat.le_refl _) (Nat.zero_le _) rfl H (fun v1 h1 H => ?_) (fun n9 h9 H => zPx.out rfl H)
  show zP s0 m_J6_clear (d + 1) _ _ [] _ _ _
  refine z_aload_n (M := m_J6_clear) (k := 0) rfl dJ6_clear_15 ?_
  refine z_aload_n (M := m_J6_clear) (k := 0) rfl dJ6_clear_16 ?_
  refine z_iconst (M := m_J6_clear) (v := 0) (by decide) dJ6_clear_17 ?_
  refine z_dup_x1 (M := m_J6_clear) rfl (zr_cat _) dJ6_clear_18 ?_
  obtain ⟨g, H⟩ := H
  refine zz_put (M := m_J6_clear) f_J6_20 dJ6_clear_19 rfl (fn_45_2) g (ft_45_2) (fun h2 e => ?_)
  have H := H h2 e
  obtain ⟨g, H⟩ := H
  refine zz_put (M := m_J6_clear) f_J6_24 dJ6_clear_22 rfl (fn_45_1) g (ft_45_1) (fun h3 e => ?_)
  have H := H h3 e
  exact z_return (M := m_J6_clear) rfl dJ6_clear_25 H
theorem c_J6_clear {s0 : zE} {d : Nat} {x0 : Nat} {h : zH} {Q : Value → zH → Prop} {E : Nat → zH → Prop} (H : (fR h x0 [45] 0) ∧ ((fI h x0 [45] 1) ∧ ((fI h x0 [45] 2) ∧ (zX s0 m_J6_circularClear d [zr (gR h x0 0), .int (gI h x0 1), .int (gI h x0 2)] h (fun _ h1 => ((fC h1 x0 45) ∧ (∀ h2, h2 = zput h1 x0 2 (.int (0)) → ((fC h2 x0 45) ∧ (∀ h3, h3 = zput h2 x0 1 (.int (0)) → (Q .null h3)))))) E)))) : zX s0 m_J6_clear (d + 1) [zr (x0)] h Q E := zX.of2 rfl (by decide +kernel) (zlay_r (zlay_n znone0)) (zle rfl) (b_J6_clear_0 H)
theorem b_J6_dec_0 {s0 : zE} {d : Nat} {x0 : Int32} {x1 : Int32} {h : zH} {Q : Value → zH → Prop} {E : Nat → zH → Prop} (H : (0 ≤ x0 + (-1) → (Q (.int (x0 + (-1))) h)) ∧ (¬ 0 ≤ x0 + (-1) → (Q (.int (x1 - 1)) h))) : zP s0 m_J6_dec d 0 [some (.int (x0)), some (.int (x1))] [] h Q E := by
  refine z_inc (M := m_J6_dec) 0 (x0 + (-1)) (-1) (by decide) rfl rfl trivial dJ6_dec_0 ?_
  show zP s0 m_J6_dec d _ [some (.int (x0 + (-1))), some (.int (x1))] _ _ _ _
  refine z_iload_n (M := m_J6_dec) (k := 0) rfl dJ6_dec_3 ?_
  refine z_ifge (M := m_J6_dec) 11 rfl dJ6_dec_4 (fun hc => ?_) (fun hc => ?_)
  · have H := H.1 hc
    refine z_iload_n (M := m_J6_dec) (k := 0) rfl dJ6_dec_11 ?_
    exact z_ireturn (M := m_J6_dec) rfl rfl dJ6_dec_12 H
  · have H := H.2 hc
    refine z_iload_n (M := m_J6_dec) (k := 1) rfl dJ6_dec_7 ?_
    refine z_iconst (M := m_J6_dec) (v := 1) (by decide) dJ6_dec_8 ?_
    refine z_isub (M := m_J6_dec) dJ6_dec_9 ?_
    refine z_istore_n (M := m_J6_dec) (k := 0) 0 rfl (zlt rfl) trivial dJ6_dec_10 ?_
    show zP s0 m_J6_dec d _ [some (.int (x1 - 1)), some (.int (x1))] _ _ _ _
    refine z_iload_n (M := m_J6_dec) (k := 0) rfl dJ6_dec_11 ?_
    exact z_ireturn (M := m_J6_dec) rfl rfl dJ6_dec_12 H
theorem c_J6_dec {s0 : zE} {d : Nat} {x0 : Int32} {x1 : Int32} {h : zH} {Q : Value → zH → Prop} {E : Nat → zH → Prop} (H : (0 ≤ x0 + (-1) → (Q (.int (x0 + (-1))) h)) ∧ (¬ 0 ≤ x0 + (-1) → (Q (.int (x1 - 1)) h))) : zX s0 m_J6_dec d [.int (x0), .int (x1)] h Q E := zX.of2 rfl (by decide +kernel) (zlay_i (zlay_i (zlay_n znone0))) (zle rfl) (b_J6_dec_0 H)
theorem b_J6_elementAt_0 {s0 : zE} {d : Nat} {x0 : Nat} {x1 : Int32} {h : zH} {Q : Value → zH → Prop} {E : Nat → zH → Prop} (H : (fE h x0 6 x1 (zr (eR h x0 x1))) ∧ (Q (zr (eR h x0 x1)) h)) : zP s0 m_J6_elementAt d 0 [some (zr (x0)), some (.int (x1))] [] h Q E := by
  refine z_aload_n (M := m_J6_elementAt) (k := 0) rfl dJ6_elementAt_0 ?_
  refine z_iload_n (M := m_J6_elementAt) (k := 1) rfl dJ6_elementAt_1 ?_
  obtain ⟨g, H⟩ := H
  refine z_ildA (M := m_J6_elementAt) (t := 6) rfl rfl dJ6_elementAt_2 g ?_
  exact z_areturn (M := m_J6_elementAt) rfl (Or.inl ⟨_, rfl⟩) dJ6_elementAt_3 H
theorem c_J6_elementAt {s0 : zE} {d : Nat} {x0 : Nat} {x1 : Int32} {h : zH} {Q : Value → zH → Prop} {E : Nat → zH → Prop} (H : (fE h x0 6 x1 (zr (eR h x0 x1))) ∧ (Q (zr (eR h x0 x1)) h)) : zX s0 m_J6_elementAt d [zr (x0), .int (x1)] h Q E := zX.of2 rfl (by decide +kernel) (zlay_r (zlay_i (zlay_n znone0))) (zle rfl) (b_J6_elementAt_0 H)
theorem b_J6_inc_0 {s0 : zE} {d : Nat} {x0 : Int32} {x1 : Int32} {h : zH} {Q : Value → zH → Prop} {E : Nat → zH → Prop} (H : (x0 + 1 < x1 → (Q (.int (x0 + 1)) h)) ∧ (¬ x0 + 1 < x1 → (Q (.int 0) h))) : zP s0 m_J6_inc d 0 [some (.int (x0)), some (.int (x1))] [] h Q E := by
  refine z_inc (M := m_J6_inc) 0 (x0 + 1) 1 (by decide) rfl rfl trivial dJ6_inc_0 ?_
  show zP s0 m_J6_inc d _ [some (.int (x0 + 1)), some (.int (x1))] _ _ _ _
  refine z_iload_n (M := m_J6_inc) (k := 0) rfl dJ6_inc_3 ?_
  refine z_iload_n (M := m_J6_inc) (k := 1) rfl dJ6_inc_4 ?_
  refine z_icmplt (M := m_J6_inc) 10 rfl dJ6_inc_5 (fun hc => ?_) (fun hc => ?_)
  · have H := H.1 hc
    refine z_iload_n (M := m_J6_inc) (k := 0) rfl dJ6_inc_10 ?_
    exact z_ireturn (M := m_J6_inc) rfl rfl dJ6_inc_11 H
  · have H := H.2 hc
    refine z_iconst (M := m_J6_inc) (v := 0) (by decide) dJ6_inc_8 ?_
    refine z_istore_n (M := m_J6_inc) (k := 0) 0 rfl (zlt rfl) trivial dJ6_inc_9 ?_
    show zP s0 m_J6_inc d _ [some (.int (0)), some (.int (x1))] _ _ _ _
    refine z_iload_n (M := m_J6_inc) (k := 0) rfl dJ6_inc_10 ?_
    exact z_ireturn (M := m_J6_inc) rfl rfl dJ6_inc_11 H
theorem c_J6_inc {s0 : zE} {d : Nat} {x0 : Int32} {x1 : Int32} {h : zH} {Q : Value → zH → Prop} {E : Nat → zH → Prop} (H : (x0 + 1 < x1 → (Q (.int (x0 + 1)) h)) ∧ (¬ x0 + 1 < x1 → (Q (.int 0) h))) : zX s0 m_J6_inc d [.int (x0), .int (x1)] h Q E := zX.of2 rfl (by decide +kernel) (zlay_i (zlay_i (zlay_n znone0))) (zle rfl) (b_J6_inc_0 H)
theorem b_J6_init_0 {s0 : zE} {d : Nat} {x0 : Nat} {h : zH} {Q : Value → zH → Prop} {E : Nat → zH → Prop} (H : (∃ c, fC h x0 c) ∧ (zX s0 m_J3_init d [zr x0] h (fun _ h1 => ((¬ (17 : Int32) < 0) ∧ ((zroom s0 h1 ((17 : Int32)).toNatClampNeg) ∧ (∀ n1, n1 = h1.2.1 → (∀ h2, h2 = znew h1 1006 (List.replicate ((17 : Int32)).toNatClampNeg (zr 0)) ((17 : Int32)).toNatClampNeg → ((fC h2 x0 45) ∧ (∀ h3, h3 = zput h2 x0 0 (zr (n1)) → (Q .null h3)))))))) E)) : zP s0 m_J6_init (d + 1) 0 [some (zr (x0))] [] h Q E := by
  refine z_aload_n (M := m_J6_init) (k := 0) rfl dJ6_init_0 ?_
  obtain ⟨⟨c9, g⟩, H⟩ := H
  refine zz_invI (M := m_J6_init) (a := []) ok_J3_init rfl rfl q447 q422 dJ6_init_1 g (Nat.zero_le _) rfl H (fun v1 h1 H => ?_) (fun n9 h9 H => zPx.out rfl H)
  refine z_aload_n (M := m_J6_init) (k := 0) rfl dJ6_init_4 ?_
  refine z_bipush (M := m_J6_init) (v := 17) (by decide) dJ6_init_5 ?_
  obtain ⟨gn, H⟩ := H
  obtain ⟨g, H⟩ := H
  refine zz_anewarray (M := m_J6_init) (t := 6) rfl q448 q449 dJ6_init_7 gn g (fun n1 e1 h2 e2 => ?_)
  have H := H n1 e1 h2 e2
  obtain ⟨g, H⟩ := H
  refine zz_put (M := m_J6_init) f_J6_3 dJ6_init_10 rfl (fn_45_0) g (ft_45_0) (fun h3 e => ?_)
  have H := H h3 e
  exact z_return (M := m_J6_init) rfl dJ6_init_13 H
theorem c_J6_init {s0 : zE} {d : Nat} {x0 : Nat} {h : zH} {Q : Value → zH → Prop} {E : Nat → zH → Prop} (H : (∃ c, fC h x0 c) ∧ (zX s0 m_J3_init d [zr x0] h (fun _ h1 => ((¬ (17 : Int32) < 0) ∧ ((zroom s0 h1 ((17 : Int32)).toNatClampNeg) ∧ (∀ n1, n1 = h1.2.1 → (∀ h2, h2 = znew h1 1006 (List.replicate ((17 : Int32)).toNatClampNeg (zr 0)) ((17 : Int32)).toNatClampNeg → ((fC h2 x0 45) ∧ (∀ h3, h3 = zput h2 x0 0 (zr (n1)) → (Q .null h3)))))))) E)) : zX s0 m_J6_init (d + 1) [zr (x0)] h Q E := zX.of2 rfl (by decide +kernel) (zlay_r (zlay_n znone0)) (zle rfl) (b_J6_init_0 H)
theorem b_J6_isEmpty_0 {s0 : zE} {d : Nat} {x0 : Nat} {h : zH} {Q : Value → zH → Prop} {E : Nat → zH → Prop} (H : (fI h x0 [45] 1) ∧ ((fI h x0 [45] 2) ∧ ((¬ gI h x0 1 = gI h x0 2 → (Q (.int 0) h)) ∧ (gI h x0 1 = gI h x0 2 → (Q (.int 1) h))))) : zP s0 m_J6_isEmpty d 0 [some (zr (x0))] [] h Q E := by
  refine z_aload_n (M := m_J6_isEmpty) (k := 0) rfl dJ6_isEmpty_0 ?_
  obtain ⟨g, H⟩ := H
  refine z_get (M := m_J6_isEmpty) f_J6_24 dJ6_isEmpty_1 g ?_
  refine z_aload_n (M := m_J6_isEmpty) (k := 0) rfl dJ6_isEmpty_4 ?_
  obtain ⟨g, H⟩ := H
  refine z_get (M := m_J6_isEmpty) f_J6_20 dJ6_isEmpty_5 g ?_
  refine z_icmpne (M := m_J6_isEmpty) 15 rfl dJ6_isEmpty_8 (fun hc => ?_) (fun hc => ?_)
  · have H := H.1 hc
    refine z_iconst (M := m_J6_isEmpty) (v := 0) (by decide) dJ6_isEmpty_15 ?_
    exact z_ireturn (M := m_J6_isEmpty) rfl rfl dJ6_isEmpty_16 H
  · have H := H.2 hc
    refine z_iconst (M := m_J6_isEmpty) (v := 1) (by decide) dJ6_isEmpty_11 ?_
    refine z_goto (M := m_J6_isEmpty) 16 rfl dJ6_isEmpty_12 ?_
    exact z_ireturn (M := m_J6_isEmpty) rfl rfl dJ6_isEmpty_16 H
theorem c_J6_isEmpty {s0 : zE} {d : Nat} {x0 : Nat} {h : zH} {Q : Value → zH → Prop} {E : Nat → zH → Prop} (H : (fI h x0 [45] 1) ∧ ((fI h x0 [45] 2) ∧ ((¬ gI h x0 1 = gI h x0 2 → (Q (.int 0) h)) ∧ (gI h x0 1 = gI h x0 2 → (Q (.int 1) h))))) : zX s0 m_J6_isEmpty d [zr (x0)] h Q E := zX.of2 rfl (by decide +kernel) (zlay_r (zlay_n znone0)) (zle rfl) (b_J6_isEmpty_0 H)
theorem b_J6_iterator_0 {s0 : zE} {d : Nat} {x0 : Nat} {h : zH} {Q : Value → zH → Prop} {E : Nat → zH → Prop} (H : (zroom s0 h 4) ∧ (∀ n1, n1 = h.2.1 → (∀ h1, h1 = znew h 53 [.int 0, .int 0, .int 0, zr 0] 4 → ((∃ c, fC h1 n1 c) ∧ (zX s0 m_J26_init d [zr n1, zr (x0)] h1 (fun _ h2 => (Q (zr n1) h2)) E))))) : zP s0 m_J6_iterator (d + 1) 0 [some (zr (x0))] [] h Q E := by
  obtain ⟨g, H⟩ := H
  refine zz_new (M := m_J6_iterator) (fs := [.int 0, .int 0, .int 0, zr 0]) (w := 4) (c := 53) rfl q1542 q1543 rfl znf_J26 dJ6_iterator_0 g (fun n1 e1 h1 e2 => ?_)
  have H := H n1 e1 h1 e2
  refine z_dup (M := m_J6_iterator) (zr_cat _) dJ6_iterator_3 ?_
  refine z_aload_n (M := m_J6_iterator) (k := 0) rfl dJ6_iterator_4 ?_
  obtain ⟨⟨c9, g⟩, H⟩ := H
  refine zz_invI (M := m_J6_iterator) (a := [zr (x0)]) ok_J26_init rfl rfl q1544 q1545 dJ6_iterator_5 g (Nat.le_trans (zcatr zcat0) (zle rfl)) rfl H (fun v1 h2 H => ?_) (fun n9 h9 H => zPx.out rfl H)
  exact z_areturn (M := m_J6_iterator) rfl (Or.inl ⟨_, rfl⟩) dJ6_iterator_8 H
theorem c_J6_iterator {s0 : zE} {d : Nat} {x0 : Nat} {h : zH} {Q : Value → zH → Prop} {E : Nat → zH → Prop} (H : (zroom s0 h 4) ∧ (∀ n1, n1 = h.2.1 → (∀ h1, h1 = znew h 53 [.int 0, .int 0, .int 0, zr 0] 4 → ((∃ c, fC h1 n1 c) ∧ (zX s0 m_J26_init d [zr n1, zr (x0)] h1 (fun _ h2 => (Q (zr n1) h2)) E))))) : zX s0 m_J6_iterator (d + 1) [zr (x0)] h Q E := zX.of2 rfl (by decide +kernel) (zlay_r (zlay_n znone0)) (zle rfl) (b_J6_iterator_0 H)
theorem b_J6_newCapacity_0 {s0 : zE} {d : Nat} {x0 : Nat} {x1 : Int32} {x2 : Int32} {h : zH} {Q : Value → zH → Prop} {E : Nat → zH → Prop} (H : (fR h x0 [45] 0) ∧ ((fC h (gR h x0 0) 1006) ∧ ((((Int32.ofNat (gA h (gR h x0 0)).length) + x1) - 2147483639 ≤ 0 → ((x1 ≤ x2 → ((0 ≤ ((Int32.ofNat (gA h (gR h x0 0)).length) + x2) - 2147483639 → (Q (.int 2147483639) h)) ∧ (¬ 0 ≤ ((Int32.ofNat (gA h (gR h x0 0)).length) + x2) - 2147483639 → (Q (.int ((Int32.ofNat (gA h (gR h x0 0)).length) + x2)) h)))) ∧ (¬ x1 ≤ x2 → (Q (.int ((Int32.ofNat (gA h (gR h x0 0)).length) + x1)) h)))) ∧ (¬ ((Int32.ofNat (gA h (gR h x0 0)).length) + x1) - 2147483639 ≤ 0 → ((0 ≤ (Int32.ofNat (gA h (gR h x0 0)).length) + x1 → (Q (.int 2147483647) h)) ∧ (¬ 0 ≤ (Int32.ofNat (gA h (gR h x0 0)).length) + x1 → (False))))))) : zP s0 m_J6_newCapacity (d + 1) 0 [some (zr (x0)), some (.int (x1)), some (.int (x2)), none, none] [] h Q E := by
  refine z_aload_n (M := m_J6_newCapacity) (k := 0) rfl dJ6_newCapacity_0 ?_
  obtain ⟨g, H⟩ := H
  refine z_get (M := m_J6_newCapacity) f_J6_3 dJ6_newCapacity_1 g ?_
  obtain ⟨g, H⟩ := H
  refine z_len (M := m_J6_newCapacity) (t := 6) rfl dJ6_newCapacity_4 g ?_
  refine z_istore_n (M := m_J6_newCapacity) (k := 3) 3 rfl (zlt rfl) rfl dJ6_newCapacity_5 ?_
  show zP s0 m_J6_newCapacity (d + 1) _ [some (zr (x0)), some (.int (x1)), some (.int (x2)), some (.int (Int32.ofNat (gA h (gR h x0 0)).length)), none] _ _ _ _
  refine z_iload_n (M := m_J6_newCapacity) (k := 3) rfl dJ6_newCapacity_6 ?_
  refine z_iload_n (M := m_J6_newCapacity) (k := 1) rfl dJ6_newCapacity_7 ?_
  refine z_iadd (M := m_J6_newCapacity) dJ6_newCapacity_8 ?_
  refine z_dup (M := m_J6_newCapacity) rfl dJ6_newCapacity_9 ?_
  refine z_istore (M := m_J6_newCapacity) 4 (zlt rfl) rfl dJ6_newCapacity_10 ?_
  show zP s0 m_J6_newCapacity (d + 1) _ [some (zr (x0)), some (.int (x1)), some (.int (x2)), some (.int (Int32.ofNat (gA h (gR h x0 0)).length)), some (.int ((Int32.ofNat (gA h (gR h x0 0)).length) + x1))] _ _ _ _
  refine z_ldc (M := m_J6_newCapacity) (v := 2147483639) q1102 dJ6_newCapacity_12 ?_
  refine z_isub (M := m_J6_newCapacity) dJ6_newCapacity_14 ?_
  refine z_ifle (M := m_J6_newCapacity) 36 rfl dJ6_newCapacity_15 (fun hc => ?_) (fun hc => ?_)
  · have H := H.1 hc
    refine z_iload_n (M := m_J6_newCapacity) (k := 1) rfl dJ6_newCapacity_36 ?_
    refine z_iload_n (M := m_J6_newCapacity) (k := 2) rfl dJ6_newCapacity_37 ?_
    refine z_icmple (M := m_J6_newCapacity) 44 rfl dJ6_newCapacity_38 (fun hc => ?_) (fun hc => ?_)
    · have H := H.1 hc
      refine z_iload_n (M := m_J6_newCapacity) (k := 3) rfl dJ6_newCapacity_44 ?_
      refine z_iload_n (M := m_J6_newCapacity) (k := 2) rfl dJ6_newCapacity_45 ?_
      refine z_iadd (M := m_J6_newCapacity) dJ6_newCapacity_46 ?_
      refine z_ldc (M := m_J6_newCapacity) (v := 2147483639) q1102 dJ6_newCapacity_47 ?_
      refine z_isub (M := m_J6_newCapacity) dJ6_newCapacity_49 ?_
      refine z_ifge (M := m_J6_newCapacity) 59 rfl dJ6_newCapacity_50 (fun hc => ?_) (fun hc => ?_)
      · have H := H.1 hc
        refine z_ldc (M := m_J6_newCapacity) (v := 2147483639) q1102 dJ6_newCapacity_59 ?_
        exact z_ireturn (M := m_J6_newCapacity) rfl rfl dJ6_newCapacity_61 H
      · have H := H.2 hc
        refine z_iload_n (M := m_J6_newCapacity) (k := 3) rfl dJ6_newCapacity_53 ?_
        refine z_iload_n (M := m_J6_newCapacity) (k := 2) rfl dJ6_newCapacity_54 ?_
        refine z_iadd (M := m_J6_newCapacity) dJ6_newCapacity_55 ?_
        refine z_goto (M := m_J6_newCapacity) 61 rfl dJ6_newCapacity_56 ?_
        exact z_ireturn (M := m_J6_newCapacity) rfl rfl dJ6_newCapacity_61 H
    · have H := H.2 hc
      refine z_iload (M := m_J6_newCapacity) (i := 4) rfl dJ6_newCapacity_41 ?_
      exact z_ireturn (M := m_J6_newCapacity) rfl rfl dJ6_newCapacity_43 H
  · have H := H.2 hc
    refine z_iload (M := m_J6_newCapacity) (i := 4) rfl dJ6_newCapacity_18 ?_
    refine z_ifge (M := m_J6_newCapacity) 33 rfl dJ6_newCapacity_20 (fun hc => ?_) (fun hc => ?_)
    · have H := H.1 hc
      refine z_ldc (M := m_J6_newCapacity) (v := 2147483647) q1107 dJ6_newCapacity_33 ?_
      exact z_ireturn (M := m_J6_newCapacity) rfl rfl dJ6_newCapacity_35 H
    · have H := H.2 hc
      exact H.elim
theorem c_J6_newCapacity {s0 : zE} {d : Nat} {x0 : Nat} {x1 : Int32} {x2 : Int32} {h : zH} {Q : Value → zH → Prop} {E : Nat → zH → Prop} (H : (fR h x0 [45] 0) ∧ ((fC h (gR h x0 0) 1006) ∧ ((((Int32.ofNat (gA h (gR h x0 0)).length) + x1) - 2147483639 ≤ 0 → ((x1 ≤ x2 → ((0 ≤ ((Int32.ofNat (gA h (gR h x0 0)).length) + x2) - 2147483639 → (Q (.int 2147483639) h)) ∧ (¬ 0 ≤ ((Int32.ofNat (gA h (gR h x0 0)).length) + x2) - 2147483639 → (Q (.int ((Int32.ofNat (gA h (gR h x0 0)).length) + x2)) h)))) ∧ (¬ x1 ≤ x2 → (Q (.int ((Int32.ofNat (gA h (gR h x0 0)).length) + x1)) h)))) ∧ (¬ ((Int32.ofNat (gA h (gR h x0 0)).length) + x1) - 2147483639 ≤ 0 → ((0 ≤ (Int32.ofNat (gA h (gR h x0 0)).length) + x1 → (Q (.int 2147483647) h)) ∧ (¬ 0 ≤ (Int32.ofNat (gA h (gR h x0 0)).length) + x1 → (False))))))) : zX s0 m_J6_newCapacity (d + 1) [zr (x0), .int (x1), .int (x2)] h Q E := zX.of2 rfl (by decide +kernel) (zlay_r (zlay_i (zlay_i (zlay_n (znoneS (znoneS znone0)))))) (zle rfl) (b_J6_newCapacity_0 H)
theorem b_J6_nonNullElementAt_0 {s0 : zE} {d : Nat} {x0 : Nat} {x1 : Int32} {h : zH} {Q : Value → zH → Prop} {E : Nat → zH → Prop} (H : (fE h x0 6 x1 (zr (eR h x0 x1))) ∧ ((¬ eR h x0 x1 = 0 → (Q (zr (eR h x0 x1)) h)) ∧ (eR h x0 x1 = 0 → (False)))) : zP s0 m_J6_nonNullElementAt (d + 1) 0 [some (zr (x0)), some (.int (x1)), none] [] h Q E := by
  refine z_aload_n (M := m_J6_nonNullElementAt) (k := 0) rfl dJ6_nonNullElementAt_0 ?_
  refine z_iload_n (M := m_J6_nonNullElementAt) (k := 1) rfl dJ6_nonNullElementAt_1 ?_
  obtain ⟨g, H⟩ := H
  refine z_ildA (M := m_J6_nonNullElementAt) (t := 6) rfl rfl dJ6_nonNullElementAt_2 g ?_
  refine z_astore_n (M := m_J6_nonNullElementAt) (k := 2) 2 rfl (zlt rfl) rfl dJ6_nonNullElementAt_3 ?_
  show zP s0 m_J6_nonNullElementAt (d + 1) _ [some (zr (x0)), some (.int (x1)), some (zr (eR h x0 x1))] _ _ _ _
  refine z_aload_n (M := m_J6_nonNullElementAt) (k := 2) rfl dJ6_nonNullElementAt_4 ?_
  refine z_ifnonnull (M := m_J6_nonNullElementAt) 16 rfl dJ6_nonNullElementAt_5 (fun hc => ?_) (fun hc => ?_)
  · have H := H.1 hc
    refine z_aload_n (M := m_J6_nonNullElementAt) (k := 2) rfl dJ6_nonNullElementAt_16 ?_
    exact z_areturn (M := m_J6_nonNullElementAt) rfl (Or.inl ⟨_, rfl⟩) dJ6_nonNullElementAt_17 H
  · have H := H.2 hc
    exact H.elim
theorem c_J6_nonNullElementAt {s0 : zE} {d : Nat} {x0 : Nat} {x1 : Int32} {h : zH} {Q : Value → zH → Prop} {E : Nat → zH → Prop} (H : (fE h x0 6 x1 (zr (eR h x0 x1))) ∧ ((¬ eR h x0 x1 = 0 → (Q (zr (eR h x0 x1)) h)) ∧ (eR h x0 x1 = 0 → (False)))) : zX s0 m_J6_nonNullElementAt (d + 1) [zr (x0), .int (x1)] h Q E := zX.of2 rfl (by decide +kernel) (zlay_r (zlay_i (zlay_n (znoneS znone0)))) (zle rfl) (b_J6_nonNullElementAt_0 H)
theorem b_J6_poll_0 {s0 : zE} {d : Nat} {x0 : Nat} {h : zH} {Q : Value → zH → Prop} {E : Nat → zH → Prop} (H : (fC h x0 45 ∧ zX s0 m_J6_pollFirst d [zr x0] h (fun v1 h1 => ∃ n1 : Nat, v1 = zr (n1) ∧ (Q (zr n1) h1)) E)) : zP s0 m_J6_poll (d + 1) 0 [some (zr (x0))] [] h Q E := by
  refine z_aload_n (M := m_J6_poll) (k := 0) rfl dJ6_poll_0 ?_
  obtain ⟨⟨fs9, g⟩, H⟩ := H
  refine z_invV (M := m_J6_poll) (cn := 45) (a := []) ok_J6_pollFirst q4055 q4056 q4057 rfl dJ6_poll_1 g (Nat.le_refl _) (Nat.zero_le _) rfl H (fun v1 h1 H => ?_) (fun n9 h9 H => zPx.out rfl H)
  obtain ⟨n1, rfl, H⟩ := H
  show zP s0 m_J6_poll (d + 1) _ _ [zr (n1)] _ _ _
  exact z_areturn (M := m_J6_poll) rfl (Or.inl ⟨_, rfl⟩) dJ6_poll_4 H
theorem c_J6_poll {s0 : zE} {d : Nat} {x0 : Nat} {h : zH} {Q : Value → zH → Prop} {E : Nat → zH → Prop} (H : (fC h x0 45 ∧ zX s0 m_J6_pollFirst d [zr x0] h (fun v1 h1 => ∃ n1 : Nat, v1 = zr (n1) ∧ (Q (zr n1) h1)) E)) : zX s0 m_J6_poll (d + 1) [zr (x0)] h Q E := zX.of2 rfl (by decide +kernel) (zlay_r (zlay_n znone0)) (zle rfl) (b_J6_poll_0 H)
theorem b_J6_pollFirst_0 {s0 : zE} {d : Nat} {x0 : Nat} {h : zH} {Q : Value → zH → Prop} {E : Nat → zH → Prop} (H : (fR h x0 [45] 0) ∧ ((fI h x0 [45] 1) ∧ (zX s0 m_J6_elementAt d [zr (gR h x0 0), .int (gI h x0 1)] h (fun v1 h1 => ∃ n1 : Nat, v1 = zr (n1) ∧ ((n1 = 0 → (Q (zr n1) h1)) ∧ (¬ n1 = 0 → ((fS s0 h1 (gR h x0 0) 6 (gI h x0 1)) ∧ ((0 = 0 ∨ zAsg h1 0 (.object "java/lang/Object")) ∧ (∀ h2, h2 = zput h1 (gR h x0 0) ((gI h x0 1)).toNatClampNeg (zr 0) → ((fC h2 (gR h x0 0) 1006) ∧ (zX s0 m_J6_inc d [.int (gI h x0 1), .int (Int32.ofNat (gA h2 (gR h x0 0)).length)] h2 (fun v2 h3 => ∃ r1 : Int32, v2 = .int (r1) ∧ ((fC h3 x0 45) ∧ (∀ h4, h4 = zput h3 x0 1 (.int (r1)) → (Q (zr n1) h4)))) E)))))))) E))) : zP s0 m_J6_pollFirst (d + 1) 0 [some (zr (x0)), none, none, none] [] h Q E := by
  refine z_aload_n (M := m_J6_pollFirst) (k := 0) rfl dJ6_pollFirst_0 ?_
  obtain ⟨g, H⟩ := H
  refine z_get (M := m_J6_pollFirst) f_J6_3 dJ6_pollFirst_1 g ?_
  refine z_dup (M := m_J6_pollFirst) (zr_cat _) dJ6_pollFirst_4 ?_
  refine z_astore_n (M := m_J6_pollFirst) (k := 1) 1 rfl (zlt rfl) (zr_cat _) dJ6_pollFirst_5 ?_
  show zP s0 m_J6_pollFirst (d + 1) _ [some (zr (x0)), some (zr (gR h x0 0)), none, none] _ _ _ _
  refine z_aload_n (M := m_J6_pollFirst) (k := 0) rfl dJ6_pollFirst_6 ?_
  obtain ⟨g, H⟩ := H
  refine z_get (M := m_J6_pollFirst) f_J6_24 dJ6_pollFirst_7 g ?_
  refine z_dup (M := m_J6_pollFirst) rfl dJ6_pollFirst_10 ?_
  refine z_istore_n (M := m_J6_pollFirst) (k := 2) 2 rfl (zlt rfl) (zr_cat _) dJ6_pollFirst_11 ?_
  show zP s0 m_J6_pollFirst (d + 1) _ [some (zr (x0)), some (zr (gR h x0 0)), some (.int (gI h x0 1)), none] _ _ _ _
  refine z_invS (M := m_J6_pollFirst) (a := [zr (gR h x0 0), .int (gI h x0 1)]) ok_J6_elementAt q4059 q4060 dJ6_pollFirst_12 (Nat.le_refl _) (Nat.zero_le _) rfl H (fun v1 h1 H => ?_) (fun n9 h9 H => zPx.out rfl H)
  obtain ⟨n1, rfl, H⟩ := H
  show zP s0 m_J6_pollFirst (d + 1) _ _ [zr (n1)] _ _ _
  refine z_astore_n (M := m_J6_pollFirst) (k := 3) 3 rfl (zlt rfl) rfl dJ6_pollFirst_15 ?_
  show zP s0 m_J6_pollFirst (d + 1) _ [some (zr (x0)), some (zr (gR h x0 0)), some (.int (gI h x0 1)), some (zr (n1))] _ _ _ _
  refine z_aload_n (M := m_J6_pollFirst) (k := 3) rfl dJ6_pollFirst_16 ?_
  refine z_ifnull (M := m_J6_pollFirst) 34 rfl dJ6_pollFirst_17 (fun hc => ?_) (fun hc => ?_)
  · have H := H.1 hc
    refine z_aload_n (M := m_J6_pollFirst) (k := 3) rfl dJ6_pollFirst_34 ?_
    exact z_areturn (M := m_J6_pollFirst) rfl (Or.inl ⟨_, rfl⟩) dJ6_pollFirst_35 H
  · have H := H.2 hc
    refine z_aload_n (M := m_J6_pollFirst) (k := 1) rfl dJ6_pollFirst_20 ?_
    refine z_iload_n (M := m_J6_pollFirst) (k := 2) rfl dJ6_pollFirst_21 ?_
    refine z_null (M := m_J6_pollFirst) dJ6_pollFirst_22 ?_
    obtain ⟨g, gm, H⟩ := H
    refine zz_istA (M := m_J6_pollFirst) (t := 6) rfl dJ6_pollFirst_23 g gm (fun h2 e => ?_)
    have H := H h2 e
    refine z_aload_n (M := m_J6_pollFirst) (k := 0) rfl dJ6_pollFirst_24 ?_
    refine z_iload_n (M := m_J6_pollFirst) (k := 2) rfl dJ6_pollFirst_25 ?_
    refine z_aload_n (M := m_J6_pollFirst) (k := 1) rfl dJ6_pollFirst_26 ?_
    obtain ⟨g, H⟩ := H
    refine z_len (M := m_J6_pollFirst) (t := 6) rfl dJ6_pollFirst_27 g ?_
    refine z_invS (M := m_J6_pollFirst) (a := [.int (gI h x0 1), .int (Int32.ofNat (gA h2 (gR h x0 0)).length)]) ok_J6_inc q1095 q1096 dJ6_pollFirst_28 (Nat.le_refl _) (Nat.le_trans (zcatr zcat0) (zle rfl)) rfl H (fun v2 h3 H => ?_) (fun n9 h9 H => zPx.out rfl H)
    obtain ⟨r1, rfl, H⟩ := H
    show zP s0 m_J6_pollFirst (d + 1) _ _ [.int (r1), zr (x0)] _ _ _
    obtain ⟨g, H⟩ := H
    refine zz_put (M := m_J6_pollFirst) f_J6_24 dJ6_pollFirst_31 rfl (fn_45_1) g (ft_45_1) (fun h4 e => ?_)
    have H := H h4 e
    refine z_aload_n (M := m_J6_pollFirst) (k := 3) rfl dJ6_pollFirst_34 ?_
    exact z_areturn (M := m_J6_pollFirst) rfl (Or.inl ⟨_, rfl⟩) dJ6_pollFirst_35 H
theorem c_J6_pollFirst {s0 : zE} {d : Nat} {x0 : Nat} {h : zH} {Q : Value → zH → Prop} {E : Nat → zH → Prop} (H : (fR h x0 [45] 0) ∧ ((fI h x0 [45] 1) ∧ (zX s0 m_J6_elementAt d [zr (gR h x0 0), .int (gI h x0 1)] h (fun v1 h1 => ∃ n1 : Nat, v1 = zr (n1) ∧ ((n1 = 0 → (Q (zr n1) h1)) ∧ (¬ n1 = 0 → ((fS s0 h1 (gR h x0 0) 6 (gI h x0 1)) ∧ ((0 = 0 ∨ zAsg h1 0 (.object "java/lang/Object")) ∧ (∀ h2, h2 = zput h1 (gR h x0 0) ((gI h x0 1)).toNatClampNeg (zr 0) → ((fC h2 (gR h x0 0) 1006) ∧ (zX s0 m_J6_inc d [.int (gI h x0 1), .int (Int32.ofNat (gA h2 (gR h x0 0)).length)] h2 (fun v2 h3 => ∃ r1 : Int32, v2 = .int (r1) ∧ ((fC h3 x0 45) ∧ (∀ h4, h4 = zput h3 x0 1 (.int (r1)) → (Q (zr n1) h4)))) E)))))))) E))) : zX s0 m_J6_pollFirst (d + 1) [zr (x0)] h Q E := zX.of2 rfl (by decide +kernel) (zlay_r (zlay_n (znoneS (znoneS (znoneS znone0))))) (zle rfl) (b_J6_pollFirst_0 H)
theorem b_J6_size_0 {s0 : zE} {d : Nat} {x0 : Nat} {h : zH} {Q : Value → zH → Prop} {E : Nat → zH → Prop} (H : (fI h x0 [45] 2) ∧ ((fI h x0 [45] 1) ∧ ((fR h x0 [45] 0) ∧ ((fC h (gR h x0 0) 1006) ∧ (zX s0 m_J6_sub d [.int (gI h x0 2), .int (gI h x0 1), .int (Int32.ofNat (gA h (gR h x0 0)).length)] h (fun v1 h1 => ∃ r1 : Int32, v1 = .int (r1) ∧ (Q (.int r1) h1)) E))))) : zP s0 m_J6_size (d + 1) 0 [some (zr (x0))] [] h Q E := by
  refine z_aload_n (M := m_J6_size) (k := 0) rfl dJ6_size_0 ?_
  obtain ⟨g, H⟩ := H
  refine z_get (M := m_J6_size) f_J6_20 dJ6_size_1 g ?_
  refine z_aload_n (M := m_J6_size) (k := 0) rfl dJ6_size_4 ?_
  obtain ⟨g, H⟩ := H
  refine z_get (M := m_J6_size) f_J6_24 dJ6_size_5 g ?_
  refine z_aload_n (M := m_J6_size) (k := 0) rfl dJ6_size_8 ?_
  obtain ⟨g, H⟩ := H
  refine z_get (M := m_J6_size) f_J6_3 dJ6_size_9 g ?_
  obtain ⟨g, H⟩ := H
  refine z_len (M := m_J6_size) (t := 6) rfl dJ6_size_12 g ?_
  refine z_invS (M := m_J6_size) (a := [.int (gI h x0 2), .int (gI h x0 1), .int (Int32.ofNat (gA h (gR h x0 0)).length)]) ok_J6_sub q1515 q1516 dJ6_size_13 (Nat.le_refl _) (Nat.zero_le _) rfl H (fun v1 h1 H => ?_) (fun n9 h9 H => zPx.out rfl H)
  obtain ⟨r1, rfl, H⟩ := H
  show zP s0 m_J6_size (d + 1) _ _ [.int (r1)] _ _ _
  exact z_ireturn (M := m_J6_size) rfl rfl dJ6_size_16 H
theorem c_J6_size {s0 : zE} {d : Nat} {x0 : Nat} {h : zH} {Q : Value → zH → Prop} {E : Nat → zH → Prop} (H : (fI h x0 [45] 2) ∧ ((fI h x0 [45] 1) ∧ ((fR h x0 [45] 0) ∧ ((fC h (gR h x0 0) 1006) ∧ (zX s0 m_J6_sub d [.int (gI h x0 2), .int (gI h x0 1), .int (Int32.ofNat (gA h (gR h x0 0)).length)] h (fun v1 h1 => ∃ r1 : Int32, v1 = .int (r1) ∧ (Q (.int r1) h1)) E))))) : zX s0 m_J6_size (d + 1) [zr (x0)] h Q E := zX.of2 rfl (by decide +kernel) (zlay_r (zlay_n znone0)) (zle rfl) (b_J6_size_0 H)
theorem b_J6_sub_0 {s0 : zE} {d : Nat} {x0 : Int32} {x1 : Int32} {x2 : Int32} {h : zH} {Q : Value → zH → Prop} {E : Nat → zH → Prop} (H : (0 ≤ x0 - x1 → (Q (.int (x0 - x1)) h)) ∧ (¬ 0 ≤ x0 - x1 → (Q (.int ((x0 - x1) + x2)) h))) : zP s0 m_J6_sub d 0 [some (.int (x0)), some (.int (x1)), some (.int (x2))] [] h Q E := by
  refine z_iload_n (M := m_J6_sub) (k := 0) rfl dJ6_sub_0 ?_
  refine z_iload_n (M := m_J6_sub) (k := 1) rfl dJ6_sub_1 ?_
  refine z_isub (M := m_J6_sub) dJ6_sub_2 ?_
  refine z_dup (M := m_J6_sub) rfl dJ6_sub_3 ?_
  refine z_istore_n (M := m_J6_sub) (k := 0) 0 rfl (zlt rfl) trivial dJ6_sub_4 ?_
  show zP s0 m_J6_sub d _ [some (.int (x0 - x1)), some (.int (x1)), some (.int (x2))] _ _ _ _
  refine z_ifge (M := m_J6_sub) 12 rfl dJ6_sub_5 (fun hc => ?_) (fun hc => ?_)
  · have H := H.1 hc
    refine z_iload_n (M := m_J6_sub) (k := 0) rfl dJ6_sub_12 ?_
    exact z_ireturn (M := m_J6_sub) rfl rfl dJ6_sub_13 H
  · have H := H.2 hc
    refine z_iload_n (M := m_J6_sub) (k := 0) rfl dJ6_sub_8 ?_
    refine z_iload_n (M := m_J6_sub) (k := 2) rfl dJ6_sub_9 ?_
    refine z_iadd (M := m_J6_sub) dJ6_sub_10 ?_
    refine z_istore_n (M := m_J6_sub) (k := 0) 0 rfl (zlt rfl) trivial dJ6_sub_11 ?_
    show zP s0 m_J6_sub d _ [some (.int ((x0 - x1) + x2)), some (.int (x1)), some (.int (x2))] _ _ _ _
    refine z_iload_n (M := m_J6_sub) (k := 0) rfl dJ6_sub_12 ?_
    exact z_ireturn (M := m_J6_sub) rfl rfl dJ6_sub_13 H
theorem c_J6_sub {s0 : zE} {d : Nat} {x0 : Int32} {x1 : Int32} {x2 : Int32} {h : zH} {Q : Value → zH → Prop} {E : Nat → zH → Prop} (H : (0 ≤ x0 - x1 → (Q (.int (x0 - x1)) h)) ∧ (¬ 0 ≤ x0 - x1 → (Q (.int ((x0 - x1) + x2)) h))) : zX s0 m_J6_sub d [.int (x0), .int (x1), .int (x2)] h Q E := zX.of2 rfl (by decide +kernel) (zlay_i (zlay_i (zlay_i (zlay_n znone0)))) (zle rfl) (b_J6_sub_0 H)
theorem b_J6_toArray_0 {s0 : zE} {d : Nat} {x0 : Nat} {h : zH} {Q : Value → zH → Prop} {E : Nat → zH → Prop} (H : (fC h x0 45 ∧ zX s0 m_J6_toArray_2 d [zr x0, zr (zmi s0 "[Ljava/lang/Object;")] h (fun v1 h1 => ∃ n1 : Nat, v1 = zr (n1) ∧ (Q (zr n1) h1)) E)) : zP s0 m_J6_toArray (d + 1) 0 [some (zr (x0))] [] h Q E := by
  refine z_aload_n (M := m_J6_toArray) (k := 0) rfl dJ6_toArray_0 ?_
  refine z_ldcC (M := m_J6_toArray) (k_m_Object_ (s0 := s0)) q1237 dJ6_toArray_1 ?_
  obtain ⟨⟨fs9, g⟩, H⟩ := H
  refine z_invV (M := m_J6_toArray) (cn := 45) (a := [zr (zmi s0 "[Ljava/lang/Object;")]) ok_J6_toArray_2 q1238 q1240 qs13 rfl dJ6_toArray_3 g (Nat.le_refl _) (Nat.zero_le _) rfl H (fun v1 h1 H => ?_) (fun n9 h9 H => zPx.out rfl H)
  obtain ⟨n1, rfl, H⟩ := H
  show zP s0 m_J6_toArray (d + 1) _ _ [zr (n1)] _ _ _
  exact z_areturn (M := m_J6_toArray) rfl (Or.inr ⟨_, rfl⟩) dJ6_toArray_6 H
theorem c_J6_toArray {s0 : zE} {d : Nat} {x0 : Nat} {h : zH} {Q : Value → zH → Prop} {E : Nat → zH → Prop} (H : (fC h x0 45 ∧ zX s0 m_J6_toArray_2 d [zr x0, zr (zmi s0 "[Ljava/lang/Object;")] h (fun v1 h1 => ∃ n1 : Nat, v1 = zr (n1) ∧ (Q (zr n1) h1)) E)) : zX s0 m_J6_toArray (d + 1) [zr (x0)] h Q E := zX.of2 rfl (by decide +kernel) (zlay_r (zlay_n znone0)) (zle rfl) (b_J6_toArray_0 H)
theorem b_J8_init_0 {s0 : zE} {d : Nat} {x0 : Nat} {x1 : Nat} {h : zH} {Q : Value → zH → Prop} {E : Nat → zH → Prop} (H : (∃ c, fC h x0 c) ∧ (zX s0 m_J7_init_2 d [zr x0, zr (x1)] h (fun _ h1 => (Q .null h1)) E)) : zP s0 m_J8_init (d + 1) 0 [some (zr (x0)), some (zr (x1))] [] h Q E := by
  refine z_aload_n (M := m_J8_init) (k := 0) rfl dJ8_init_0 ?_
  refine z_aload_n (M := m_J8_init) (k := 1) rfl dJ8_init_1 ?_
  obtain ⟨⟨c9, g⟩, H⟩ := H
  refine zz_invI (M := m_J8_init) (a := [zr (x1)]) ok_J7_init_2 rfl rfl q579 q580 dJ8_init_2 g (Nat.zero_le _) rfl H (fun v1 h1 H => ?_) (fun n9 h9 H => zPx.out rfl H)
  exact z_return (M := m_J8_init) rfl dJ8_init_5 H
theorem c_J8_init {s0 : zE} {d : Nat} {x0 : Nat} {x1 : Nat} {h : zH} {Q : Value → zH → Prop} {E : Nat → zH → Prop} (H : (∃ c, fC h x0 c) ∧ (zX s0 m_J7_init_2 d [zr x0, zr (x1)] h (fun _ h1 => (Q .null h1)) E)) : zX s0 m_J8_init (d + 1) [zr (x0), zr (x1)] h Q E := zX.of2 rfl (by decide +kernel) (zlay_r (zlay_r (zlay_n znone0))) (zle rfl) (b_J8_init_0 H)
theorem b_J8_init_2_0 {s0 : zE} {d : Nat} {x0 : Nat} {h : zH} {Q : Value → zH → Prop} {E : Nat → zH → Prop} (H : (∃ c, fC h x0 c) ∧ (zX s0 m_J7_init d [zr x0] h (fun _ h1 => (Q .null h1)) E)) : zP s0 m_J8_init_2 (d + 1) 0 [some (zr (x0))] [] h Q E := by
  refine z_aload_n (M := m_J8_init_2) (k := 0) rfl dJ8_init_2_0 ?_
  obtain ⟨⟨c9, g⟩, H⟩ := H
  refine zz_invI (M := m_J8_init_2) (a := []) ok_J7_init rfl rfl q1733 q550 dJ8_init_2_1 g (Nat.zero_le _) rfl H (fun v1 h1 H => ?_) (fun n9 h9 H => zPx.out rfl H)
  exact z_return (M := m_J8_init_2) rfl dJ8_init_2_4 H
theorem c_J8_init_2 {s0 : zE} {d : Nat} {x0 : Nat} {h : zH} {Q : Value → zH → Prop} {E : Nat → zH → Prop} (H : (∃ c, fC h x0 c) ∧ (zX s0 m_J7_init d [zr x0] h (fun _ h1 => (Q .null h1)) E)) : zX s0 m_J8_init_2 (d + 1) [zr (x0)] h Q E := zX.of2 rfl (by decide +kernel) (zlay_r (zlay_n znone0)) (zle rfl) (b_J8_init_2_0 H)
theorem b_J9_addEntry_0 {s0 : zE} {d : Nat} {x0 : Nat} {x1 : Nat} {x2 : Nat} {x3 : Nat} {x4 : Int32} {h : zH} {Q : Value → zH → Prop} {E : Nat → zH → Prop} (H : (zroom s0 h 6) ∧ (∀ n1, n1 = h.2.1 → (∀ h1, h1 = znew h 67 [zr 0, zr 0, zr 0, zr 0, zr 0, .int 0] 6 → ((∃ c, fC h1 n1 c) ∧ (zX s0 m_J46_init d [zr n1, zr (x1), zr (x2), zr (x3)] h1 (fun _ h2 => ((x4 = 0 → ((fC h2 x3 67) ∧ (∀ h3, h3 = zput h2 x3 3 (zr (n1)) → (zP s0 m_J9_addEntry (d + 1) 32 [some (zr (x0)), none, none, none, none, some (zr (n1))] [] h3 Q E)))) ∧ (¬ x4 = 0 → ((fC h2 x3 67) ∧ (∀ h4, h4 = zput h2 x3 2 (zr (n1)) → (zP s0 m_J9_addEntry (d + 1) 32 [some (zr (x0)), none, none, none, none, some (zr (n1))] [] h4 Q E)))))) E))))) : zP s0 m_J9_addEntry (d + 1) 0 [some (zr (x0)), some (zr (x1)), some (zr (x2)), some (zr (x3)), some (.int (x4)), none] [] h Q E := by
  obtain ⟨g, H⟩ := H
  refine zz_new (M := m_J9_addEntry) (fs := [zr 0, zr 0, zr 0, zr 0, zr 0, .int 0]) (w := 6) (c := 67) rfl q2717 q2718 rfl znf_J46 dJ9_addEntry_0 g (fun n1 e1 h1 e2 => ?_)
  have H := H n1 e1 h1 e2
  refine z_dup (M := m_J9_addEntry) (zr_cat _) dJ9_addEntry_3 ?_
  refine z_aload_n (M := m_J9_addEntry) (k := 1) rfl dJ9_addEntry_4 ?_
  refine z_aload_n (M := m_J9_addEntry) (k := 2) rfl dJ9_addEntry_5 ?_
  refine z_aload_n (M := m_J9_addEntry) (k := 3) rfl dJ9_addEntry_6 ?_
  obtain ⟨⟨c9, g⟩, H⟩ := H
  refine zz_invI (M := m_J9_addEntry) (a := [zr (x1), zr (x2), zr (x3)]) ok_J46_init rfl rfl q2719 q2720 dJ9_addEntry_7 g (Nat.le_trans (zcatr zcat0) (zle rfl)) rfl H (fun v1 h2 H => ?_) (fun n9 h9 H => zPx.out rfl H)
  refine z_astore (M := m_J9_addEntry) 5 (zlt rfl) rfl dJ9_addEntry_10 ?_
  show zP s0 m_J9_addEntry (d + 1) _ [some (zr (x0)), some (zr (x1)), some (zr (x2)), some (zr (x3)), some (.int (x4)), some (zr (n1))] _ _ _ _
  refine z_iload (M := m_J9_addEntry) (i := 4) rfl dJ9_addEntry_12 ?_
  refine z_ifeq (M := m_J9_addEntry) 26 rfl dJ9_addEntry_14 (fun hc => ?_) (fun hc => ?_)
  · have H := H.1 hc
    refine z_aload_n (M := m_J9_addEntry) (k := 3) rfl dJ9_addEntry_26 ?_
    refine z_aload (M := m_J9_addEntry) (i := 5) rfl dJ9_addEntry_27 ?_
    obtain ⟨g, H⟩ := H
    refine zz_put (M := m_J9_addEntry) f_J9_114 dJ9_addEntry_29 rfl (fn_67_3) g (ft_67_3) (fun h3 e => ?_)
    have H := H h3 e
    exact zP.weak (ls' := [some (zr (x0)), none, none, none, none, some (zr (n1))]) (zle rfl) (zsub_so (zsub_no (zsub_no (zsub_no (zsub_no (zsub_so zsub_nil)))))) H
  · have H := H.2 hc
    refine z_aload_n (M := m_J9_addEntry) (k := 3) rfl dJ9_addEntry_17 ?_
    refine z_aload (M := m_J9_addEntry) (i := 5) rfl dJ9_addEntry_18 ?_
    obtain ⟨g, H⟩ := H
    refine zz_put (M := m_J9_addEntry) f_J9_111 dJ9_addEntry_20 rfl (fn_67_2) g (ft_67_2) (fun h4 e => ?_)
    have H := H h4 e
    refine z_goto (M := m_J9_addEntry) 32 rfl dJ9_addEntry_23 ?_
    exact zP.weak (ls' := [some (zr (x0)), none, none, none, none, some (zr (n1))]) (zle rfl) (zsub_so (zsub_no (zsub_no (zsub_no (zsub_no (zsub_so zsub_nil)))))) H
theorem c_J9_addEntry {s0 : zE} {d : Nat} {x0 : Nat} {x1 : Nat} {x2 : Nat} {x3 : Nat} {x4 : Int32} {h : zH} {Q : Value → zH → Prop} {E : Nat → zH → Prop} (H : (zroom s0 h 6) ∧ (∀ n1, n1 = h.2.1 → (∀ h1, h1 = znew h 67 [zr 0, zr 0, zr 0, zr 0, zr 0, .int 0] 6 → ((∃ c, fC h1 n1 c) ∧ (zX s0 m_J46_init d [zr n1, zr (x1), zr (x2), zr (x3)] h1 (fun _ h2 => ((x4 = 0 → ((fC h2 x3 67) ∧ (∀ h3, h3 = zput h2 x3 3 (zr (n1)) → (zP s0 m_J9_addEntry (d + 1) 32 [some (zr (x0)), none, none, none, none, some (zr (n1))] [] h3 Q E)))) ∧ (¬ x4 = 0 → ((fC h2 x3 67) ∧ (∀ h4, h4 = zput h2 x3 2 (zr (n1)) → (zP s0 m_J9_addEntry (d + 1) 32 [some (zr (x0)), none, none, none, none, some (zr (n1))] [] h4 Q E)))))) E))))) : zX s0 m_J9_addEntry (d + 1) [zr (x0), zr (x1), zr (x2), zr (x3), .int (x4)] h Q E := zX.of2 rfl (by decide +kernel) (zlay_r (zlay_r (zlay_r (zlay_r (zlay_i (zlay_n (znoneS znone0))))))) (zle rfl) (b_J9_addEntry_0 H)
theorem b_J9_addEntry_32 {s0 : zE} {d : Nat} {x0 : Nat} {x5 : Nat} {h : zH} {Q : Value → zH → Prop} {E : Nat → zH → Prop} (H : (fC h x0 47 ∧ zX s0 m_J9_fixAfterInsertion d [zr x0, zr (x5)] h (fun _ h1 => ((fI h1 x0 [47] 4) ∧ ((fC h1 x0 47) ∧ (∀ h2, h2 = zput h1 x0 4 (.int ((gI h1 x0 4) + 1)) → ((fI h2 x0 [47] 5) ∧ ((fC h2 x0 47) ∧ (∀ h3, h3 = zput h2 x0 5 (.int ((gI h2 x0 5) + 1)) → (Q .null h3)))))))) E)) : zP s0 m_J9_addEntry (d + 1) 32 [some (zr (x0)), none, none, none, none, some (zr (x5))] [] h Q E := by
  refine z_aload_n (M := m_J9_addEntry) (k := 0) rfl dJ9_addEntry_32 ?_
  refine z_aload (M := m_J9_addEntry) (i := 5) rfl dJ9_addEntry_33 ?_
  obtain ⟨⟨fs9, g⟩, H⟩ := H
  refine z_invV (M := m_J9_addEntry) (cn := 47) (a := [zr (x5)]) ok_J9_fixAfterInsertion q2753 q2755 qs27 rfl dJ9_addEntry_35 g (Nat.le_refl _) (Nat.zero_le _) rfl H (fun v1 h1 H => ?_) (fun n9 h9 H => zPx.out rfl H)
  show zP s0 m_J9_addEntry (d + 1) _ _ [] _ _ _
  refine z_aload_n (M := m_J9_addEntry) (k := 0) rfl dJ9_addEntry_38 ?_
  refine z_dup (M := m_J9_addEntry) (zr_cat _) dJ9_addEntry_39 ?_
  obtain ⟨g, H⟩ := H
  refine z_get (M := m_J9_addEntry) f_J9_7 dJ9_addEntry_40 g ?_
  refine z_iconst (M := m_J9_addEntry) (v := 1) (by decide) dJ9_addEntry_43 ?_
  refine z_iadd (M := m_J9_addEntry) dJ9_addEntry_44 ?_
  obtain ⟨g, H⟩ := H
  refine zz_put (M := m_J9_addEntry) f_J9_7 dJ9_addEntry_45 rfl (fn_47_4) g (ft_47_4) (fun h2 e => ?_)
  have H := H h2 e
  refine z_aload_n (M := m_J9_addEntry) (k := 0) rfl dJ9_addEntry_48 ?_
  refine z_dup (M := m_J9_addEntry) (zr_cat _) dJ9_addEntry_49 ?_
  obtain ⟨g, H⟩ := H
  refine z_get (M := m_J9_addEntry) f_J9_13 dJ9_addEntry_50 g ?_
  refine z_iconst (M := m_J9_addEntry) (v := 1) (by decide) dJ9_addEntry_53 ?_
  refine z_iadd (M := m_J9_addEntry) dJ9_addEntry_54 ?_
  obtain ⟨g, H⟩ := H
  refine zz_put (M := m_J9_addEntry) f_J9_13 dJ9_addEntry_55 rfl (fn_47_5) g (ft_47_5) (fun h3 e => ?_)
  have H := H h3 e
  exact z_return (M := m_J9_addEntry) rfl dJ9_addEntry_58 H
theorem b_J9_addEntryToEmptyMap_0 {s0 : zE} {d : Nat} {x0 : Nat} {x1 : Nat} {x2 : Nat} {h : zH} {Q : Value → zH → Prop} {E : Nat → zH → Prop} (H : (fC h x0 47 ∧ zX s0 m_J9_compare d [zr x0, zr (x1), zr (x1)] h (fun v1 h1 => ∃ r1 : Int32, v1 = .int (r1) ∧ ((zroom s0 h1 6) ∧ (∀ n1, n1 = h1.2.1 → (∀ h2, h2 = znew h1 67 [zr 0, zr 0, zr 0, zr 0, zr 0, .int 0] 6 → ((∃ c, fC h2 n1 c) ∧ (zX s0 m_J46_init d [zr n1, zr (x1), zr (x2), zr (0)] h2 (fun _ h3 => ((fC h3 x0 47) ∧ (∀ h4, h4 = zput h3 x0 3 (zr (n1)) → ((fC h4 x0 47) ∧ (∀ h5, h5 = zput h4 x0 4 (.int (1)) → ((fI h5 x0 [47] 5) ∧ ((fC h5 x0 47) ∧ (∀ h6, h6 = zput h5 x0 5 (.int ((gI h5 x0 5) + 1)) → (Q .null h6))))))))) E)))))) E)) : zP s0 m_J9_addEntryToEmptyMap (d + 1) 0 [some (zr (x0)), some (zr (x1)), some (zr (x2))] [] h Q E := by
  refine z_aload_n (M := m_J9_addEntryToEmptyMap) (k := 0) rfl dJ9_addEntryToEmptyMap_0 ?_
  refine z_aload_n (M := m_J9_addEntryToEmptyMap) (k := 1) rfl dJ9_addEntryToEmptyMap_1 ?_
  refine z_aload_n (M := m_J9_addEntryToEmptyMap) (k := 1) rfl dJ9_addEntryToEmptyMap_2 ?_
  obtain ⟨⟨fs9, g⟩, H⟩ := H
  refine z_invV (M := m_J9_addEntryToEmptyMap) (cn := 47) (a := [zr (x1), zr (x1)]) ok_J9_compare q2713 q2714 q2715 rfl dJ9_addEntryToEmptyMap_3 g (Nat.le_refl _) (Nat.zero_le _) rfl H (fun v1 h1 H => ?_) (fun n9 h9 H => zPx.out rfl H)
  obtain ⟨r1, rfl, H⟩ := H
  show zP s0 m_J9_addEntryToEmptyMap (d + 1) _ _ [.int (r1)] _ _ _
  refine z_pop (M := m_J9_addEntryToEmptyMap) rfl dJ9_addEntryToEmptyMap_6 ?_
  refine z_aload_n (M := m_J9_addEntryToEmptyMap) (k := 0) rfl dJ9_addEntryToEmptyMap_7 ?_
  obtain ⟨g, H⟩ := H
  refine zz_new (M := m_J9_addEntryToEmptyMap) (fs := [zr 0, zr 0, zr 0, zr 0, zr 0, .int 0]) (w := 6) (c := 67) rfl q2717 q2718 rfl znf_J46 dJ9_addEntryToEmptyMap_8 g (fun n1 e1 h2 e2 => ?_)
  have H := H n1 e1 h2 e2
  refine z_dup (M := m_J9_addEntryToEmptyMap) (zr_cat _) dJ9_addEntryToEmptyMap_11 ?_
  refine z_aload_n (M := m_J9_addEntryToEmptyMap) (k := 1) rfl dJ9_addEntryToEmptyMap_12 ?_
  refine z_aload_n (M := m_J9_addEntryToEmptyMap) (k := 2) rfl dJ9_addEntryToEmptyMap_13 ?_
  refine z_null (M := m_J9_addEntryToEmptyMap) dJ9_addEntryToEmptyMap_14 ?_
  obtain ⟨⟨c9, g⟩, H⟩ := H
  refine zz_invI (M := m_J9_addEntryToEmptyMap) (a := [zr (x1), zr (x2), zr (0)]) ok_J46_init rfl rfl q2719 q2720 dJ9_addEntryToEmptyMap_15 g (Nat.le_trans (zcatr (zcatr zcat0)) (zle rfl)) rfl H (fun v2 h3 H => ?_) (fun n9 h9 H => zPx.out rfl H)
  obtain ⟨g, H⟩ := H
  refine zz_put (M := m_J9_addEntryToEmptyMap) f_J9_101 dJ9_addEntryToEmptyMap_18 rfl (fn_47_3) g (ft_47_3) (fun h4 e => ?_)
  have H := H h4 e
  refine z_aload_n (M := m_J9_addEntryToEmptyMap) (k := 0) rfl dJ9_addEntryToEmptyMap_21 ?_
  refine z_iconst (M := m_J9_addEntryToEmptyMap) (v := 1) (by decide) dJ9_addEntryToEmptyMap_22 ?_
  obtain ⟨g, H⟩ := H
  refine zz_put (M := m_J9_addEntryToEmptyMap) f_J9_7 dJ9_addEntryToEmptyMap_23 rfl (fn_47_4) g (ft_47_4) (fun h5 e => ?_)
  have H := H h5 e
  refine z_aload_n (M := m_J9_addEntryToEmptyMap) (k := 0) rfl dJ9_addEntryToEmptyMap_26 ?_
  refine z_dup (M := m_J9_addEntryToEmptyMap) (zr_cat _) dJ9_addEntryToEmptyMap_27 ?_
  obtain ⟨g, H⟩ := H
  refine z_get (M := m_J9_addEntryToEmptyMap) f_J9_13 dJ9_addEntryToEmptyMap_28 g ?_
  refine z_iconst (M := m_J9_addEntryToEmptyMap) (v := 1) (by decide) dJ9_addEntryToEmptyMap_31 ?_
  refine z_iadd (M := m_J9_addEntryToEmptyMap) dJ9_addEntryToEmptyMap_32 ?_
  obtain ⟨g, H⟩ := H
  refine zz_put (M := m_J9_addEntryToEmptyMap) f_J9_13 dJ9_addEntryToEmptyMap_33 rfl (fn_47_5) g (ft_47_5) (fun h6 e => ?_)
  have H := H h6 e
  exact z_return (M := m_J9_addEntryToEmptyMap) rfl dJ9_addEntryToEmptyMap_36 H
theorem c_J9_addEntryToEmptyMap {s0 : zE} {d : Nat} {x0 : Nat} {x1 : Nat} {x2 : Nat} {h : zH} {Q : Value → zH → Prop} {E : Nat → zH → Prop} (H : (fC h x0 47 ∧ zX s0 m_J9_compare d [zr x0, zr (x1), zr (x1)] h (fun v1 h1 => ∃ r1 : Int32, v1 = .int (r1) ∧ ((zroom s0 h1 6) ∧ (∀ n1, n1 = h1.2.1 → (∀ h2, h2 = znew h1 67 [zr 0, zr 0, zr 0, zr 0, zr 0, .int 0] 6 → ((∃ c, fC h2 n1 c) ∧ (zX s0 m_J46_init d [zr n1, zr (x1), zr (x2), zr (0)] h2 (fun _ h3 => ((fC h3 x0 47) ∧ (∀ h4, h4 = zput h3 x0 3 (zr (n1)) → ((fC h4 x0 47) ∧ (∀ h5, h5 = zput h4 x0 4 (.int (1)) → ((fI h5 x0 [47] 5) ∧ ((fC h5 x0 47) ∧ (∀ h6, h6 = zput h5 x0 5 (.int ((gI h5 x0 5) + 1)) → (Q .null h6))))))))) E)))))) E)) : zX s0 m_J9_addEntryToEmptyMap (d + 1) [zr (x0), zr (x1), zr (x2)] h Q E := zX.of2 rfl (by decide +kernel) (zlay_r (zlay_r (zlay_r (zlay_n znone0)))) (zle rfl) (b_J9_addEntryToEmptyMap_0 H)
theorem b_J9_clear_0 {s0 : zE} {d : Nat} {x0 : Nat} {h : zH} {Q : Value → zH → Prop} {E : Nat → zH → Prop} (H : (fI h x0 [47] 5) ∧ ((fC h x0 47) ∧ (∀ h1, h1 = zput h x0 5 (.int ((gI h x0 5) + 1)) → ((fC h1 x0 47) ∧ (∀ h2, h2 = zput h1 x0 4 (.int (0)) → ((fC h2 x0 47) ∧ (∀ h3, h3 = zput h2 x0 3 (zr (0)) → (Q .null h3)))))))) : zP s0 m_J9_clear d 0 [some (zr (x0))] [] h Q E := by
  refine z_aload_n (M := m_J9_clear) (k := 0) rfl dJ9_clear_0 ?_
  refine z_dup (M := m_J9_clear) (zr_cat _) dJ9_clear_1 ?_
  obtain ⟨g, H⟩ := H
  refine z_get (M := m_J9_clear) f_J9_13 dJ9_clear_2 g ?_
  refine z_iconst (M := m_J9_clear) (v := 1) (by decide) dJ9_clear_5 ?_
  refine z_iadd (M := m_J9_clear) dJ9_clear_6 ?_
  obtain ⟨g, H⟩ := H
  refine zz_put (M := m_J9_clear) f_J9_13 dJ9_clear_7 rfl (fn_47_5) g (ft_47_5) (fun h1 e => ?_)
  have H := H h1 e
  refine z_aload_n (M := m_J9_clear) (k := 0) rfl dJ9_clear_10 ?_
  refine z_iconst (M := m_J9_clear) (v := 0) (by decide) dJ9_clear_11 ?_
  obtain ⟨g, H⟩ := H
  refine zz_put (M := m_J9_clear) f_J9_7 dJ9_clear_12 rfl (fn_47_4) g (ft_47_4) (fun h2 e => ?_)
  have H := H h2 e
  refine z_aload_n (M := m_J9_clear) (k := 0) rfl dJ9_clear_15 ?_
  refine z_null (M := m_J9_clear) dJ9_clear_16 ?_
  obtain ⟨g, H⟩ := H
  refine zz_put (M := m_J9_clear) f_J9_101 dJ9_clear_17 rfl (fn_47_3) g (ft_47_3) (fun h3 e => ?_)
  have H := H h3 e
  exact z_return (M := m_J9_clear) rfl dJ9_clear_20 H
theorem c_J9_clear {s0 : zE} {d : Nat} {x0 : Nat} {h : zH} {Q : Value → zH → Prop} {E : Nat → zH → Prop} (H : (fI h x0 [47] 5) ∧ ((fC h x0 47) ∧ (∀ h1, h1 = zput h x0 5 (.int ((gI h x0 5) + 1)) → ((fC h1 x0 47) ∧ (∀ h2, h2 = zput h1 x0 4 (.int (0)) → ((fC h2 x0 47) ∧ (∀ h3, h3 = zput h2 x0 3 (zr (0)) → (Q .null h3)))))))) : zX s0 m_J9_clear d [zr (x0)] h Q E := zX.of2 rfl (by decide +kernel) (zlay_r (zlay_n znone0)) (zle rfl) (b_J9_clear_0 H)
theorem b_J9_colorOf_0 {s0 : zE} {d : Nat} {x0 : Nat} {h : zH} {Q : Value → zH → Prop} {E : Nat → zH → Prop} (H : (¬ x0 = 0 → ((fI h x0 [67] 5) ∧ ((gI h x0 5 = 0 ∨ gI h x0 5 = 1) ∧ (Q (.int (gI h x0 5)) h)))) ∧ (x0 = 0 → (Q (.int 1) h))) : zP s0 m_J9_colorOf d 0 [some (zr (x0))] [] h Q E := by
  refine z_aload_n (M := m_J9_colorOf) (k := 0) rfl dJ9_colorOf_0 ?_
  refine z_ifnonnull (M := m_J9_colorOf) 8 rfl dJ9_colorOf_1 (fun hc => ?_) (fun hc => ?_)
  · have H := H.1 hc
    refine z_aload_n (M := m_J9_colorOf) (k := 0) rfl dJ9_colorOf_8 ?_
    obtain ⟨g, H⟩ := H
    refine z_get (M := m_J9_colorOf) f_J9_290 dJ9_colorOf_9 g ?_
    obtain ⟨g, H⟩ := H
    exact z_ireturn (M := m_J9_colorOf) rfl (by rcases g with g | g <;> rw [g] <;> rfl) dJ9_colorOf_12 H
  · have H := H.2 hc
    refine z_iconst (M := m_J9_colorOf) (v := 1) (by decide) dJ9_colorOf_4 ?_
    refine z_goto (M := m_J9_colorOf) 12 rfl dJ9_colorOf_5 ?_
    exact z_ireturn (M := m_J9_colorOf) rfl rfl dJ9_colorOf_12 H
theorem c_J9_colorOf {s0 : zE} {d : Nat} {x0 : Nat} {h : zH} {Q : Value → zH → Prop} {E : Nat → zH → Prop} (H : (¬ x0 = 0 → ((fI h x0 [67] 5) ∧ ((gI h x0 5 = 0 ∨ gI h x0 5 = 1) ∧ (Q (.int (gI h x0 5)) h)))) ∧ (x0 = 0 → (Q (.int 1) h))) : zX s0 m_J9_colorOf d [zr (x0)] h Q E := zX.of2 rfl (by decide +kernel) (zlay_r (zlay_n znone0)) (zle rfl) (b_J9_colorOf_0 H)
theorem b_J9_containsKey_0 {s0 : zE} {d : Nat} {x0 : Nat} {x1 : Nat} {h : zH} {Q : Value → zH → Prop} {E : Nat → zH → Prop} (H : (fC h x0 47 ∧ zX s0 m_J9_getEntry d [zr x0, zr (x1)] h (fun v1 h1 => ∃ n1 : Nat, v1 = zr (n1) ∧ ((n1 = 0 → (Q (.int 0) h1)) ∧ (¬ n1 = 0 → (Q (.int 1) h1)))) E)) : zP s0 m_J9_containsKey (d + 1) 0 [some (zr (x0)), some (zr (x1))] [] h Q E := by
  refine z_aload_n (M := m_J9_containsKey) (k := 0) rfl dJ9_containsKey_0 ?_
  refine z_aload_n (M := m_J9_containsKey) (k := 1) rfl dJ9_containsKey_1 ?_
  obtain ⟨⟨fs9, g⟩, H⟩ := H
  refine z_invV (M := m_J9_containsKey) (cn := 47) (a := [zr (x1)]) ok_J9_getEntry q2674 q2675 q2676 rfl dJ9_containsKey_2 g (Nat.le_refl _) (Nat.zero_le _) rfl H (fun v1 h1 H => ?_) (fun n9 h9 H => zPx.out rfl H)
  obtain ⟨n1, rfl, H⟩ := H
  show zP s0 m_J9_containsKey (d + 1) _ _ [zr (n1)] _ _ _
  refine z_ifnull (M := m_J9_containsKey) 12 rfl dJ9_containsKey_5 (fun hc => ?_) (fun hc => ?_)
  · have H := H.1 hc
    refine z_iconst (M := m_J9_containsKey) (v := 0) (by decide) dJ9_containsKey_12 ?_
    exact z_ireturn (M := m_J9_containsKey) rfl rfl dJ9_containsKey_13 H
  · have H := H.2 hc
    refine z_iconst (M := m_J9_containsKey) (v := 1) (by decide) dJ9_containsKey_8 ?_
    refine z_goto (M := m_J9_containsKey) 13 rfl dJ9_containsKey_9 ?_
    exact z_ireturn (M := m_J9_containsKey) rfl rfl dJ9_containsKey_13 H
theorem c_J9_containsKey {s0 : zE} {d : Nat} {x0 : Nat} {x1 : Nat} {h : zH} {Q : Value → zH → Prop} {E : Nat → zH → Prop} (H : (fC h x0 47 ∧ zX s0 m_J9_getEntry d [zr x0, zr (x1)] h (fun v1 h1 => ∃ n1 : Nat, v1 = zr (n1) ∧ ((n1 = 0 → (Q (.int 0) h1)) ∧ (¬ n1 = 0 → (Q (.int 1) h1)))) E)) : zX s0 m_J9_containsKey (d + 1) [zr (x0), zr (x1)] h Q E := zX.of2 rfl (by decide +kernel) (zlay_r (zlay_r (zlay_n znone0))) (zle rfl) (b_J9_containsKey_0 H)
theorem b_J9_deleteEntry_0 {s0 : zE} {d : Nat} {x0 : Nat} {x1 : Nat} {h : zH} {Q : Value → zH → Prop} {E : Nat → zH → Prop} (H : (fI h x0 [47] 5) ∧ ((fC h x0 47) ∧ (∀ h1, h1 = zput h x0 5 (.int ((gI h x0 5) + 1)) → ((fI h1 x0 [47] 4) ∧ ((fC h1 x0 47) ∧ (∀ h2, h2 = zput h1 x0 4 (.int ((gI h1 x0 4) - 1)) → ((fR h2 x1 [67] 2) ∧ ((gR h2 x1 2 = 0 → (zP s0 m_J9_deleteEntry (d + 1) 57 [some (zr (x0)), some (zr (x1)), none] [] h2 Q E)) ∧ (¬ gR h2 x1 2 = 0 → ((fR h2 x1 [67] 3) ∧ ((gR h2 x1 3 = 0 → (zP s0 m_J9_deleteEntry (d + 1) 57 [some (zr (x0)), some (zr (x1)), none] [] h2 Q E)) ∧ (¬ gR h2 x1 3 = 0 → (zX s0 m_J9_successor d [zr (x1)] h2 (fun v1 h3 => ∃ n1 : Nat, v1 = zr (n1) ∧ ((fR h3 n1 [67] 0) ∧ ((fC h3 x1 67) ∧ (∀ h4, h4 = zput h3 x1 0 (zr (gR h3 n1 0)) → ((fR h4 n1 [67] 1) ∧ ((fC h4 x1 67) ∧ (∀ h5, h5 = zput h4 x1 1 (zr (gR h4 n1 1)) → (zP s0 m_J9_deleteEntry (d + 1) 57 [some (zr (x0)), some (zr (n1)), none] [] h5 Q E)))))))) E))))))))))))) : zP s0 m_J9_deleteEntry (d + 1) 0 [some (zr (x0)), some (zr (x1)), none] [] h Q E := by
  refine z_aload_n (M := m_J9_deleteEntry) (k := 0) rfl dJ9_deleteEntry_0 ?_
  refine z_dup (M := m_J9_deleteEntry) (zr_cat _) dJ9_deleteEntry_1 ?_
  obtain ⟨g, H⟩ := H
  refine z_get (M := m_J9_deleteEntry) f_J9_13 dJ9_deleteEntry_2 g ?_
  refine z_iconst (M := m_J9_deleteEntry) (v := 1) (by decide) dJ9_deleteEntry_5 ?_
  refine z_iadd (M := m_J9_deleteEntry) dJ9_deleteEntry_6 ?_
  obtain ⟨g, H⟩ := H
  refine zz_put (M := m_J9_deleteEntry) f_J9_13 dJ9_deleteEntry_7 rfl (fn_47_5) g (ft_47_5) (fun h1 e => ?_)
  have H := H h1 e
  refine z_aload_n (M := m_J9_deleteEntry) (k := 0) rfl dJ9_deleteEntry_10 ?_
  refine z_dup (M := m_J9_deleteEntry) (zr_cat _) dJ9_deleteEntry_11 ?_
  obtain ⟨g, H⟩ := H
  refine z_get (M := m_J9_deleteEntry) f_J9_7 dJ9_deleteEntry_12 g ?_
  refine z_iconst (M := m_J9_deleteEntry) (v := 1) (by decide) dJ9_deleteEntry_15 ?_
  refine z_isub (M := m_J9_deleteEntry) dJ9_deleteEntry_16 ?_
  obtain ⟨g, H⟩ := H
  refine zz_put (M := m_J9_deleteEntry) f_J9_7 dJ9_deleteEntry_17 rfl (fn_47_4) g (ft_47_4) (fun h2 e => ?_)
  have H := H h2 e
  refine z_aload_n (M := m_J9_deleteEntry) (k := 1) rfl dJ9_deleteEntry_20 ?_
  obtain ⟨g, H⟩ := H
  refine z_get (M := m_J9_deleteEntry) f_J9_111 dJ9_deleteEntry_21 g ?_
  refine z_ifnull (M := m_J9_deleteEntry) 57 rfl dJ9_deleteEntry_24 (fun hc => ?_) (fun hc => ?_)
  · have H := H.1 hc
    exact H
  · have H := H.2 hc
    refine z_aload_n (M := m_J9_deleteEntry) (k := 1) rfl dJ9_deleteEntry_27 ?_
    obtain ⟨g, H⟩ := H
    refine z_get (M := m_J9_deleteEntry) f_J9_114 dJ9_deleteEntry_28 g ?_
    refine z_ifnull (M := m_J9_deleteEntry) 57 rfl dJ9_deleteEntry_31 (fun hc => ?_) (fun hc => ?_)
    · have H := H.1 hc
      exact H
    · have H := H.2 hc
      refine z_aload_n (M := m_J9_deleteEntry) (k := 1) rfl dJ9_deleteEntry_34 ?_
      refine z_invS (M := m_J9_deleteEntry) (a := [zr (x1)]) ok_J9_successor q2290 q1794 dJ9_deleteEntry_35 (Nat.le_refl _) (Nat.zero_le _) rfl H (fun v1 h3 H => ?_) (fun n9 h9 H => zPx.out rfl H)
      obtain ⟨n1, rfl, H⟩ := H
      show zP s0 m_J9_deleteEntry (d + 1) _ _ [zr (n1)] _ _ _
      refine z_astore_n (M := m_J9_deleteEntry) (k := 2) 2 rfl (zlt rfl) (zr_cat _) dJ9_deleteEntry_38 ?_
      show zP s0 m_J9_deleteEntry (d + 1) _ [some (zr (x0)), some (zr (x1)), some (zr (n1))] _ _ _ _
      refine z_aload_n (M := m_J9_deleteEntry) (k := 1) rfl dJ9_deleteEntry_39 ?_
      refine z_aload_n (M := m_J9_deleteEntry) (k := 2) rfl dJ9_deleteEntry_40 ?_
      obtain ⟨g, H⟩ := H
      refine z_get (M := m_J9_deleteEntry) f_J9_105 dJ9_deleteEntry_41 g ?_
      obtain ⟨g, H⟩ := H
      refine zz_put (M := m_J9_deleteEntry) f_J9_105 dJ9_deleteEntry_44 rfl (fn_67_0) g (ft_67_0) (fun h4 e => ?_)
      have H := H h4 e
      refine z_aload_n (M := m_J9_deleteEntry) (k := 1) rfl dJ9_deleteEntry_47 ?_
      refine z_aload_n (M := m_J9_deleteEntry) (k := 2) rfl dJ9_deleteEntry_48 ?_
      obtain ⟨g, H⟩ := H
      refine z_get (M := m_J9_deleteEntry) f_J9_58 dJ9_deleteEntry_49 g ?_
      obtain ⟨g, H⟩ := H
      refine zz_put (M := m_J9_deleteEntry) f_J9_58 dJ9_deleteEntry_52 rfl (fn_67_1) g (ft_67_1) (fun h5 e => ?_)
      have H := H h5 e
      refine z_aload_n (M := m_J9_deleteEntry) (k := 2) rfl dJ9_deleteEntry_55 ?_
      refine z_astore_n (M := m_J9_deleteEntry) (k := 1) 1 rfl (zlt rfl) (zr_cat _) dJ9_deleteEntry_56 ?_
      show zP s0 m_J9_deleteEntry (d + 1) _ [some (zr (x0)), some (zr (n1)), some (zr (n1))] _ _ _ _
      exact zP.weak (ls' := [some (zr (x0)), some (zr (n1)), none]) (zle rfl) (zsub_so (zsub_so (zsub_no zsub_nil))) H
theorem c_J9_deleteEntry {s0 : zE} {d : Nat} {x0 : Nat} {x1 : Nat} {h : zH} {Q : Value → zH → Prop} {E : Nat → zH → Prop} (H : (fI h x0 [47] 5) ∧ ((fC h x0 47) ∧ (∀ h1, h1 = zput h x0 5 (.int ((gI h x0 5) + 1)) → ((fI h1 x0 [47] 4) ∧ ((fC h1 x0 47) ∧ (∀ h2, h2 = zput h1 x0 4 (.int ((gI h1 x0 4) - 1)) → ((fR h2 x1 [67] 2) ∧ ((gR h2 x1 2 = 0 → (zP s0 m_J9_deleteEntry (d + 1) 57 [some (zr (x0)), some (zr (x1)), none] [] h2 Q E)) ∧ (¬ gR h2 x1 2 = 0 → ((fR h2 x1 [67] 3) ∧ ((gR h2 x1 3 = 0 → (zP s0 m_J9_deleteEntry (d + 1) 57 [some (zr (x0)), some (zr (x1)), none] [] h2 Q E)) ∧ (¬ gR h2 x1 3 = 0 → (zX s0 m_J9_successor d [zr (x1)] h2 (fun v1 h3 => ∃ n1 : Nat, v1 = zr (n1) ∧ ((fR h3 n1 [67] 0) ∧ ((fC h3 x1 67) ∧ (∀ h4, h4 = zput h3 x1 0 (zr (gR h3 n1 0)) → ((fR h4 n1 [67] 1) ∧ ((fC h4 x1 67) ∧ (∀ h5, h5 = zput h4 x1 1 (zr (gR h4 n1 1)) → (zP s0 m_J9_deleteEntry (d + 1) 57 [some (zr (x0)), some (zr (n1)), none] [] h5 Q E)))))))) E))))))))))))) : zX s0 m_J9_deleteEntry (d + 1) [zr (x0), zr (x1)] h Q E := zX.of2 rfl (by decide +kernel) (zlay_r (zlay_r (zlay_n (znoneS znone0)))) (zle rfl) (b_J9_deleteEntry_0 H)
theorem b_J9_deleteEntry_57 {s0 : zE} {d : Nat} {x0 : Nat} {x1 : Nat} {h : zH} {Q : Value → zH → Prop} {E : Nat → zH → Prop} (H : (fR h x1 [67] 2) ∧ ((gR h x1 2 = 0 → ((fR h x1 [67] 3) ∧ (zP s0 m_J9_deleteEntry (d + 1) 75 [some (zr (x0)), some (zr (x1)), none] [zr (gR h x1 3)] h Q E))) ∧ (¬ gR h x1 2 = 0 → ((fR h x1 [67] 2) ∧ (zP s0 m_J9_deleteEntry (d + 1) 75 [some (zr (x0)), some (zr (x1)), none] [zr (gR h x1 2)] h Q E))))) : zP s0 m_J9_deleteEntry (d + 1) 57 [some (zr (x0)), some (zr (x1)), none] [] h Q E := by
  refine z_aload_n (M := m_J9_deleteEntry) (k := 1) rfl dJ9_deleteEntry_57 ?_
  obtain ⟨g, H⟩ := H
  refine z_get (M := m_J9_deleteEntry) f_J9_111 dJ9_deleteEntry_58 g ?_
  refine z_ifnull (M := m_J9_deleteEntry) 71 rfl dJ9_deleteEntry_61 (fun hc => ?_) (fun hc => ?_)
  · have H := H.1 hc
    refine z_aload_n (M := m_J9_deleteEntry) (k := 1) rfl dJ9_deleteEntry_71 ?_
    obtain ⟨g, H⟩ := H
    refine z_get (M := m_J9_deleteEntry) f_J9_114 dJ9_deleteEntry_72 g ?_
    exact H
  · have H := H.2 hc
    refine z_aload_n (M := m_J9_deleteEntry) (k := 1) rfl dJ9_deleteEntry_64 ?_
    obtain ⟨g, H⟩ := H
    refine z_get (M := m_J9_deleteEntry) f_J9_111 dJ9_deleteEntry_65 g ?_
    refine z_goto (M := m_J9_deleteEntry) 75 rfl dJ9_deleteEntry_68 ?_
    exact H
theorem b_J9_deleteEntry_75 {s0 : zE} {d : Nat} {x0 : Nat} {x1 : Nat} {t0 : Nat} {h : zH} {Q : Value → zH → Prop} {E : Nat → zH → Prop} (H : (t0 = 0 → ((fR h x1 [67] 4) ∧ ((¬ gR h x1 4 = 0 → ((fI h x1 [67] 5) ∧ ((¬ gI h x1 5 = 1 → (zP s0 m_J9_deleteEntry (d + 1) 192 [none, some (zr (x1)), none] [] h Q E)) ∧ (gI h x1 5 = 1 → ((fC h x0 47 ∧ zX s0 m_J9_fixAfterDeletion d [zr x0, zr (x1)] h (fun _ h1 => (zP s0 m_J9_deleteEntry (d + 1) 192 [none, some (zr (x1)), none] [] h1 Q E)) E)))))) ∧ (gR h x1 4 = 0 → ((fC h x0 47) ∧ (∀ h2, h2 = zput h x0 3 (zr (0)) → (Q .null h2))))))) ∧ (¬ t0 = 0 → ((fR h x1 [67] 4) ∧ ((fC h t0 67) ∧ (∀ h3, h3 = zput h t0 4 (zr (gR h x1 4)) → ((fR h3 x1 [67] 4) ∧ ((¬ gR h3 x1 4 = 0 → ((fR h3 x1 [67] 4) ∧ ((fR h3 (gR h3 x1 4) [67] 2) ∧ ((¬ x1 = gR h3 (gR h3 x1 4) 2 → ((fR h3 x1 [67] 4) ∧ ((fC h3 (gR h3 x1 4) 67) ∧ (∀ h4, h4 = zput h3 (gR h3 x1 4) 3 (zr (t0)) → (zP s0 m_J9_deleteEntry (d + 1) 133 [some (zr (x0)), some (zr (x1)), some (zr (t0))] [] h4 Q E))))) ∧ (x1 = gR h3 (gR h3 x1 4) 2 → ((fR h3 x1 [67] 4) ∧ ((fC h3 (gR h3 x1 4) 67) ∧ (∀ h5, h5 = zput h3 (gR h3 x1 4) 2 (zr (t0)) → (zP s0 m_J9_deleteEntry (d + 1) 133 [some (zr (x0)), some (zr (x1)), some (zr (t0))] [] h5 Q E))))))))) ∧ (gR h3 x1 4 = 0 → ((fC h3 x0 47) ∧ (∀ h6, h6 = zput h3 x0 3 (zr (t0)) → (zP s0 m_J9_deleteEntry (d + 1) 133 [some (zr (x0)), some (zr (x1)), some (zr (t0))] [] h6 Q E))))))))))) : zP s0 m_J9_deleteEntry (d + 1) 75 [some (zr (x0)), some (zr (x1)), none] [zr (t0)] h Q E := by
  refine z_astore_n (M := m_J9_deleteEntry) (k := 2) 2 rfl (zlt rfl) (zr_cat _) dJ9_deleteEntry_75 ?_
  show zP s0 m_J9_deleteEntry (d + 1) _ [some (zr (x0)), some (zr (x1)), some (zr (t0))] _ _ _ _
  refine z_aload_n (M := m_J9_deleteEntry) (k := 2) rfl dJ9_deleteEntry_76 ?_
  refine z_ifnull (M := m_J9_deleteEntry) 164 rfl dJ9_deleteEntry_77 (fun hc => ?_) (fun hc => ?_)
  · have H := H.1 hc
    refine z_aload_n (M := m_J9_deleteEntry) (k := 1) rfl dJ9_deleteEntry_164 ?_
    obtain ⟨g, H⟩ := H
    refine z_get (M := m_J9_deleteEntry) f_J9_124 dJ9_deleteEntry_165 g ?_
    refine z_ifnonnull (M := m_J9_deleteEntry) 179 rfl dJ9_deleteEntry_168 (fun hc => ?_) (fun hc => ?_)
    · have H := H.1 hc
      refine z_aload_n (M := m_J9_deleteEntry) (k := 1) rfl dJ9_deleteEntry_179 ?_
      obtain ⟨g, H⟩ := H
      refine z_get (M := m_J9_deleteEntry) f_J9_290 dJ9_deleteEntry_180 g ?_
      refine z_iconst (M := m_J9_deleteEntry) (v := 1) (by decide) dJ9_deleteEntry_183 ?_
      refine z_icmpne (M := m_J9_deleteEntry) 192 rfl dJ9_deleteEntry_184 (fun hc => ?_) (fun hc => ?_)
      · have H := H.1 hc
        exact zP.weak (ls' := [none, some (zr (x1)), none]) (zle rfl) (zsub_no (zsub_so (zsub_no zsub_nil))) H
      · have H := H.2 hc
        refine z_aload_n (M := m_J9_deleteEntry) (k := 0) rfl dJ9_deleteEntry_187 ?_
        refine z_aload_n (M := m_J9_deleteEntry) (k := 1) rfl dJ9_deleteEntry_188 ?_
        obtain ⟨⟨fs9, g⟩, H⟩ := H
        refine z_invV (M := m_J9_deleteEntry) (cn := 47) (a := [zr (x1)]) ok_J9_fixAfterDeletion q2291 q2293 qs17 rfl dJ9_deleteEntry_189 g (Nat.le_refl _) (Nat.zero_le _) rfl H (fun v1 h1 H => ?_) (fun n9 h9 H => zPx.out rfl H)
        show zP s0 m_J9_deleteEntry (d + 1) _ _ [] _ _ _
        exact zP.weak (ls' := [none, some (zr (x1)), none]) (zle rfl) (zsub_no (zsub_so (zsub_no zsub_nil))) H
    · have H := H.2 hc
      refine z_aload_n (M := m_J9_deleteEntry) (k := 0) rfl dJ9_deleteEntry_171 ?_
      refine z_null (M := m_J9_deleteEntry) dJ9_deleteEntry_172 ?_
      obtain ⟨g, H⟩ := H
      refine zz_put (M := m_J9_deleteEntry) f_J9_101 dJ9_deleteEntry_173 rfl (fn_47_3) g (ft_47_3) (fun h2 e => ?_)
      have H := H h2 e
      refine z_goto (M := m_J9_deleteEntry) 245 rfl dJ9_deleteEntry_176 ?_
      exact z_return (M := m_J9_deleteEntry) rfl dJ9_deleteEntry_245 H
  · have H := H.2 hc
    refine z_aload_n (M := m_J9_deleteEntry) (k := 2) rfl dJ9_deleteEntry_80 ?_
    refine z_aload_n (M := m_J9_deleteEntry) (k := 1) rfl dJ9_deleteEntry_81 ?_
    obtain ⟨g, H⟩ := H
    refine z_get (M := m_J9_deleteEntry) f_J9_124 dJ9_deleteEntry_82 g ?_
    obtain ⟨g, H⟩ := H
    refine zz_put (M := m_J9_deleteEntry) f_J9_124 dJ9_deleteEntry_85 rfl (fn_67_4) g (ft_67_4) (fun h3 e => ?_)
    have H := H h3 e
    refine z_aload_n (M := m_J9_deleteEntry) (k := 1) rfl dJ9_deleteEntry_88 ?_
    obtain ⟨g, H⟩ := H
    refine z_get (M := m_J9_deleteEntry) f_J9_124 dJ9_deleteEntry_89 g ?_
    refine z_ifnonnull (M := m_J9_deleteEntry) 103 rfl dJ9_deleteEntry_92 (fun hc => ?_) (fun hc => ?_)
    · have H := H.1 hc
      refine z_aload_n (M := m_J9_deleteEntry) (k := 1) rfl dJ9_deleteEntry_103 ?_
      refine z_aload_n (M := m_J9_deleteEntry) (k := 1) rfl dJ9_deleteEntry_104 ?_
      obtain ⟨g, H⟩ := H
      refine z_get (M := m_J9_deleteEntry) f_J9_124 dJ9_deleteEntry_105 g ?_
      obtain ⟨g, H⟩ := H
      refine z_get (M := m_J9_deleteEntry) f_J9_111 dJ9_deleteEntry_108 g ?_
      refine z_acmpne (M := m_J9_deleteEntry) 125 rfl dJ9_deleteEntry_111 (fun hc => ?_) (fun hc => ?_)
      · have H := H.1 hc
        refine z_aload_n (M := m_J9_deleteEntry) (k := 1) rfl dJ9_deleteEntry_125 ?_
        obtain ⟨g, H⟩ := H
        refine z_get (M := m_J9_deleteEntry) f_J9_124 dJ9_deleteEntry_126 g ?_
        refine z_aload_n (M := m_J9_deleteEntry) (k := 2) rfl dJ9_deleteEntry_129 ?_
        obtain ⟨g, H⟩ := H
        refine zz_put (M := m_J9_deleteEntry) f_J9_114 dJ9_deleteEntry_130 rfl (fn_67_3) g (ft_67_3) (fun h4 e => ?_)
        have H := H h4 e
        exact H
      · have H := H.2 hc
        refine z_aload_n (M := m_J9_deleteEntry) (k := 1) rfl dJ9_deleteEntry_114 ?_
        obtain ⟨g, H⟩ := H
        refine z_get (M := m_J9_deleteEntry) f_J9_124 dJ9_deleteEntry_115 g ?_
        refine z_aload_n (M := m_J9_deleteEntry) (k := 2) rfl dJ9_deleteEntry_118 ?_
        obtain ⟨g, H⟩ := H
        refine zz_put (M := m_J9_deleteEntry) f_J9_111 dJ9_deleteEntry_119 rfl (fn_67_2) g (ft_67_2) (fun h5 e => ?_)
        have H := H h5 e
        refine z_goto (M := m_J9_deleteEntry) 133 rfl dJ9_deleteEntry_122 ?_
        exact H
    · have H := H.2 hc
      refine z_aload_n (M := m_J9_deleteEntry) (k := 0) rfl dJ9_deleteEntry_95 ?_
      refine z_aload_n (M := m_J9_deleteEntry) (k := 2) rfl dJ9_deleteEntry_96 ?_
      obtain ⟨g, H⟩ := H
      refine zz_put (M := m_J9_deleteEntry) f_J9_101 dJ9_deleteEntry_97 rfl (fn_47_3) g (ft_47_3) (fun h6 e => ?_)
      have H := H h6 e
      refine z_goto (M := m_J9_deleteEntry) 133 rfl dJ9_deleteEntry_100 ?_
      exact H
theorem b_J9_deleteEntry_133 {s0 : zE} {d : Nat} {x0 : Nat} {x1 : Nat} {x2 : Nat} {h : zH} {Q : Value → zH → Prop} {E : Nat → zH → Prop} (H : (fC h x1 67) ∧ (∀ h1, h1 = zput h x1 4 (zr (0)) → ((fC h1 x1 67) ∧ (∀ h2, h2 = zput h1 x1 3 (zr (0)) → ((fC h2 x1 67) ∧ (∀ h3, h3 = zput h2 x1 2 (zr (0)) → ((fI h3 x1 [67] 5) ∧ ((¬ gI h3 x1 5 = 1 → (Q .null h3)) ∧ (gI h3 x1 5 = 1 → ((fC h3 x0 47 ∧ zX s0 m_J9_fixAfterDeletion d [zr x0, zr (x2)] h3 (fun _ h4 => (Q .null h4)) E))))))))))) : zP s0 m_J9_deleteEntry (d + 1) 133 [some (zr (x0)), some (zr (x1)), some (zr (x2))] [] h Q E := by
  refine z_aload_n (M := m_J9_deleteEntry) (k := 1) rfl dJ9_deleteEntry_133 ?_
  refine z_aload_n (M := m_J9_deleteEntry) (k := 1) rfl dJ9_deleteEntry_134 ?_
  refine z_aload_n (M := m_J9_deleteEntry) (k := 1) rfl dJ9_deleteEntry_135 ?_
  refine z_null (M := m_J9_deleteEntry) dJ9_deleteEntry_136 ?_
  refine z_dup_x1 (M := m_J9_deleteEntry) (zr_cat _) (zr_cat _) dJ9_deleteEntry_137 ?_
  obtain ⟨g, H⟩ := H
  refine zz_put (M := m_J9_deleteEntry) f_J9_124 dJ9_deleteEntry_138 rfl (fn_67_4) g (ft_67_4) (fun h1 e => ?_)
  have H := H h1 e
  refine z_dup_x1 (M := m_J9_deleteEntry) (zr_cat _) (zr_cat _) dJ9_deleteEntry_141 ?_
  obtain ⟨g, H⟩ := H
  refine zz_put (M := m_J9_deleteEntry) f_J9_114 dJ9_deleteEntry_142 rfl (fn_67_3) g (ft_67_3) (fun h2 e => ?_)
  have H := H h2 e
  obtain ⟨g, H⟩ := H
  refine zz_put (M := m_J9_deleteEntry) f_J9_111 dJ9_deleteEntry_145 rfl (fn_67_2) g (ft_67_2) (fun h3 e => ?_)
  have H := H h3 e
  refine z_aload_n (M := m_J9_deleteEntry) (k := 1) rfl dJ9_deleteEntry_148 ?_
  obtain ⟨g, H⟩ := H
  refine z_get (M := m_J9_deleteEntry) f_J9_290 dJ9_deleteEntry_149 g ?_
  refine z_iconst (M := m_J9_deleteEntry) (v := 1) (by decide) dJ9_deleteEntry_152 ?_
  refine z_icmpne (M := m_J9_deleteEntry) 245 rfl dJ9_deleteEntry_153 (fun hc => ?_) (fun hc => ?_)
  · have H := H.1 hc
    exact z_return (M := m_J9_deleteEntry) rfl dJ9_deleteEntry_245 H
  · have H := H.2 hc
    refine z_aload_n (M := m_J9_deleteEntry) (k := 0) rfl dJ9_deleteEntry_156 ?_
    refine z_aload_n (M := m_J9_deleteEntry) (k := 2) rfl dJ9_deleteEntry_157 ?_
    obtain ⟨⟨fs9, g⟩, H⟩ := H
    refine z_invV (M := m_J9_deleteEntry) (cn := 47) (a := [zr (x2)]) ok_J9_fixAfterDeletion q2291 q2293 qs17 rfl dJ9_deleteEntry_158 g (Nat.le_refl _) (Nat.zero_le _) rfl H (fun v1 h4 H => ?_) (fun n9 h9 H => zPx.out rfl H)
    show zP s0 m_J9_deleteEntry (d + 1) _ _ [] _ _ _
    refine z_goto (M := m_J9_deleteEntry) 245 rfl dJ9_deleteEntry_161 ?_
    exact z_return (M := m_J9_deleteEntry) rfl dJ9_deleteEntry_245 H
theorem b_J9_deleteEntry_192 {s0 : zE} {d : Nat} {x1 : Nat} {h : zH} {Q : Value → zH → Prop} {E : Nat → zH → Prop} (H : (fR h x1 [67] 4) ∧ ((gR h x1 4 = 0 → (Q .null h)) ∧ (¬ gR h x1 4 = 0 → ((fR h x1 [67] 4) ∧ ((fR h (gR h x1 4) [67] 2) ∧ ((¬ x1 = gR h (gR h x1 4) 2 → ((fR h x1 [67] 4) ∧ ((fR h (gR h x1 4) [67] 3) ∧ ((¬ x1 = gR h (gR h x1 4) 3 → ((fC h x1 67) ∧ (∀ h1, h1 = zput h x1 4 (zr (0)) → (Q .null h1)))) ∧ (x1 = gR h (gR h x1 4) 3 → ((fR h x1 [67] 4) ∧ ((fC h (gR h x1 4) 67) ∧ (∀ h2, h2 = zput h (gR h x1 4) 3 (zr (0)) → ((fC h2 x1 67) ∧ (∀ h3, h3 = zput h2 x1 4 (zr (0)) → (Q .null h3))))))))))) ∧ (x1 = gR h (gR h x1 4) 2 → ((fR h x1 [67] 4) ∧ ((fC h (gR h x1 4) 67) ∧ (∀ h4, h4 = zput h (gR h x1 4) 2 (zr (0)) → ((fC h4 x1 67) ∧ (∀ h5, h5 = zput h4 x1 4 (zr (0)) → (Q .null h5))))))))))))) : zP s0 m_J9_deleteEntry (d + 1) 192 [none, some (zr (x1)), none] [] h Q E := by
  refine z_aload_n (M := m_J9_deleteEntry) (k := 1) rfl dJ9_deleteEntry_192 ?_
  obtain ⟨g, H⟩ := H
  refine z_get (M := m_J9_deleteEntry) f_J9_124 dJ9_deleteEntry_193 g ?_
  refine z_ifnull (M := m_J9_deleteEntry) 245 rfl dJ9_deleteEntry_196 (fun hc => ?_) (fun hc => ?_)
  · have H := H.1 hc
    exact z_return (M := m_J9_deleteEntry) rfl dJ9_deleteEntry_245 H
  · have H := H.2 hc
    refine z_aload_n (M := m_J9_deleteEntry) (k := 1) rfl dJ9_deleteEntry_199 ?_
    refine z_aload_n (M := m_J9_deleteEntry) (k := 1) rfl dJ9_deleteEntry_200 ?_
    obtain ⟨g, H⟩ := H
    refine z_get (M := m_J9_deleteEntry) f_J9_124 dJ9_deleteEntry_201 g ?_
    obtain ⟨g, H⟩ := H
    refine z_get (M := m_J9_deleteEntry) f_J9_111 dJ9_deleteEntry_204 g ?_
    refine z_acmpne (M := m_J9_deleteEntry) 221 rfl dJ9_deleteEntry_207 (fun hc => ?_) (fun hc => ?_)
    · have H := H.1 hc
      refine z_aload_n (M := m_J9_deleteEntry) (k := 1) rfl dJ9_deleteEntry_221 ?_
      refine z_aload_n (M := m_J9_deleteEntry) (k := 1) rfl dJ9_deleteEntry_222 ?_
      obtain ⟨g, H⟩ := H
      refine z_get (M := m_J9_deleteEntry) f_J9_124 dJ9_deleteEntry_223 g ?_
      obtain ⟨g, H⟩ := H
      refine z_get (M := m_J9_deleteEntry) f_J9_114 dJ9_deleteEntry_226 g ?_
      refine z_acmpne (M := m_J9_deleteEntry) 240 rfl dJ9_deleteEntry_229 (fun hc => ?_) (fun hc => ?_)
      · have H := H.1 hc
        refine z_aload_n (M := m_J9_deleteEntry) (k := 1) rfl dJ9_deleteEntry_240 ?_
        refine z_null (M := m_J9_deleteEntry) dJ9_deleteEntry_241 ?_
        obtain ⟨g, H⟩ := H
        refine zz_put (M := m_J9_deleteEntry) f_J9_124 dJ9_deleteEntry_242 rfl (fn_67_4) g (ft_67_4) (fun h1 e => ?_)
        have H := H h1 e
        exact z_return (M := m_J9_deleteEntry) rfl dJ9_deleteEntry_245 H
      · have H := H.2 hc
        refine z_aload_n (M := m_J9_deleteEntry) (k := 1) rfl dJ9_deleteEntry_232 ?_
        obtain ⟨g, H⟩ := H
        refine z_get (M := m_J9_deleteEntry) f_J9_124 dJ9_deleteEntry_233 g ?_
        refine z_null (M := m_J9_deleteEntry) dJ9_deleteEntry_236 ?_
        obtain ⟨g, H⟩ := H
        refine zz_put (M := m_J9_deleteEntry) f_J9_114 dJ9_deleteEntry_237 rfl (fn_67_3) g (ft_67_3) (fun h2 e => ?_)
        have H := H h2 e
        refine z_aload_n (M := m_J9_deleteEntry) (k := 1) rfl dJ9_deleteEntry_240 ?_
        refine z_null (M := m_J9_deleteEntry) dJ9_deleteEntry_241 ?_
        obtain ⟨g, H⟩ := H
        refine zz_put (M := m_J9_deleteEntry) f_J9_124 dJ9_deleteEntry_242 rfl (fn_67_4) g (ft_67_4) (fun h3 e => ?_)
        have H := H h3 e
        exact z_return (M := m_J9_deleteEntry) rfl dJ9_deleteEntry_245 H
    · have H := H.2 hc
      refine z_aload_n (M := m_J9_deleteEntry) (k := 1) rfl dJ9_deleteEntry_210 ?_
      obtain ⟨g, H⟩ := H
      refine z_get (M := m_J9_deleteEntry) f_J9_124 dJ9_deleteEntry_211 g ?_
      refine z_null (M := m_J9_deleteEntry) dJ9_deleteEntry_214 ?_
      obtain ⟨g, H⟩ := H
      refine zz_put (M := m_J9_deleteEntry) f_J9_111 dJ9_deleteEntry_215 rfl (fn_67_2) g (ft_67_2) (fun h4 e => ?_)
      have H := H h4 e
      refine z_goto (M := m_J9_deleteEntry) 240 rfl dJ9_deleteEntry_218 ?_
      refine z_aload_n (M := m_J9_deleteEntry) (k := 1) rfl dJ9_deleteEntry_240 ?_
      refine z_null (M := m_J9_deleteEntry) dJ9_deleteEntry_241 ?_
      obtain ⟨g, H⟩ := H
      refine zz_put (M := m_J9_deleteEntry) f_J9_124 dJ9_deleteEntry_242 rfl (fn_67_4) g (ft_67_4) (fun h5 e => ?_)
      have H := H h5 e
      exact z_return (M := m_J9_deleteEntry) rfl dJ9_deleteEntry_245 H
theorem b_J9_entrySet_0 {s0 : zE} {d : Nat} {x0 : Nat} {h : zH} {Q : Value → zH → Prop} {E : Nat → zH → Prop} (H : (fR h x0 [47] 6) ∧ ((gR h x0 6 = 0 → ((zroom s0 h 1) ∧ (∀ n1, n1 = h.2.1 → (∀ h1, h1 = znew h 65 [zr 0] 1 → ((∃ c, fC h1 n1 c) ∧ (zX s0 m_J44_init d [zr n1, zr (x0)] h1 (fun _ h2 => ((fC h2 x0 47) ∧ (∀ h3, h3 = zput h2 x0 6 (zr (n1)) → (Q (zr n1) h3)))) E)))))) ∧ (¬ gR h x0 6 = 0 → (Q (zr (gR h x0 6)) h)))) : zP s0 m_J9_entrySet (d + 1) 0 [some (zr (x0)), none] [] h Q E := by
  refine z_aload_n (M := m_J9_entrySet) (k := 0) rfl dJ9_entrySet_0 ?_
  obtain ⟨g, H⟩ := H
  refine z_get (M := m_J9_entrySet) f_J9_188 dJ9_entrySet_1 g ?_
  refine z_astore_n (M := m_J9_entrySet) (k := 1) 1 rfl (zlt rfl) (zr_cat _) dJ9_entrySet_4 ?_
  show zP s0 m_J9_entrySet (d + 1) _ [some (zr (x0)), some (zr (gR h x0 6))] _ _ _ _
  refine z_aload_n (M := m_J9_entrySet) (k := 1) rfl dJ9_entrySet_5 ?_
  refine z_ifnull (M := m_J9_entrySet) 13 rfl dJ9_entrySet_6 (fun hc => ?_) (fun hc => ?_)
  · have H := H.1 hc
    refine z_aload_n (M := m_J9_entrySet) (k := 0) rfl dJ9_entrySet_13 ?_
    obtain ⟨g, H⟩ := H
    refine zz_new (M := m_J9_entrySet) (fs := [zr 0]) (w := 1) (c := 65) rfl q3493 q3494 rfl znf_J44 dJ9_entrySet_14 g (fun n1 e1 h1 e2 => ?_)
    have H := H n1 e1 h1 e2
    refine z_dup (M := m_J9_entrySet) (zr_cat _) dJ9_entrySet_17 ?_
    refine z_aload_n (M := m_J9_entrySet) (k := 0) rfl dJ9_entrySet_18 ?_
    obtain ⟨⟨c9, g⟩, H⟩ := H
    refine zz_invI (M := m_J9_entrySet) (a := [zr (x0)]) ok_J44_init rfl rfl q3495 q3496 dJ9_entrySet_19 g (Nat.le_trans (zcatr (zcatr zcat0)) (zle rfl)) rfl H (fun v1 h2 H => ?_) (fun n9 h9 H => zPx.out rfl H)
    refine z_dup_x1 (M := m_J9_entrySet) (zr_cat _) (zr_cat _) dJ9_entrySet_22 ?_
    obtain ⟨g, H⟩ := H
    refine zz_put (M := m_J9_entrySet) f_J9_188 dJ9_entrySet_23 rfl (fn_47_6) g (ft_47_6) (fun h3 e => ?_)
    have H := H h3 e
    exact z_areturn (M := m_J9_entrySet) rfl (Or.inl ⟨_, rfl⟩) dJ9_entrySet_26 H
  · have H := H.2 hc
    refine z_aload_n (M := m_J9_entrySet) (k := 1) rfl dJ9_entrySet_9 ?_
    refine z_goto (M := m_J9_entrySet) 26 rfl dJ9_entrySet_10 ?_
    exact z_areturn (M := m_J9_entrySet) rfl (Or.inl ⟨_, rfl⟩) dJ9_entrySet_26 H
theorem c_J9_entrySet {s0 : zE} {d : Nat} {x0 : Nat} {h : zH} {Q : Value → zH → Prop} {E : Nat → zH → Prop} (H : (fR h x0 [47] 6) ∧ ((gR h x0 6 = 0 → ((zroom s0 h 1) ∧ (∀ n1, n1 = h.2.1 → (∀ h1, h1 = znew h 65 [zr 0] 1 → ((∃ c, fC h1 n1 c) ∧ (zX s0 m_J44_init d [zr n1, zr (x0)] h1 (fun _ h2 => ((fC h2 x0 47) ∧ (∀ h3, h3 = zput h2 x0 6 (zr (n1)) → (Q (zr n1) h3)))) E)))))) ∧ (¬ gR h x0 6 = 0 → (Q (zr (gR h x0 6)) h)))) : zX s0 m_J9_entrySet (d + 1) [zr (x0)] h Q E := zX.of2 rfl (by decide +kernel) (zlay_r (zlay_n (znoneS znone0))) (zle rfl) (b_J9_entrySet_0 H)
theorem b_J9_exportEntry_0 {s0 : zE} {d : Nat} {x0 : Nat} {h : zH} {Q : Value → zH → Prop} {E : Nat → zH → Prop} (H : (¬ x0 = 0 → ((zroom s0 h 2) ∧ (∀ n1, n1 = h.2.1 → (∀ h1, h1 = znew h 66 [zr 0, zr 0] 2 → ((∃ c, fC h1 n1 c) ∧ (zX s0 m_J45_init d [zr n1, zr (x0)] h1 (fun _ h2 => (Q (zr n1) h2)) E)))))) ∧ (x0 = 0 → (Q (zr 0) h))) : zP s0 m_J9_exportEntry (d + 1) 0 [some (zr (x0))] [] h Q E := by
  refine z_aload_n (M := m_J9_exportEntry) (k := 0) rfl dJ9_exportEntry_0 ?_
  refine z_ifnonnull (M := m_J9_exportEntry) 8 rfl dJ9_exportEntry_1 (fun hc => ?_) (fun hc => ?_)
  · have H := H.1 hc
    obtain ⟨g, H⟩ := H
    refine zz_new (M := m_J9_exportEntry) (fs := [zr 0, zr 0]) (w := 2) (c := 66) rfl q2580 q2581 rfl znf_J45 dJ9_exportEntry_8 g (fun n1 e1 h1 e2 => ?_)
    have H := H n1 e1 h1 e2
    refine z_dup (M := m_J9_exportEntry) (zr_cat _) dJ9_exportEntry_11 ?_
    refine z_aload_n (M := m_J9_exportEntry) (k := 0) rfl dJ9_exportEntry_12 ?_
    obtain ⟨⟨c9, g⟩, H⟩ := H
    refine zz_invI (M := m_J9_exportEntry) (a := [zr (x0)]) ok_J45_init rfl rfl q2582 q2583 dJ9_exportEntry_13 g (Nat.le_trans (zcatr zcat0) (zle rfl)) rfl H (fun v1 h2 H => ?_) (fun n9 h9 H => zPx.out rfl H)
    exact z_areturn (M := m_J9_exportEntry) rfl (Or.inl ⟨_, rfl⟩) dJ9_exportEntry_16 H
  · have H := H.2 hc
    refine z_null (M := m_J9_exportEntry) dJ9_exportEntry_4 ?_
    refine z_goto (M := m_J9_exportEntry) 16 rfl dJ9_exportEntry_5 ?_
    exact z_areturn (M := m_J9_exportEntry) rfl (Or.inl ⟨_, rfl⟩) dJ9_exportEntry_16 H
theorem c_J9_exportEntry {s0 : zE} {d : Nat} {x0 : Nat} {h : zH} {Q : Value → zH → Prop} {E : Nat → zH → Prop} (H : (¬ x0 = 0 → ((zroom s0 h 2) ∧ (∀ n1, n1 = h.2.1 → (∀ h1, h1 = znew h 66 [zr 0, zr 0] 2 → ((∃ c, fC h1 n1 c) ∧ (zX s0 m_J45_init d [zr n1, zr (x0)] h1 (fun _ h2 => (Q (zr n1) h2)) E)))))) ∧ (x0 = 0 → (Q (zr 0) h))) : zX s0 m_J9_exportEntry (d + 1) [zr (x0)] h Q E := zX.of2 rfl (by decide +kernel) (zlay_r (zlay_n znone0)) (zle rfl) (b_J9_exportEntry_0 H)
theorem b_J9_firstEntry_0 {s0 : zE} {d : Nat} {x0 : Nat} {h : zH} {Q : Value → zH → Prop} {E : Nat → zH → Prop} (H : (fC h x0 47 ∧ zX s0 m_J9_getFirstEntry d [zr x0] h (fun v1 h1 => ∃ n1 : Nat, v1 = zr (n1) ∧ (zX s0 m_J9_exportEntry d [zr (n1)] h1 (fun v2 h2 => ∃ n2 : Nat, v2 = zr (n2) ∧ (Q (zr n2) h2)) E)) E)) : zP s0 m_J9_firstEntry (d + 1) 0 [some (zr (x0))] [] h Q E := by
  refine z_aload_n (M := m_J9_firstEntry) (k := 0) rfl dJ9_firstEntry_0 ?_
  obtain ⟨⟨fs9, g⟩, H⟩ := H
  refine z_invV (M := m_J9_firstEntry) (cn := 47) (a := []) ok_J9_getFirstEntry q2576 q1633 q1634 rfl dJ9_firstEntry_1 g (Nat.le_refl _) (Nat.zero_le _) rfl H (fun v1 h1 H => ?_) (fun n9 h9 H => zPx.out rfl H)
  obtain ⟨n1, rfl, H⟩ := H
  show zP s0 m_J9_firstEntry (d + 1) _ _ [zr (n1)] _ _ _
  refine z_invS (M := m_J9_firstEntry) (a := [zr (n1)]) ok_J9_exportEntry q2577 q2578 dJ9_firstEntry_4 (Nat.le_refl _) (Nat.zero_le _) rfl H (fun v2 h2 H => ?_) (fun n9 h9 H => zPx.out rfl H)
  obtain ⟨n2, rfl, H⟩ := H
  show zP s0 m_J9_firstEntry (d + 1) _ _ [zr (n2)] _ _ _
  exact z_areturn (M := m_J9_firstEntry) rfl (Or.inl ⟨_, rfl⟩) dJ9_firstEntry_7 H
theorem c_J9_firstEntry {s0 : zE} {d : Nat} {x0 : Nat} {h : zH} {Q : Value → zH → Prop} {E : Nat → zH → Prop} (H : (fC h x0 47 ∧ zX s0 m_J9_getFirstEntry d [zr x0] h (fun v1 h1 => ∃ n1 : Nat, v1 = zr (n1) ∧ (zX s0 m_J9_exportEntry d [zr (n1)] h1 (fun v2 h2 => ∃ n2 : Nat, v2 = zr (n2) ∧ (Q (zr n2) h2)) E)) E)) : zX s0 m_J9_firstEntry (d + 1) [zr (x0)] h Q E := zX.of2 rfl (by decide +kernel) (zlay_r (zlay_n znone0)) (zle rfl) (b_J9_firstEntry_0 H)
theorem b_J9_fixAfterDeletion_0 {s0 : zE} {d : Nat} {x0 : Nat} {x1 : Nat} {h : zH} {Q : Value → zH → Prop} {E : Nat → zH → Prop} (H : (fR h x0 [47] 3) ∧ ((x1 = gR h x0 3 → (zX s0 m_J9_setColor d [zr (x1), .int (1)] h (fun _ h1 => (Q .null h1)) E)) ∧ (¬ x1 = gR h x0 3 → (zX s0 m_J9_colorOf d [zr (x1)] h (fun v2 h2 => ∃ r1 : Int32, v2 = .int (r1) ∧ ((¬ r1 = 1 → (zX s0 m_J9_setColor d [zr (x1), .int (1)] h2 (fun _ h3 => (Q .null h3)) E)) ∧ (r1 = 1 → (zX s0 m_J9_parentOf d [zr (x1)] h2 (fun v4 h4 => ∃ n1 : Nat, v4 = zr (n1) ∧ (zX s0 m_J9_leftOf d [zr (n1)] h4 (fun v5 h5 => ∃ n2 : Nat, v5 = zr (n2) ∧ ((¬ x1 = n2 → (zX s0 m_J9_parentOf d [zr (x1)] h5 (fun v6 h6 => ∃ n3 : Nat, v6 = zr (n3) ∧ (zX s0 m_J9_leftOf d [zr (n3)] h6 (fun v7 h7 => ∃ n4 : Nat, v7 = zr (n4) ∧ (zX s0 m_J9_colorOf d [zr (n4)] h7 (fun v8 h8 => ∃ r2 : Int32, v8 = .int (r2) ∧ ((¬ r2 = 0 → (zP s0 m_J9_fixAfterDeletion (d + 1) 230 [some (zr (x0)), some (zr (x1)), some (zr (n4))] [] h8 Q E)) ∧ (r2 = 0 → (zX s0 m_J9_setColor d [zr (n4), .int (1)] h8 (fun _ h9 => (zX s0 m_J9_parentOf d [zr (x1)] h9 (fun v10 h10 => ∃ n5 : Nat, v10 = zr (n5) ∧ (zX s0 m_J9_setColor d [zr (n5), .int (0)] h10 (fun _ h11 => (zX s0 m_J9_parentOf d [zr (x1)] h11 (fun v12 h12 => ∃ n6 : Nat, v12 = zr (n6) ∧ ((fC h12 x0 47 ∧ zX s0 m_J9_rotateRight d [zr x0, zr (n6)] h12 (fun _ h13 => (zX s0 m_J9_parentOf d [zr (x1)] h13 (fun v14 h14 => ∃ n7 : Nat, v14 = zr (n7) ∧ (zX s0 m_J9_leftOf d [zr (n7)] h14 (fun v15 h15 => ∃ n8 : Nat, v15 = zr (n8) ∧ (zP s0 m_J9_fixAfterDeletion (d + 1) 230 [some (zr (x0)), some (zr (x1)), some (zr (n8))] [] h15 Q E)) E)) E)) E))) E)) E)) E)) E)))) E)) E)) E)) ∧ (x1 = n2 → (zX s0 m_J9_parentOf d [zr (x1)] h5 (fun v16 h16 => ∃ n9 : Nat, v16 = zr (n9) ∧ (zX s0 m_J9_rightOf d [zr (n9)] h16 (fun v17 h17 => ∃ n10 : Nat, v17 = zr (n10) ∧ (zX s0 m_J9_colorOf d [zr (n10)] h17 (fun v18 h18 => ∃ r3 : Int32, v18 = .int (r3) ∧ ((¬ r3 = 0 → (zP s0 m_J9_fixAfterDeletion (d + 1) 71 [some (zr (x0)), some (zr (x1)), some (zr (n10))] [] h18 Q E)) ∧ (r3 = 0 → (zX s0 m_J9_setColor d [zr (n10), .int (1)] h18 (fun _ h19 => (zX s0 m_J9_parentOf d [zr (x1)] h19 (fun v20 h20 => ∃ n11 : Nat, v20 = zr (n11) ∧ (zX s0 m_J9_setColor d [zr (n11), .int (0)] h20 (fun _ h21 => (zX s0 m_J9_parentOf d [zr (x1)] h21 (fun v22 h22 => ∃ n12 : Nat, v22 = zr (n12) ∧ ((fC h22 x0 47 ∧ zX s0 m_J9_rotateLeft d [zr x0, zr (n12)] h22 (fun _ h23 => (zX s0 m_J9_parentOf d [zr (x1)] h23 (fun v24 h24 => ∃ n13 : Nat, v24 = zr (n13) ∧ (zX s0 m_J9_rightOf d [zr (n13)] h24 (fun v25 h25 => ∃ n14 : Nat, v25 = zr (n14) ∧ (zP s0 m_J9_fixAfterDeletion (d + 1) 71 [some (zr (x0)), some (zr (x1)), some (zr (n14))] [] h25 Q E)) E)) E)) E))) E)) E)) E)) E)))) E)) E)) E)))) E)) E)))) E)))) : zP s0 m_J9_fixAfterDeletion (d + 1) 0 [some (zr (x0)), some (zr (x1)), none] [] h Q E := by
  refine z_aload_n (M := m_J9_fixAfterDeletion) (k := 1) rfl dJ9_fixAfterDeletion_0 ?_
  refine z_aload_n (M := m_J9_fixAfterDeletion) (k := 0) rfl dJ9_fixAfterDeletion_1 ?_
  obtain ⟨g, H⟩ := H
  refine z_get (M := m_J9_fixAfterDeletion) f_J9_101 dJ9_fixAfterDeletion_2 g ?_
  refine z_acmpeq (M := m_J9_fixAfterDeletion) 345 rfl dJ9_fixAfterDeletion_5 (fun hc => ?_) (fun hc => ?_)
  · have H := H.1 hc
    refine z_aload_n (M := m_J9_fixAfterDeletion) (k := 1) rfl dJ9_fixAfterDeletion_345 ?_
    refine z_iconst (M := m_J9_fixAfterDeletion) (v := 1) (by decide) dJ9_fixAfterDeletion_346 ?_
    refine z_invS (M := m_J9_fixAfterDeletion) (a := [zr (x1), .int (1)]) ok_J9_setColor q2307 q2308 dJ9_fixAfterDeletion_347 (Nat.le_refl _) (Nat.zero_le _) rfl H (fun v1 h1 H => ?_) (fun n9 h9 H => zPx.out rfl H)
    show zP s0 m_J9_fixAfterDeletion (d + 1) _ _ [] _ _ _
    exact z_return (M := m_J9_fixAfterDeletion) rfl dJ9_fixAfterDeletion_350 H
  · have H := H.2 hc
    refine z_aload_n (M := m_J9_fixAfterDeletion) (k := 1) rfl dJ9_fixAfterDeletion_8 ?_
    refine z_invS (M := m_J9_fixAfterDeletion) (a := [zr (x1)]) ok_J9_colorOf q2295 q2296 dJ9_fixAfterDeletion_9 (Nat.le_refl _) (Nat.zero_le _) rfl H (fun v2 h2 H => ?_) (fun n9 h9 H => zPx.out rfl H)
    obtain ⟨r1, rfl, H⟩ := H
    show zP s0 m_J9_fixAfterDeletion (d + 1) _ _ [.int (r1)] _ _ _
    refine z_iconst (M := m_J9_fixAfterDeletion) (v := 1) (by decide) dJ9_fixAfterDeletion_12 ?_
    refine z_icmpne (M := m_J9_fixAfterDeletion) 345 rfl dJ9_fixAfterDeletion_13 (fun hc => ?_) (fun hc => ?_)
    · have H := H.1 hc
      refine z_aload_n (M := m_J9_fixAfterDeletion) (k := 1) rfl dJ9_fixAfterDeletion_345 ?_
      refine z_iconst (M := m_J9_fixAfterDeletion) (v := 1) (by decide) dJ9_fixAfterDeletion_346 ?_
      refine z_invS (M := m_J9_fixAfterDeletion) (a := [zr (x1), .int (1)]) ok_J9_setColor q2307 q2308 dJ9_fixAfterDeletion_347 (Nat.le_refl _) (Nat.zero_le _) rfl H (fun v3 h3 H => ?_) (fun n9 h9 H => zPx.out rfl H)
      show zP s0 m_J9_fixAfterDeletion (d + 1) _ _ [] _ _ _
      exact z_return (M := m_J9_fixAfterDeletion) rfl dJ9_fixAfterDeletion_350 H
    · have H := H.2 hc
      refine z_aload_n (M := m_J9_fixAfterDeletion) (k := 1) rfl dJ9_fixAfterDeletion_16 ?_
      refine z_aload_n (M := m_J9_fixAfterDeletion) (k := 1) rfl dJ9_fixAfterDeletion_17 ?_
      refine z_invS (M := m_J9_fixAfterDeletion) (a := [zr (x1)]) ok_J9_parentOf q2298 q2299 dJ9_fixAfterDeletion_18 (Nat.le_refl _) (Nat.le_trans (zcatr zcat0) (zle rfl)) rfl H (fun v4 h4 H => ?_) (fun n9 h9 H => zPx.out rfl H)
      obtain ⟨n1, rfl, H⟩ := H
      show zP s0 m_J9_fixAfterDeletion (d + 1) _ _ [zr (n1), zr (x1)] _ _ _
      refine z_invS (M := m_J9_fixAfterDeletion) (a := [zr (n1)]) ok_J9_leftOf q2301 q2302 dJ9_fixAfterDeletion_21 (Nat.le_refl _) (Nat.le_trans (zcatr zcat0) (zle rfl)) rfl H (fun v5 h5 H => ?_) (fun n9 h9 H => zPx.out rfl H)
      obtain ⟨n2, rfl, H⟩ := H
      show zP s0 m_J9_fixAfterDeletion (d + 1) _ _ [zr (n2), zr (x1)] _ _ _
      refine z_acmpne (M := m_J9_fixAfterDeletion) 186 rfl dJ9_fixAfterDeletion_24 (fun hc => ?_) (fun hc => ?_)
      · have H := H.1 hc
        refine z_aload_n (M := m_J9_fixAfterDeletion) (k := 1) rfl dJ9_fixAfterDeletion_186 ?_
        refine z_invS (M := m_J9_fixAfterDeletion) (a := [zr (x1)]) ok_J9_parentOf q2298 q2299 dJ9_fixAfterDeletion_187 (Nat.le_refl _) (Nat.zero_le _) rfl H (fun v6 h6 H => ?_) (fun n9 h9 H => zPx.out rfl H)
        obtain ⟨n3, rfl, H⟩ := H
        show zP s0 m_J9_fixAfterDeletion (d + 1) _ _ [zr (n3)] _ _ _
        refine z_invS (M := m_J9_fixAfterDeletion) (a := [zr (n3)]) ok_J9_leftOf q2301 q2302 dJ9_fixAfterDeletion_190 (Nat.le_refl _) (Nat.zero_le _) rfl H (fun v7 h7 H => ?_) (fun n9 h9 H => zPx.out rfl H)
        obtain ⟨n4, rfl, H⟩ := H
        show zP s0 m_J9_fixAfterDeletion (d + 1) _ _ [zr (n4)] _ _ _
        refine z_astore_n (M := m_J9_fixAfterDeletion) (k := 2) 2 rfl (zlt rfl) (zr_cat _) dJ9_fixAfterDeletion_193 ?_
        show zP s0 m_J9_fixAfterDeletion (d + 1) _ [some (zr (x0)), some (zr (x1)), some (zr (n4))] _ _ _ _
        refine z_aload_n (M := m_J9_fixAfterDeletion) (k := 2) rfl dJ9_fixAfterDeletion_194 ?_
        refine z_invS (M := m_J9_fixAfterDeletion) (a := [zr (n4)]) ok_J9_colorOf q2295 q2296 dJ9_fixAfterDeletion_195 (Nat.le_refl _) (Nat.zero_le _) rfl H (fun v8 h8 H => ?_) (fun n9 h9 H => zPx.out rfl H)
        obtain ⟨r2, rfl, H⟩ := H
        show zP s0 m_J9_fixAfterDeletion (d + 1) _ _ [.int (r2)] _ _ _
        refine z_ifne (M := m_J9_fixAfterDeletion) 230 rfl dJ9_fixAfterDeletion_198 (fun hc => ?_) (fun hc => ?_)
        · have H := H.1 hc
          exact H
        · have H := H.2 hc
          refine z_aload_n (M := m_J9_fixAfterDeletion) (k := 2) rfl dJ9_fixAfterDeletion_201 ?_
          refine z_iconst (M := m_J9_fixAfterDeletion) (v := 1) (by decide) dJ9_fixAfterDeletion_202 ?_
          refine z_invS (M := m_J9_fixAfterDeletion) (a := [zr (n4), .int (1)]) ok_J9_setColor q2307 q2308 dJ9_fixAfterDeletion_203 (Nat.le_refl _) (Nat.zero_le _) rfl H (fun v9 h9 H => ?_) (fun n9 h9 H => zPx.out rfl H)
          show zP s0 m_J9_fixAfterDeletion (d + 1) _ _ [] _ _ _
          refine z_aload_n (M := m_J9_fixAfterDeletion) (k := 1) rfl dJ9_fixAfterDeletion_206 ?_
          refine z_invS (M := m_J9_fixAfterDeletion) (a := [zr (x1)]) ok_J9_parentOf q2298 q2299 dJ9_fixAfterDeletion_207 (Nat.le_refl _) (Nat.zero_le _) rfl H (fun v10 h10 H => ?_) (fun n9 h9 H => zPx.out rfl H)
          obtain ⟨n5, rfl, H⟩ := H
          show zP s0 m_J9_fixAfterDeletion (d + 1) _ _ [zr (n5)] _ _ _
          refine z_iconst (M := m_J9_fixAfterDeletion) (v := 0) (by decide) dJ9_fixAfterDeletion_210 ?_
          refine z_invS (M := m_J9_fixAfterDeletion) (a := [zr (n5), .int (0)]) ok_J9_setColor q2307 q2308 dJ9_fixAfterDeletion_211 (Nat.le_refl _) (Nat.zero_le _) rfl H (fun v11 h11 H => ?_) (fun n9 h9 H => zPx.out rfl H)
          show zP s0 m_J9_fixAfterDeletion (d + 1) _ _ [] _ _ _
          refine z_aload_n (M := m_J9_fixAfterDeletion) (k := 0) rfl dJ9_fixAfterDeletion_214 ?_
          refine z_aload_n (M := m_J9_fixAfterDeletion) (k := 1) rfl dJ9_fixAfterDeletion_215 ?_
          refine z_invS (M := m_J9_fixAfterDeletion) (a := [zr (x1)]) ok_J9_parentOf q2298 q2299 dJ9_fixAfterDeletion_216 (Nat.le_refl _) (Nat.le_trans (zcatr zcat0) (zle rfl)) rfl H (fun v12 h12 H => ?_) (fun n9 h9 H => zPx.out rfl H)
          obtain ⟨n6, rfl, H⟩ := H
          show zP s0 m_J9_fixAfterDeletion (d + 1) _ _ [zr (n6), zr (x0)] _ _ _
          obtain ⟨⟨fs9, g⟩, H⟩ := H
          refine z_invV (M := m_J9_fixAfterDeletion) (cn := 47) (a := [zr (n6)]) ok_J9_rotateRight q2314 q2316 qs19 rfl dJ9_fixAfterDeletion_219 g (Nat.le_refl _) (Nat.zero_le _) rfl H (fun v13 h13 H => ?_) (fun n9 h9 H => zPx.out rfl H)
          show zP s0 m_J9_fixAfterDeletion (d + 1) _ _ [] _ _ _
          refine z_aload_n (M := m_J9_fixAfterDeletion) (k := 1) rfl dJ9_fixAfterDeletion_222 ?_
          refine z_invS (M := m_J9_fixAfterDeletion) (a := [zr (x1)]) ok_J9_parentOf q2298 q2299 dJ9_fixAfterDeletion_223 (Nat.le_refl _) (Nat.zero_le _) rfl H (fun v14 h14 H => ?_) (fun n9 h9 H => zPx.out rfl H)
          obtain ⟨n7, rfl, H⟩ := H
          show zP s0 m_J9_fixAfterDeletion (d + 1) _ _ [zr (n7)] _ _ _
          refine z_invS (M := m_J9_fixAfterDeletion) (a := [zr (n7)]) ok_J9_leftOf q2301 q2302 dJ9_fixAfterDeletion_226 (Nat.le_refl _) (Nat.zero_le _) rfl H (fun v15 h15 H => ?_) (fun n9 h9 H => zPx.out rfl H)
          obtain ⟨n8, rfl, H⟩ := H
          show zP s0 m_J9_fixAfterDeletion (d + 1) _ _ [zr (n8)] _ _ _
          refine z_astore_n (M := m_J9_fixAfterDeletion) (k := 2) 2 rfl (zlt rfl) (zr_cat _) dJ9_fixAfterDeletion_229 ?_
          show zP s0 m_J9_fixAfterDeletion (d + 1) _ [some (zr (x0)), some (zr (x1)), some (zr (n8))] _ _ _ _
          exact H
      · have H := H.2 hc
        refine z_aload_n (M := m_J9_fixAfterDeletion) (k := 1) rfl dJ9_fixAfterDeletion_27 ?_
        refine z_invS (M := m_J9_fixAfterDeletion) (a := [zr (x1)]) ok_J9_parentOf q2298 q2299 dJ9_fixAfterDeletion_28 (Nat.le_refl _) (Nat.zero_le _) rfl H (fun v16 h16 H => ?_) (fun n9 h9 H => zPx.out rfl H)
        obtain ⟨n9, rfl, H⟩ := H
        show zP s0 m_J9_fixAfterDeletion (d + 1) _ _ [zr (n9)] _ _ _
        refine z_invS (M := m_J9_fixAfterDeletion) (a := [zr (n9)]) ok_J9_rightOf q2304 q2305 dJ9_fixAfterDeletion_31 (Nat.le_refl _) (Nat.zero_le _) rfl H (fun v17 h17 H => ?_) (fun n9 h9 H => zPx.out rfl H)
        obtain ⟨n10, rfl, H⟩ := H
        show zP s0 m_J9_fixAfterDeletion (d + 1) _ _ [zr (n10)] _ _ _
        refine z_astore_n (M := m_J9_fixAfterDeletion) (k := 2) 2 rfl (zlt rfl) (zr_cat _) dJ9_fixAfterDeletion_34 ?_
        show zP s0 m_J9_fixAfterDeletion (d + 1) _ [some (zr (x0)), some (zr (x1)), some (zr (n10))] _ _ _ _
        refine z_aload_n (M := m_J9_fixAfterDeletion) (k := 2) rfl dJ9_fixAfterDeletion_35 ?_
        refine z_invS (M := m_J9_fixAfterDeletion) (a := [zr (n10)]) ok_J9_colorOf q2295 q2296 dJ9_fixAfterDeletion_36 (Nat.le_refl _) (Nat.zero_le _) rfl H (fun v18 h18 H => ?_) (fun n9 h9 H => zPx.out rfl H)
        obtain ⟨r3, rfl, H⟩ := H
        show zP s0 m_J9_fixAfterDeletion (d + 1) _ _ [.int (r3)] _ _ _
        refine z_ifne (M := m_J9_fixAfterDeletion) 71 rfl dJ9_fixAfterDeletion_39 (fun hc => ?_) (fun hc => ?_)
        · have H := H.1 hc
          exact H
        · have H := H.2 hc
          refine z_aload_n (M := m_J9_fixAfterDeletion) (k := 2) rfl dJ9_fixAfterDeletion_42 ?_
          refine z_iconst (M := m_J9_fixAfterDeletion) (v := 1) (by decide) dJ9_fixAfterDeletion_43 ?_
          refine z_invS (M := m_J9_fixAfterDeletion) (a := [zr (n10), .int (1)]) ok_J9_setColor q2307 q2308 dJ9_fixAfterDeletion_44 (Nat.le_refl _) (Nat.zero_le _) rfl H (fun v19 h19 H => ?_) (fun n9 h9 H => zPx.out rfl H)
          show zP s0 m_J9_fixAfterDeletion (d + 1) _ _ [] _ _ _
          refine z_aload_n (M := m_J9_fixAfterDeletion) (k := 1) rfl dJ9_fixAfterDeletion_47 ?_
          refine z_invS (M := m_J9_fixAfterDeletion) (a := [zr (x1)]) ok_J9_parentOf q2298 q2299 dJ9_fixAfterDeletion_48 (Nat.le_refl _) (Nat.zero_le _) rfl H (fun v20 h20 H => ?_) (fun n9 h9 H => zPx.out rfl H)
          obtain ⟨n11, rfl, H⟩ := H
          show zP s0 m_J9_fixAfterDeletion (d + 1) _ _ [zr (n11)] _ _ _
          refine z_iconst (M := m_J9_fixAfterDeletion) (v := 0) (by decide) dJ9_fixAfterDeletion_51 ?_
          refine z_invS (M := m_J9_fixAfterDeletion) (a := [zr (n11), .int (0)]) ok_J9_setColor q2307 q2308 dJ9_fixAfterDeletion_52 (Nat.le_refl _) (Nat.zero_le _) rfl H (fun v21 h21 H => ?_) (fun n9 h9 H => zPx.out rfl H)
          show zP s0 m_J9_fixAfterDeletion (d + 1) _ _ [] _ _ _
          refine z_aload_n (M := m_J9_fixAfterDeletion) (k := 0) rfl dJ9_fixAfterDeletion_55 ?_
          refine z_aload_n (M := m_J9_fixAfterDeletion) (k := 1) rfl dJ9_fixAfterDeletion_56 ?_
          refine z_invS (M := m_J9_fixAfterDeletion) (a := [zr (x1)]) ok_J9_parentOf q2298 q2299 dJ9_fixAfterDeletion_57 (Nat.le_refl _) (Nat.le_trans (zcatr zcat0) (zle rfl)) rfl H (fun v22 h22 H => ?_) (fun n9 h9 H => zPx.out rfl H)
          obtain ⟨n12, rfl, H⟩ := H
          show zP s0 m_J9_fixAfterDeletion (d + 1) _ _ [zr (n12), zr (x0)] _ _ _
          obtain ⟨⟨fs9, g⟩, H⟩ := H
          refine z_invV (M := m_J9_fixAfterDeletion) (cn := 47) (a := [zr (n12)]) ok_J9_rotateLeft q2310 q2312 qs18 rfl dJ9_fixAfterDeletion_60 g (Nat.le_refl _) (Nat.zero_le _) rfl H (fun v23 h23 H => ?_) (fun n9 h9 H => zPx.out rfl H)
          show zP s0 m_J9_fixAfterDeletion (d + 1) _ _ [] _ _ _
          refine z_aload_n (M := m_J9_fixAfterDeletion) (k := 1) rfl dJ9_fixAfterDeletion_63 ?_
          refine z_invS (M := m_J9_fixAfterDeletion) (a := [zr (x1)]) ok_J9_parentOf q2298 q2299 dJ9_fixAfterDeletion_64 (Nat.le_refl _) (Nat.zero_le _) rfl H (fun v24 h24 H => ?_) (fun n9 h9 H => zPx.out rfl H)
          obtain ⟨n13, rfl, H⟩ := H
          show zP s0 m_J9_fixAfterDeletion (d + 1) _ _ [zr (n13)] _ _ _
          refine z_invS (M := m_J9_fixAfterDeletion) (a := [zr (n13)]) ok_J9_rightOf q2304 q2305 dJ9_fixAfterDeletion_67 (Nat.le_refl _) (Nat.zero_le _) rfl H (fun v25 h25 H => ?_) (fun n9 h9 H => zPx.out rfl H)
          obtain ⟨n14, rfl, H⟩ := H
          show zP s0 m_J9_fixAfterDeletion (d + 1) _ _ [zr (n14)] _ _ _
          refine z_astore_n (M := m_J9_fixAfterDeletion) (k := 2) 2 rfl (zlt rfl) (zr_cat _) dJ9_fixAfterDeletion_70 ?_
          show zP s0 m_J9_fixAfterDeletion (d + 1) _ [some (zr (x0)), some (zr (x1)), some (zr (n14))] _ _ _ _
          exact H
theorem c_J9_fixAfterDeletion {s0 : zE} {d : Nat} {x0 : Nat} {x1 : Nat} {h : zH} {Q : Value → zH → Prop} {E : Nat → zH → Prop} (H : zP s0 m_J9_fixAfterDeletion (d + 1) 0 [some (zr (x0)), some (zr (x1)), none] [] h Q E) : zX s0 m_J9_fixAfterDeletion (d + 1) [zr (x0), zr (x1)] h Q E := zX.of2 rfl (by decide +kernel) (zlay_r (zlay_r (zlay_n (znoneS znone0)))) (zle rfl) H
theorem b_J9_fixAfterDeletion_71 {s0 : zE} {d : Nat} {x0 : Nat} {x1 : Nat} {x2 : Nat} {h : zH} {Q : Value → zH → Prop} {E : Nat → zH → Prop} (H : zX s0 m_J9_leftOf d [zr (x2)] h (fun v1 h1 => ∃ n1 : Nat, v1 = zr (n1) ∧ (zX s0 m_J9_colorOf d [zr (n1)] h1 (fun v2 h2 => ∃ r1 : Int32, v2 = .int (r1) ∧ ((¬ r1 = 1 → (zP s0 m_J9_fixAfterDeletion (d + 1) 106 [some (zr (x0)), some (zr (x1)), some (zr (x2))] [] h2 Q E)) ∧ (r1 = 1 → (zX s0 m_J9_rightOf d [zr (x2)] h2 (fun v3 h3 => ∃ n2 : Nat, v3 = zr (n2) ∧ (zX s0 m_J9_colorOf d [zr (n2)] h3 (fun v4 h4 => ∃ r2 : Int32, v4 = .int (r2) ∧ ((¬ r2 = 1 → (zP s0 m_J9_fixAfterDeletion (d + 1) 106 [some (zr (x0)), some (zr (x1)), some (zr (x2))] [] h4 Q E)) ∧ (r2 = 1 → (zX s0 m_J9_setColor d [zr (x2), .int (0)] h4 (fun _ h5 => (zX s0 m_J9_parentOf d [zr (x1)] h5 (fun v6 h6 => ∃ n3 : Nat, v6 = zr (n3) ∧ (zP s0 m_J9_fixAfterDeletion (d + 1) 183 [some (zr (x0)), some (zr (n3)), none] [] h6 Q E)) E)) E)))) E)) E)))) E)) E) : zP s0 m_J9_fixAfterDeletion (d + 1) 71 [some (zr (x0)), some (zr (x1)), some (zr (x2))] [] h Q E := by
  refine z_aload_n (M := m_J9_fixAfterDeletion) (k := 2) rfl dJ9_fixAfterDeletion_71 ?_
  refine z_invS (M := m_J9_fixAfterDeletion) (a := [zr (x2)]) ok_J9_leftOf q2301 q2302 dJ9_fixAfterDeletion_72 (Nat.le_refl _) (Nat.zero_le _) rfl H (fun v1 h1 H => ?_) (fun n9 h9 H => zPx.out rfl H)
  obtain ⟨n1, rfl, H⟩ := H
  show zP s0 m_J9_fixAfterDeletion (d + 1) _ _ [zr (n1)] _ _ _
  refine z_invS (M := m_J9_fixAfterDeletion) (a := [zr (n1)]) ok_J9_colorOf q2295 q2296 dJ9_fixAfterDeletion_75 (Nat.le_refl _) (Nat.zero_le _) rfl H (fun v2 h2 H => ?_) (fun n9 h9 H => zPx.out rfl H)
  obtain ⟨r1, rfl, H⟩ := H
  show zP s0 m_J9_fixAfterDeletion (d + 1) _ _ [.int (r1)] _ _ _
  refine z_iconst (M := m_J9_fixAfterDeletion) (v := 1) (by decide) dJ9_fixAfterDeletion_78 ?_
  refine z_icmpne (M := m_J9_fixAfterDeletion) 106 rfl dJ9_fixAfterDeletion_79 (fun hc => ?_) (fun hc => ?_)
  · have H := H.1 hc
    exact H
  · have H := H.2 hc
    refine z_aload_n (M := m_J9_fixAfterDeletion) (k := 2) rfl dJ9_fixAfterDeletion_82 ?_
    refine z_invS (M := m_J9_fixAfterDeletion) (a := [zr (x2)]) ok_J9_rightOf q2304 q2305 dJ9_fixAfterDeletion_83 (Nat.le_refl _) (Nat.zero_le _) rfl H (fun v3 h3 H => ?_) (fun n9 h9 H => zPx.out rfl H)
    obtain ⟨n2, rfl, H⟩ := H
    show zP s0 m_J9_fixAfterDeletion (d + 1) _ _ [zr (n2)] _ _ _
    refine z_invS (M := m_J9_fixAfterDeletion) (a := [zr (n2)]) ok_J9_colorOf q2295 q2296 dJ9_fixAfterDeletion_86 (Nat.le_refl _) (Nat.zero_le _) rfl H (fun v4 h4 H => ?_) (fun n9 h9 H => zPx.out rfl H)
    obtain ⟨r2, rfl, H⟩ := H
    show zP s0 m_J9_fixAfterDeletion (d + 1) _ _ [.int (r2)] _ _ _
    refine z_iconst (M := m_J9_fixAfterDeletion) (v := 1) (by decide) dJ9_fixAfterDeletion_89 ?_
    refine z_icmpne (M := m_J9_fixAfterDeletion) 106 rfl dJ9_fixAfterDeletion_90 (fun hc => ?_) (fun hc => ?_)
    · have H := H.1 hc
      exact H
    · have H := H.2 hc
      refine z_aload_n (M := m_J9_fixAfterDeletion) (k := 2) rfl dJ9_fixAfterDeletion_93 ?_
      refine z_iconst (M := m_J9_fixAfterDeletion) (v := 0) (by decide) dJ9_fixAfterDeletion_94 ?_
      refine z_invS (M := m_J9_fixAfterDeletion) (a := [zr (x2), .int (0)]) ok_J9_setColor q2307 q2308 dJ9_fixAfterDeletion_95 (Nat.le_refl _) (Nat.zero_le _) rfl H (fun v5 h5 H => ?_) (fun n9 h9 H => zPx.out rfl H)
      show zP s0 m_J9_fixAfterDeletion (d + 1) _ _ [] _ _ _
      refine z_aload_n (M := m_J9_fixAfterDeletion) (k := 1) rfl dJ9_fixAfterDeletion_98 ?_
      refine z_invS (M := m_J9_fixAfterDeletion) (a := [zr (x1)]) ok_J9_parentOf q2298 q2299 dJ9_fixAfterDeletion_99 (Nat.le_refl _) (Nat.zero_le _) rfl H (fun v6 h6 H => ?_) (fun n9 h9 H => zPx.out rfl H)
      obtain ⟨n3, rfl, H⟩ := H
      show zP s0 m_J9_fixAfterDeletion (d + 1) _ _ [zr (n3)] _ _ _
      refine z_astore_n (M := m_J9_fixAfterDeletion) (k := 1) 1 rfl (zlt rfl) (zr_cat _) dJ9_fixAfterDeletion_102 ?_
      show zP s0 m_J9_fixAfterDeletion (d + 1) _ [some (zr (x0)), some (zr (n3)), some (zr (x2))] _ _ _ _
      refine z_goto (M := m_J9_fixAfterDeletion) 183 rfl dJ9_fixAfterDeletion_103 ?_
      exact zP.weak (ls' := [some (zr (x0)), some (zr (n3)), none]) (zle rfl) (zsub_so (zsub_so (zsub_no zsub_nil))) H
theorem b_J9_fixAfterDeletion_106 {s0 : zE} {d : Nat} {x0 : Nat} {x1 : Nat} {x2 : Nat} {h : zH} {Q : Value → zH → Prop} {E : Nat → zH → Prop} (H : zX s0 m_J9_rightOf d [zr (x2)] h (fun v1 h1 => ∃ n1 : Nat, v1 = zr (n1) ∧ (zX s0 m_J9_colorOf d [zr (n1)] h1 (fun v2 h2 => ∃ r1 : Int32, v2 = .int (r1) ∧ ((¬ r1 = 1 → (zP s0 m_J9_fixAfterDeletion (d + 1) 143 [some (zr (x0)), some (zr (x1)), some (zr (x2))] [] h2 Q E)) ∧ (r1 = 1 → (zX s0 m_J9_leftOf d [zr (x2)] h2 (fun v3 h3 => ∃ n2 : Nat, v3 = zr (n2) ∧ (zX s0 m_J9_setColor d [zr (n2), .int (1)] h3 (fun _ h4 => (zX s0 m_J9_setColor d [zr (x2), .int (0)] h4 (fun _ h5 => ((fC h5 x0 47 ∧ zX s0 m_J9_rotateRight d [zr x0, zr (x2)] h5 (fun _ h6 => (zX s0 m_J9_parentOf d [zr (x1)] h6 (fun v7 h7 => ∃ n3 : Nat, v7 = zr (n3) ∧ (zX s0 m_J9_rightOf d [zr (n3)] h7 (fun v8 h8 => ∃ n4 : Nat, v8 = zr (n4) ∧ (zP s0 m_J9_fixAfterDeletion (d + 1) 143 [some (zr (x0)), some (zr (x1)), some (zr (n4))] [] h8 Q E)) E)) E)) E))) E)) E)) E)))) E)) E) : zP s0 m_J9_fixAfterDeletion (d + 1) 106 [some (zr (x0)), some (zr (x1)), some (zr (x2))] [] h Q E := by
  refine z_aload_n (M := m_J9_fixAfterDeletion) (k := 2) rfl dJ9_fixAfterDeletion_106 ?_
  refine z_invS (M := m_J9_fixAfterDeletion) (a := [zr (x2)]) ok_J9_rightOf q2304 q2305 dJ9_fixAfterDeletion_107 (Nat.le_refl _) (Nat.zero_le _) rfl H (fun v1 h1 H => ?_) (fun n9 h9 H => zPx.out rfl H)
  obtain ⟨n1, rfl, H⟩ := H
  show zP s0 m_J9_fixAfterDeletion (d + 1) _ _ [zr (n1)] _ _ _
  refine z_invS (M := m_J9_fixAfterDeletion) (a := [zr (n1)]) ok_J9_colorOf q2295 q2296 dJ9_fixAfterDeletion_110 (Nat.le_refl _) (Nat.zero_le _) rfl H (fun v2 h2 H => ?_) (fun n9 h9 H => zPx.out rfl H)
  obtain ⟨r1, rfl, H⟩ := H
  show zP s0 m_J9_fixAfterDeletion (d + 1) _ _ [.int (r1)] _ _ _
  refine z_iconst (M := m_J9_fixAfterDeletion) (v := 1) (by decide) dJ9_fixAfterDeletion_113 ?_
  refine z_icmpne (M := m_J9_fixAfterDeletion) 143 rfl dJ9_fixAfterDeletion_114 (fun hc => ?_) (fun hc => ?_)
  · have H := H.1 hc
    exact H
  · have H := H.2 hc
    refine z_aload_n (M := m_J9_fixAfterDeletion) (k := 2) rfl dJ9_fixAfterDeletion_117 ?_
    refine z_invS (M := m_J9_fixAfterDeletion) (a := [zr (x2)]) ok_J9_leftOf q2301 q2302 dJ9_fixAfterDeletion_118 (Nat.le_refl _) (Nat.zero_le _) rfl H (fun v3 h3 H => ?_) (fun n9 h9 H => zPx.out rfl H)
    obtain ⟨n2, rfl, H⟩ := H
    show zP s0 m_J9_fixAfterDeletion (d + 1) _ _ [zr (n2)] _ _ _
    refine z_iconst (M := m_J9_fixAfterDeletion) (v := 1) (by decide) dJ9_fixAfterDeletion_121 ?_
    refine z_invS (M := m_J9_fixAfterDeletion) (a := [zr (n2), .int (1)]) ok_J9_setColor q2307 q2308 dJ9_fixAfterDeletion_122 (Nat.le_refl _) (Nat.zero_le _) rfl H (fun v4 h4 H => ?_) (fun n9 h9 H => zPx.out rfl H)
    show zP s0 m_J9_fixAfterDeletion (d + 1) _ _ [] _ _ _
    refine z_aload_n (M := m_J9_fixAfterDeletion) (k := 2) rfl dJ9_fixAfterDeletion_125 ?_
    refine z_iconst (M := m_J9_fixAfterDeletion) (v := 0) (by decide) dJ9_fixAfterDeletion_126 ?_
    refine z_invS (M := m_J9_fixAfterDeletion) (a := [zr (x2), .int (0)]) ok_J9_setColor q2307 q2308 dJ9_fixAfterDeletion_127 (Nat.le_refl _) (Nat.zero_le _) rfl H (fun v5 h5 H => ?_) (fun n9 h9 H => zPx.out rfl H)
    show zP s0 m_J9_fixAfterDeletion (d + 1) _ _ [] _ _ _
    refine z_aload_n (M := m_J9_fixAfterDeletion) (k := 0) rfl dJ9_fixAfterDeletion_130 ?_
    refine z_aload_n (M := m_J9_fixAfterDeletion) (k := 2) rfl dJ9_fixAfterDeletion_131 ?_
    obtain ⟨⟨fs9, g⟩, H⟩ := H
    refine z_invV (M := m_J9_fixAfterDeletion) (cn := 47) (a := [zr (x2)]) ok_J9_rotateRight q2314 q2316 qs19 rfl dJ9_fixAfterDeletion_132 g (Nat.le_refl _) (Nat.zero_le _) rfl H (fun v6 h6 H => ?_) (fun n9 h9 H => zPx.out rfl H)
    show zP s0 m_J9_fixAfterDeletion (d + 1) _ _ [] _ _ _
    refine z_aload_n (M := m_J9_fixAfterDeletion) (k := 1) rfl dJ9_fixAfterDeletion_135 ?_
    refine z_invS (M := m_J9_fixAfterDeletion) (a := [zr (x1)]) ok_J9_parentOf q2298 q2299 dJ9_fixAfterDeletion_136 (Nat.le_refl _) (Nat.zero_le _) rfl H (fun v7 h7 H => ?_) (fun n9 h9 H => zPx.out rfl H)
    obtain ⟨n3, rfl, H⟩ := H
    show zP s0 m_J9_fixAfterDeletion (d + 1) _ _ [zr (n3)] _ _ _
    refine z_invS (M := m_J9_fixAfterDeletion) (a := [zr (n3)]) ok_J9_rightOf q2304 q2305 dJ9_fixAfterDeletion_139 (Nat.le_refl _) (Nat.zero_le _) rfl H (fun v8 h8 H => ?_) (fun n9 h9 H => zPx.out rfl H)
    obtain ⟨n4, rfl, H⟩ := H
    show zP s0 m_J9_fixAfterDeletion (d + 1) _ _ [zr (n4)] _ _ _
    refine z_astore_n (M := m_J9_fixAfterDeletion) (k := 2) 2 rfl (zlt rfl) (zr_cat _) dJ9_fixAfterDeletion_142 ?_
    show zP s0 m_J9_fixAfterDeletion (d + 1) _ [some (zr (x0)), some (zr (x1)), some (zr (n4))] _ _ _ _
    exact H
theorem b_J9_fixAfterDeletion_143 {s0 : zE} {d : Nat} {x0 : Nat} {x1 : Nat} {x2 : Nat} {h : zH} {Q : Value → zH → Prop} {E : Nat → zH → Prop} (H : zX s0 m_J9_parentOf d [zr (x1)] h (fun v1 h1 => ∃ n1 : Nat, v1 = zr (n1) ∧ (zX s0 m_J9_colorOf d [zr (n1)] h1 (fun v2 h2 => ∃ r1 : Int32, v2 = .int (r1) ∧ (zX s0 m_J9_setColor d [zr (x2), .int (r1)] h2 (fun _ h3 => (zX s0 m_J9_parentOf d [zr (x1)] h3 (fun v4 h4 => ∃ n2 : Nat, v4 = zr (n2) ∧ (zX s0 m_J9_setColor d [zr (n2), .int (1)] h4 (fun _ h5 => (zX s0 m_J9_rightOf d [zr (x2)] h5 (fun v6 h6 => ∃ n3 : Nat, v6 = zr (n3) ∧ (zX s0 m_J9_setColor d [zr (n3), .int (1)] h6 (fun _ h7 => (zX s0 m_J9_parentOf d [zr (x1)] h7 (fun v8 h8 => ∃ n4 : Nat, v8 = zr (n4) ∧ ((fC h8 x0 47 ∧ zX s0 m_J9_rotateLeft d [zr x0, zr (n4)] h8 (fun _ h9 => ((fR h9 x0 [47] 3) ∧ (zP s0 m_J9_fixAfterDeletion (d + 1) 183 [some (zr (x0)), some (zr (gR h9 x0 3)), none] [] h9 Q E))) E))) E)) E)) E)) E)) E)) E)) E)) E) : zP s0 m_J9_fixAfterDeletion (d + 1) 143 [some (zr (x0)), some (zr (x1)), some (zr (x2))] [] h Q E := by
  refine z_aload_n (M := m_J9_fixAfterDeletion) (k := 2) rfl dJ9_fixAfterDeletion_143 ?_
  refine z_aload_n (M := m_J9_fixAfterDeletion) (k := 1) rfl dJ9_fixAfterDeletion_144 ?_
  refine z_invS (M := m_J9_fixAfterDeletion) (a := [zr (x1)]) ok_J9_parentOf q2298 q2299 dJ9_fixAfterDeletion_145 (Nat.le_refl _) (Nat.le_trans (zcatr zcat0) (zle rfl)) rfl H (fun v1 h1 H => ?_) (fun n9 h9 H => zPx.out rfl H)
  obtain ⟨n1, rfl, H⟩ := H
  show zP s0 m_J9_fixAfterDeletion (d + 1) _ _ [zr (n1), zr (x2)] _ _ _
  refine z_invS (M := m_J9_fixAfterDeletion) (a := [zr (n1)]) ok_J9_colorOf q2295 q2296 dJ9_fixAfterDeletion_148 (Nat.le_refl _) (Nat.le_trans (zcatr zcat0) (zle rfl)) rfl H (fun v2 h2 H => ?_) (fun n9 h9 H => zPx.out rfl H)
  obtain ⟨r1, rfl, H⟩ := H
  show zP s0 m_J9_fixAfterDeletion (d + 1) _ _ [.int (r1), zr (x2)] _ _ _
  refine z_invS (M := m_J9_fixAfterDeletion) (a := [zr (x2), .int (r1)]) ok_J9_setColor q2307 q2308 dJ9_fixAfterDeletion_151 (Nat.le_refl _) (Nat.zero_le _) rfl H (fun v3 h3 H => ?_) (fun n9 h9 H => zPx.out rfl H)
  show zP s0 m_J9_fixAfterDeletion (d + 1) _ _ [] _ _ _
  refine z_aload_n (M := m_J9_fixAfterDeletion) (k := 1) rfl dJ9_fixAfterDeletion_154 ?_
  refine z_invS (M := m_J9_fixAfterDeletion) (a := [zr (x1)]) ok_J9_parentOf q2298 q2299 dJ9_fixAfterDeletion_155 (Nat.le_refl _) (Nat.zero_le _) rfl H (fun v4 h4 H => ?_) (fun n9 h9 H => zPx.out rfl H)
  obtain ⟨n2, rfl, H⟩ := H
  show zP s0 m_J9_fixAfterDeletion (d + 1) _ _ [zr (n2)] _ _ _
  refine z_iconst (M := m_J9_fixAfterDeletion) (v := 1) (by decide) dJ9_fixAfterDeletion_158 ?_
  refine z_invS (M := m_J9_fixAfterDeletion) (a := [zr (n2), .int (1)]) ok_J9_setColor q2307 q2308 dJ9_fixAfterDeletion_159 (Nat.le_refl _) (Nat.zero_le _) rfl H (fun v5 h5 H => ?_) (fun n9 h9 H => zPx.out rfl H)
  show zP s0 m_J9_fixAfterDeletion (d + 1) _ _ [] _ _ _
  refine z_aload_n (M := m_J9_fixAfterDeletion) (k := 2) rfl dJ9_fixAfterDeletion_162 ?_
  refine z_invS (M := m_J9_fixAfterDeletion) (a := [zr (x2)]) ok_J9_rightOf q2304 q2305 dJ9_fixAfterDeletion_163 (Nat.le_refl _) (Nat.zero_le _) rfl H (fun v6 h6 H => ?_) (fun n9 h9 H => zPx.out rfl H)
  obtain ⟨n3, rfl, H⟩ := H
  show zP s0 m_J9_fixAfterDeletion (d + 1) _ _ [zr (n3)] _ _ _
  refine z_iconst (M := m_J9_fixAfterDeletion) (v := 1) (by decide) dJ9_fixAfterDeletion_166 ?_
  refine z_invS (M := m_J9_fixAfterDeletion) (a := [zr (n3), .int (1)]) ok_J9_setColor q2307 q2308 dJ9_fixAfterDeletion_167 (Nat.le_refl _) (Nat.zero_le _) rfl H (fun v7 h7 H => ?_) (fun n9 h9 H => zPx.out rfl H)
  show zP s0 m_J9_fixAfterDeletion (d + 1) _ _ [] _ _ _
  refine z_aload_n (M := m_J9_fixAfterDeletion) (k := 0) rfl dJ9_fixAfterDeletion_170 ?_
  refine z_aload_n (M := m_J9_fixAfterDeletion) (k := 1) rfl dJ9_fixAfterDeletion_171 ?_
  refine z_invS (M := m_J9_fixAfterDeletion) (a := [zr (x1)]) ok_J9_parentOf q2298 q2299 dJ9_fixAfterDeletion_172 (Nat.le_refl _) (Nat.le_trans (zcatr zcat0) (zle rfl)) rfl H (fun v8 h8 H => ?_) (fun n9 h9 H => zPx.out rfl H)
  obtain ⟨n4, rfl, H⟩ := H
  show zP s0 m_J9_fixAfterDeletion (d + 1) _ _ [zr (n4), zr (x0)] _ _ _
  obtain ⟨⟨fs9, g⟩, H⟩ := H
  refine z_invV (M := m_J9_fixAfterDeletion) (cn := 47) (a := [zr (n4)]) ok_J9_rotateLeft q2310 q2312 qs18 rfl dJ9_fixAfterDeletion_175 g (Nat.le_refl _) (Nat.zero_le _) rfl H (fun v9 h9 H => ?_) (fun n9 h9 H => zPx.out rfl H)
  show zP s0 m_J9_fixAfterDeletion (d + 1) _ _ [] _ _ _
  refine z_aload_n (M := m_J9_fixAfterDeletion) (k := 0) rfl dJ9_fixAfterDeletion_178 ?_
  obtain ⟨g, H⟩ := H
  refine z_get (M := m_J9_fixAfterDeletion) f_J9_101 dJ9_fixAfterDeletion_179 g ?_
  refine z_astore_n (M := m_J9_fixAfterDeletion) (k := 1) 1 rfl (zlt rfl) (zr_cat _) dJ9_fixAfterDeletion_182 ?_
  show zP s0 m_J9_fixAfterDeletion (d + 1) _ [some (zr (x0)), some (zr (gR h9 x0 3)), some (zr (x2))] _ _ _ _
  exact zP.weak (ls' := [some (zr (x0)), some (zr (gR h9 x0 3)), none]) (zle rfl) (zsub_so (zsub_so (zsub_no zsub_nil))) H
theorem b_J9_fixAfterDeletion_183 {s0 : zE} {d : Nat} {x0 : Nat} {x1 : Nat} {h : zH} {Q : Value → zH → Prop} {E : Nat → zH → Prop} (H : zP s0 m_J9_fixAfterDeletion (d + 1) 0 [some (zr (x0)), some (zr (x1)), none] [] h Q E) : zP s0 m_J9_fixAfterDeletion (d + 1) 183 [some (zr (x0)), some (zr (x1)), none] [] h Q E := by
  refine z_goto (M := m_J9_fixAfterDeletion) 0 rfl dJ9_fixAfterDeletion_183 ?_
  exact H
theorem b_J9_fixAfterDeletion_230 {s0 : zE} {d : Nat} {x0 : Nat} {x1 : Nat} {x2 : Nat} {h : zH} {Q : Value → zH → Prop} {E : Nat → zH → Prop} (H : zX s0 m_J9_rightOf d [zr (x2)] h (fun v1 h1 => ∃ n1 : Nat, v1 = zr (n1) ∧ (zX s0 m_J9_colorOf d [zr (n1)] h1 (fun v2 h2 => ∃ r1 : Int32, v2 = .int (r1) ∧ ((¬ r1 = 1 → (zP s0 m_J9_fixAfterDeletion (d + 1) 265 [some (zr (x0)), some (zr (x1)), some (zr (x2))] [] h2 Q E)) ∧ (r1 = 1 → (zX s0 m_J9_leftOf d [zr (x2)] h2 (fun v3 h3 => ∃ n2 : Nat, v3 = zr (n2) ∧ (zX s0 m_J9_colorOf d [zr (n2)] h3 (fun v4 h4 => ∃ r2 : Int32, v4 = .int (r2) ∧ ((¬ r2 = 1 → (zP s0 m_J9_fixAfterDeletion (d + 1) 265 [some (zr (x0)), some (zr (x1)), some (zr (x2))] [] h4 Q E)) ∧ (r2 = 1 → (zX s0 m_J9_setColor d [zr (x2), .int (0)] h4 (fun _ h5 => (zX s0 m_J9_parentOf d [zr (x1)] h5 (fun v6 h6 => ∃ n3 : Nat, v6 = zr (n3) ∧ (zP s0 m_J9_fixAfterDeletion (d + 1) 0 [some (zr (x0)), some (zr (n3)), none] [] h6 Q E)) E)) E)))) E)) E)))) E)) E) : zP s0 m_J9_fixAfterDeletion (d + 1) 230 [some (zr (x0)), some (zr (x1)), some (zr (x2))] [] h Q E := by
  refine z_aload_n (M := m_J9_fixAfterDeletion) (k := 2) rfl dJ9_fixAfterDeletion_230 ?_
  refine z_invS (M := m_J9_fixAfterDeletion) (a := [zr (x2)]) ok_J9_rightOf q2304 q2305 dJ9_fixAfterDeletion_231 (Nat.le_refl _) (Nat.zero_le _) rfl H (fun v1 h1 H => ?_) (fun n9 h9 H => zPx.out rfl H)
  obtain ⟨n1, rfl, H⟩ := H
  show zP s0 m_J9_fixAfterDeletion (d + 1) _ _ [zr (n1)] _ _ _
  refine z_invS (M := m_J9_fixAfterDeletion) (a := [zr (n1)]) ok_J9_colorOf q2295 q2296 dJ9_fixAfterDeletion_234 (Nat.le_refl _) (Nat.zero_le _) rfl H (fun v2 h2 H => ?_) (fun n9 h9 H => zPx.out rfl H)
  obtain ⟨r1, rfl, H⟩ := H
  show zP s0 m_J9_fixAfterDeletion (d + 1) _ _ [.int (r1)] _ _ _
  refine z_iconst (M := m_J9_fixAfterDeletion) (v := 1) (by decide) dJ9_fixAfterDeletion_237 ?_
  refine z_icmpne (M := m_J9_fixAfterDeletion) 265 rfl dJ9_fixAfterDeletion_238 (fun hc => ?_) (fun hc => ?_)
  · have H := H.1 hc
    exact H
  · have H := H.2 hc
    refine z_aload_n (M := m_J9_fixAfterDeletion) (k := 2) rfl dJ9_fixAfterDeletion_241 ?_
    refine z_invS (M := m_J9_fixAfterDeletion) (a := [zr (x2)]) ok_J9_leftOf q2301 q2302 dJ9_fixAfterDeletion_242 (Nat.le_refl _) (Nat.zero_le _) rfl H (fun v3 h3 H => ?_) (fun n9 h9 H => zPx.out rfl H)
    obtain ⟨n2, rfl, H⟩ := H
    show zP s0 m_J9_fixAfterDeletion (d + 1) _ _ [zr (n2)] _ _ _
    refine z_invS (M := m_J9_fixAfterDeletion) (a := [zr (n2)]) ok_J9_colorOf q2295 q2296 dJ9_fixAfterDeletion_245 (Nat.le_refl _) (Nat.zero_le _) rfl H (fun v4 h4 H => ?_) (fun n9 h9 H => zPx.out rfl H)
    obtain ⟨r2, rfl, H⟩ := H
    show zP s0 m_J9_fixAfterDeletion (d + 1) _ _ [.int (r2)] _ _ _
    refine z_iconst (M := m_J9_fixAfterDeletion) (v := 1) (by decide) dJ9_fixAfterDeletion_248 ?_
    refine z_icmpne (M := m_J9_fixAfterDeletion) 265 rfl dJ9_fixAfterDeletion_249 (fun hc => ?_) (fun hc => ?_)
    · have H := H.1 hc
      exact H
    · have H := H.2 hc
      refine z_aload_n (M := m_J9_fixAfterDeletion) (k := 2) rfl dJ9_fixAfterDeletion_252 ?_
      refine z_iconst (M := m_J9_fixAfterDeletion) (v := 0) (by decide) dJ9_fixAfterDeletion_253 ?_
      refine z_invS (M := m_J9_fixAfterDeletion) (a := [zr (x2), .int (0)]) ok_J9_setColor q2307 q2308 dJ9_fixAfterDeletion_254 (Nat.le_refl _) (Nat.zero_le _) rfl H (fun v5 h5 H => ?_) (fun n9 h9 H => zPx.out rfl H)
      show zP s0 m_J9_fixAfterDeletion (d + 1) _ _ [] _ _ _
      refine z_aload_n (M := m_J9_fixAfterDeletion) (k := 1) rfl dJ9_fixAfterDeletion_257 ?_
      refine z_invS (M := m_J9_fixAfterDeletion) (a := [zr (x1)]) ok_J9_parentOf q2298 q2299 dJ9_fixAfterDeletion_258 (Nat.le_refl _) (Nat.zero_le _) rfl H (fun v6 h6 H => ?_) (fun n9 h9 H => zPx.out rfl H)
      obtain ⟨n3, rfl, H⟩ := H
      show zP s0 m_J9_fixAfterDeletion (d + 1) _ _ [zr (n3)] _ _ _
      refine z_astore_n (M := m_J9_fixAfterDeletion) (k := 1) 1 rfl (zlt rfl) (zr_cat _) dJ9_fixAfterDeletion_261 ?_
      show zP s0 m_J9_fixAfterDeletion (d + 1) _ [some (zr (x0)), some (zr (n3)), some (zr (x2))] _ _ _ _
      refine z_goto (M := m_J9_fixAfterDeletion) 342 rfl dJ9_fixAfterDeletion_262 ?_
      refine z_goto (M := m_J9_fixAfterDeletion) 0 rfl dJ9_fixAfterDeletion_342 ?_
      exact zP.weak (ls' := [some (zr (x0)), some (zr (n3)), none]) (zle rfl) (zsub_so (zsub_so (zsub_no zsub_nil))) H
theorem b_J9_fixAfterDeletion_265 {s0 : zE} {d : Nat} {x0 : Nat} {x1 : Nat} {x2 : Nat} {h : zH} {Q : Value → zH → Prop} {E : Nat → zH → Prop} (H : zX s0 m_J9_leftOf d [zr (x2)] h (fun v1 h1 => ∃ n1 : Nat, v1 = zr (n1) ∧ (zX s0 m_J9_colorOf d [zr (n1)] h1 (fun v2 h2 => ∃ r1 : Int32, v2 = .int (r1) ∧ ((¬ r1 = 1 → (zP s0 m_J9_fixAfterDeletion (d + 1) 302 [some (zr (x0)), some (zr (x1)), some (zr (x2))] [] h2 Q E)) ∧ (r1 = 1 → (zX s0 m_J9_rightOf d [zr (x2)] h2 (fun v3 h3 => ∃ n2 : Nat, v3 = zr (n2) ∧ (zX s0 m_J9_setColor d [zr (n2), .int (1)] h3 (fun _ h4 => (zX s0 m_J9_setColor d [zr (x2), .int (0)] h4 (fun _ h5 => ((fC h5 x0 47 ∧ zX s0 m_J9_rotateLeft d [zr x0, zr (x2)] h5 (fun _ h6 => (zX s0 m_J9_parentOf d [zr (x1)] h6 (fun v7 h7 => ∃ n3 : Nat, v7 = zr (n3) ∧ (zX s0 m_J9_leftOf d [zr (n3)] h7 (fun v8 h8 => ∃ n4 : Nat, v8 = zr (n4) ∧ (zP s0 m_J9_fixAfterDeletion (d + 1) 302 [some (zr (x0)), some (zr (x1)), some (zr (n4))] [] h8 Q E)) E)) E)) E))) E)) E)) E)))) E)) E) : zP s0 m_J9_fixAfterDeletion (d + 1) 265 [some (zr (x0)), some (zr (x1)), some (zr (x2))] [] h Q E := by
  refine z_aload_n (M := m_J9_fixAfterDeletion) (k := 2) rfl dJ9_fixAfterDeletion_265 ?_
  refine z_invS (M := m_J9_fixAfterDeletion) (a := [zr (x2)]) ok_J9_leftOf q2301 q2302 dJ9_fixAfterDeletion_266 (Nat.le_refl _) (Nat.zero_le _) rfl H (fun v1 h1 H => ?_) (fun n9 h9 H => zPx.out rfl H)
  obtain ⟨n1, rfl, H⟩ := H
  show zP s0 m_J9_fixAfterDeletion (d + 1) _ _ [zr (n1)] _ _ _
  refine z_invS (M := m_J9_fixAfterDeletion) (a := [zr (n1)]) ok_J9_colorOf q2295 q2296 dJ9_fixAfterDeletion_269 (Nat.le_refl _) (Nat.zero_le _) rfl H (fun v2 h2 H => ?_) (fun n9 h9 H => zPx.out rfl H)
  obtain ⟨r1, rfl, H⟩ := H
  show zP s0 m_J9_fixAfterDeletion (d + 1) _ _ [.int (r1)] _ _ _
  refine z_iconst (M := m_J9_fixAfterDeletion) (v := 1) (by decide) dJ9_fixAfterDeletion_272 ?_
  refine z_icmpne (M := m_J9_fixAfterDeletion) 302 rfl dJ9_fixAfterDeletion_273 (fun hc => ?_) (fun hc => ?_)
  · have H := H.1 hc
    exact H
  · have H := H.2 hc
    refine z_aload_n (M := m_J9_fixAfterDeletion) (k := 2) rfl dJ9_fixAfterDeletion_276 ?_
    refine z_invS (M := m_J9_fixAfterDeletion) (a := [zr (x2)]) ok_J9_rightOf q2304 q2305 dJ9_fixAfterDeletion_277 (Nat.le_refl _) (Nat.zero_le _) rfl H (fun v3 h3 H => ?_) (fun n9 h9 H => zPx.out rfl H)
    obtain ⟨n2, rfl, H⟩ := H
    show zP s0 m_J9_fixAfterDeletion (d + 1) _ _ [zr (n2)] _ _ _
    refine z_iconst (M := m_J9_fixAfterDeletion) (v := 1) (by decide) dJ9_fixAfterDeletion_280 ?_
    refine z_invS (M := m_J9_fixAfterDeletion) (a := [zr (n2), .int (1)]) ok_J9_setColor q2307 q2308 dJ9_fixAfterDeletion_281 (Nat.le_refl _) (Nat.zero_le _) rfl H (fun v4 h4 H => ?_) (fun n9 h9 H => zPx.out rfl H)
    show zP s0 m_J9_fixAfterDeletion (d + 1) _ _ [] _ _ _
    refine z_aload_n (M := m_J9_fixAfterDeletion) (k := 2) rfl dJ9_fixAfterDeletion_284 ?_
    refine z_iconst (M := m_J9_fixAfterDeletion) (v := 0) (by decide) dJ9_fixAfterDeletion_285 ?_
    refine z_invS (M := m_J9_fixAfterDeletion) (a := [zr (x2), .int (0)]) ok_J9_setColor q2307 q2308 dJ9_fixAfterDeletion_286 (Nat.le_refl _) (Nat.zero_le _) rfl H (fun v5 h5 H => ?_) (fun n9 h9 H => zPx.out rfl H)
    show zP s0 m_J9_fixAfterDeletion (d + 1) _ _ [] _ _ _
    refine z_aload_n (M := m_J9_fixAfterDeletion) (k := 0) rfl dJ9_fixAfterDeletion_289 ?_
    refine z_aload_n (M := m_J9_fixAfterDeletion) (k := 2) rfl dJ9_fixAfterDeletion_290 ?_
    obtain ⟨⟨fs9, g⟩, H⟩ := H
    refine z_invV (M := m_J9_fixAfterDeletion) (cn := 47) (a := [zr (x2)]) ok_J9_rotateLeft q2310 q2312 qs18 rfl dJ9_fixAfterDeletion_291 g (Nat.le_refl _) (Nat.zero_le _) rfl H (fun v6 h6 H => ?_) (fun n9 h9 H => zPx.out rfl H)
    show zP s0 m_J9_fixAfterDeletion (d + 1) _ _ [] _ _ _
    refine z_aload_n (M := m_J9_fixAfterDeletion) (k := 1) rfl dJ9_fixAfterDeletion_294 ?_
    refine z_invS (M := m_J9_fixAfterDeletion) (a := [zr (x1)]) ok_J9_parentOf q2298 q2299 dJ9_fixAfterDeletion_295 (Nat.le_refl _) (Nat.zero_le _) rfl H (fun v7 h7 H => ?_) (fun n9 h9 H => zPx.out rfl H)
    obtain ⟨n3, rfl, H⟩ := H
    show zP s0 m_J9_fixAfterDeletion (d + 1) _ _ [zr (n3)] _ _ _
    refine z_invS (M := m_J9_fixAfterDeletion) (a := [zr (n3)]) ok_J9_leftOf q2301 q2302 dJ9_fixAfterDeletion_298 (Nat.le_refl _) (Nat.zero_le _) rfl H (fun v8 h8 H => ?_) (fun n9 h9 H => zPx.out rfl H)
    obtain ⟨n4, rfl, H⟩ := H
    show zP s0 m_J9_fixAfterDeletion (d + 1) _ _ [zr (n4)] _ _ _
    refine z_astore_n (M := m_J9_fixAfterDeletion) (k := 2) 2 rfl (zlt rfl) (zr_cat _) dJ9_fixAfterDeletion_301 ?_
    show zP s0 m_J9_fixAfterDeletion (d + 1) _ [some (zr (x0)), some (zr (x1)), some (zr (n4))] _ _ _ _
    exact H
theorem b_J9_fixAfterDeletion_302 {s0 : zE} {d : Nat} {x0 : Nat} {x1 : Nat} {x2 : Nat} {h : zH} {Q : Value → zH → Prop} {E : Nat → zH → Prop} (H : zX s0 m_J9_parentOf d [zr (x1)] h (fun v1 h1 => ∃ n1 : Nat, v1 = zr (n1) ∧ (zX s0 m_J9_colorOf d [zr (n1)] h1 (fun v2 h2 => ∃ r1 : Int32, v2 = .int (r1) ∧ (zX s0 m_J9_setColor d [zr (x2), .int (r1)] h2 (fun _ h3 => (zX s0 m_J9_parentOf d [zr (x1)] h3 (fun v4 h4 => ∃ n2 : Nat, v4 = zr (n2) ∧ (zX s0 m_J9_setColor d [zr (n2), .int (1)] h4 (fun _ h5 => (zX s0 m_J9_leftOf d [zr (x2)] h5 (fun v6 h6 => ∃ n3 : Nat, v6 = zr (n3) ∧ (zX s0 m_J9_setColor d [zr (n3), .int (1)] h6 (fun _ h7 => (zX s0 m_J9_parentOf d [zr (x1)] h7 (fun v8 h8 => ∃ n4 : Nat, v8 = zr (n4) ∧ ((fC h8 x0 47 ∧ zX s0 m_J9_rotateRight d [zr x0, zr (n4)] h8 (fun _ h9 => ((fR h9 x0 [47] 3) ∧ (zP s0 m_J9_fixAfterDeletion (d + 1) 0 [some (zr (x0)), some (zr (gR h9 x0 3)), none] [] h9 Q E))) E))) E)) E)) E)) E)) E)) E)) E)) E) : zP s0 m_J9_fixAfterDeletion (d + 1) 302 [some (zr (x0)), some (zr (x1)), some (zr (x2))] [] h Q E := by
  refine z_aload_n (M := m_J9_fixAfterDeletion) (k := 2) rfl dJ9_fixAfterDeletion_302 ?_
  refine z_aload_n (M := m_J9_fixAfterDeletion) (k := 1) rfl dJ9_fixAfterDeletion_303 ?_
  refine z_invS (M := m_J9_fixAfterDeletion) (a := [zr (x1)]) ok_J9_parentOf q2298 q2299 dJ9_fixAfterDeletion_304 (Nat.le_refl _) (Nat.le_trans (zcatr zcat0) (zle rfl)) rfl H (fun v1 h1 H => ?_) (fun n9 h9 H => zPx.out rfl H)
  obtain ⟨n1, rfl, H⟩ := H
  show zP s0 m_J9_fixAfterDeletion (d + 1) _ _ [zr (n1), zr (x2)] _ _ _
  refine z_invS (M := m_J9_fixAfterDeletion) (a := [zr (n1)]) ok_J9_colorOf q2295 q2296 dJ9_fixAfterDeletion_307 (Nat.le_refl _) (Nat.le_trans (zcatr zcat0) (zle rfl)) rfl H (fun v2 h2 H => ?_) (fun n9 h9 H => zPx.out rfl H)
  obtain ⟨r1, rfl, H⟩ := H
  show zP s0 m_J9_fixAfterDeletion (d + 1) _ _ [.int (r1), zr (x2)] _ _ _
  refine z_invS (M := m_J9_fixAfterDeletion) (a := [zr (x2), .int (r1)]) ok_J9_setColor q2307 q2308 dJ9_fixAfterDeletion_310 (Nat.le_refl _) (Nat.zero_le _) rfl H (fun v3 h3 H => ?_) (fun n9 h9 H => zPx.out rfl H)
  show zP s0 m_J9_fixAfterDeletion (d + 1) _ _ [] _ _ _
  refine z_aload_n (M := m_J9_fixAfterDeletion) (k := 1) rfl dJ9_fixAfterDeletion_313 ?_
  refine z_invS (M := m_J9_fixAfterDeletion) (a := [zr (x1)]) ok_J9_parentOf q2298 q2299 dJ9_fixAfterDeletion_314 (Nat.le_refl _) (Nat.zero_le _) rfl H (fun v4 h4 H => ?_) (fun n9 h9 H => zPx.out rfl H)
  obtain ⟨n2, rfl, H⟩ := H
  show zP s0 m_J9_fixAfterDeletion (d + 1) _ _ [zr (n2)] _ _ _
  refine z_iconst (M := m_J9_fixAfterDeletion) (v := 1) (by decide) dJ9_fixAfterDeletion_317 ?_
  refine z_invS (M := m_J9_fixAfterDeletion) (a := [zr (n2), .int (1)]) ok_J9_setColor q2307 q2308 dJ9_fixAfterDeletion_318 (Nat.le_refl _) (Nat.zero_le _) rfl H (fun v5 h5 H => ?_) (fun n9 h9 H => zPx.out rfl H)
  show zP s0 m_J9_fixAfterDeletion (d + 1) _ _ [] _ _ _
  refine z_aload_n (M := m_J9_fixAfterDeletion) (k := 2) rfl dJ9_fixAfterDeletion_321 ?_
  refine z_invS (M := m_J9_fixAfterDeletion) (a := [zr (x2)]) ok_J9_leftOf q2301 q2302 dJ9_fixAfterDeletion_322 (Nat.le_refl _) (Nat.zero_le _) rfl H (fun v6 h6 H => ?_) (fun n9 h9 H => zPx.out rfl H)
  obtain ⟨n3, rfl, H⟩ := H
  show zP s0 m_J9_fixAfterDeletion (d + 1) _ _ [zr (n3)] _ _ _
  refine z_iconst (M := m_J9_fixAfterDeletion) (v := 1) (by decide) dJ9_fixAfterDeletion_325 ?_
  refine z_invS (M := m_J9_fixAfterDeletion) (a := [zr (n3), .int (1)]) ok_J9_setColor q2307 q2308 dJ9_fixAfterDeletion_326 (Nat.le_refl _) (Nat.zero_le _) rfl H (fun v7 h7 H => ?_) (fun n9 h9 H => zPx.out rfl H)
  show zP s0 m_J9_fixAfterDeletion (d + 1) _ _ [] _ _ _
  refine z_aload_n (M := m_J9_fixAfterDeletion) (k := 0) rfl dJ9_fixAfterDeletion_329 ?_
  refine z_aload_n (M := m_J9_fixAfterDeletion) (k := 1) rfl dJ9_fixAfterDeletion_330 ?_
  refine z_invS (M := m_J9_fixAfterDeletion) (a := [zr (x1)]) ok_J9_parentOf q2298 q2299 dJ9_fixAfterDeletion_331 (Nat.le_refl _) (Nat.le_trans (zcatr zcat0) (zle rfl)) rfl H (fun v8 h8 H => ?_) (fun n9 h9 H => zPx.out rfl H)
  obtain ⟨n4, rfl, H⟩ := H
  show zP s0 m_J9_fixAfterDeletion (d + 1) _ _ [zr (n4), zr (x0)] _ _ _
  obtain ⟨⟨fs9, g⟩, H⟩ := H
  refine z_invV (M := m_J9_fixAfterDeletion) (cn := 47) (a := [zr (n4)]) ok_J9_rotateRight q2314 q2316 qs19 rfl dJ9_fixAfterDeletion_334 g (Nat.le_refl _) (Nat.zero_le _) rfl H (fun v9 h9 H => ?_) (fun n9 h9 H => zPx.out rfl H)
  show zP s0 m_J9_fixAfterDeletion (d + 1) _ _ [] _ _ _
  refine z_aload_n (M := m_J9_fixAfterDeletion) (k := 0) rfl dJ9_fixAfterDeletion_337 ?_
  obtain ⟨g, H⟩ := H
  refine z_get (M := m_J9_fixAfterDeletion) f_J9_101 dJ9_fixAfterDeletion_338 g ?_
  refine z_astore_n (M := m_J9_fixAfterDeletion) (k := 1) 1 rfl (zlt rfl) (zr_cat _) dJ9_fixAfterDeletion_341 ?_
  show zP s0 m_J9_fixAfterDeletion (d + 1) _ [some (zr (x0)), some (zr (gR h9 x0 3)), some (zr (x2))] _ _ _ _
  refine z_goto (M := m_J9_fixAfterDeletion) 0 rfl dJ9_fixAfterDeletion_342 ?_
  exact zP.weak (ls' := [some (zr (x0)), some (zr (gR h9 x0 3)), none]) (zle rfl) (zsub_so (zsub_so (zsub_no zsub_nil))) H
theorem b_J9_fixAfterInsertion_0 {s0 : zE} {d : Nat} {x0 : Nat} {x1 : Nat} {h : zH} {Q : Value → zH → Prop} {E : Nat → zH → Prop} (H : (fC h x1 67) ∧ (∀ h1, h1 = zput h x1 5 (.int (0)) → (zP s0 m_J9_fixAfterInsertion (d + 1) 5 [some (zr (x0)), some (zr (x1)), none] [] h1 Q E))) : zP s0 m_J9_fixAfterInsertion (d + 1) 0 [some (zr (x0)), some (zr (x1)), none] [] h Q E := by
  refine z_aload_n (M := m_J9_fixAfterInsertion) (k := 1) rfl dJ9_fixAfterInsertion_0 ?_
  refine z_iconst (M := m_J9_fixAfterInsertion) (v := 0) (by decide) dJ9_fixAfterInsertion_1 ?_
  obtain ⟨g, H⟩ := H
  refine zz_put (M := m_J9_fixAfterInsertion) f_J9_290 dJ9_fixAfterInsertion_2 rfl (fn_67_5) g (ft_67_5 (Or.inl rfl)) (fun h1 e => ?_)
  have H := H h1 e
  exact H
theorem c_J9_fixAfterInsertion {s0 : zE} {d : Nat} {x0 : Nat} {x1 : Nat} {h : zH} {Q : Value → zH → Prop} {E : Nat → zH → Prop} (H : (fC h x1 67) ∧ (∀ h1, h1 = zput h x1 5 (.int (0)) → (zP s0 m_J9_fixAfterInsertion (d + 1) 5 [some (zr (x0)), some (zr (x1)), none] [] h1 Q E))) : zX s0 m_J9_fixAfterInsertion (d + 1) [zr (x0), zr (x1)] h Q E := zX.of2 rfl (by decide +kernel) (zlay_r (zlay_r (zlay_n (znoneS znone0)))) (zle rfl) (b_J9_fixAfterInsertion_0 H)
theorem b_J9_fixAfterInsertion_5 {s0 : zE} {d : Nat} {x0 : Nat} {x1 : Nat} {h : zH} {Q : Value → zH → Prop} {E : Nat → zH → Prop} (H : (x1 = 0 → ((fR h x0 [47] 3) ∧ ((fC h (gR h x0 3) 67) ∧ (∀ h1, h1 = zput h (gR h x0 3) 5 (.int (1)) → (Q .null h1))))) ∧ (¬ x1 = 0 → ((fR h x0 [47] 3) ∧ ((x1 = gR h x0 3 → ((fR h x0 [47] 3) ∧ ((fC h (gR h x0 3) 67) ∧ (∀ h2, h2 = zput h (gR h x0 3) 5 (.int (1)) → (Q .null h2))))) ∧ (¬ x1 = gR h x0 3 → ((fR h x1 [67] 4) ∧ ((fI h (gR h x1 4) [67] 5) ∧ ((¬ gI h (gR h x1 4) 5 = 0 → ((fR h x0 [47] 3) ∧ ((fC h (gR h x0 3) 67) ∧ (∀ h3, h3 = zput h (gR h x0 3) 5 (.int (1)) → (Q .null h3))))) ∧ (gI h (gR h x1 4) 5 = 0 → (zX s0 m_J9_parentOf d [zr (x1)] h (fun v1 h4 => ∃ n1 : Nat, v1 = zr (n1) ∧ (zX s0 m_J9_parentOf d [zr (x1)] h4 (fun v2 h5 => ∃ n2 : Nat, v2 = zr (n2) ∧ (zX s0 m_J9_parentOf d [zr (n2)] h5 (fun v3 h6 => ∃ n3 : Nat, v3 = zr (n3) ∧ (zX s0 m_J9_leftOf d [zr (n3)] h6 (fun v4 h7 => ∃ n4 : Nat, v4 = zr (n4) ∧ ((¬ n1 = n4 → (zX s0 m_J9_parentOf d [zr (x1)] h7 (fun v5 h8 => ∃ n5 : Nat, v5 = zr (n5) ∧ (zX s0 m_J9_parentOf d [zr (n5)] h8 (fun v6 h9 => ∃ n6 : Nat, v6 = zr (n6) ∧ (zX s0 m_J9_leftOf d [zr (n6)] h9 (fun v7 h10 => ∃ n7 : Nat, v7 = zr (n7) ∧ (zX s0 m_J9_colorOf d [zr (n7)] h10 (fun v8 h11 => ∃ r1 : Int32, v8 = .int (r1) ∧ ((¬ r1 = 0 → (zX s0 m_J9_parentOf d [zr (x1)] h11 (fun v9 h12 => ∃ n8 : Nat, v9 = zr (n8) ∧ (zX s0 m_J9_leftOf d [zr (n8)] h12 (fun v10 h13 => ∃ n9 : Nat, v10 = zr (n9) ∧ ((¬ x1 = n9 → (zP s0 m_J9_fixAfterInsertion (d + 1) 225 [some (zr (x0)), some (zr (x1)), none] [] h13 Q E)) ∧ (x1 = n9 → (zX s0 m_J9_parentOf d [zr (x1)] h13 (fun v11 h14 => ∃ n10 : Nat, v11 = zr (n10) ∧ ((fC h14 x0 47 ∧ zX s0 m_J9_rotateRight d [zr x0, zr (n10)] h14 (fun _ h15 => (zP s0 m_J9_fixAfterInsertion (d + 1) 225 [some (zr (x0)), some (zr (n10)), none] [] h15 Q E)) E))) E)))) E)) E)) ∧ (r1 = 0 → (zX s0 m_J9_parentOf d [zr (x1)] h11 (fun v13 h16 => ∃ n11 : Nat, v13 = zr (n11) ∧ (zX s0 m_J9_setColor d [zr (n11), .int (1)] h16 (fun _ h17 => (zX s0 m_J9_setColor d [zr (n7), .int (1)] h17 (fun _ h18 => (zX s0 m_J9_parentOf d [zr (x1)] h18 (fun v16 h19 => ∃ n12 : Nat, v16 = zr (n12) ∧ (zX s0 m_J9_parentOf d [zr (n12)] h19 (fun v17 h20 => ∃ n13 : Nat, v17 = zr (n13) ∧ (zX s0 m_J9_setColor d [zr (n13), .int (0)] h20 (fun _ h21 => (zX s0 m_J9_parentOf d [zr (x1)] h21 (fun v19 h22 => ∃ n14 : Nat, v19 = zr (n14) ∧ (zX s0 m_J9_parentOf d [zr (n14)] h22 (fun v20 h23 => ∃ n15 : Nat, v20 = zr (n15) ∧ (zP s0 m_J9_fixAfterInsertion (d + 1) 5 [some (zr (x0)), some (zr (n15)), none] [] h23 Q E)) E)) E)) E)) E)) E)) E)) E)) E)))) E)) E)) E)) E)) ∧ (n1 = n4 → (zX s0 m_J9_parentOf d [zr (x1)] h7 (fun v21 h24 => ∃ n16 : Nat, v21 = zr (n16) ∧ (zX s0 m_J9_parentOf d [zr (n16)] h24 (fun v22 h25 => ∃ n17 : Nat, v22 = zr (n17) ∧ (zX s0 m_J9_rightOf d [zr (n17)] h25 (fun v23 h26 => ∃ n18 : Nat, v23 = zr (n18) ∧ (zX s0 m_J9_colorOf d [zr (n18)] h26 (fun v24 h27 => ∃ r2 : Int32, v24 = .int (r2) ∧ ((¬ r2 = 0 → (zX s0 m_J9_parentOf d [zr (x1)] h27 (fun v25 h28 => ∃ n19 : Nat, v25 = zr (n19) ∧ (zX s0 m_J9_rightOf d [zr (n19)] h28 (fun v26 h29 => ∃ n20 : Nat, v26 = zr (n20) ∧ ((¬ x1 = n20 → (zP s0 m_J9_fixAfterInsertion (d + 1) 118 [some (zr (x0)), some (zr (x1)), none] [] h29 Q E)) ∧ (x1 = n20 → (zX s0 m_J9_parentOf d [zr (x1)] h29 (fun v27 h30 => ∃ n21 : Nat, v27 = zr (n21) ∧ ((fC h30 x0 47 ∧ zX s0 m_J9_rotateLeft d [zr x0, zr (n21)] h30 (fun _ h31 => (zP s0 m_J9_fixAfterInsertion (d + 1) 118 [some (zr (x0)), some (zr (n21)), none] [] h31 Q E)) E))) E)))) E)) E)) ∧ (r2 = 0 → (zX s0 m_J9_parentOf d [zr (x1)] h27 (fun v29 h32 => ∃ n22 : Nat, v29 = zr (n22) ∧ (zX s0 m_J9_setColor d [zr (n22), .int (1)] h32 (fun _ h33 => (zX s0 m_J9_setColor d [zr (n18), .int (1)] h33 (fun _ h34 => (zX s0 m_J9_parentOf d [zr (x1)] h34 (fun v32 h35 => ∃ n23 : Nat, v32 = zr (n23) ∧ (zX s0 m_J9_parentOf d [zr (n23)] h35 (fun v33 h36 => ∃ n24 : Nat, v33 = zr (n24) ∧ (zX s0 m_J9_setColor d [zr (n24), .int (0)] h36 (fun _ h37 => (zX s0 m_J9_parentOf d [zr (x1)] h37 (fun v35 h38 => ∃ n25 : Nat, v35 = zr (n25) ∧ (zX s0 m_J9_parentOf d [zr (n25)] h38 (fun v36 h39 => ∃ n26 : Nat, v36 = zr (n26) ∧ (zP s0 m_J9_fixAfterInsertion (d + 1) 5 [some (zr (x0)), some (zr (n26)), none] [] h39 Q E)) E)) E)) E)) E)) E)) E)) E)) E)))) E)) E)) E)) E)))) E)) E)) E)) E)))))))))) : zP s0 m_J9_fixAfterInsertion (d + 1) 5 [some (zr (x0)), some (zr (x1)), none] [] h Q E := by
  refine z_aload_n (M := m_J9_fixAfterInsertion) (k := 1) rfl dJ9_fixAfterInsertion_5 ?_
  refine z_ifnull (M := m_J9_fixAfterInsertion) 258 rfl dJ9_fixAfterInsertion_6 (fun hc => ?_) (fun hc => ?_)
  · have H := H.1 hc
    refine z_aload_n (M := m_J9_fixAfterInsertion) (k := 0) rfl dJ9_fixAfterInsertion_258 ?_
    obtain ⟨g, H⟩ := H
    refine z_get (M := m_J9_fixAfterInsertion) f_J9_101 dJ9_fixAfterInsertion_259 g ?_
    refine z_iconst (M := m_J9_fixAfterInsertion) (v := 1) (by decide) dJ9_fixAfterInsertion_262 ?_
    obtain ⟨g, H⟩ := H
    refine zz_put (M := m_J9_fixAfterInsertion) f_J9_290 dJ9_fixAfterInsertion_263 rfl (fn_67_5) g (ft_67_5 (Or.inr rfl)) (fun h1 e => ?_)
    have H := H h1 e
    exact z_return (M := m_J9_fixAfterInsertion) rfl dJ9_fixAfterInsertion_266 H
  · have H := H.2 hc
    refine z_aload_n (M := m_J9_fixAfterInsertion) (k := 1) rfl dJ9_fixAfterInsertion_9 ?_
    refine z_aload_n (M := m_J9_fixAfterInsertion) (k := 0) rfl dJ9_fixAfterInsertion_10 ?_
    obtain ⟨g, H⟩ := H
    refine z_get (M := m_J9_fixAfterInsertion) f_J9_101 dJ9_fixAfterInsertion_11 g ?_
    refine z_acmpeq (M := m_J9_fixAfterInsertion) 258 rfl dJ9_fixAfterInsertion_14 (fun hc => ?_) (fun hc => ?_)
    · have H := H.1 hc
      refine z_aload_n (M := m_J9_fixAfterInsertion) (k := 0) rfl dJ9_fixAfterInsertion_258 ?_
      obtain ⟨g, H⟩ := H
      refine z_get (M := m_J9_fixAfterInsertion) f_J9_101 dJ9_fixAfterInsertion_259 g ?_
      refine z_iconst (M := m_J9_fixAfterInsertion) (v := 1) (by decide) dJ9_fixAfterInsertion_262 ?_
      obtain ⟨g, H⟩ := H
      refine zz_put (M := m_J9_fixAfterInsertion) f_J9_290 dJ9_fixAfterInsertion_263 rfl (fn_67_5) g (ft_67_5 (Or.inr rfl)) (fun h2 e => ?_)
      have H := H h2 e
      exact z_return (M := m_J9_fixAfterInsertion) rfl dJ9_fixAfterInsertion_266 H
    · have H := H.2 hc
      refine z_aload_n (M := m_J9_fixAfterInsertion) (k := 1) rfl dJ9_fixAfterInsertion_17 ?_
      obtain ⟨g, H⟩ := H
      refine z_get (M := m_J9_fixAfterInsertion) f_J9_124 dJ9_fixAfterInsertion_18 g ?_
      obtain ⟨g, H⟩ := H
      refine z_get (M := m_J9_fixAfterInsertion) f_J9_290 dJ9_fixAfterInsertion_21 g ?_
      refine z_ifne (M := m_J9_fixAfterInsertion) 258 rfl dJ9_fixAfterInsertion_24 (fun hc => ?_) (fun hc => ?_)
      · have H := H.1 hc
        refine z_aload_n (M := m_J9_fixAfterInsertion) (k := 0) rfl dJ9_fixAfterInsertion_258 ?_
        obtain ⟨g, H⟩ := H
        refine z_get (M := m_J9_fixAfterInsertion) f_J9_101 dJ9_fixAfterInsertion_259 g ?_
        refine z_iconst (M := m_J9_fixAfterInsertion) (v := 1) (by decide) dJ9_fixAfterInsertion_262 ?_
        obtain ⟨g, H⟩ := H
        refine zz_put (M := m_J9_fixAfterInsertion) f_J9_290 dJ9_fixAfterInsertion_263 rfl (fn_67_5) g (ft_67_5 (Or.inr rfl)) (fun h3 e => ?_)
        have H := H h3 e
        exact z_return (M := m_J9_fixAfterInsertion) rfl dJ9_fixAfterInsertion_266 H
      · have H := H.2 hc
        refine z_aload_n (M := m_J9_fixAfterInsertion) (k := 1) rfl dJ9_fixAfterInsertion_27 ?_
        refine z_invS (M := m_J9_fixAfterInsertion) (a := [zr (x1)]) ok_J9_parentOf q2298 q2299 dJ9_fixAfterInsertion_28 (Nat.le_refl _) (Nat.zero_le _) rfl H (fun v1 h4 H => ?_) (fun n9 h9 H => zPx.out rfl H)
        obtain ⟨n1, rfl, H⟩ := H
        show zP s0 m_J9_fixAfterInsertion (d + 1) _ _ [zr (n1)] _ _ _
        refine z_aload_n (M := m_J9_fixAfterInsertion) (k := 1) rfl dJ9_fixAfterInsertion_31 ?_
        refine z_invS (M := m_J9_fixAfterInsertion) (a := [zr (x1)]) ok_J9_parentOf q2298 q2299 dJ9_fixAfterInsertion_32 (Nat.le_refl _) (Nat.le_trans (zcatr zcat0) (zle rfl)) rfl H (fun v2 h5 H => ?_) (fun n9 h9 H => zPx.out rfl H)
        obtain ⟨n2, rfl, H⟩ := H
        show zP s0 m_J9_fixAfterInsertion (d + 1) _ _ [zr (n2), zr (n1)] _ _ _
        refine z_invS (M := m_J9_fixAfterInsertion) (a := [zr (n2)]) ok_J9_parentOf q2298 q2299 dJ9_fixAfterInsertion_35 (Nat.le_refl _) (Nat.le_trans (zcatr zcat0) (zle rfl)) rfl H (fun v3 h6 H => ?_) (fun n9 h9 H => zPx.out rfl H)
        obtain ⟨n3, rfl, H⟩ := H
        show zP s0 m_J9_fixAfterInsertion (d + 1) _ _ [zr (n3), zr (n1)] _ _ _
        refine z_invS (M := m_J9_fixAfterInsertion) (a := [zr (n3)]) ok_J9_leftOf q2301 q2302 dJ9_fixAfterInsertion_38 (Nat.le_refl _) (Nat.le_trans (zcatr zcat0) (zle rfl)) rfl H (fun v4 h7 H => ?_) (fun n9 h9 H => zPx.out rfl H)
        obtain ⟨n4, rfl, H⟩ := H
        show zP s0 m_J9_fixAfterInsertion (d + 1) _ _ [zr (n4), zr (n1)] _ _ _
        refine z_acmpne (M := m_J9_fixAfterInsertion) 151 rfl dJ9_fixAfterInsertion_41 (fun hc => ?_) (fun hc => ?_)
        · have H := H.1 hc
          refine z_aload_n (M := m_J9_fixAfterInsertion) (k := 1) rfl dJ9_fixAfterInsertion_151 ?_
          refine z_invS (M := m_J9_fixAfterInsertion) (a := [zr (x1)]) ok_J9_parentOf q2298 q2299 dJ9_fixAfterInsertion_152 (Nat.le_refl _) (Nat.zero_le _) rfl H (fun v5 h8 H => ?_) (fun n9 h9 H => zPx.out rfl H)
          obtain ⟨n5, rfl, H⟩ := H
          show zP s0 m_J9_fixAfterInsertion (d + 1) _ _ [zr (n5)] _ _ _
          refine z_invS (M := m_J9_fixAfterInsertion) (a := [zr (n5)]) ok_J9_parentOf q2298 q2299 dJ9_fixAfterInsertion_155 (Nat.le_refl _) (Nat.zero_le _) rfl H (fun v6 h9 H => ?_) (fun n9 h9 H => zPx.out rfl H)
          obtain ⟨n6, rfl, H⟩ := H
          show zP s0 m_J9_fixAfterInsertion (d + 1) _ _ [zr (n6)] _ _ _
          refine z_invS (M := m_J9_fixAfterInsertion) (a := [zr (n6)]) ok_J9_leftOf q2301 q2302 dJ9_fixAfterInsertion_158 (Nat.le_refl _) (Nat.zero_le _) rfl H (fun v7 h10 H => ?_) (fun n9 h9 H => zPx.out rfl H)
          obtain ⟨n7, rfl, H⟩ := H
          show zP s0 m_J9_fixAfterInsertion (d + 1) _ _ [zr (n7)] _ _ _
          refine z_astore_n (M := m_J9_fixAfterInsertion) (k := 2) 2 rfl (zlt rfl) (zr_cat _) dJ9_fixAfterInsertion_161 ?_
          show zP s0 m_J9_fixAfterInsertion (d + 1) _ [some (zr (x0)), some (zr (x1)), some (zr (n7))] _ _ _ _
          refine z_aload_n (M := m_J9_fixAfterInsertion) (k := 2) rfl dJ9_fixAfterInsertion_162 ?_
          refine z_invS (M := m_J9_fixAfterInsertion) (a := [zr (n7)]) ok_J9_colorOf q2295 q2296 dJ9_fixAfterInsertion_163 (Nat.le_refl _) (Nat.zero_le _) rfl H (fun v8 h11 H => ?_) (fun n9 h9 H => zPx.out rfl H)
          obtain ⟨r1, rfl, H⟩ := H
          show zP s0 m_J9_fixAfterInsertion (d + 1) _ _ [.int (r1)] _ _ _
          refine z_ifne (M := m_J9_fixAfterInsertion) 204 rfl dJ9_fixAfterInsertion_166 (fun hc => ?_) (fun hc => ?_)
          · have H := H.1 hc
            refine z_aload_n (M := m_J9_fixAfterInsertion) (k := 1) rfl dJ9_fixAfterInsertion_204 ?_
            refine z_aload_n (M := m_J9_fixAfterInsertion) (k := 1) rfl dJ9_fixAfterInsertion_205 ?_
            refine z_invS (M := m_J9_fixAfterInsertion) (a := [zr (x1)]) ok_J9_parentOf q2298 q2299 dJ9_fixAfterInsertion_206 (Nat.le_refl _) (Nat.le_trans (zcatr zcat0) (zle rfl)) rfl H (fun v9 h12 H => ?_) (fun n9 h9 H => zPx.out rfl H)
            obtain ⟨n8, rfl, H⟩ := H
            show zP s0 m_J9_fixAfterInsertion (d + 1) _ _ [zr (n8), zr (x1)] _ _ _
            refine z_invS (M := m_J9_fixAfterInsertion) (a := [zr (n8)]) ok_J9_leftOf q2301 q2302 dJ9_fixAfterInsertion_209 (Nat.le_refl _) (Nat.le_trans (zcatr zcat0) (zle rfl)) rfl H (fun v10 h13 H => ?_) (fun n9 h9 H => zPx.out rfl H)
            obtain ⟨n9, rfl, H⟩ := H
            show zP s0 m_J9_fixAfterInsertion (d + 1) _ _ [zr (n9), zr (x1)] _ _ _
            refine z_acmpne (M := m_J9_fixAfterInsertion) 225 rfl dJ9_fixAfterInsertion_212 (fun hc => ?_) (fun hc => ?_)
            · have H := H.1 hc
              exact zP.weak (ls' := [some (zr (x0)), some (zr (x1)), none]) (zle rfl) (zsub_so (zsub_so (zsub_no zsub_nil))) H
            · have H := H.2 hc
              refine z_aload_n (M := m_J9_fixAfterInsertion) (k := 1) rfl dJ9_fixAfterInsertion_215 ?_
              refine z_invS (M := m_J9_fixAfterInsertion) (a := [zr (x1)]) ok_J9_parentOf q2298 q2299 dJ9_fixAfterInsertion_216 (Nat.le_refl _) (Nat.zero_le _) rfl H (fun v11 h14 H => ?_) (fun n9 h9 H => zPx.out rfl H)
              obtain ⟨n10, rfl, H⟩ := H
              show zP s0 m_J9_fixAfterInsertion (d + 1) _ _ [zr (n10)] _ _ _
              refine z_astore_n (M := m_J9_fixAfterInsertion) (k := 1) 1 rfl (zlt rfl) (zr_cat _) dJ9_fixAfterInsertion_219 ?_
              show zP s0 m_J9_fixAfterInsertion (d + 1) _ [some (zr (x0)), some (zr (n10)), some (zr (n7))] _ _ _ _
              refine z_aload_n (M := m_J9_fixAfterInsertion) (k := 0) rfl dJ9_fixAfterInsertion_220 ?_
              refine z_aload_n (M := m_J9_fixAfterInsertion) (k := 1) rfl dJ9_fixAfterInsertion_221 ?_
              obtain ⟨⟨fs9, g⟩, H⟩ := H
              refine z_invV (M := m_J9_fixAfterInsertion) (cn := 47) (a := [zr (n10)]) ok_J9_rotateRight q2314 q2316 qs19 rfl dJ9_fixAfterInsertion_222 g (Nat.le_refl _) (Nat.zero_le _) rfl H (fun v12 h15 H => ?_) (fun n9 h9 H => zPx.out rfl H)
              show zP s0 m_J9_fixAfterInsertion (d + 1) _ _ [] _ _ _
              exact zP.weak (ls' := [some (zr (x0)), some (zr (n10)), none]) (zle rfl) (zsub_so (zsub_so (zsub_no zsub_nil))) H
          · have H := H.2 hc
            refine z_aload_n (M := m_J9_fixAfterInsertion) (k := 1) rfl dJ9_fixAfterInsertion_169 ?_
            refine z_invS (M := m_J9_fixAfterInsertion) (a := [zr (x1)]) ok_J9_parentOf q2298 q2299 dJ9_fixAfterInsertion_170 (Nat.le_refl _) (Nat.zero_le _) rfl H (fun v13 h16 H => ?_) (fun n9 h9 H => zPx.out rfl H)
            obtain ⟨n11, rfl, H⟩ := H
            show zP s0 m_J9_fixAfterInsertion (d + 1) _ _ [zr (n11)] _ _ _
            refine z_iconst (M := m_J9_fixAfterInsertion) (v := 1) (by decide) dJ9_fixAfterInsertion_173 ?_
            refine z_invS (M := m_J9_fixAfterInsertion) (a := [zr (n11), .int (1)]) ok_J9_setColor q2307 q2308 dJ9_fixAfterInsertion_174 (Nat.le_refl _) (Nat.zero_le _) rfl H (fun v14 h17 H => ?_) (fun n9 h9 H => zPx.out rfl H)
            show zP s0 m_J9_fixAfterInsertion (d + 1) _ _ [] _ _ _
            refine z_aload_n (M := m_J9_fixAfterInsertion) (k := 2) rfl dJ9_fixAfterInsertion_177 ?_
            refine z_iconst (M := m_J9_fixAfterInsertion) (v := 1) (by decide) dJ9_fixAfterInsertion_178 ?_
            refine z_invS (M := m_J9_fixAfterInsertion) (a := [zr (n7), .int (1)]) ok_J9_setColor q2307 q2308 dJ9_fixAfterInsertion_179 (Nat.le_refl _) (Nat.zero_le _) rfl H (fun v15 h18 H => ?_) (fun n9 h9 H => zPx.out rfl H)
            show zP s0 m_J9_fixAfterInsertion (d + 1) _ _ [] _ _ _
            refine z_aload_n (M := m_J9_fixAfterInsertion) (k := 1) rfl dJ9_fixAfterInsertion_182 ?_
            refine z_invS (M := m_J9_fixAfterInsertion) (a := [zr (x1)]) ok_J9_parentOf q2298 q2299 dJ9_fixAfterInsertion_183 (Nat.le_refl _) (Nat.zero_le _) rfl H (fun v16 h19 H => ?_) (fun n9 h9 H => zPx.out rfl H)
            obtain ⟨n12, rfl, H⟩ := H
            show zP s0 m_J9_fixAfterInsertion (d + 1) _ _ [zr (n12)] _ _ _
            refine z_invS (M := m_J9_fixAfterInsertion) (a := [zr (n12)]) ok_J9_parentOf q2298 q2299 dJ9_fixAfterInsertion_186 (Nat.le_refl _) (Nat.zero_le _) rfl H (fun v17 h20 H => ?_) (fun n9 h9 H => zPx.out rfl H)
            obtain ⟨n13, rfl, H⟩ := H
            show zP s0 m_J9_fixAfterInsertion (d + 1) _ _ [zr (n13)] _ _ _
            refine z_iconst (M := m_J9_fixAfterInsertion) (v := 0) (by decide) dJ9_fixAfterInsertion_189 ?_
            refine z_invS (M := m_J9_fixAfterInsertion) (a := [zr (n13), .int (0)]) ok_J9_setColor q2307 q2308 dJ9_fixAfterInsertion_190 (Nat.le_refl _) (Nat.zero_le _) rfl H (fun v18 h21 H => ?_) (fun n9 h9 H => zPx.out rfl H)
            show zP s0 m_J9_fixAfterInsertion (d + 1) _ _ [] _ _ _
            refine z_aload_n (M := m_J9_fixAfterInsertion) (k := 1) rfl dJ9_fixAfterInsertion_193 ?_
            refine z_invS (M := m_J9_fixAfterInsertion) (a := [zr (x1)]) ok_J9_parentOf q2298 q2299 dJ9_fixAfterInsertion_194 (Nat.le_refl _) (Nat.zero_le _) rfl H (fun v19 h22 H => ?_) (fun n9 h9 H => zPx.out rfl H)
            obtain ⟨n14, rfl, H⟩ := H
            show zP s0 m_J9_fixAfterInsertion (d + 1) _ _ [zr (n14)] _ _ _
            refine z_invS (M := m_J9_fixAfterInsertion) (a := [zr (n14)]) ok_J9_parentOf q2298 q2299 dJ9_fixAfterInsertion_197 (Nat.le_refl _) (Nat.zero_le _) rfl H (fun v20 h23 H => ?_) (fun n9 h9 H => zPx.out rfl H)
            obtain ⟨n15, rfl, H⟩ := H
            show zP s0 m_J9_fixAfterInsertion (d + 1) _ _ [zr (n15)] _ _ _
            refine z_astore_n (M := m_J9_fixAfterInsertion) (k := 1) 1 rfl (zlt rfl) (zr_cat _) dJ9_fixAfterInsertion_200 ?_
            show zP s0 m_J9_fixAfterInsertion (d + 1) _ [some (zr (x0)), some (zr (n15)), some (zr (n7))] _ _ _ _
            refine z_goto (M := m_J9_fixAfterInsertion) 255 rfl dJ9_fixAfterInsertion_201 ?_
            refine z_goto (M := m_J9_fixAfterInsertion) 5 rfl dJ9_fixAfterInsertion_255 ?_
            exact zP.weak (ls' := [some (zr (x0)), some (zr (n15)), none]) (zle rfl) (zsub_so (zsub_so (zsub_no zsub_nil))) H
        · have H := H.2 hc
          refine z_aload_n (M := m_J9_fixAfterInsertion) (k := 1) rfl dJ9_fixAfterInsertion_44 ?_
          refine z_invS (M := m_J9_fixAfterInsertion) (a := [zr (x1)]) ok_J9_parentOf q2298 q2299 dJ9_fixAfterInsertion_45 (Nat.le_refl _) (Nat.zero_le _) rfl H (fun v21 h24 H => ?_) (fun n9 h9 H => zPx.out rfl H)
          obtain ⟨n16, rfl, H⟩ := H
          show zP s0 m_J9_fixAfterInsertion (d + 1) _ _ [zr (n16)] _ _ _
          refine z_invS (M := m_J9_fixAfterInsertion) (a := [zr (n16)]) ok_J9_parentOf q2298 q2299 dJ9_fixAfterInsertion_48 (Nat.le_refl _) (Nat.zero_le _) rfl H (fun v22 h25 H => ?_) (fun n9 h9 H => zPx.out rfl H)
          obtain ⟨n17, rfl, H⟩ := H
          show zP s0 m_J9_fixAfterInsertion (d + 1) _ _ [zr (n17)] _ _ _
          refine z_invS (M := m_J9_fixAfterInsertion) (a := [zr (n17)]) ok_J9_rightOf q2304 q2305 dJ9_fixAfterInsertion_51 (Nat.le_refl _) (Nat.zero_le _) rfl H (fun v23 h26 H => ?_) (fun n9 h9 H => zPx.out rfl H)
          obtain ⟨n18, rfl, H⟩ := H
          show zP s0 m_J9_fixAfterInsertion (d + 1) _ _ [zr (n18)] _ _ _
          refine z_astore_n (M := m_J9_fixAfterInsertion) (k := 2) 2 rfl (zlt rfl) (zr_cat _) dJ9_fixAfterInsertion_54 ?_
          show zP s0 m_J9_fixAfterInsertion (d + 1) _ [some (zr (x0)), some (zr (x1)), some (zr (n18))] _ _ _ _
          refine z_aload_n (M := m_J9_fixAfterInsertion) (k := 2) rfl dJ9_fixAfterInsertion_55 ?_
          refine z_invS (M := m_J9_fixAfterInsertion) (a := [zr (n18)]) ok_J9_colorOf q2295 q2296 dJ9_fixAfterInsertion_56 (Nat.le_refl _) (Nat.zero_le _) rfl H (fun v24 h27 H => ?_) (fun n9 h9 H => zPx.out rfl H)
          obtain ⟨r2, rfl, H⟩ := H
          show zP s0 m_J9_fixAfterInsertion (d + 1) _ _ [.int (r2)] _ _ _
          refine z_ifne (M := m_J9_fixAfterInsertion) 97 rfl dJ9_fixAfterInsertion_59 (fun hc => ?_) (fun hc => ?_)
          · have H := H.1 hc
            refine z_aload_n (M := m_J9_fixAfterInsertion) (k := 1) rfl dJ9_fixAfterInsertion_97 ?_
            refine z_aload_n (M := m_J9_fixAfterInsertion) (k := 1) rfl dJ9_fixAfterInsertion_98 ?_
            refine z_invS (M := m_J9_fixAfterInsertion) (a := [zr (x1)]) ok_J9_parentOf q2298 q2299 dJ9_fixAfterInsertion_99 (Nat.le_refl _) (Nat.le_trans (zcatr zcat0) (zle rfl)) rfl H (fun v25 h28 H => ?_) (fun n9 h9 H => zPx.out rfl H)
            obtain ⟨n19, rfl, H⟩ := H
            show zP s0 m_J9_fixAfterInsertion (d + 1) _ _ [zr (n19), zr (x1)] _ _ _
            refine z_invS (M := m_J9_fixAfterInsertion) (a := [zr (n19)]) ok_J9_rightOf q2304 q2305 dJ9_fixAfterInsertion_102 (Nat.le_refl _) (Nat.le_trans (zcatr zcat0) (zle rfl)) rfl H (fun v26 h29 H => ?_) (fun n9 h9 H => zPx.out rfl H)
            obtain ⟨n20, rfl, H⟩ := H
            show zP s0 m_J9_fixAfterInsertion (d + 1) _ _ [zr (n20), zr (x1)] _ _ _
            refine z_acmpne (M := m_J9_fixAfterInsertion) 118 rfl dJ9_fixAfterInsertion_105 (fun hc => ?_) (fun hc => ?_)
            · have H := H.1 hc
              exact zP.weak (ls' := [some (zr (x0)), some (zr (x1)), none]) (zle rfl) (zsub_so (zsub_so (zsub_no zsub_nil))) H
            · have H := H.2 hc
              refine z_aload_n (M := m_J9_fixAfterInsertion) (k := 1) rfl dJ9_fixAfterInsertion_108 ?_
              refine z_invS (M := m_J9_fixAfterInsertion) (a := [zr (x1)]) ok_J9_parentOf q2298 q2299 dJ9_fixAfterInsertion_109 (Nat.le_refl _) (Nat.zero_le _) rfl H (fun v27 h30 H => ?_) (fun n9 h9 H => zPx.out rfl H)
              obtain ⟨n21, rfl, H⟩ := H
              show zP s0 m_J9_fixAfterInsertion (d + 1) _ _ [zr (n21)] _ _ _
              refine z_astore_n (M := m_J9_fixAfterInsertion) (k := 1) 1 rfl (zlt rfl) (zr_cat _) dJ9_fixAfterInsertion_112 ?_
              show zP s0 m_J9_fixAfterInsertion (d + 1) _ [some (zr (x0)), some (zr (n21)), some (zr (n18))] _ _ _ _
              refine z_aload_n (M := m_J9_fixAfterInsertion) (k := 0) rfl dJ9_fixAfterInsertion_113 ?_
              refine z_aload_n (M := m_J9_fixAfterInsertion) (k := 1) rfl dJ9_fixAfterInsertion_114 ?_
              obtain ⟨⟨fs9, g⟩, H⟩ := H
              refine z_invV (M := m_J9_fixAfterInsertion) (cn := 47) (a := [zr (n21)]) ok_J9_rotateLeft q2310 q2312 qs18 rfl dJ9_fixAfterInsertion_115 g (Nat.le_refl _) (Nat.zero_le _) rfl H (fun v28 h31 H => ?_) (fun n9 h9 H => zPx.out rfl H)
              show zP s0 m_J9_fixAfterInsertion (d + 1) _ _ [] _ _ _
              exact zP.weak (ls' := [some (zr (x0)), some (zr (n21)), none]) (zle rfl) (zsub_so (zsub_so (zsub_no zsub_nil))) H
          · have H := H.2 hc
            refine z_aload_n (M := m_J9_fixAfterInsertion) (k := 1) rfl dJ9_fixAfterInsertion_62 ?_
            refine z_invS (M := m_J9_fixAfterInsertion) (a := [zr (x1)]) ok_J9_parentOf q2298 q2299 dJ9_fixAfterInsertion_63 (Nat.le_refl _) (Nat.zero_le _) rfl H (fun v29 h32 H => ?_) (fun n9 h9 H => zPx.out rfl H)
            obtain ⟨n22, rfl, H⟩ := H
            show zP s0 m_J9_fixAfterInsertion (d + 1) _ _ [zr (n22)] _ _ _
            refine z_iconst (M := m_J9_fixAfterInsertion) (v := 1) (by decide) dJ9_fixAfterInsertion_66 ?_
            refine z_invS (M := m_J9_fixAfterInsertion) (a := [zr (n22), .int (1)]) ok_J9_setColor q2307 q2308 dJ9_fixAfterInsertion_67 (Nat.le_refl _) (Nat.zero_le _) rfl H (fun v30 h33 H => ?_) (fun n9 h9 H => zPx.out rfl H)
            show zP s0 m_J9_fixAfterInsertion (d + 1) _ _ [] _ _ _
            refine z_aload_n (M := m_J9_fixAfterInsertion) (k := 2) rfl dJ9_fixAfterInsertion_70 ?_
            refine z_iconst (M := m_J9_fixAfterInsertion) (v := 1) (by decide) dJ9_fixAfterInsertion_71 ?_
            refine z_invS (M := m_J9_fixAfterInsertion) (a := [zr (n18), .int (1)]) ok_J9_setColor q2307 q2308 dJ9_fixAfterInsertion_72 (Nat.le_refl _) (Nat.zero_le _) rfl H (fun v31 h34 H => ?_) (fun n9 h9 H => zPx.out rfl H)
            show zP s0 m_J9_fixAfterInsertion (d + 1) _ _ [] _ _ _
            refine z_aload_n (M := m_J9_fixAfterInsertion) (k := 1) rfl dJ9_fixAfterInsertion_75 ?_
            refine z_invS (M := m_J9_fixAfterInsertion) (a := [zr (x1)]) ok_J9_parentOf q2298 q2299 dJ9_fixAfterInsertion_76 (Nat.le_refl _) (Nat.zero_le _) rfl H (fun v32 h35 H => ?_) (fun n9 h9 H => zPx.out rfl H)
            obtain ⟨n23, rfl, H⟩ := H
            show zP s0 m_J9_fixAfterInsertion (d + 1) _ _ [zr (n23)] _ _ _
            refine z_invS (M := m_J9_fixAfterInsertion) (a := [zr (n23)]) ok_J9_parentOf q2298 q2299 dJ9_fixAfterInsertion_79 (Nat.le_refl _) (Nat.zero_le _) rfl H (fun v33 h36 H => ?_) (fun n9 h9 H => zPx.out rfl H)
            obtain ⟨n24, rfl, H⟩ := H
            show zP s0 m_J9_fixAfterInsertion (d + 1) _ _ [zr (n24)] _ _ _
            refine z_iconst (M := m_J9_fixAfterInsertion) (v := 0) (by decide) dJ9_fixAfterInsertion_82 ?_
            refine z_invS (M := m_J9_fixAfterInsertion) (a := [zr (n24), .int (0)]) ok_J9_setColor q2307 q2308 dJ9_fixAfterInsertion_83 (Nat.le_refl _) (Nat.zero_le _) rfl H (fun v34 h37 H => ?_) (fun n9 h9 H => zPx.out rfl H)
            show zP s0 m_J9_fixAfterInsertion (d + 1) _ _ [] _ _ _
            refine z_aload_n (M := m_J9_fixAfterInsertion) (k := 1) rfl dJ9_fixAfterInsertion_86 ?_
            refine z_invS (M := m_J9_fixAfterInsertion) (a := [zr (x1)]) ok_J9_parentOf q2298 q2299 dJ9_fixAfterInsertion_87 (Nat.le_refl _) (Nat.zero_le _) rfl H (fun v35 h38 H => ?_) (fun n9 h9 H => zPx.out rfl H)
            obtain ⟨n25, rfl, H⟩ := H
            show zP s0 m_J9_fixAfterInsertion (d + 1) _ _ [zr (n25)] _ _ _
            refine z_invS (M := m_J9_fixAfterInsertion) (a := [zr (n25)]) ok_J9_parentOf q2298 q2299 dJ9_fixAfterInsertion_90 (Nat.le_refl _) (Nat.zero_le _) rfl H (fun v36 h39 H => ?_) (fun n9 h9 H => zPx.out rfl H)
            obtain ⟨n26, rfl, H⟩ := H
            show zP s0 m_J9_fixAfterInsertion (d + 1) _ _ [zr (n26)] _ _ _
            refine z_astore_n (M := m_J9_fixAfterInsertion) (k := 1) 1 rfl (zlt rfl) (zr_cat _) dJ9_fixAfterInsertion_93 ?_
            show zP s0 m_J9_fixAfterInsertion (d + 1) _ [some (zr (x0)), some (zr (n26)), some (zr (n18))] _ _ _ _
            refine z_goto (M := m_J9_fixAfterInsertion) 148 rfl dJ9_fixAfterInsertion_94 ?_
            refine z_goto (M := m_J9_fixAfterInsertion) 5 rfl dJ9_fixAfterInsertion_148 ?_
            exact zP.weak (ls' := [some (zr (x0)), some (zr (n26)), none]) (zle rfl) (zsub_so (zsub_so (zsub_no zsub_nil))) H
theorem b_J9_fixAfterInsertion_118 {s0 : zE} {d : Nat} {x0 : Nat} {x1 : Nat} {h : zH} {Q : Value → zH → Prop} {E : Nat → zH → Prop} (H : zX s0 m_J9_parentOf d [zr (x1)] h (fun v1 h1 => ∃ n1 : Nat, v1 = zr (n1) ∧ (zX s0 m_J9_setColor d [zr (n1), .int (1)] h1 (fun _ h2 => (zX s0 m_J9_parentOf d [zr (x1)] h2 (fun v3 h3 => ∃ n2 : Nat, v3 = zr (n2) ∧ (zX s0 m_J9_parentOf d [zr (n2)] h3 (fun v4 h4 => ∃ n3 : Nat, v4 = zr (n3) ∧ (zX s0 m_J9_setColor d [zr (n3), .int (0)] h4 (fun _ h5 => (zX s0 m_J9_parentOf d [zr (x1)] h5 (fun v6 h6 => ∃ n4 : Nat, v6 = zr (n4) ∧ (zX s0 m_J9_parentOf d [zr (n4)] h6 (fun v7 h7 => ∃ n5 : Nat, v7 = zr (n5) ∧ ((fC h7 x0 47 ∧ zX s0 m_J9_rotateRight d [zr x0, zr (n5)] h7 (fun _ h8 => (zP s0 m_J9_fixAfterInsertion (d + 1) 5 [some (zr (x0)), some (zr (x1)), none] [] h8 Q E)) E))) E)) E)) E)) E)) E)) E)) E) : zP s0 m_J9_fixAfterInsertion (d + 1) 118 [some (zr (x0)), some (zr (x1)), none] [] h Q E := by
  refine z_aload_n (M := m_J9_fixAfterInsertion) (k := 1) rfl dJ9_fixAfterInsertion_118 ?_
  refine z_invS (M := m_J9_fixAfterInsertion) (a := [zr (x1)]) ok_J9_parentOf q2298 q2299 dJ9_fixAfterInsertion_119 (Nat.le_refl _) (Nat.zero_le _) rfl H (fun v1 h1 H => ?_) (fun n9 h9 H => zPx.out rfl H)
  obtain ⟨n1, rfl, H⟩ := H
  show zP s0 m_J9_fixAfterInsertion (d + 1) _ _ [zr (n1)] _ _ _
  refine z_iconst (M := m_J9_fixAfterInsertion) (v := 1) (by decide) dJ9_fixAfterInsertion_122 ?_
  refine z_invS (M := m_J9_fixAfterInsertion) (a := [zr (n1), .int (1)]) ok_J9_setColor q2307 q2308 dJ9_fixAfterInsertion_123 (Nat.le_refl _) (Nat.zero_le _) rfl H (fun v2 h2 H => ?_) (fun n9 h9 H => zPx.out rfl H)
  show zP s0 m_J9_fixAfterInsertion (d + 1) _ _ [] _ _ _
  refine z_aload_n (M := m_J9_fixAfterInsertion) (k := 1) rfl dJ9_fixAfterInsertion_126 ?_
  refine z_invS (M := m_J9_fixAfterInsertion) (a := [zr (x1)]) ok_J9_parentOf q2298 q2299 dJ9_fixAfterInsertion_127 (Nat.le_refl _) (Nat.zero_le _) rfl H (fun v3 h3 H => ?_) (fun n9 h9 H => zPx.out rfl H)
  obtain ⟨n2, rfl, H⟩ := H
  show zP s0 m_J9_fixAfterInsertion (d + 1) _ _ [zr (n2)] _ _ _
  refine z_invS (M := m_J9_fixAfterInsertion) (a := [zr (n2)]) ok_J9_parentOf q2298 q2299 dJ9_fixAfterInsertion_130 (Nat.le_refl _) (Nat.zero_le _) rfl H (fun v4 h4 H => ?_) (fun n9 h9 H => zPx.out rfl H)
  obtain ⟨n3, rfl, H⟩ := H
  show zP s0 m_J9_fixAfterInsertion (d + 1) _ _ [zr (n3)] _ _ _
  refine z_iconst (M := m_J9_fixAfterInsertion) (v := 0) (by decide) dJ9_fixAfterInsertion_133 ?_
  refine z_invS (M := m_J9_fixAfterInsertion) (a := [zr (n3), .int (0)]) ok_J9_setColor q2307 q2308 dJ9_fixAfterInsertion_134 (Nat.le_refl _) (Nat.zero_le _) rfl H (fun v5 h5 H => ?_) (fun n9 h9 H => zPx.out rfl H)
  show zP s0 m_J9_fixAfterInsertion (d + 1) _ _ [] _ _ _
  refine z_aload_n (M := m_J9_fixAfterInsertion) (k := 0) rfl dJ9_fixAfterInsertion_137 ?_
  refine z_aload_n (M := m_J9_fixAfterInsertion) (k := 1) rfl dJ9_fixAfterInsertion_138 ?_
  refine z_invS (M := m_J9_fixAfterInsertion) (a := [zr (x1)]) ok_J9_parentOf q2298 q2299 dJ9_fixAfterInsertion_139 (Nat.le_refl _) (Nat.le_trans (zcatr zcat0) (zle rfl)) rfl H (fun v6 h6 H => ?_) (fun n9 h9 H => zPx.out rfl H)
  obtain ⟨n4, rfl, H⟩ := H
  show zP s0 m_J9_fixAfterInsertion (d + 1) _ _ [zr (n4), zr (x0)] _ _ _
  refine z_invS (M := m_J9_fixAfterInsertion) (a := [zr (n4)]) ok_J9_parentOf q2298 q2299 dJ9_fixAfterInsertion_142 (Nat.le_refl _) (Nat.le_trans (zcatr zcat0) (zle rfl)) rfl H (fun v7 h7 H => ?_) (fun n9 h9 H => zPx.out rfl H)
  obtain ⟨n5, rfl, H⟩ := H
  show zP s0 m_J9_fixAfterInsertion (d + 1) _ _ [zr (n5), zr (x0)] _ _ _
  obtain ⟨⟨fs9, g⟩, H⟩ := H
  refine z_invV (M := m_J9_fixAfterInsertion) (cn := 47) (a := [zr (n5)]) ok_J9_rotateRight q2314 q2316 qs19 rfl dJ9_fixAfterInsertion_145 g (Nat.le_refl _) (Nat.zero_le _) rfl H (fun v8 h8 H => ?_) (fun n9 h9 H => zPx.out rfl H)
  show zP s0 m_J9_fixAfterInsertion (d + 1) _ _ [] _ _ _
  refine z_goto (M := m_J9_fixAfterInsertion) 5 rfl dJ9_fixAfterInsertion_148 ?_
  exact H
theorem b_J9_fixAfterInsertion_225 {s0 : zE} {d : Nat} {x0 : Nat} {x1 : Nat} {h : zH} {Q : Value → zH → Prop} {E : Nat → zH → Prop} (H : zX s0 m_J9_parentOf d [zr (x1)] h (fun v1 h1 => ∃ n1 : Nat, v1 = zr (n1) ∧ (zX s0 m_J9_setColor d [zr (n1), .int (1)] h1 (fun _ h2 => (zX s0 m_J9_parentOf d [zr (x1)] h2 (fun v3 h3 => ∃ n2 : Nat, v3 = zr (n2) ∧ (zX s0 m_J9_parentOf d [zr (n2)] h3 (fun v4 h4 => ∃ n3 : Nat, v4 = zr (n3) ∧ (zX s0 m_J9_setColor d [zr (n3), .int (0)] h4 (fun _ h5 => (zX s0 m_J9_parentOf d [zr (x1)] h5 (fun v6 h6 => ∃ n4 : Nat, v6 = zr (n4) ∧ (zX s0 m_J9_parentOf d [zr (n4)] h6 (fun v7 h7 => ∃ n5 : Nat, v7 = zr (n5) ∧ ((fC h7 x0 47 ∧ zX s0 m_J9_rotateLeft d [zr x0, zr (n5)] h7 (fun _ h8 => (zP s0 m_J9_fixAfterInsertion (d + 1) 5 [some (zr (x0)), some (zr (x1)), none] [] h8 Q E)) E))) E)) E)) E)) E)) E)) E)) E) : zP s0 m_J9_fixAfterInsertion (d + 1) 225 [some (zr (x0)), some (zr (x1)), none] [] h Q E := by
  refine z_aload_n (M := m_J9_fixAfterInsertion) (k := 1) rfl dJ9_fixAfterInsertion_225 ?_
  refine z_invS (M := m_J9_fixAfterInsertion) (a := [zr (x1)]) ok_J9_parentOf q2298 q2299 dJ9_fixAfterInsertion_226 (Nat.le_refl _) (Nat.zero_le _) rfl H (fun v1 h1 H => ?_) (fun n9 h9 H => zPx.out rfl H)
  obtain ⟨n1, rfl, H⟩ := H
  show zP s0 m_J9_fixAfterInsertion (d + 1) _ _ [zr (n1)] _ _ _
  refine z_iconst (M := m_J9_fixAfterInsertion) (v := 1) (by decide) dJ9_fixAfterInsertion_229 ?_
  refine z_invS (M := m_J9_fixAfterInsertion) (a := [zr (n1), .int (1)]) ok_J9_setColor q2307 q2308 dJ9_fixAfterInsertion_230 (Nat.le_refl _) (Nat.zero_le _) rfl H (fun v2 h2 H => ?_) (fun n9 h9 H => zPx.out rfl H)
  show zP s0 m_J9_fixAfterInsertion (d + 1) _ _ [] _ _ _
  refine z_aload_n (M := m_J9_fixAfterInsertion) (k := 1) rfl dJ9_fixAfterInsertion_233 ?_
  refine z_invS (M := m_J9_fixAfterInsertion) (a := [zr (x1)]) ok_J9_parentOf q2298 q2299 dJ9_fixAfterInsertion_234 (Nat.le_refl _) (Nat.zero_le _) rfl H (fun v3 h3 H => ?_) (fun n9 h9 H => zPx.out rfl H)
  obtain ⟨n2, rfl, H⟩ := H
  show zP s0 m_J9_fixAfterInsertion (d + 1) _ _ [zr (n2)] _ _ _
  refine z_invS (M := m_J9_fixAfterInsertion) (a := [zr (n2)]) ok_J9_parentOf q2298 q2299 dJ9_fixAfterInsertion_237 (Nat.le_refl _) (Nat.zero_le _) rfl H (fun v4 h4 H => ?_) (fun n9 h9 H => zPx.out rfl H)
  obtain ⟨n3, rfl, H⟩ := H
  show zP s0 m_J9_fixAfterInsertion (d + 1) _ _ [zr (n3)] _ _ _
  refine z_iconst (M := m_J9_fixAfterInsertion) (v := 0) (by decide) dJ9_fixAfterInsertion_240 ?_
  refine z_invS (M := m_J9_fixAfterInsertion) (a := [zr (n3), .int (0)]) ok_J9_setColor q2307 q2308 dJ9_fixAfterInsertion_241 (Nat.le_refl _) (Nat.zero_le _) rfl H (fun v5 h5 H => ?_) (fun n9 h9 H => zPx.out rfl H)
  show zP s0 m_J9_fixAfterInsertion (d + 1) _ _ [] _ _ _
  refine z_aload_n (M := m_J9_fixAfterInsertion) (k := 0) rfl dJ9_fixAfterInsertion_244 ?_
  refine z_aload_n (M := m_J9_fixAfterInsertion) (k := 1) rfl dJ9_fixAfterInsertion_245 ?_
  refine z_invS (M := m_J9_fixAfterInsertion) (a := [zr (x1)]) ok_J9_parentOf q2298 q2299 dJ9_fixAfterInsertion_246 (Nat.le_refl _) (Nat.le_trans (zcatr zcat0) (zle rfl)) rfl H (fun v6 h6 H => ?_) (fun n9 h9 H => zPx.out rfl H)
  obtain ⟨n4, rfl, H⟩ := H
  show zP s0 m_J9_fixAfterInsertion (d + 1) _ _ [zr (n4), zr (x0)] _ _ _
  refine z_invS (M := m_J9_fixAfterInsertion) (a := [zr (n4)]) ok_J9_parentOf q2298 q2299 dJ9_fixAfterInsertion_249 (Nat.le_refl _) (Nat.le_trans (zcatr zcat0) (zle rfl)) rfl H (fun v7 h7 H => ?_) (fun n9 h9 H => zPx.out rfl H)
  obtain ⟨n5, rfl, H⟩ := H
  show zP s0 m_J9_fixAfterInsertion (d + 1) _ _ [zr (n5), zr (x0)] _ _ _
  obtain ⟨⟨fs9, g⟩, H⟩ := H
  refine z_invV (M := m_J9_fixAfterInsertion) (cn := 47) (a := [zr (n5)]) ok_J9_rotateLeft q2310 q2312 qs18 rfl dJ9_fixAfterInsertion_252 g (Nat.le_refl _) (Nat.zero_le _) rfl H (fun v8 h8 H => ?_) (fun n9 h9 H => zPx.out rfl H)
  show zP s0 m_J9_fixAfterInsertion (d + 1) _ _ [] _ _ _
  refine z_goto (M := m_J9_fixAfterInsertion) 5 rfl dJ9_fixAfterInsertion_255 ?_
  exact H
theorem b_J9_get_0 {s0 : zE} {d : Nat} {x0 : Nat} {x1 : Nat} {h : zH} {Q : Value → zH → Prop} {E : Nat → zH → Prop} (H : (fC h x0 47 ∧ zX s0 m_J9_getEntry d [zr x0, zr (x1)] h (fun v1 h1 => ∃ n1 : Nat, v1 = zr (n1) ∧ ((¬ n1 = 0 → ((fR h1 n1 [67] 1) ∧ (Q (zr (gR h1 n1 1)) h1))) ∧ (n1 = 0 → (Q (zr 0) h1)))) E)) : zP s0 m_J9_get (d + 1) 0 [some (zr (x0)), some (zr (x1)), none] [] h Q E := by
  refine z_aload_n (M := m_J9_get) (k := 0) rfl dJ9_get_0 ?_
  refine z_aload_n (M := m_J9_get) (k := 1) rfl dJ9_get_1 ?_
  obtain ⟨⟨fs9, g⟩, H⟩ := H
  refine z_invV (M := m_J9_get) (cn := 47) (a := [zr (x1)]) ok_J9_getEntry q2674 q2675 q2676 rfl dJ9_get_2 g (Nat.le_refl _) (Nat.zero_le _) rfl H (fun v1 h1 H => ?_) (fun n9 h9 H => zPx.out rfl H)
  obtain ⟨n1, rfl, H⟩ := H
  show zP s0 m_J9_get (d + 1) _ _ [zr (n1)] _ _ _
  refine z_astore_n (M := m_J9_get) (k := 2) 2 rfl (zlt rfl) (zr_cat _) dJ9_get_5 ?_
  show zP s0 m_J9_get (d + 1) _ [some (zr (x0)), some (zr (x1)), some (zr (n1))] _ _ _ _
  refine z_aload_n (M := m_J9_get) (k := 2) rfl dJ9_get_6 ?_
  refine z_ifnonnull (M := m_J9_get) 14 rfl dJ9_get_7 (fun hc => ?_) (fun hc => ?_)
  · have H := H.1 hc
    refine z_aload_n (M := m_J9_get) (k := 2) rfl dJ9_get_14 ?_
    obtain ⟨g, H⟩ := H
    refine z_get (M := m_J9_get) f_J9_58 dJ9_get_15 g ?_
    exact z_areturn (M := m_J9_get) rfl (Or.inl ⟨_, rfl⟩) dJ9_get_18 H
  · have H := H.2 hc
    refine z_null (M := m_J9_get) dJ9_get_10 ?_
    refine z_goto (M := m_J9_get) 18 rfl dJ9_get_11 ?_
    exact z_areturn (M := m_J9_get) rfl (Or.inl ⟨_, rfl⟩) dJ9_get_18 H
theorem c_J9_get {s0 : zE} {d : Nat} {x0 : Nat} {x1 : Nat} {h : zH} {Q : Value → zH → Prop} {E : Nat → zH → Prop} (H : (fC h x0 47 ∧ zX s0 m_J9_getEntry d [zr x0, zr (x1)] h (fun v1 h1 => ∃ n1 : Nat, v1 = zr (n1) ∧ ((¬ n1 = 0 → ((fR h1 n1 [67] 1) ∧ (Q (zr (gR h1 n1 1)) h1))) ∧ (n1 = 0 → (Q (zr 0) h1)))) E)) : zX s0 m_J9_get (d + 1) [zr (x0), zr (x1)] h Q E := zX.of2 rfl (by decide +kernel) (zlay_r (zlay_r (zlay_n (znoneS znone0)))) (zle rfl) (b_J9_get_0 H)
theorem b_J9_getFirstEntry_0 {s0 : zE} {d : Nat} {x0 : Nat} {h : zH} {Q : Value → zH → Prop} {E : Nat → zH → Prop} (H : (fR h x0 [47] 3) ∧ ((gR h x0 3 = 0 → (Q (zr (gR h x0 3)) h)) ∧ (¬ gR h x0 3 = 0 → (zP s0 m_J9_getFirstEntry d 9 [none, some (zr (gR h x0 3))] [] h Q E)))) : zP s0 m_J9_getFirstEntry d 0 [some (zr (x0)), none] [] h Q E := by
  refine z_aload_n (M := m_J9_getFirstEntry) (k := 0) rfl dJ9_getFirstEntry_0 ?_
  obtain ⟨g, H⟩ := H
  refine z_get (M := m_J9_getFirstEntry) f_J9_101 dJ9_getFirstEntry_1 g ?_
  refine z_astore_n (M := m_J9_getFirstEntry) (k := 1) 1 rfl (zlt rfl) (zr_cat _) dJ9_getFirstEntry_4 ?_
  show zP s0 m_J9_getFirstEntry d _ [some (zr (x0)), some (zr (gR h x0 3))] _ _ _ _
  refine z_aload_n (M := m_J9_getFirstEntry) (k := 1) rfl dJ9_getFirstEntry_5 ?_
  refine z_ifnull (M := m_J9_getFirstEntry) 24 rfl dJ9_getFirstEntry_6 (fun hc => ?_) (fun hc => ?_)
  · have H := H.1 hc
    refine z_aload_n (M := m_J9_getFirstEntry) (k := 1) rfl dJ9_getFirstEntry_24 ?_
    exact z_areturn (M := m_J9_getFirstEntry) rfl (Or.inl ⟨_, rfl⟩) dJ9_getFirstEntry_25 H
  · have H := H.2 hc
    exact zP.weak (ls' := [none, some (zr (gR h x0 3))]) (zle rfl) (zsub_no (zsub_so zsub_nil)) H
theorem c_J9_getFirstEntry {s0 : zE} {d : Nat} {x0 : Nat} {h : zH} {Q : Value → zH → Prop} {E : Nat → zH → Prop} (H : (fR h x0 [47] 3) ∧ ((gR h x0 3 = 0 → (Q (zr (gR h x0 3)) h)) ∧ (¬ gR h x0 3 = 0 → (zP s0 m_J9_getFirstEntry d 9 [none, some (zr (gR h x0 3))] [] h Q E)))) : zX s0 m_J9_getFirstEntry d [zr (x0)] h Q E := zX.of2 rfl (by decide +kernel) (zlay_r (zlay_n (znoneS znone0))) (zle rfl) (b_J9_getFirstEntry_0 H)
theorem b_J9_getFirstEntry_9 {s0 : zE} {d : Nat} {x1 : Nat} {h : zH} {Q : Value → zH → Prop} {E : Nat → zH → Prop} (H : (fR h x1 [67] 2) ∧ ((gR h x1 2 = 0 → (Q (zr x1) h)) ∧ (¬ gR h x1 2 = 0 → ((fR h x1 [67] 2) ∧ (zP s0 m_J9_getFirstEntry d 9 [none, some (zr (gR h x1 2))] [] h Q E))))) : zP s0 m_J9_getFirstEntry d 9 [none, some (zr (x1))] [] h Q E := by
  refine z_aload_n (M := m_J9_getFirstEntry) (k := 1) rfl dJ9_getFirstEntry_9 ?_
  obtain ⟨g, H⟩ := H
  refine z_get (M := m_J9_getFirstEntry) f_J9_111 dJ9_getFirstEntry_10 g ?_
  refine z_ifnull (M := m_J9_getFirstEntry) 24 rfl dJ9_getFirstEntry_13 (fun hc => ?_) (fun hc => ?_)
  · have H := H.1 hc
    refine z_aload_n (M := m_J9_getFirstEntry) (k := 1) rfl dJ9_getFirstEntry_24 ?_
    exact z_areturn (M := m_J9_getFirstEntry) rfl (Or.inl ⟨_, rfl⟩) dJ9_getFirstEntry_25 H
  · have H := H.2 hc
    refine z_aload_n (M := m_J9_getFirstEntry) (k := 1) rfl dJ9_getFirstEntry_16 ?_
    obtain ⟨g, H⟩ := H
    refine z_get (M := m_J9_getFirstEntry) f_J9_111 dJ9_getFirstEntry_17 g ?_
    refine z_astore_n (M := m_J9_getFirstEntry) (k := 1) 1 rfl (zlt rfl) trivial dJ9_getFirstEntry_20 ?_
    show zP s0 m_J9_getFirstEntry d _ [none, some (zr (gR h x1 2))] _ _ _ _
    refine z_goto (M := m_J9_getFirstEntry) 9 rfl dJ9_getFirstEntry_21 ?_
    exact H
theorem b_J9_init_0 {s0 : zE} {d : Nat} {x0 : Nat} {h : zH} {Q : Value → zH → Prop} {E : Nat → zH → Prop} (H : (∃ c, fC h x0 c) ∧ (zX s0 m_J0_init d [zr x0] h (fun _ h1 => ((fC h1 x0 47) ∧ (∀ h2, h2 = zput h1 x0 4 (.int (0)) → ((fC h2 x0 47) ∧ (∀ h3, h3 = zput h2 x0 5 (.int (0)) → ((fC h3 x0 47) ∧ (∀ h4, h4 = zput h3 x0 2 (zr (0)) → (Q .null h4)))))))) E)) : zP s0 m_J9_init (d + 1) 0 [some (zr (x0))] [] h Q E := by
  refine z_aload_n (M := m_J9_init) (k := 0) rfl dJ9_init_0 ?_
  obtain ⟨⟨c9, g⟩, H⟩ := H
  refine zz_invI (M := m_J9_init) (a := []) ok_J0_init rfl rfl q618 q361 dJ9_init_1 g (Nat.zero_le _) rfl H (fun v1 h1 H => ?_) (fun n9 h9 H => zPx.out rfl H)
  refine z_aload_n (M := m_J9_init) (k := 0) rfl dJ9_init_4 ?_
  refine z_iconst (M := m_J9_init) (v := 0) (by decide) dJ9_init_5 ?_
  obtain ⟨g, H⟩ := H
  refine zz_put (M := m_J9_init) f_J9_7 dJ9_init_6 rfl (fn_47_4) g (ft_47_4) (fun h2 e => ?_)
  have H := H h2 e
  refine z_aload_n (M := m_J9_init) (k := 0) rfl dJ9_init_9 ?_
  refine z_iconst (M := m_J9_init) (v := 0) (by decide) dJ9_init_10 ?_
  obtain ⟨g, H⟩ := H
  refine zz_put (M := m_J9_init) f_J9_13 dJ9_init_11 rfl (fn_47_5) g (ft_47_5) (fun h3 e => ?_)
  have H := H h3 e
  refine z_aload_n (M := m_J9_init) (k := 0) rfl dJ9_init_14 ?_
  refine z_null (M := m_J9_init) dJ9_init_15 ?_
  obtain ⟨g, H⟩ := H
  refine zz_put (M := m_J9_init) f_J9_16 dJ9_init_16 rfl (⟨_, rfl, Or.inr ⟨rfl, rfl, rfl, q619⟩⟩) g (ft_47_2) (fun h4 e => ?_)
  have H := H h4 e
  exact z_return (M := m_J9_init) rfl dJ9_init_19 H
theorem c_J9_init {s0 : zE} {d : Nat} {x0 : Nat} {h : zH} {Q : Value → zH → Prop} {E : Nat → zH → Prop} (H : (∃ c, fC h x0 c) ∧ (zX s0 m_J0_init d [zr x0] h (fun _ h1 => ((fC h1 x0 47) ∧ (∀ h2, h2 = zput h1 x0 4 (.int (0)) → ((fC h2 x0 47) ∧ (∀ h3, h3 = zput h2 x0 5 (.int (0)) → ((fC h3 x0 47) ∧ (∀ h4, h4 = zput h3 x0 2 (zr (0)) → (Q .null h4)))))))) E)) : zX s0 m_J9_init (d + 1) [zr (x0)] h Q E := zX.of2 rfl (by decide +kernel) (zlay_r (zlay_n znone0)) (zle rfl) (b_J9_init_0 H)
theorem b_J9_leftOf_0 {s0 : zE} {d : Nat} {x0 : Nat} {h : zH} {Q : Value → zH → Prop} {E : Nat → zH → Prop} (H : (¬ x0 = 0 → ((fR h x0 [67] 2) ∧ (Q (zr (gR h x0 2)) h))) ∧ (x0 = 0 → (Q (zr 0) h))) : zP s0 m_J9_leftOf d 0 [some (zr (x0))] [] h Q E := by
  refine z_aload_n (M := m_J9_leftOf) (k := 0) rfl dJ9_leftOf_0 ?_
  refine z_ifnonnull (M := m_J9_leftOf) 8 rfl dJ9_leftOf_1 (fun hc => ?_) (fun hc => ?_)
  · have H := H.1 hc
    refine z_aload_n (M := m_J9_leftOf) (k := 0) rfl dJ9_leftOf_8 ?_
    obtain ⟨g, H⟩ := H
    refine z_get (M := m_J9_leftOf) f_J9_111 dJ9_leftOf_9 g ?_
    exact z_areturn (M := m_J9_leftOf) rfl (Or.inl ⟨_, rfl⟩) dJ9_leftOf_12 H
  · have H := H.2 hc
    refine z_null (M := m_J9_leftOf) dJ9_leftOf_4 ?_
    refine z_goto (M := m_J9_leftOf) 12 rfl dJ9_leftOf_5 ?_
    exact z_areturn (M := m_J9_leftOf) rfl (Or.inl ⟨_, rfl⟩) dJ9_leftOf_12 H
theorem c_J9_leftOf {s0 : zE} {d : Nat} {x0 : Nat} {h : zH} {Q : Value → zH → Prop} {E : Nat → zH → Prop} (H : (¬ x0 = 0 → ((fR h x0 [67] 2) ∧ (Q (zr (gR h x0 2)) h))) ∧ (x0 = 0 → (Q (zr 0) h))) : zX s0 m_J9_leftOf d [zr (x0)] h Q E := zX.of2 rfl (by decide +kernel) (zlay_r (zlay_n znone0)) (zle rfl) (b_J9_leftOf_0 H)
theorem b_J9_parentOf_0 {s0 : zE} {d : Nat} {x0 : Nat} {h : zH} {Q : Value → zH → Prop} {E : Nat → zH → Prop} (H : (¬ x0 = 0 → ((fR h x0 [67] 4) ∧ (Q (zr (gR h x0 4)) h))) ∧ (x0 = 0 → (Q (zr 0) h))) : zP s0 m_J9_parentOf d 0 [some (zr (x0))] [] h Q E := by
  refine z_aload_n (M := m_J9_parentOf) (k := 0) rfl dJ9_parentOf_0 ?_
  refine z_ifnonnull (M := m_J9_parentOf) 8 rfl dJ9_parentOf_1 (fun hc => ?_) (fun hc => ?_)
  · have H := H.1 hc
    refine z_aload_n (M := m_J9_parentOf) (k := 0) rfl dJ9_parentOf_8 ?_
    obtain ⟨g, H⟩ := H
    refine z_get (M := m_J9_parentOf) f_J9_124 dJ9_parentOf_9 g ?_
    exact z_areturn (M := m_J9_parentOf) rfl (Or.inl ⟨_, rfl⟩) dJ9_parentOf_12 H
  · have H := H.2 hc
    refine z_null (M := m_J9_parentOf) dJ9_parentOf_4 ?_
    refine z_goto (M := m_J9_parentOf) 12 rfl dJ9_parentOf_5 ?_
    exact z_areturn (M := m_J9_parentOf) rfl (Or.inl ⟨_, rfl⟩) dJ9_parentOf_12 H
theorem c_J9_parentOf {s0 : zE} {d : Nat} {x0 : Nat} {h : zH} {Q : Value → zH → Prop} {E : Nat → zH → Prop} (H : (¬ x0 = 0 → ((fR h x0 [67] 4) ∧ (Q (zr (gR h x0 4)) h))) ∧ (x0 = 0 → (Q (zr 0) h))) : zX s0 m_J9_parentOf d [zr (x0)] h Q E := zX.of2 rfl (by decide +kernel) (zlay_r (zlay_n znone0)) (zle rfl) (b_J9_parentOf_0 H)
theorem b_J9_pollFirstEntry_0 {s0 : zE} {d : Nat} {x0 : Nat} {h : zH} {Q : Value → zH → Prop} {E : Nat → zH → Prop} (H : (fC h x0 47 ∧ zX s0 m_J9_getFirstEntry d [zr x0] h (fun v1 h1 => ∃ n1 : Nat, v1 = zr (n1) ∧ (zX s0 m_J9_exportEntry d [zr (n1)] h1 (fun v2 h2 => ∃ n2 : Nat, v2 = zr (n2) ∧ ((n1 = 0 → (Q (zr n2) h2)) ∧ (¬ n1 = 0 → ((fC h2 x0 47 ∧ zX s0 m_J9_deleteEntry d [zr x0, zr (n1)] h2 (fun _ h3 => (Q (zr n2) h3)) E))))) E)) E)) : zP s0 m_J9_pollFirstEntry (d + 1) 0 [some (zr (x0)), none, none] [] h Q E := by
  refine z_aload_n (M := m_J9_pollFirstEntry) (k := 0) rfl dJ9_pollFirstEntry_0 ?_
  obtain ⟨⟨fs9, g⟩, H⟩ := H
  refine z_invV (M := m_J9_pollFirstEntry) (cn := 47) (a := []) ok_J9_getFirstEntry q2576 q1633 q1634 rfl dJ9_pollFirstEntry_1 g (Nat.le_refl _) (Nat.zero_le _) rfl H (fun v1 h1 H => ?_) (fun n9 h9 H => zPx.out rfl H)
  obtain ⟨n1, rfl, H⟩ := H
  show zP s0 m_J9_pollFirstEntry (d + 1) _ _ [zr (n1)] _ _ _
  refine z_astore_n (M := m_J9_pollFirstEntry) (k := 1) 1 rfl (zlt rfl) (zr_cat _) dJ9_pollFirstEntry_4 ?_
  show zP s0 m_J9_pollFirstEntry (d + 1) _ [some (zr (x0)), some (zr (n1)), none] _ _ _ _
  refine z_aload_n (M := m_J9_pollFirstEntry) (k := 1) rfl dJ9_pollFirstEntry_5 ?_
  refine z_invS (M := m_J9_pollFirstEntry) (a := [zr (n1)]) ok_J9_exportEntry q2577 q2578 dJ9_pollFirstEntry_6 (Nat.le_refl _) (Nat.zero_le _) rfl H (fun v2 h2 H => ?_) (fun n9 h9 H => zPx.out rfl H)
  obtain ⟨n2, rfl, H⟩ := H
  show zP s0 m_J9_pollFirstEntry (d + 1) _ _ [zr (n2)] _ _ _
  refine z_astore_n (M := m_J9_pollFirstEntry) (k := 2) 2 rfl (zlt rfl) (zr_cat _) dJ9_pollFirstEntry_9 ?_
  show zP s0 m_J9_pollFirstEntry (d + 1) _ [some (zr (x0)), some (zr (n1)), some (zr (n2))] _ _ _ _
  refine z_aload_n (M := m_J9_pollFirstEntry) (k := 1) rfl dJ9_pollFirstEntry_10 ?_
  refine z_ifnull (M := m_J9_pollFirstEntry) 19 rfl dJ9_pollFirstEntry_11 (fun hc => ?_) (fun hc => ?_)
  · have H := H.1 hc
    refine z_aload_n (M := m_J9_pollFirstEntry) (k := 2) rfl dJ9_pollFirstEntry_19 ?_
    exact z_areturn (M := m_J9_pollFirstEntry) rfl (Or.inl ⟨_, rfl⟩) dJ9_pollFirstEntry_20 H
  · have H := H.2 hc
    refine z_aload_n (M := m_J9_pollFirstEntry) (k := 0) rfl dJ9_pollFirstEntry_14 ?_
    refine z_aload_n (M := m_J9_pollFirstEntry) (k := 1) rfl dJ9_pollFirstEntry_15 ?_
    obtain ⟨⟨fs9, g⟩, H⟩ := H
    refine z_invV (M := m_J9_pollFirstEntry) (cn := 47) (a := [zr (n1)]) ok_J9_deleteEntry q2692 q2288 qs16 rfl dJ9_pollFirstEntry_16 g (Nat.le_refl _) (Nat.zero_le _) rfl H (fun v3 h3 H => ?_) (fun n9 h9 H => zPx.out rfl H)
    show zP s0 m_J9_pollFirstEntry (d + 1) _ _ [] _ _ _
    refine z_aload_n (M := m_J9_pollFirstEntry) (k := 2) rfl dJ9_pollFirstEntry_19 ?_
    exact z_areturn (M := m_J9_pollFirstEntry) rfl (Or.inl ⟨_, rfl⟩) dJ9_pollFirstEntry_20 H
theorem c_J9_pollFirstEntry {s0 : zE} {d : Nat} {x0 : Nat} {h : zH} {Q : Value → zH → Prop} {E : Nat → zH → Prop} (H : (fC h x0 47 ∧ zX s0 m_J9_getFirstEntry d [zr x0] h (fun v1 h1 => ∃ n1 : Nat, v1 = zr (n1) ∧ (zX s0 m_J9_exportEntry d [zr (n1)] h1 (fun v2 h2 => ∃ n2 : Nat, v2 = zr (n2) ∧ ((n1 = 0 → (Q (zr n2) h2)) ∧ (¬ n1 = 0 → ((fC h2 x0 47 ∧ zX s0 m_J9_deleteEntry d [zr x0, zr (n1)] h2 (fun _ h3 => (Q (zr n2) h3)) E))))) E)) E)) : zX s0 m_J9_pollFirstEntry (d + 1) [zr (x0)] h Q E := zX.of2 rfl (by decide +kernel) (zlay_r (zlay_n (znoneS (znoneS znone0)))) (zle rfl) (b_J9_pollFirstEntry_0 H)
theorem b_J9_put_0 {s0 : zE} {d : Nat} {x0 : Nat} {x1 : Nat} {x2 : Nat} {h : zH} {Q : Value → zH → Prop} {E : Nat → zH → Prop} (H : (fC h x0 47 ∧ zX s0 m_J9_put_2 d [zr x0, zr (x1), zr (x2), .int (1)] h (fun v1 h1 => ∃ n1 : Nat, v1 = zr (n1) ∧ (Q (zr n1) h1)) E)) : zP s0 m_J9_put (d + 1) 0 [some (zr (x0)), some (zr (x1)), some (zr (x2))] [] h Q E := by
  refine z_aload_n (M := m_J9_put) (k := 0) rfl dJ9_put_0 ?_
  refine z_aload_n (M := m_J9_put) (k := 1) rfl dJ9_put_1 ?_
  refine z_aload_n (M := m_J9_put) (k := 2) rfl dJ9_put_2 ?_
  refine z_iconst (M := m_J9_put) (v := 1) (by decide) dJ9_put_3 ?_
  obtain ⟨⟨fs9, g⟩, H⟩ := H
  refine z_invV (M := m_J9_put) (cn := 47) (a := [zr (x1), zr (x2), .int (1)]) ok_J9_put_2 q2705 q2707 qs24 rfl dJ9_put_4 g (Nat.le_refl _) (Nat.zero_le _) rfl H (fun v1 h1 H => ?_) (fun n9 h9 H => zPx.out rfl H)
  obtain ⟨n1, rfl, H⟩ := H
  show zP s0 m_J9_put (d + 1) _ _ [zr (n1)] _ _ _
  exact z_areturn (M := m_J9_put) rfl (Or.inl ⟨_, rfl⟩) dJ9_put_7 H
theorem c_J9_put {s0 : zE} {d : Nat} {x0 : Nat} {x1 : Nat} {x2 : Nat} {h : zH} {Q : Value → zH → Prop} {E : Nat → zH → Prop} (H : (fC h x0 47 ∧ zX s0 m_J9_put_2 d [zr x0, zr (x1), zr (x2), .int (1)] h (fun v1 h1 => ∃ n1 : Nat, v1 = zr (n1) ∧ (Q (zr n1) h1)) E)) : zX s0 m_J9_put (d + 1) [zr (x0), zr (x1), zr (x2)] h Q E := zX.of2 rfl (by decide +kernel) (zlay_r (zlay_r (zlay_r (zlay_n znone0)))) (zle rfl) (b_J9_put_0 H)
theorem b_J9_remove_0 {s0 : zE} {d : Nat} {x0 : Nat} {x1 : Nat} {h : zH} {Q : Value → zH → Prop} {E : Nat → zH → Prop} (H : (fC h x0 47 ∧ zX s0 m_J9_getEntry d [zr x0, zr (x1)] h (fun v1 h1 => ∃ n1 : Nat, v1 = zr (n1) ∧ ((¬ n1 = 0 → ((fR h1 n1 [67] 1) ∧ ((fC h1 x0 47 ∧ zX s0 m_J9_deleteEntry d [zr x0, zr (n1)] h1 (fun _ h2 => (Q (zr (gR h1 n1 1)) h2)) E)))) ∧ (n1 = 0 → (Q (zr 0) h1)))) E)) : zP s0 m_J9_remove (d + 1) 0 [some (zr (x0)), some (zr (x1)), none, none] [] h Q E := by
  refine z_aload_n (M := m_J9_remove) (k := 0) rfl dJ9_remove_0 ?_
  refine z_aload_n (M := m_J9_remove) (k := 1) rfl dJ9_remove_1 ?_
  obtain ⟨⟨fs9, g⟩, H⟩ := H
  refine z_invV (M := m_J9_remove) (cn := 47) (a := [zr (x1)]) ok_J9_getEntry q2674 q2675 q2676 rfl dJ9_remove_2 g (Nat.le_refl _) (Nat.zero_le _) rfl H (fun v1 h1 H => ?_) (fun n9 h9 H => zPx.out rfl H)
  obtain ⟨n1, rfl, H⟩ := H
  show zP s0 m_J9_remove (d + 1) _ _ [zr (n1)] _ _ _
  refine z_astore_n (M := m_J9_remove) (k := 2) 2 rfl (zlt rfl) (zr_cat _) dJ9_remove_5 ?_
  show zP s0 m_J9_remove (d + 1) _ [some (zr (x0)), some (zr (x1)), some (zr (n1)), none] _ _ _ _
  refine z_aload_n (M := m_J9_remove) (k := 2) rfl dJ9_remove_6 ?_
  refine z_ifnonnull (M := m_J9_remove) 12 rfl dJ9_remove_7 (fun hc => ?_) (fun hc => ?_)
  · have H := H.1 hc
    refine z_aload_n (M := m_J9_remove) (k := 2) rfl dJ9_remove_12 ?_
    obtain ⟨g, H⟩ := H
    refine z_get (M := m_J9_remove) f_J9_58 dJ9_remove_13 g ?_
    refine z_astore_n (M := m_J9_remove) (k := 3) 3 rfl (zlt rfl) (zr_cat _) dJ9_remove_16 ?_
    show zP s0 m_J9_remove (d + 1) _ [some (zr (x0)), some (zr (x1)), some (zr (n1)), some (zr (gR h1 n1 1))] _ _ _ _
    refine z_aload_n (M := m_J9_remove) (k := 0) rfl dJ9_remove_17 ?_
    refine z_aload_n (M := m_J9_remove) (k := 2) rfl dJ9_remove_18 ?_
    obtain ⟨⟨fs9, g⟩, H⟩ := H
    refine z_invV (M := m_J9_remove) (cn := 47) (a := [zr (n1)]) ok_J9_deleteEntry q2692 q2288 qs16 rfl dJ9_remove_19 g (Nat.le_refl _) (Nat.zero_le _) rfl H (fun v2 h2 H => ?_) (fun n9 h9 H => zPx.out rfl H)
    show zP s0 m_J9_remove (d + 1) _ _ [] _ _ _
    refine z_aload_n (M := m_J9_remove) (k := 3) rfl dJ9_remove_22 ?_
    exact z_areturn (M := m_J9_remove) rfl (Or.inl ⟨_, rfl⟩) dJ9_remove_23 H
  · have H := H.2 hc
    refine z_null (M := m_J9_remove) dJ9_remove_10 ?_
    exact z_areturn (M := m_J9_remove) rfl (Or.inl ⟨_, rfl⟩) dJ9_remove_11 H
theorem c_J9_remove {s0 : zE} {d : Nat} {x0 : Nat} {x1 : Nat} {h : zH} {Q : Value → zH → Prop} {E : Nat → zH → Prop} (H : (fC h x0 47 ∧ zX s0 m_J9_getEntry d [zr x0, zr (x1)] h (fun v1 h1 => ∃ n1 : Nat, v1 = zr (n1) ∧ ((¬ n1 = 0 → ((fR h1 n1 [67] 1) ∧ ((fC h1 x0 47 ∧ zX s0 m_J9_deleteEntry d [zr x0, zr (n1)] h1 (fun _ h2 => (Q (zr (gR h1 n1 1)) h2)) E)))) ∧ (n1 = 0 → (Q (zr 0) h1)))) E)) : zX s0 m_J9_remove (d + 1) [zr (x0), zr (x1)] h Q E := zX.of2 rfl (by decide +kernel) (zlay_r (zlay_r (zlay_n (znoneS (znoneS znone0))))) (zle rfl) (b_J9_remove_0 H)
theorem b_J9_rightOf_0 {s0 : zE} {d : Nat} {x0 : Nat} {h : zH} {Q : Value → zH → Prop} {E : Nat → zH → Prop} (H : (¬ x0 = 0 → ((fR h x0 [67] 3) ∧ (Q (zr (gR h x0 3)) h))) ∧ (x0 = 0 → (Q (zr 0) h))) : zP s0 m_J9_rightOf d 0 [some (zr (x0))] [] h Q E := by
  refine z_aload_n (M := m_J9_rightOf) (k := 0) rfl dJ9_rightOf_0 ?_
  refine z_ifnonnull (M := m_J9_rightOf) 8 rfl dJ9_rightOf_1 (fun hc => ?_) (fun hc => ?_)
  · have H := H.1 hc
    refine z_aload_n (M := m_J9_rightOf) (k := 0) rfl dJ9_rightOf_8 ?_
    obtain ⟨g, H⟩ := H
    refine z_get (M := m_J9_rightOf) f_J9_114 dJ9_rightOf_9 g ?_
    exact z_areturn (M := m_J9_rightOf) rfl (Or.inl ⟨_, rfl⟩) dJ9_rightOf_12 H
  · have H := H.2 hc
    refine z_null (M := m_J9_rightOf) dJ9_rightOf_4 ?_
    refine z_goto (M := m_J9_rightOf) 12 rfl dJ9_rightOf_5 ?_
    exact z_areturn (M := m_J9_rightOf) rfl (Or.inl ⟨_, rfl⟩) dJ9_rightOf_12 H
theorem c_J9_rightOf {s0 : zE} {d : Nat} {x0 : Nat} {h : zH} {Q : Value → zH → Prop} {E : Nat → zH → Prop} (H : (¬ x0 = 0 → ((fR h x0 [67] 3) ∧ (Q (zr (gR h x0 3)) h))) ∧ (x0 = 0 → (Q (zr 0) h))) : zX s0 m_J9_rightOf d [zr (x0)] h Q E := zX.of2 rfl (by decide +kernel) (zlay_r (zlay_n znone0)) (zle rfl) (b_J9_rightOf_0 H)
theorem b_J9_rotateLeft_0 {s0 : zE} {d : Nat} {x0 : Nat} {x1 : Nat} {h : zH} {Q : Value → zH → Prop} {E : Nat → zH → Prop} (H : (x1 = 0 → (Q .null h)) ∧ (¬ x1 = 0 → ((fR h x1 [67] 3) ∧ ((fR h (gR h x1 3) [67] 2) ∧ ((fC h x1 67) ∧ (∀ h1, h1 = zput h x1 3 (zr (gR h (gR h x1 3) 2)) → ((fR h1 (gR h x1 3) [67] 2) ∧ ((gR h1 (gR h x1 3) 2 = 0 → (zP s0 m_J9_rotateLeft d 32 [some (zr (x0)), some (zr (x1)), some (zr (gR h x1 3))] [] h1 Q E)) ∧ (¬ gR h1 (gR h x1 3) 2 = 0 → ((fR h1 (gR h x1 3) [67] 2) ∧ ((fC h1 (gR h1 (gR h x1 3) 2) 67) ∧ (∀ h2, h2 = zput h1 (gR h1 (gR h x1 3) 2) 4 (zr (x1)) → (zP s0 m_J9_rotateLeft d 32 [some (zr (x0)), some (zr (x1)), some (zr (gR h x1 3))] [] h2 Q E))))))))))))) : zP s0 m_J9_rotateLeft d 0 [some (zr (x0)), some (zr (x1)), none] [] h Q E := by
  refine z_aload_n (M := m_J9_rotateLeft) (k := 1) rfl dJ9_rotateLeft_0 ?_
  refine z_ifnull (M := m_J9_rotateLeft) 95 rfl dJ9_rotateLeft_1 (fun hc => ?_) (fun hc => ?_)
  · have H := H.1 hc
    exact z_return (M := m_J9_rotateLeft) rfl dJ9_rotateLeft_95 H
  · have H := H.2 hc
    refine z_aload_n (M := m_J9_rotateLeft) (k := 1) rfl dJ9_rotateLeft_4 ?_
    obtain ⟨g, H⟩ := H
    refine z_get (M := m_J9_rotateLeft) f_J9_114 dJ9_rotateLeft_5 g ?_
    refine z_astore_n (M := m_J9_rotateLeft) (k := 2) 2 rfl (zlt rfl) (zr_cat _) dJ9_rotateLeft_8 ?_
    show zP s0 m_J9_rotateLeft d _ [some (zr (x0)), some (zr (x1)), some (zr (gR h x1 3))] _ _ _ _
    refine z_aload_n (M := m_J9_rotateLeft) (k := 1) rfl dJ9_rotateLeft_9 ?_
    refine z_aload_n (M := m_J9_rotateLeft) (k := 2) rfl dJ9_rotateLeft_10 ?_
    obtain ⟨g, H⟩ := H
    refine z_get (M := m_J9_rotateLeft) f_J9_111 dJ9_rotateLeft_11 g ?_
    obtain ⟨g, H⟩ := H
    refine zz_put (M := m_J9_rotateLeft) f_J9_114 dJ9_rotateLeft_14 rfl (fn_67_3) g (ft_67_3) (fun h1 e => ?_)
    have H := H h1 e
    refine z_aload_n (M := m_J9_rotateLeft) (k := 2) rfl dJ9_rotateLeft_17 ?_
    obtain ⟨g, H⟩ := H
    refine z_get (M := m_J9_rotateLeft) f_J9_111 dJ9_rotateLeft_18 g ?_
    refine z_ifnull (M := m_J9_rotateLeft) 32 rfl dJ9_rotateLeft_21 (fun hc => ?_) (fun hc => ?_)
    · have H := H.1 hc
      exact H
    · have H := H.2 hc
      refine z_aload_n (M := m_J9_rotateLeft) (k := 2) rfl dJ9_rotateLeft_24 ?_
      obtain ⟨g, H⟩ := H
      refine z_get (M := m_J9_rotateLeft) f_J9_111 dJ9_rotateLeft_25 g ?_
      refine z_aload_n (M := m_J9_rotateLeft) (k := 1) rfl dJ9_rotateLeft_28 ?_
      obtain ⟨g, H⟩ := H
      refine zz_put (M := m_J9_rotateLeft) f_J9_124 dJ9_rotateLeft_29 rfl (fn_67_4) g (ft_67_4) (fun h2 e => ?_)
      have H := H h2 e
      exact H
theorem c_J9_rotateLeft {s0 : zE} {d : Nat} {x0 : Nat} {x1 : Nat} {h : zH} {Q : Value → zH → Prop} {E : Nat → zH → Prop} (H : (x1 = 0 → (Q .null h)) ∧ (¬ x1 = 0 → ((fR h x1 [67] 3) ∧ ((fR h (gR h x1 3) [67] 2) ∧ ((fC h x1 67) ∧ (∀ h1, h1 = zput h x1 3 (zr (gR h (gR h x1 3) 2)) → ((fR h1 (gR h x1 3) [67] 2) ∧ ((gR h1 (gR h x1 3) 2 = 0 → (zP s0 m_J9_rotateLeft d 32 [some (zr (x0)), some (zr (x1)), some (zr (gR h x1 3))] [] h1 Q E)) ∧ (¬ gR h1 (gR h x1 3) 2 = 0 → ((fR h1 (gR h x1 3) [67] 2) ∧ ((fC h1 (gR h1 (gR h x1 3) 2) 67) ∧ (∀ h2, h2 = zput h1 (gR h1 (gR h x1 3) 2) 4 (zr (x1)) → (zP s0 m_J9_rotateLeft d 32 [some (zr (x0)), some (zr (x1)), some (zr (gR h x1 3))] [] h2 Q E))))))))))))) : zX s0 m_J9_rotateLeft d [zr (x0), zr (x1)] h Q E := zX.of2 rfl (by decide +kernel) (zlay_r (zlay_r (zlay_n (znoneS znone0)))) (zle rfl) (b_J9_rotateLeft_0 H)
theorem b_J9_rotateLeft_32 {s0 : zE} {d : Nat} {x0 : Nat} {x1 : Nat} {x2 : Nat} {h : zH} {Q : Value → zH → Prop} {E : Nat → zH → Prop} (H : (fR h x1 [67] 4) ∧ ((fC h x2 67) ∧ (∀ h1, h1 = zput h x2 4 (zr (gR h x1 4)) → ((fR h1 x1 [67] 4) ∧ ((¬ gR h1 x1 4 = 0 → ((fR h1 x1 [67] 4) ∧ ((fR h1 (gR h1 x1 4) [67] 2) ∧ ((¬ gR h1 (gR h1 x1 4) 2 = x1 → ((fR h1 x1 [67] 4) ∧ ((fC h1 (gR h1 x1 4) 67) ∧ (∀ h2, h2 = zput h1 (gR h1 x1 4) 3 (zr (x2)) → ((fC h2 x2 67) ∧ (∀ h3, h3 = zput h2 x2 2 (zr (x1)) → ((fC h3 x1 67) ∧ (∀ h4, h4 = zput h3 x1 4 (zr (x2)) → (Q .null h4))))))))) ∧ (gR h1 (gR h1 x1 4) 2 = x1 → ((fR h1 x1 [67] 4) ∧ ((fC h1 (gR h1 x1 4) 67) ∧ (∀ h5, h5 = zput h1 (gR h1 x1 4) 2 (zr (x2)) → ((fC h5 x2 67) ∧ (∀ h6, h6 = zput h5 x2 2 (zr (x1)) → ((fC h6 x1 67) ∧ (∀ h7, h7 = zput h6 x1 4 (zr (x2)) → (Q .null h7))))))))))))) ∧ (gR h1 x1 4 = 0 → ((fC h1 x0 47) ∧ (∀ h8, h8 = zput h1 x0 3 (zr (x2)) → ((fC h8 x2 67) ∧ (∀ h9, h9 = zput h8 x2 2 (zr (x1)) → ((fC h9 x1 67) ∧ (∀ h10, h10 = zput h9 x1 4 (zr (x2)) → (Q .null h10))))))))))))) : zP s0 m_J9_rotateLeft d 32 [some (zr (x0)), some (zr (x1)), some (zr (x2))] [] h Q E := by
  refine z_aload_n (M := m_J9_rotateLeft) (k := 2) rfl dJ9_rotateLeft_32 ?_
  refine z_aload_n (M := m_J9_rotateLeft) (k := 1) rfl dJ9_rotateLeft_33 ?_
  obtain ⟨g, H⟩ := H
  refine z_get (M := m_J9_rotateLeft) f_J9_124 dJ9_rotateLeft_34 g ?_
  obtain ⟨g, H⟩ := H
  refine zz_put (M := m_J9_rotateLeft) f_J9_124 dJ9_rotateLeft_37 rfl (fn_67_4) g (ft_67_4) (fun h1 e => ?_)
  have H := H h1 e
  refine z_aload_n (M := m_J9_rotateLeft) (k := 1) rfl dJ9_rotateLeft_40 ?_
  obtain ⟨g, H⟩ := H
  refine z_get (M := m_J9_rotateLeft) f_J9_124 dJ9_rotateLeft_41 g ?_
  refine z_ifnonnull (M := m_J9_rotateLeft) 55 rfl dJ9_rotateLeft_44 (fun hc => ?_) (fun hc => ?_)
  · have H := H.1 hc
    refine z_aload_n (M := m_J9_rotateLeft) (k := 1) rfl dJ9_rotateLeft_55 ?_
    obtain ⟨g, H⟩ := H
    refine z_get (M := m_J9_rotateLeft) f_J9_124 dJ9_rotateLeft_56 g ?_
    obtain ⟨g, H⟩ := H
    refine z_get (M := m_J9_rotateLeft) f_J9_111 dJ9_rotateLeft_59 g ?_
    refine z_aload_n (M := m_J9_rotateLeft) (k := 1) rfl dJ9_rotateLeft_62 ?_
    refine z_acmpne (M := m_J9_rotateLeft) 77 rfl dJ9_rotateLeft_63 (fun hc => ?_) (fun hc => ?_)
    · have H := H.1 hc
      refine z_aload_n (M := m_J9_rotateLeft) (k := 1) rfl dJ9_rotateLeft_77 ?_
      obtain ⟨g, H⟩ := H
      refine z_get (M := m_J9_rotateLeft) f_J9_124 dJ9_rotateLeft_78 g ?_
      refine z_aload_n (M := m_J9_rotateLeft) (k := 2) rfl dJ9_rotateLeft_81 ?_
      obtain ⟨g, H⟩ := H
      refine zz_put (M := m_J9_rotateLeft) f_J9_114 dJ9_rotateLeft_82 rfl (fn_67_3) g (ft_67_3) (fun h2 e => ?_)
      have H := H h2 e
      refine z_aload_n (M := m_J9_rotateLeft) (k := 2) rfl dJ9_rotateLeft_85 ?_
      refine z_aload_n (M := m_J9_rotateLeft) (k := 1) rfl dJ9_rotateLeft_86 ?_
      obtain ⟨g, H⟩ := H
      refine zz_put (M := m_J9_rotateLeft) f_J9_111 dJ9_rotateLeft_87 rfl (fn_67_2) g (ft_67_2) (fun h3 e => ?_)
      have H := H h3 e
      refine z_aload_n (M := m_J9_rotateLeft) (k := 1) rfl dJ9_rotateLeft_90 ?_
      refine z_aload_n (M := m_J9_rotateLeft) (k := 2) rfl dJ9_rotateLeft_91 ?_
      obtain ⟨g, H⟩ := H
      refine zz_put (M := m_J9_rotateLeft) f_J9_124 dJ9_rotateLeft_92 rfl (fn_67_4) g (ft_67_4) (fun h4 e => ?_)
      have H := H h4 e
      exact z_return (M := m_J9_rotateLeft) rfl dJ9_rotateLeft_95 H
    · have H := H.2 hc
      refine z_aload_n (M := m_J9_rotateLeft) (k := 1) rfl dJ9_rotateLeft_66 ?_
      obtain ⟨g, H⟩ := H
      refine z_get (M := m_J9_rotateLeft) f_J9_124 dJ9_rotateLeft_67 g ?_
      refine z_aload_n (M := m_J9_rotateLeft) (k := 2) rfl dJ9_rotateLeft_70 ?_
      obtain ⟨g, H⟩ := H
      refine zz_put (M := m_J9_rotateLeft) f_J9_111 dJ9_rotateLeft_71 rfl (fn_67_2) g (ft_67_2) (fun h5 e => ?_)
      have H := H h5 e
      refine z_goto (M := m_J9_rotateLeft) 85 rfl dJ9_rotateLeft_74 ?_
      refine z_aload_n (M := m_J9_rotateLeft) (k := 2) rfl dJ9_rotateLeft_85 ?_
      refine z_aload_n (M := m_J9_rotateLeft) (k := 1) rfl dJ9_rotateLeft_86 ?_
      obtain ⟨g, H⟩ := H
      refine zz_put (M := m_J9_rotateLeft) f_J9_111 dJ9_rotateLeft_87 rfl (fn_67_2) g (ft_67_2) (fun h6 e => ?_)
      have H := H h6 e
      refine z_aload_n (M := m_J9_rotateLeft) (k := 1) rfl dJ9_rotateLeft_90 ?_
      refine z_aload_n (M := m_J9_rotateLeft) (k := 2) rfl dJ9_rotateLeft_91 ?_
      obtain ⟨g, H⟩ := H
      refine zz_put (M := m_J9_rotateLeft) f_J9_124 dJ9_rotateLeft_92 rfl (fn_67_4) g (ft_67_4) (fun h7 e => ?_)
      have H := H h7 e
      exact z_return (M := m_J9_rotateLeft) rfl dJ9_rotateLeft_95 H
  · have H := H.2 hc
    refine z_aload_n (M := m_J9_rotateLeft) (k := 0) rfl dJ9_rotateLeft_47 ?_
    refine z_aload_n (M := m_J9_rotateLeft) (k := 2) rfl dJ9_rotateLeft_48 ?_
    obtain ⟨g, H⟩ := H
    refine zz_put (M := m_J9_rotateLeft) f_J9_101 dJ9_rotateLeft_49 rfl (fn_47_3) g (ft_47_3) (fun h8 e => ?_)
    have H := H h8 e
    refine z_goto (M := m_J9_rotateLeft) 85 rfl dJ9_rotateLeft_52 ?_
    refine z_aload_n (M := m_J9_rotateLeft) (k := 2) rfl dJ9_rotateLeft_85 ?_
    refine z_aload_n (M := m_J9_rotateLeft) (k := 1) rfl dJ9_rotateLeft_86 ?_
    obtain ⟨g, H⟩ := H
    refine zz_put (M := m_J9_rotateLeft) f_J9_111 dJ9_rotateLeft_87 rfl (fn_67_2) g (ft_67_2) (fun h9 e => ?_)
    have H := H h9 e
    refine z_aload_n (M := m_J9_rotateLeft) (k := 1) rfl dJ9_rotateLeft_90 ?_
    refine z_aload_n (M := m_J9_rotateLeft) (k := 2) rfl dJ9_rotateLeft_91 ?_
    obtain ⟨g, H⟩ := H
    refine zz_put (M := m_J9_rotateLeft) f_J9_124 dJ9_rotateLeft_92 rfl (fn_67_4) g (ft_67_4) (fun h10 e => ?_)
    have H := H h10 e
    exact z_return (M := m_J9_rotateLeft) rfl dJ9_rotateLeft_95 H
theorem b_J9_rotateRight_0 {s0 : zE} {d : Nat} {x0 : Nat} {x1 : Nat} {h : zH} {Q : Value → zH → Prop} {E : Nat → zH → Prop} (H : (x1 = 0 → (Q .null h)) ∧ (¬ x1 = 0 → ((fR h x1 [67] 2) ∧ ((fR h (gR h x1 2) [67] 3) ∧ ((fC h x1 67) ∧ (∀ h1, h1 = zput h x1 2 (zr (gR h (gR h x1 2) 3)) → ((fR h1 (gR h x1 2) [67] 3) ∧ ((gR h1 (gR h x1 2) 3 = 0 → (zP s0 m_J9_rotateRight d 32 [some (zr (x0)), some (zr (x1)), some (zr (gR h x1 2))] [] h1 Q E)) ∧ (¬ gR h1 (gR h x1 2) 3 = 0 → ((fR h1 (gR h x1 2) [67] 3) ∧ ((fC h1 (gR h1 (gR h x1 2) 3) 67) ∧ (∀ h2, h2 = zput h1 (gR h1 (gR h x1 2) 3) 4 (zr (x1)) → (zP s0 m_J9_rotateRight d 32 [some (zr (x0)), some (zr (x1)), some (zr (gR h x1 2))] [] h2 Q E))))))))))))) : zP s0 m_J9_rotateRight d 0 [some (zr (x0)), some (zr (x1)), none] [] h Q E := by
  refine z_aload_n (M := m_J9_rotateRight) (k := 1) rfl dJ9_rotateRight_0 ?_
  refine z_ifnull (M := m_J9_rotateRight) 95 rfl dJ9_rotateRight_1 (fun hc => ?_) (fun hc => ?_)
  · have H := H.1 hc
    exact z_return (M := m_J9_rotateRight) rfl dJ9_rotateRight_95 H
  · have H := H.2 hc
    refine z_aload_n (M := m_J9_rotateRight) (k := 1) rfl dJ9_rotateRight_4 ?_
    obtain ⟨g, H⟩ := H
    refine z_get (M := m_J9_rotateRight) f_J9_111 dJ9_rotateRight_5 g ?_
    refine z_astore_n (M := m_J9_rotateRight) (k := 2) 2 rfl (zlt rfl) (zr_cat _) dJ9_rotateRight_8 ?_
    show zP s0 m_J9_rotateRight d _ [some (zr (x0)), some (zr (x1)), some (zr (gR h x1 2))] _ _ _ _
    refine z_aload_n (M := m_J9_rotateRight) (k := 1) rfl dJ9_rotateRight_9 ?_
    refine z_aload_n (M := m_J9_rotateRight) (k := 2) rfl dJ9_rotateRight_10 ?_
    obtain ⟨g, H⟩ := H
    refine z_get (M := m_J9_rotateRight) f_J9_114 dJ9_rotateRight_11 g ?_
    obtain ⟨g, H⟩ := H
    refine zz_put (M := m_J9_rotateRight) f_J9_111 dJ9_rotateRight_14 rfl (fn_67_2) g (ft_67_2) (fun h1 e => ?_)
    have H := H h1 e
    refine z_aload_n (M := m_J9_rotateRight) (k := 2) rfl dJ9_rotateRight_17 ?_
    obtain ⟨g, H⟩ := H
    refine z_get (M := m_J9_rotateRight) f_J9_114 dJ9_rotateRight_18 g ?_
    refine z_ifnull (M := m_J9_rotateRight) 32 rfl dJ9_rotateRight_21 (fun hc => ?_) (fun hc => ?_)
    · have H := H.1 hc
      exact H
    · have H := H.2 hc
      refine z_aload_n (M := m_J9_rotateRight) (k := 2) rfl dJ9_rotateRight_24 ?_
      obtain ⟨g, H⟩ := H
      refine z_get (M := m_J9_rotateRight) f_J9_114 dJ9_rotateRight_25 g ?_
      refine z_aload_n (M := m_J9_rotateRight) (k := 1) rfl dJ9_rotateRight_28 ?_
      obtain ⟨g, H⟩ := H
      refine zz_put (M := m_J9_rotateRight) f_J9_124 dJ9_rotateRight_29 rfl (fn_67_4) g (ft_67_4) (fun h2 e => ?_)
      have H := H h2 e
      exact H
theorem c_J9_rotateRight {s0 : zE} {d : Nat} {x0 : Nat} {x1 : Nat} {h : zH} {Q : Value → zH → Prop} {E : Nat → zH → Prop} (H : (x1 = 0 → (Q .null h)) ∧ (¬ x1 = 0 → ((fR h x1 [67] 2) ∧ ((fR h (gR h x1 2) [67] 3) ∧ ((fC h x1 67) ∧ (∀ h1, h1 = zput h x1 2 (zr (gR h (gR h x1 2) 3)) → ((fR h1 (gR h x1 2) [67] 3) ∧ ((gR h1 (gR h x1 2) 3 = 0 → (zP s0 m_J9_rotateRight d 32 [some (zr (x0)), some (zr (x1)), some (zr (gR h x1 2))] [] h1 Q E)) ∧ (¬ gR h1 (gR h x1 2) 3 = 0 → ((fR h1 (gR h x1 2) [67] 3) ∧ ((fC h1 (gR h1 (gR h x1 2) 3) 67) ∧ (∀ h2, h2 = zput h1 (gR h1 (gR h x1 2) 3) 4 (zr (x1)) → (zP s0 m_J9_rotateRight d 32 [some (zr (x0)), some (zr (x1)), some (zr (gR h x1 2))] [] h2 Q E))))))))))))) : zX s0 m_J9_rotateRight d [zr (x0), zr (x1)] h Q E := zX.of2 rfl (by decide +kernel) (zlay_r (zlay_r (zlay_n (znoneS znone0)))) (zle rfl) (b_J9_rotateRight_0 H)
theorem b_J9_rotateRight_32 {s0 : zE} {d : Nat} {x0 : Nat} {x1 : Nat} {x2 : Nat} {h : zH} {Q : Value → zH → Prop} {E : Nat → zH → Prop} (H : (fR h x1 [67] 4) ∧ ((fC h x2 67) ∧ (∀ h1, h1 = zput h x2 4 (zr (gR h x1 4)) → ((fR h1 x1 [67] 4) ∧ ((¬ gR h1 x1 4 = 0 → ((fR h1 x1 [67] 4) ∧ ((fR h1 (gR h1 x1 4) [67] 3) ∧ ((¬ gR h1 (gR h1 x1 4) 3 = x1 → ((fR h1 x1 [67] 4) ∧ ((fC h1 (gR h1 x1 4) 67) ∧ (∀ h2, h2 = zput h1 (gR h1 x1 4) 2 (zr (x2)) → ((fC h2 x2 67) ∧ (∀ h3, h3 = zput h2 x2 3 (zr (x1)) → ((fC h3 x1 67) ∧ (∀ h4, h4 = zput h3 x1 4 (zr (x2)) → (Q .null h4))))))))) ∧ (gR h1 (gR h1 x1 4) 3 = x1 → ((fR h1 x1 [67] 4) ∧ ((fC h1 (gR h1 x1 4) 67) ∧ (∀ h5, h5 = zput h1 (gR h1 x1 4) 3 (zr (x2)) → ((fC h5 x2 67) ∧ (∀ h6, h6 = zput h5 x2 3 (zr (x1)) → ((fC h6 x1 67) ∧ (∀ h7, h7 = zput h6 x1 4 (zr (x2)) → (Q .null h7))))))))))))) ∧ (gR h1 x1 4 = 0 → ((fC h1 x0 47) ∧ (∀ h8, h8 = zput h1 x0 3 (zr (x2)) → ((fC h8 x2 67) ∧ (∀ h9, h9 = zput h8 x2 3 (zr (x1)) → ((fC h9 x1 67) ∧ (∀ h10, h10 = zput h9 x1 4 (zr (x2)) → (Q .null h10))))))))))))) : zP s0 m_J9_rotateRight d 32 [some (zr (x0)), some (zr (x1)), some (zr (x2))] [] h Q E := by
  refine z_aload_n (M := m_J9_rotateRight) (k := 2) rfl dJ9_rotateRight_32 ?_
  refine z_aload_n (M := m_J9_rotateRight) (k := 1) rfl dJ9_rotateRight_33 ?_
  obtain ⟨g, H⟩ := H
  refine z_get (M := m_J9_rotateRight) f_J9_124 dJ9_rotateRight_34 g ?_
  obtain ⟨g, H⟩ := H
  refine zz_put (M := m_J9_rotateRight) f_J9_124 dJ9_rotateRight_37 rfl (fn_67_4) g (ft_67_4) (fun h1 e => ?_)
  have H := H h1 e
  refine z_aload_n (M := m_J9_rotateRight) (k := 1) rfl dJ9_rotateRight_40 ?_
  obtain ⟨g, H⟩ := H
  refine z_get (M := m_J9_rotateRight) f_J9_124 dJ9_rotateRight_41 g ?_
  refine z_ifnonnull (M := m_J9_rotateRight) 55 rfl dJ9_rotateRight_44 (fun hc => ?_) (fun hc => ?_)
  · have H := H.1 hc
    refine z_aload_n (M := m_J9_rotateRight) (k := 1) rfl dJ9_rotateRight_55 ?_
    obtain ⟨g, H⟩ := H
    refine z_get (M := m_J9_rotateRight) f_J9_124 dJ9_rotateRight_56 g ?_
    obtain ⟨g, H⟩ := H
    refine z_get (M := m_J9_rotateRight) f_J9_114 dJ9_rotateRight_59 g ?_
    refine z_aload_n (M := m_J9_rotateRight) (k := 1) rfl dJ9_rotateRight_62 ?_
    refine z_acmpne (M := m_J9_rotateRight) 77 rfl dJ9_rotateRight_63 (fun hc => ?_) (fun hc => ?_)
    · have H := H.1 hc
      refine z_aload_n (M := m_J9_rotateRight) (k := 1) rfl dJ9_rotateRight_77 ?_
      obtain ⟨g, H⟩ := H
      refine z_get (M := m_J9_rotateRight) f_J9_124 dJ9_rotateRight_78 g ?_
      refine z_aload_n (M := m_J9_rotateRight) (k := 2) rfl dJ9_rotateRight_81 ?_
      obtain ⟨g, H⟩ := H
      refine zz_put (M := m_J9_rotateRight) f_J9_111 dJ9_rotateRight_82 rfl (fn_67_2) g (ft_67_2) (fun h2 e => ?_)
      have H := H h2 e
      refine z_aload_n (M := m_J9_rotateRight) (k := 2) rfl dJ9_rotateRight_85 ?_
      refine z_aload_n (M := m_J9_rotateRight) (k := 1) rfl dJ9_rotateRight_86 ?_
      obtain ⟨g, H⟩ := H
      refine zz_put (M := m_J9_rotateRight) f_J9_114 dJ9_rotateRight_87 rfl (fn_67_3) g (ft_67_3) (fun h3 e => ?_)
      have H := H h3 e
      refine z_aload_n (M := m_J9_rotateRight) (k := 1) rfl dJ9_rotateRight_90 ?_
      refine z_aload_n (M := m_J9_rotateRight) (k := 2) rfl dJ9_rotateRight_91 ?_
      obtain ⟨g, H⟩ := H
      refine zz_put (M := m_J9_rotateRight) f_J9_124 dJ9_rotateRight_92 rfl (fn_67_4) g (ft_67_4) (fun h4 e => ?_)
      have H := H h4 e
      exact z_return (M := m_J9_rotateRight) rfl dJ9_rotateRight_95 H
    · have H := H.2 hc
      refine z_aload_n (M := m_J9_rotateRight) (k := 1) rfl dJ9_rotateRight_66 ?_
      obtain ⟨g, H⟩ := H
      refine z_get (M := m_J9_rotateRight) f_J9_124 dJ9_rotateRight_67 g ?_
      refine z_aload_n (M := m_J9_rotateRight) (k := 2) rfl dJ9_rotateRight_70 ?_
      obtain ⟨g, H⟩ := H
      refine zz_put (M := m_J9_rotateRight) f_J9_114 dJ9_rotateRight_71 rfl (fn_67_3) g (ft_67_3) (fun h5 e => ?_)
      have H := H h5 e
      refine z_goto (M := m_J9_rotateRight) 85 rfl dJ9_rotateRight_74 ?_
      refine z_aload_n (M := m_J9_rotateRight) (k := 2) rfl dJ9_rotateRight_85 ?_
      refine z_aload_n (M := m_J9_rotateRight) (k := 1) rfl dJ9_rotateRight_86 ?_
      obtain ⟨g, H⟩ := H
      refine zz_put (M := m_J9_rotateRight) f_J9_114 dJ9_rotateRight_87 rfl (fn_67_3) g (ft_67_3) (fun h6 e => ?_)
      have H := H h6 e
      refine z_aload_n (M := m_J9_rotateRight) (k := 1) rfl dJ9_rotateRight_90 ?_
      refine z_aload_n (M := m_J9_rotateRight) (k := 2) rfl dJ9_rotateRight_91 ?_
      obtain ⟨g, H⟩ := H
      refine zz_put (M := m_J9_rotateRight) f_J9_124 dJ9_rotateRight_92 rfl (fn_67_4) g (ft_67_4) (fun h7 e => ?_)
      have H := H h7 e
      exact z_return (M := m_J9_rotateRight) rfl dJ9_rotateRight_95 H
  · have H := H.2 hc
    refine z_aload_n (M := m_J9_rotateRight) (k := 0) rfl dJ9_rotateRight_47 ?_
    refine z_aload_n (M := m_J9_rotateRight) (k := 2) rfl dJ9_rotateRight_48 ?_
    obtain ⟨g, H⟩ := H
    refine zz_put (M := m_J9_rotateRight) f_J9_101 dJ9_rotateRight_49 rfl (fn_47_3) g (ft_47_3) (fun h8 e => ?_)
    have H := H h8 e
    refine z_goto (M := m_J9_rotateRight) 85 rfl dJ9_rotateRight_52 ?_
    refine z_aload_n (M := m_J9_rotateRight) (k := 2) rfl dJ9_rotateRight_85 ?_
    refine z_aload_n (M := m_J9_rotateRight) (k := 1) rfl dJ9_rotateRight_86 ?_
    obtain ⟨g, H⟩ := H
    refine zz_put (M := m_J9_rotateRight) f_J9_114 dJ9_rotateRight_87 rfl (fn_67_3) g (ft_67_3) (fun h9 e => ?_)
    have H := H h9 e
    refine z_aload_n (M := m_J9_rotateRight) (k := 1) rfl dJ9_rotateRight_90 ?_
    refine z_aload_n (M := m_J9_rotateRight) (k := 2) rfl dJ9_rotateRight_91 ?_
    obtain ⟨g, H⟩ := H
    refine zz_put (M := m_J9_rotateRight) f_J9_124 dJ9_rotateRight_92 rfl (fn_67_4) g (ft_67_4) (fun h10 e => ?_)
    have H := H h10 e
    exact z_return (M := m_J9_rotateRight) rfl dJ9_rotateRight_95 H
theorem b_J9_setColor_0 {s0 : zE} {d : Nat} {x0 : Nat} {x1 : Int32} {h : zH} {Q : Value → zH → Prop} {E : Nat → zH → Prop} (H : (x0 = 0 → (Q .null h)) ∧ (¬ x0 = 0 → ((x1 = 0 ∨ x1 = 1) ∧ ((fC h x0 67) ∧ (∀ h1, h1 = zput h x0 5 (.int (x1)) → (Q .null h1)))))) : zP s0 m_J9_setColor d 0 [some (zr (x0)), some (.int (x1))] [] h Q E := by
  refine z_aload_n (M := m_J9_setColor) (k := 0) rfl dJ9_setColor_0 ?_
  refine z_ifnull (M := m_J9_setColor) 9 rfl dJ9_setColor_1 (fun hc => ?_) (fun hc => ?_)
  · have H := H.1 hc
    exact z_return (M := m_J9_setColor) rfl dJ9_setColor_9 H
  · have H := H.2 hc
    refine z_aload_n (M := m_J9_setColor) (k := 0) rfl dJ9_setColor_4 ?_
    refine z_iload_n (M := m_J9_setColor) (k := 1) rfl dJ9_setColor_5 ?_
    obtain ⟨gz, H⟩ := H
    obtain ⟨g, H⟩ := H
    refine zz_put (M := m_J9_setColor) f_J9_290 dJ9_setColor_6 rfl (fn_67_5) g (ft_67_5 gz) (fun h1 e => ?_)
    have H := H h1 e
    exact z_return (M := m_J9_setColor) rfl dJ9_setColor_9 H
theorem c_J9_setColor {s0 : zE} {d : Nat} {x0 : Nat} {x1 : Int32} {h : zH} {Q : Value → zH → Prop} {E : Nat → zH → Prop} (H : (x0 = 0 → (Q .null h)) ∧ (¬ x0 = 0 → ((x1 = 0 ∨ x1 = 1) ∧ ((fC h x0 67) ∧ (∀ h1, h1 = zput h x0 5 (.int (x1)) → (Q .null h1)))))) : zX s0 m_J9_setColor d [zr (x0), .int (x1)] h Q E := zX.of2 rfl (by decide +kernel) (zlay_r (zlay_i (zlay_n znone0))) (zle rfl) (b_J9_setColor_0 H)
theorem b_J9_size_0 {s0 : zE} {d : Nat} {x0 : Nat} {h : zH} {Q : Value → zH → Prop} {E : Nat → zH → Prop} (H : (fI h x0 [47] 4) ∧ (Q (.int (gI h x0 4)) h)) : zP s0 m_J9_size d 0 [some (zr (x0))] [] h Q E := by
  refine z_aload_n (M := m_J9_size) (k := 0) rfl dJ9_size_0 ?_
  obtain ⟨g, H⟩ := H
  refine z_get (M := m_J9_size) f_J9_7 dJ9_size_1 g ?_
  exact z_ireturn (M := m_J9_size) rfl rfl dJ9_size_4 H
theorem c_J9_size {s0 : zE} {d : Nat} {x0 : Nat} {h : zH} {Q : Value → zH → Prop} {E : Nat → zH → Prop} (H : (fI h x0 [47] 4) ∧ (Q (.int (gI h x0 4)) h)) : zX s0 m_J9_size d [zr (x0)] h Q E := zX.of2 rfl (by decide +kernel) (zlay_r (zlay_n znone0)) (zle rfl) (b_J9_size_0 H)
theorem b_J9_successor_0 {s0 : zE} {d : Nat} {x0 : Nat} {h : zH} {Q : Value → zH → Prop} {E : Nat → zH → Prop} (H : (¬ x0 = 0 → ((fR h x0 [67] 3) ∧ ((gR h x0 3 = 0 → ((fR h x0 [67] 4) ∧ (zP s0 m_J9_successor d 42 [none, some (zr (gR h x0 4)), some (zr (x0))] [] h Q E))) ∧ (¬ gR h x0 3 = 0 → ((fR h x0 [67] 3) ∧ (zP s0 m_J9_successor d 18 [none, some (zr (gR h x0 3)), none] [] h Q E)))))) ∧ (x0 = 0 → (Q (zr 0) h))) : zP s0 m_J9_successor d 0 [some (zr (x0)), none, none] [] h Q E := by
  refine z_aload_n (M := m_J9_successor) (k := 0) rfl dJ9_successor_0 ?_
  refine z_ifnonnull (M := m_J9_successor) 6 rfl dJ9_successor_1 (fun hc => ?_) (fun hc => ?_)
  · have H := H.1 hc
    refine z_aload_n (M := m_J9_successor) (k := 0) rfl dJ9_successor_6 ?_
    obtain ⟨g, H⟩ := H
    refine z_get (M := m_J9_successor) f_J9_114 dJ9_successor_7 g ?_
    refine z_ifnull (M := m_J9_successor) 35 rfl dJ9_successor_10 (fun hc => ?_) (fun hc => ?_)
    · have H := H.1 hc
      refine z_aload_n (M := m_J9_successor) (k := 0) rfl dJ9_successor_35 ?_
      obtain ⟨g, H⟩ := H
      refine z_get (M := m_J9_successor) f_J9_124 dJ9_successor_36 g ?_
      refine z_astore_n (M := m_J9_successor) (k := 1) 1 rfl (zlt rfl) (zr_cat _) dJ9_successor_39 ?_
      show zP s0 m_J9_successor d _ [some (zr (x0)), some (zr (gR h x0 4)), none] _ _ _ _
      refine z_aload_n (M := m_J9_successor) (k := 0) rfl dJ9_successor_40 ?_
      refine z_astore_n (M := m_J9_successor) (k := 2) 2 rfl (zlt rfl) (zr_cat _) dJ9_successor_41 ?_
      show zP s0 m_J9_successor d _ [some (zr (x0)), some (zr (gR h x0 4)), some (zr (x0))] _ _ _ _
      exact zP.weak (ls' := [none, some (zr (gR h x0 4)), some (zr (x0))]) (zle rfl) (zsub_no (zsub_so (zsub_so zsub_nil))) H
    · have H := H.2 hc
      refine z_aload_n (M := m_J9_successor) (k := 0) rfl dJ9_successor_13 ?_
      obtain ⟨g, H⟩ := H
      refine z_get (M := m_J9_successor) f_J9_114 dJ9_successor_14 g ?_
      refine z_astore_n (M := m_J9_successor) (k := 1) 1 rfl (zlt rfl) (zr_cat _) dJ9_successor_17 ?_
      show zP s0 m_J9_successor d _ [some (zr (x0)), some (zr (gR h x0 3)), none] _ _ _ _
      exact zP.weak (ls' := [none, some (zr (gR h x0 3)), none]) (zle rfl) (zsub_no (zsub_so (zsub_no zsub_nil))) H
  · have H := H.2 hc
    refine z_null (M := m_J9_successor) dJ9_successor_4 ?_
    exact z_areturn (M := m_J9_successor) rfl (Or.inl ⟨_, rfl⟩) dJ9_successor_5 H
theorem c_J9_successor {s0 : zE} {d : Nat} {x0 : Nat} {h : zH} {Q : Value → zH → Prop} {E : Nat → zH → Prop} (H : (¬ x0 = 0 → ((fR h x0 [67] 3) ∧ ((gR h x0 3 = 0 → ((fR h x0 [67] 4) ∧ (zP s0 m_J9_successor d 42 [none, some (zr (gR h x0 4)), some (zr (x0))] [] h Q E))) ∧ (¬ gR h x0 3 = 0 → ((fR h x0 [67] 3) ∧ (zP s0 m_J9_successor d 18 [none, some (zr (gR h x0 3)), none] [] h Q E)))))) ∧ (x0 = 0 → (Q (zr 0) h))) : zX s0 m_J9_successor d [zr (x0)] h Q E := zX.of2 rfl (by decide +kernel) (zlay_r (zlay_n (znoneS (znoneS znone0)))) (zle rfl) (b_J9_successor_0 H)
theorem b_J9_successor_18 {s0 : zE} {d : Nat} {x1 : Nat} {h : zH} {Q : Value → zH → Prop} {E : Nat → zH → Prop} (H : (fR h x1 [67] 2) ∧ ((gR h x1 2 = 0 → (Q (zr x1) h)) ∧ (¬ gR h x1 2 = 0 → ((fR h x1 [67] 2) ∧ (zP s0 m_J9_successor d 18 [none, some (zr (gR h x1 2)), none] [] h Q E))))) : zP s0 m_J9_successor d 18 [none, some (zr (x1)), none] [] h Q E := by
  refine z_aload_n (M := m_J9_successor) (k := 1) rfl dJ9_successor_18 ?_
  obtain ⟨g, H⟩ := H
  refine z_get (M := m_J9_successor) f_J9_111 dJ9_successor_19 g ?_
  refine z_ifnull (M := m_J9_successor) 33 rfl dJ9_successor_22 (fun hc => ?_) (fun hc => ?_)
  · have H := H.1 hc
    refine z_aload_n (M := m_J9_successor) (k := 1) rfl dJ9_successor_33 ?_
    exact z_areturn (M := m_J9_successor) rfl (Or.inl ⟨_, rfl⟩) dJ9_successor_34 H
  · have H := H.2 hc
    refine z_aload_n (M := m_J9_successor) (k := 1) rfl dJ9_successor_25 ?_
    obtain ⟨g, H⟩ := H
    refine z_get (M := m_J9_successor) f_J9_111 dJ9_successor_26 g ?_
    refine z_astore_n (M := m_J9_successor) (k := 1) 1 rfl (zlt rfl) trivial dJ9_successor_29 ?_
    show zP s0 m_J9_successor d _ [none, some (zr (gR h x1 2)), none] _ _ _ _
    refine z_goto (M := m_J9_successor) 18 rfl dJ9_successor_30 ?_
    exact H
theorem b_J9_successor_42 {s0 : zE} {d : Nat} {x1 : Nat} {x2 : Nat} {h : zH} {Q : Value → zH → Prop} {E : Nat → zH → Prop} (H : (x1 = 0 → (Q (zr x1) h)) ∧ (¬ x1 = 0 → ((fR h x1 [67] 3) ∧ ((¬ x2 = gR h x1 3 → (Q (zr x1) h)) ∧ (x2 = gR h x1 3 → ((fR h x1 [67] 4) ∧ (zP s0 m_J9_successor d 42 [none, some (zr (gR h x1 4)), some (zr (x1))] [] h Q E))))))) : zP s0 m_J9_successor d 42 [none, some (zr (x1)), some (zr (x2))] [] h Q E := by
  refine z_aload_n (M := m_J9_successor) (k := 1) rfl dJ9_successor_42 ?_
  refine z_ifnull (M := m_J9_successor) 64 rfl dJ9_successor_43 (fun hc => ?_) (fun hc => ?_)
  · have H := H.1 hc
    refine z_aload_n (M := m_J9_successor) (k := 1) rfl dJ9_successor_64 ?_
    exact z_areturn (M := m_J9_successor) rfl (Or.inl ⟨_, rfl⟩) dJ9_successor_65 H
  · have H := H.2 hc
    refine z_aload_n (M := m_J9_successor) (k := 2) rfl dJ9_successor_46 ?_
    refine z_aload_n (M := m_J9_successor) (k := 1) rfl dJ9_successor_47 ?_
    obtain ⟨g, H⟩ := H
    refine z_get (M := m_J9_successor) f_J9_114 dJ9_successor_48 g ?_
    refine z_acmpne (M := m_J9_successor) 64 rfl dJ9_successor_51 (fun hc => ?_) (fun hc => ?_)
    · have H := H.1 hc
      refine z_aload_n (M := m_J9_successor) (k := 1) rfl dJ9_successor_64 ?_
      exact z_areturn (M := m_J9_successor) rfl (Or.inl ⟨_, rfl⟩) dJ9_successor_65 H
    · have H := H.2 hc
      refine z_aload_n (M := m_J9_successor) (k := 1) rfl dJ9_successor_54 ?_
      refine z_astore_n (M := m_J9_successor) (k := 2) 2 rfl (zlt rfl) (zr_cat _) dJ9_successor_55 ?_
      show zP s0 m_J9_successor d _ [none, some (zr (x1)), some (zr (x1))] _ _ _ _
      refine z_aload_n (M := m_J9_successor) (k := 1) rfl dJ9_successor_56 ?_
      obtain ⟨g, H⟩ := H
      refine z_get (M := m_J9_successor) f_J9_124 dJ9_successor_57 g ?_
      refine z_astore_n (M := m_J9_successor) (k := 1) 1 rfl (zlt rfl) trivial dJ9_successor_60 ?_
      show zP s0 m_J9_successor d _ [none, some (zr (gR h x1 4)), some (zr (x1))] _ _ _ _
      refine z_goto (M := m_J9_successor) 42 rfl dJ9_successor_61 ?_
      exact H
theorem b_J10_checkIndex_0 {s0 : zE} {d : Nat} {x0 : Int32} {x1 : Int32} {h : zH} {Q : Value → zH → Prop} {E : Nat → zH → Prop} (H : zX s0 m_J11_checkIndex d [.int (x0), .int (x1), zr (0)] h (fun v1 h1 => ∃ r1 : Int32, v1 = .int (r1) ∧ (Q (.int r1) h1)) E) : zP s0 m_J10_checkIndex (d + 1) 0 [some (.int (x0)), some (.int (x1))] [] h Q E := by
  refine z_iload_n (M := m_J10_checkIndex) (k := 0) rfl dJ10_checkIndex_0 ?_
  refine z_iload_n (M := m_J10_checkIndex) (k := 1) rfl dJ10_checkIndex_1 ?_
  refine z_null (M := m_J10_checkIndex) dJ10_checkIndex_2 ?_
  refine z_invS (M := m_J10_checkIndex) (a := [.int (x0), .int (x1), zr (0)]) ok_J11_checkIndex q910 q911 dJ10_checkIndex_3 (Nat.le_refl _) (Nat.zero_le _) rfl H (fun v1 h1 H => ?_) (fun n9 h9 H => zPx.out rfl H)
  obtain ⟨r1, rfl, H⟩ := H
  show zP s0 m_J10_checkIndex (d + 1) _ _ [.int (r1)] _ _ _
  exact z_ireturn (M := m_J10_checkIndex) rfl rfl dJ10_checkIndex_6 H
theorem c_J10_checkIndex {s0 : zE} {d : Nat} {x0 : Int32} {x1 : Int32} {h : zH} {Q : Value → zH → Prop} {E : Nat → zH → Prop} (H : zX s0 m_J11_checkIndex d [.int (x0), .int (x1), zr (0)] h (fun v1 h1 => ∃ r1 : Int32, v1 = .int (r1) ∧ (Q (.int r1) h1)) E) : zX s0 m_J10_checkIndex (d + 1) [.int (x0), .int (x1)] h Q E := zX.of2 rfl (by decide +kernel) (zlay_i (zlay_i (zlay_n znone0))) (zle rfl) (b_J10_checkIndex_0 H)
theorem b_J10_requireNonNull_0 {s0 : zE} {d : Nat} {x0 : Nat} {h : zH} {Q : Value → zH → Prop} {E : Nat → zH → Prop} (H : (¬ x0 = 0 → (Q (zr x0) h)) ∧ (x0 = 0 → (False))) : zP s0 m_J10_requireNonNull (d + 1) 0 [some (zr (x0))] [] h Q E := by
  refine z_aload_n (M := m_J10_requireNonNull) (k := 0) rfl dJ10_requireNonNull_0 ?_
  refine z_ifnonnull (M := m_J10_requireNonNull) 12 rfl dJ10_requireNonNull_1 (fun hc => ?_) (fun hc => ?_)
  · have H := H.1 hc
    refine z_aload_n (M := m_J10_requireNonNull) (k := 0) rfl dJ10_requireNonNull_12 ?_
    exact z_areturn (M := m_J10_requireNonNull) rfl (Or.inl ⟨_, rfl⟩) dJ10_requireNonNull_13 H
  · have H := H.2 hc
    exact H.elim
theorem c_J10_requireNonNull {s0 : zE} {d : Nat} {x0 : Nat} {h : zH} {Q : Value → zH → Prop} {E : Nat → zH → Prop} (H : (¬ x0 = 0 → (Q (zr x0) h)) ∧ (x0 = 0 → (False))) : zX s0 m_J10_requireNonNull (d + 1) [zr (x0)] h Q E := zX.of2 rfl (by decide +kernel) (zlay_r (zlay_n znone0)) (zle rfl) (b_J10_requireNonNull_0 H)
theorem b_J11_checkFromIndexSize_0 {s0 : zE} {d : Nat} {x0 : Int32} {x1 : Int32} {x2 : Int32} {x3 : Nat} {h : zH} {Q : Value → zH → Prop} {E : Nat → zH → Prop} (H : ((x2 ||| x0) ||| x1 < 0 → (False)) ∧ (¬ (x2 ||| x0) ||| x1 < 0 → ((x1 ≤ x2 - x0 → (Q (.int x0) h)) ∧ (¬ x1 ≤ x2 - x0 → (False))))) : zP s0 m_J11_checkFromIndexSize (d + 1) 0 [some (.int (x0)), some (.int (x1)), some (.int (x2)), some (zr (x3))] [] h Q E := by
  refine z_iload_n (M := m_J11_checkFromIndexSize) (k := 2) rfl dJ11_checkFromIndexSize_0 ?_
  refine z_iload_n (M := m_J11_checkFromIndexSize) (k := 0) rfl dJ11_checkFromIndexSize_1 ?_
  refine z_ior (M := m_J11_checkFromIndexSize) dJ11_checkFromIndexSize_2 ?_
  refine z_iload_n (M := m_J11_checkFromIndexSize) (k := 1) rfl dJ11_checkFromIndexSize_3 ?_
  refine z_ior (M := m_J11_checkFromIndexSize) dJ11_checkFromIndexSize_4 ?_
  refine z_iflt (M := m_J11_checkFromIndexSize) 15 rfl dJ11_checkFromIndexSize_5 (fun hc => ?_) (fun hc => ?_)
  · have H := H.1 hc
    refine z_aload_n (M := m_J11_checkFromIndexSize) (k := 3) rfl dJ11_checkFromIndexSize_15 ?_
    refine z_iload_n (M := m_J11_checkFromIndexSize) (k := 0) rfl dJ11_checkFromIndexSize_16 ?_
    refine z_iload_n (M := m_J11_checkFromIndexSize) (k := 1) rfl dJ11_checkFromIndexSize_17 ?_
    refine z_iload_n (M := m_J11_checkFromIndexSize) (k := 2) rfl dJ11_checkFromIndexSize_18 ?_
    exact H.elim
  · have H := H.2 hc
    refine z_iload_n (M := m_J11_checkFromIndexSize) (k := 1) rfl dJ11_checkFromIndexSize_8 ?_
    refine z_iload_n (M := m_J11_checkFromIndexSize) (k := 2) rfl dJ11_checkFromIndexSize_9 ?_
    refine z_iload_n (M := m_J11_checkFromIndexSize) (k := 0) rfl dJ11_checkFromIndexSize_10 ?_
    refine z_isub (M := m_J11_checkFromIndexSize) dJ11_checkFromIndexSize_11 ?_
    refine z_icmple (M := m_J11_checkFromIndexSize) 23 rfl dJ11_checkFromIndexSize_12 (fun hc => ?_) (fun hc => ?_)
    · have H := H.1 hc
      refine z_iload_n (M := m_J11_checkFromIndexSize) (k := 0) rfl dJ11_checkFromIndexSize_23 ?_
      exact z_ireturn (M := m_J11_checkFromIndexSize) rfl rfl dJ11_checkFromIndexSize_24 H
    · have H := H.2 hc
      refine z_aload_n (M := m_J11_checkFromIndexSize) (k := 3) rfl dJ11_checkFromIndexSize_15 ?_
      refine z_iload_n (M := m_J11_checkFromIndexSize) (k := 0) rfl dJ11_checkFromIndexSize_16 ?_
      refine z_iload_n (M := m_J11_checkFromIndexSize) (k := 1) rfl dJ11_checkFromIndexSize_17 ?_
      refine z_iload_n (M := m_J11_checkFromIndexSize) (k := 2) rfl dJ11_checkFromIndexSize_18 ?_
      exact H.elim
theorem c_J11_checkFromIndexSize {s0 : zE} {d : Nat} {x0 : Int32} {x1 : Int32} {x2 : Int32} {x3 : Nat} {h : zH} {Q : Value → zH → Prop} {E : Nat → zH → Prop} (H : ((x2 ||| x0) ||| x1 < 0 → (False)) ∧ (¬ (x2 ||| x0) ||| x1 < 0 → ((x1 ≤ x2 - x0 → (Q (.int x0) h)) ∧ (¬ x1 ≤ x2 - x0 → (False))))) : zX s0 m_J11_checkFromIndexSize (d + 1) [.int (x0), .int (x1), .int (x2), zr (x3)] h Q E := zX.of2 rfl (by decide +kernel) (zlay_i (zlay_i (zlay_i (zlay_r (zlay_n znone0))))) (zle rfl) (b_J11_checkFromIndexSize_0 H)
theorem b_J11_checkFromToIndex_0 {s0 : zE} {d : Nat} {x0 : Int32} {x1 : Int32} {x2 : Int32} {x3 : Nat} {h : zH} {Q : Value → zH → Prop} {E : Nat → zH → Prop} (H : (x0 < 0 → (False)) ∧ (¬ x0 < 0 → ((x1 < x0 → (False)) ∧ (¬ x1 < x0 → ((x1 ≤ x2 → (Q (.int x0) h)) ∧ (¬ x1 ≤ x2 → (False))))))) : zP s0 m_J11_checkFromToIndex (d + 1) 0 [some (.int (x0)), some (.int (x1)), some (.int (x2)), some (zr (x3))] [] h Q E := by
  refine z_iload_n (M := m_J11_checkFromToIndex) (k := 0) rfl dJ11_checkFromToIndex_0 ?_
  refine z_iflt (M := m_J11_checkFromToIndex) 14 rfl dJ11_checkFromToIndex_1 (fun hc => ?_) (fun hc => ?_)
  · have H := H.1 hc
    refine z_aload_n (M := m_J11_checkFromToIndex) (k := 3) rfl dJ11_checkFromToIndex_14 ?_
    refine z_iload_n (M := m_J11_checkFromToIndex) (k := 0) rfl dJ11_checkFromToIndex_15 ?_
    refine z_iload_n (M := m_J11_checkFromToIndex) (k := 1) rfl dJ11_checkFromToIndex_16 ?_
    refine z_iload_n (M := m_J11_checkFromToIndex) (k := 2) rfl dJ11_checkFromToIndex_17 ?_
    exact H.elim
  · have H := H.2 hc
    refine z_iload_n (M := m_J11_checkFromToIndex) (k := 0) rfl dJ11_checkFromToIndex_4 ?_
    refine z_iload_n (M := m_J11_checkFromToIndex) (k := 1) rfl dJ11_checkFromToIndex_5 ?_
    refine z_icmpgt (M := m_J11_checkFromToIndex) 14 rfl dJ11_checkFromToIndex_6 (fun hc => ?_) (fun hc => ?_)
    · have H := H.1 hc
      refine z_aload_n (M := m_J11_checkFromToIndex) (k := 3) rfl dJ11_checkFromToIndex_14 ?_
      refine z_iload_n (M := m_J11_checkFromToIndex) (k := 0) rfl dJ11_checkFromToIndex_15 ?_
      refine z_iload_n (M := m_J11_checkFromToIndex) (k := 1) rfl dJ11_checkFromToIndex_16 ?_
      refine z_iload_n (M := m_J11_checkFromToIndex) (k := 2) rfl dJ11_checkFromToIndex_17 ?_
      exact H.elim
    · have H := H.2 hc
      refine z_iload_n (M := m_J11_checkFromToIndex) (k := 1) rfl dJ11_checkFromToIndex_9 ?_
      refine z_iload_n (M := m_J11_checkFromToIndex) (k := 2) rfl dJ11_checkFromToIndex_10 ?_
      refine z_icmple (M := m_J11_checkFromToIndex) 22 rfl dJ11_checkFromToIndex_11 (fun hc => ?_) (fun hc => ?_)
      · have H := H.1 hc
        refine z_iload_n (M := m_J11_checkFromToIndex) (k := 0) rfl dJ11_checkFromToIndex_22 ?_
        exact z_ireturn (M := m_J11_checkFromToIndex) rfl rfl dJ11_checkFromToIndex_23 H
      · have H := H.2 hc
        refine z_aload_n (M := m_J11_checkFromToIndex) (k := 3) rfl dJ11_checkFromToIndex_14 ?_
        refine z_iload_n (M := m_J11_checkFromToIndex) (k := 0) rfl dJ11_checkFromToIndex_15 ?_
        refine z_iload_n (M := m_J11_checkFromToIndex) (k := 1) rfl dJ11_checkFromToIndex_16 ?_
        refine z_iload_n (M := m_J11_checkFromToIndex) (k := 2) rfl dJ11_checkFromToIndex_17 ?_
        exact H.elim
theorem c_J11_checkFromToIndex {s0 : zE} {d : Nat} {x0 : Int32} {x1 : Int32} {x2 : Int32} {x3 : Nat} {h : zH} {Q : Value → zH → Prop} {E : Nat → zH → Prop} (H : (x0 < 0 → (False)) ∧ (¬ x0 < 0 → ((x1 < x0 → (False)) ∧ (¬ x1 < x0 → ((x1 ≤ x2 → (Q (.int x0) h)) ∧ (¬ x1 ≤ x2 → (False))))))) : zX s0 m_J11_checkFromToIndex (d + 1) [.int (x0), .int (x1), .int (x2), zr (x3)] h Q E := zX.of2 rfl (by decide +kernel) (zlay_i (zlay_i (zlay_i (zlay_r (zlay_n znone0))))) (zle rfl) (b_J11_checkFromToIndex_0 H)
theorem b_J11_checkIndex_0 {s0 : zE} {d : Nat} {x0 : Int32} {x1 : Int32} {x2 : Nat} {h : zH} {Q : Value → zH → Prop} {E : Nat → zH → Prop} (H : (x0 < 0 → (False)) ∧ (¬ x0 < 0 → ((x0 < x1 → (Q (.int x0) h)) ∧ (¬ x0 < x1 → (False))))) : zP s0 m_J11_checkIndex (d + 1) 0 [some (.int (x0)), some (.int (x1)), some (zr (x2))] [] h Q E := by
  refine z_iload_n (M := m_J11_checkIndex) (k := 0) rfl dJ11_checkIndex_0 ?_
  refine z_iflt (M := m_J11_checkIndex) 9 rfl dJ11_checkIndex_1 (fun hc => ?_) (fun hc => ?_)
  · have H := H.1 hc
    refine z_aload_n (M := m_J11_checkIndex) (k := 2) rfl dJ11_checkIndex_9 ?_
    refine z_iload_n (M := m_J11_checkIndex) (k := 0) rfl dJ11_checkIndex_10 ?_
    refine z_iload_n (M := m_J11_checkIndex) (k := 1) rfl dJ11_checkIndex_11 ?_
    exact H.elim
  · have H := H.2 hc
    refine z_iload_n (M := m_J11_checkIndex) (k := 0) rfl dJ11_checkIndex_4 ?_
    refine z_iload_n (M := m_J11_checkIndex) (k := 1) rfl dJ11_checkIndex_5 ?_
    refine z_icmplt (M := m_J11_checkIndex) 16 rfl dJ11_checkIndex_6 (fun hc => ?_) (fun hc => ?_)
    · have H := H.1 hc
      refine z_iload_n (M := m_J11_checkIndex) (k := 0) rfl dJ11_checkIndex_16 ?_
      exact z_ireturn (M := m_J11_checkIndex) rfl rfl dJ11_checkIndex_17 H
    · have H := H.2 hc
      refine z_aload_n (M := m_J11_checkIndex) (k := 2) rfl dJ11_checkIndex_9 ?_
      refine z_iload_n (M := m_J11_checkIndex) (k := 0) rfl dJ11_checkIndex_10 ?_
      refine z_iload_n (M := m_J11_checkIndex) (k := 1) rfl dJ11_checkIndex_11 ?_
      exact H.elim
theorem c_J11_checkIndex {s0 : zE} {d : Nat} {x0 : Int32} {x1 : Int32} {x2 : Nat} {h : zH} {Q : Value → zH → Prop} {E : Nat → zH → Prop} (H : (x0 < 0 → (False)) ∧ (¬ x0 < 0 → ((x0 < x1 → (Q (.int x0) h)) ∧ (¬ x0 < x1 → (False))))) : zX s0 m_J11_checkIndex (d + 1) [.int (x0), .int (x1), zr (x2)] h Q E := zX.of2 rfl (by decide +kernel) (zlay_i (zlay_i (zlay_r (zlay_n znone0)))) (zle rfl) (b_J11_checkIndex_0 H)
theorem b_J12_charAt_0 {s0 : zE} {d : Nat} {x0 : Nat} {x1 : Int32} {h : zH} {Q : Value → zH → Prop} {E : Nat → zH → Prop} (H : (fC h x0 48 ∧ zX s0 m_J12_isLatin1 d [zr x0] h (fun v1 h1 => ∃ r1 : Int32, v1 = .int (r1) ∧ ((r1 = 0 → ((fR h1 x0 [48] 0) ∧ (zX s0 m_J22_charAt d [zr (gR h1 x0 0), .int (x1)] h1 (fun v2 h2 => ∃ r2 : Int32, v2 = .int (r2) ∧ ((narrow .char (.int r2) = .int r2) ∧ (Q (.int r2) h2))) E))) ∧ (¬ r1 = 0 → ((fR h1 x0 [48] 0) ∧ (zX s0 m_J13_charAt d [zr (gR h1 x0 0), .int (x1)] h1 (fun v3 h3 => ∃ r3 : Int32, v3 = .int (r3) ∧ ((narrow .char (.int r3) = .int r3) ∧ (Q (.int r3) h3))) E))))) E)) : zP s0 m_J12_charAt (d + 1) 0 [some (zr (x0)), some (.int (x1))] [] h Q E := by
  refine z_aload_n (M := m_J12_charAt) (k := 0) rfl dJ12_charAt_0 ?_
  obtain ⟨⟨fs9, g⟩, H⟩ := H
  refine z_invV (M := m_J12_charAt) (cn := 48) (a := []) ok_J12_isLatin1 q2412 q2413 q2414 rfl dJ12_charAt_1 g (Nat.le_refl _) (Nat.zero_le _) rfl H (fun v1 h1 H => ?_) (fun n9 h9 H => zPx.out rfl H)
  obtain ⟨r1, rfl, H⟩ := H
  show zP s0 m_J12_charAt (d + 1) _ _ [.int (r1)] _ _ _
  refine z_ifeq (M := m_J12_charAt) 16 rfl dJ12_charAt_4 (fun hc => ?_) (fun hc => ?_)
  · have H := H.1 hc
    refine z_aload_n (M := m_J12_charAt) (k := 0) rfl dJ12_charAt_16 ?_
    obtain ⟨g, H⟩ := H
    refine z_get (M := m_J12_charAt) f_J12_9 dJ12_charAt_17 g ?_
    refine z_iload_n (M := m_J12_charAt) (k := 1) rfl dJ12_charAt_20 ?_
    refine z_invS (M := m_J12_charAt) (a := [zr (gR h1 x0 0), .int (x1)]) ok_J22_charAt q2547 q2548 dJ12_charAt_21 (Nat.le_refl _) (Nat.zero_le _) rfl H (fun v2 h2 H => ?_) (fun n9 h9 H => zPx.out rfl H)
    obtain ⟨r2, rfl, H⟩ := H
    show zP s0 m_J12_charAt (d + 1) _ _ [.int (r2)] _ _ _
    obtain ⟨g, H⟩ := H
    exact z_ireturn (M := m_J12_charAt) rfl g dJ12_charAt_24 H
  · have H := H.2 hc
    refine z_aload_n (M := m_J12_charAt) (k := 0) rfl dJ12_charAt_7 ?_
    obtain ⟨g, H⟩ := H
    refine z_get (M := m_J12_charAt) f_J12_9 dJ12_charAt_8 g ?_
    refine z_iload_n (M := m_J12_charAt) (k := 1) rfl dJ12_charAt_11 ?_
    refine z_invS (M := m_J12_charAt) (a := [zr (gR h1 x0 0), .int (x1)]) ok_J13_charAt q2540 q2541 dJ12_charAt_12 (Nat.le_refl _) (Nat.zero_le _) rfl H (fun v3 h3 H => ?_) (fun n9 h9 H => zPx.out rfl H)
    obtain ⟨r3, rfl, H⟩ := H
    show zP s0 m_J12_charAt (d + 1) _ _ [.int (r3)] _ _ _
    obtain ⟨g, H⟩ := H
    exact z_ireturn (M := m_J12_charAt) rfl g dJ12_charAt_15 H
theorem c_J12_charAt {s0 : zE} {d : Nat} {x0 : Nat} {x1 : Int32} {h : zH} {Q : Value → zH → Prop} {E : Nat → zH → Prop} (H : (fC h x0 48 ∧ zX s0 m_J12_isLatin1 d [zr x0] h (fun v1 h1 => ∃ r1 : Int32, v1 = .int (r1) ∧ ((r1 = 0 → ((fR h1 x0 [48] 0) ∧ (zX s0 m_J22_charAt d [zr (gR h1 x0 0), .int (x1)] h1 (fun v2 h2 => ∃ r2 : Int32, v2 = .int (r2) ∧ ((narrow .char (.int r2) = .int r2) ∧ (Q (.int r2) h2))) E))) ∧ (¬ r1 = 0 → ((fR h1 x0 [48] 0) ∧ (zX s0 m_J13_charAt d [zr (gR h1 x0 0), .int (x1)] h1 (fun v3 h3 => ∃ r3 : Int32, v3 = .int (r3) ∧ ((narrow .char (.int r3) = .int r3) ∧ (Q (.int r3) h3))) E))))) E)) : zX s0 m_J12_charAt (d + 1) [zr (x0), .int (x1)] h Q E := zX.of2 rfl (by decide +kernel) (zlay_r (zlay_i (zlay_n znone0))) (zle rfl) (b_J12_charAt_0 H)
theorem b_J12_checkBoundsBeginEnd_0 {s0 : zE} {d : Nat} {x0 : Int32} {x1 : Int32} {x2 : Int32} {h : zH} {Q : Value → zH → Prop} {E : Nat → zH → Prop} (H : zX s0 m_J11_checkFromToIndex d [.int (x0), .int (x1), .int (x2), zr (zst s0 "jdk/internal/util/Preconditions" "SIOOBE_FORMATTER" "Ljava/util/function/BiFunction;")] h (fun v1 h1 => ∃ r1 : Int32, v1 = .int (r1) ∧ (Q .null h1)) E) : zP s0 m_J12_checkBoundsBeginEnd (d + 1) 0 [some (.int (x0)), some (.int (x1)), some (.int (x2))] [] h Q E := by
  refine z_iload_n (M := m_J12_checkBoundsBeginEnd) (k := 0) rfl dJ12_checkBoundsBeginEnd_0 ?_
  refine z_iload_n (M := m_J12_checkBoundsBeginEnd) (k := 1) rfl dJ12_checkBoundsBeginEnd_1 ?_
  refine z_iload_n (M := m_J12_checkBoundsBeginEnd) (k := 2) rfl dJ12_checkBoundsBeginEnd_2 ?_
  refine z_gets (M := m_J12_checkBoundsBeginEnd) (k_Preconditions_SIOOBE_FORMATTER (s0 := s0)) q1349 dJ12_checkBoundsBeginEnd_3 ?_
  refine z_invS (M := m_J12_checkBoundsBeginEnd) (a := [.int (x0), .int (x1), .int (x2), zr (zst s0 "jdk/internal/util/Preconditions" "SIOOBE_FORMATTER" "Ljava/util/function/BiFunction;")]) ok_J11_checkFromToIndex q1351 q1352 dJ12_checkBoundsBeginEnd_6 (Nat.le_refl _) (Nat.zero_le _) rfl H (fun v1 h1 H => ?_) (fun n9 h9 H => zPx.out rfl H)
  obtain ⟨r1, rfl, H⟩ := H
  show zP s0 m_J12_checkBoundsBeginEnd (d + 1) _ _ [.int (r1)] _ _ _
  refine z_pop (M := m_J12_checkBoundsBeginEnd) rfl dJ12_checkBoundsBeginEnd_9 ?_
  exact z_return (M := m_J12_checkBoundsBeginEnd) rfl dJ12_checkBoundsBeginEnd_10 H
theorem c_J12_checkBoundsBeginEnd {s0 : zE} {d : Nat} {x0 : Int32} {x1 : Int32} {x2 : Int32} {h : zH} {Q : Value → zH → Prop} {E : Nat → zH → Prop} (H : zX s0 m_J11_checkFromToIndex d [.int (x0), .int (x1), .int (x2), zr (zst s0 "jdk/internal/util/Preconditions" "SIOOBE_FORMATTER" "Ljava/util/function/BiFunction;")] h (fun v1 h1 => ∃ r1 : Int32, v1 = .int (r1) ∧ (Q .null h1)) E) : zX s0 m_J12_checkBoundsBeginEnd (d + 1) [.int (x0), .int (x1), .int (x2)] h Q E := zX.of2 rfl (by decide +kernel) (zlay_i (zlay_i (zlay_i (zlay_n znone0)))) (zle rfl) (b_J12_checkBoundsBeginEnd_0 H)
theorem b_J12_checkBoundsOffCount_0 {s0 : zE} {d : Nat} {x0 : Int32} {x1 : Int32} {x2 : Int32} {h : zH} {Q : Value → zH → Prop} {E : Nat → zH → Prop} (H : zX s0 m_J11_checkFromIndexSize d [.int (x0), .int (x1), .int (x2), zr (zst s0 "jdk/internal/util/Preconditions" "SIOOBE_FORMATTER" "Ljava/util/function/BiFunction;")] h (fun v1 h1 => ∃ r1 : Int32, v1 = .int (r1) ∧ (Q (.int r1) h1)) E) : zP s0 m_J12_checkBoundsOffCount (d + 1) 0 [some (.int (x0)), some (.int (x1)), some (.int (x2))] [] h Q E := by
  refine z_iload_n (M := m_J12_checkBoundsOffCount) (k := 0) rfl dJ12_checkBoundsOffCount_0 ?_
  refine z_iload_n (M := m_J12_checkBoundsOffCount) (k := 1) rfl dJ12_checkBoundsOffCount_1 ?_
  refine z_iload_n (M := m_J12_checkBoundsOffCount) (k := 2) rfl dJ12_checkBoundsOffCount_2 ?_
  refine z_gets (M := m_J12_checkBoundsOffCount) (k_Preconditions_SIOOBE_FORMATTER (s0 := s0)) q1349 dJ12_checkBoundsOffCount_3 ?_
  refine z_invS (M := m_J12_checkBoundsOffCount) (a := [.int (x0), .int (x1), .int (x2), zr (zst s0 "jdk/internal/util/Preconditions" "SIOOBE_FORMATTER" "Ljava/util/function/BiFunction;")]) ok_J11_checkFromIndexSize q1416 q1417 dJ12_checkBoundsOffCount_6 (Nat.le_refl _) (Nat.zero_le _) rfl H (fun v1 h1 H => ?_) (fun n9 h9 H => zPx.out rfl H)
  obtain ⟨r1, rfl, H⟩ := H
  show zP s0 m_J12_checkBoundsOffCount (d + 1) _ _ [.int (r1)] _ _ _
  exact z_ireturn (M := m_J12_checkBoundsOffCount) rfl rfl dJ12_checkBoundsOffCount_9 H
theorem c_J12_checkBoundsOffCount {s0 : zE} {d : Nat} {x0 : Int32} {x1 : Int32} {x2 : Int32} {h : zH} {Q : Value → zH → Prop} {E : Nat → zH → Prop} (H : zX s0 m_J11_checkFromIndexSize d [.int (x0), .int (x1), .int (x2), zr (zst s0 "jdk/internal/util/Preconditions" "SIOOBE_FORMATTER" "Ljava/util/function/BiFunction;")] h (fun v1 h1 => ∃ r1 : Int32, v1 = .int (r1) ∧ (Q (.int r1) h1)) E) : zX s0 m_J12_checkBoundsOffCount (d + 1) [.int (x0), .int (x1), .int (x2)] h Q E := zX.of2 rfl (by decide +kernel) (zlay_i (zlay_i (zlay_i (zlay_n znone0)))) (zle rfl) (b_J12_checkBoundsOffCount_0 H)
theorem b_J12_checkIndex_0 {s0 : zE} {d : Nat} {x0 : Int32} {x1 : Int32} {h : zH} {Q : Value → zH → Prop} {E : Nat → zH → Prop} (H : zX s0 m_J11_checkIndex d [.int (x0), .int (x1), zr (zst s0 "jdk/internal/util/Preconditions" "SIOOBE_FORMATTER" "Ljava/util/function/BiFunction;")] h (fun v1 h1 => ∃ r1 : Int32, v1 = .int (r1) ∧ (Q .null h1)) E) : zP s0 m_J12_checkIndex (d + 1) 0 [some (.int (x0)), some (.int (x1))] [] h Q E := by
  refine z_iload_n (M := m_J12_checkIndex) (k := 0) rfl dJ12_checkIndex_0 ?_
  refine z_iload_n (M := m_J12_checkIndex) (k := 1) rfl dJ12_checkIndex_1 ?_
  refine z_gets (M := m_J12_checkIndex) (k_Preconditions_SIOOBE_FORMATTER (s0 := s0)) q1349 dJ12_checkIndex_2 ?_
  refine z_invS (M := m_J12_checkIndex) (a := [.int (x0), .int (x1), zr (zst s0 "jdk/internal/util/Preconditions" "SIOOBE_FORMATTER" "Ljava/util/function/BiFunction;")]) ok_J11_checkIndex q2546 q911 dJ12_checkIndex_5 (Nat.le_refl _) (Nat.zero_le _) rfl H (fun v1 h1 H => ?_) (fun n9 h9 H => zPx.out rfl H)
  obtain ⟨r1, rfl, H⟩ := H
  show zP s0 m_J12_checkIndex (d + 1) _ _ [.int (r1)] _ _ _
  refine z_pop (M := m_J12_checkIndex) rfl dJ12_checkIndex_8 ?_
  exact z_return (M := m_J12_checkIndex) rfl dJ12_checkIndex_9 H
theorem c_J12_checkIndex {s0 : zE} {d : Nat} {x0 : Int32} {x1 : Int32} {h : zH} {Q : Value → zH → Prop} {E : Nat → zH → Prop} (H : zX s0 m_J11_checkIndex d [.int (x0), .int (x1), zr (zst s0 "jdk/internal/util/Preconditions" "SIOOBE_FORMATTER" "Ljava/util/function/BiFunction;")] h (fun v1 h1 => ∃ r1 : Int32, v1 = .int (r1) ∧ (Q .null h1)) E) : zX s0 m_J12_checkIndex (d + 1) [.int (x0), .int (x1)] h Q E := zX.of2 rfl (by decide +kernel) (zlay_i (zlay_i (zlay_n znone0))) (zle rfl) (b_J12_checkIndex_0 H)
theorem b_J12_checkOffset_0 {s0 : zE} {d : Nat} {x0 : Int32} {x1 : Int32} {h : zH} {Q : Value → zH → Prop} {E : Nat → zH → Prop} (H : zX s0 m_J11_checkFromToIndex d [.int (x0), .int (x1), .int (x1), zr (zst s0 "jdk/internal/util/Preconditions" "SIOOBE_FORMATTER" "Ljava/util/function/BiFunction;")] h (fun v1 h1 => ∃ r1 : Int32, v1 = .int (r1) ∧ (Q .null h1)) E) : zP s0 m_J12_checkOffset (d + 1) 0 [some (.int (x0)), some (.int (x1))] [] h Q E := by
  refine z_iload_n (M := m_J12_checkOffset) (k := 0) rfl dJ12_checkOffset_0 ?_
  refine z_iload_n (M := m_J12_checkOffset) (k := 1) rfl dJ12_checkOffset_1 ?_
  refine z_iload_n (M := m_J12_checkOffset) (k := 1) rfl dJ12_checkOffset_2 ?_
  refine z_gets (M := m_J12_checkOffset) (k_Preconditions_SIOOBE_FORMATTER (s0 := s0)) q1349 dJ12_checkOffset_3 ?_
  refine z_invS (M := m_J12_checkOffset) (a := [.int (x0), .int (x1), .int (x1), zr (zst s0 "jdk/internal/util/Preconditions" "SIOOBE_FORMATTER" "Ljava/util/function/BiFunction;")]) ok_J11_checkFromToIndex q1351 q1352 dJ12_checkOffset_6 (Nat.le_refl _) (Nat.zero_le _) rfl H (fun v1 h1 H => ?_) (fun n9 h9 H => zPx.out rfl H)
  obtain ⟨r1, rfl, H⟩ := H
  show zP s0 m_J12_checkOffset (d + 1) _ _ [.int (r1)] _ _ _
  refine z_pop (M := m_J12_checkOffset) rfl dJ12_checkOffset_9 ?_
  exact z_return (M := m_J12_checkOffset) rfl dJ12_checkOffset_10 H
theorem c_J12_checkOffset {s0 : zE} {d : Nat} {x0 : Int32} {x1 : Int32} {h : zH} {Q : Value → zH → Prop} {E : Nat → zH → Prop} (H : zX s0 m_J11_checkFromToIndex d [.int (x0), .int (x1), .int (x1), zr (zst s0 "jdk/internal/util/Preconditions" "SIOOBE_FORMATTER" "Ljava/util/function/BiFunction;")] h (fun v1 h1 => ∃ r1 : Int32, v1 = .int (r1) ∧ (Q .null h1)) E) : zX s0 m_J12_checkOffset (d + 1) [.int (x0), .int (x1)] h Q E := zX.of2 rfl (by decide +kernel) (zlay_i (zlay_i (zlay_n znone0))) (zle rfl) (b_J12_checkOffset_0 H)
theorem b_J12_coder_0 {s0 : zE} {d : Nat} {x0 : Nat} {h : zH} {Q : Value → zH → Prop} {E : Nat → zH → Prop} (H : (fI h x0 [48] 1) ∧ ((narrow .byte (.int (gI h x0 1)) = .int (gI h x0 1)) ∧ (Q (.int (gI h x0 1)) h))) : zP s0 m_J12_coder d 0 [some (zr (x0))] [] h Q E := by
  refine z_gets (M := m_J12_coder) (k_String_COMPACT_STRINGS (s0 := s0)) q947 dJ12_coder_0 ?_
  refine z_ifeq (M := m_J12_coder) 13 rfl dJ12_coder_3 (fun hc => (by revert hc; decide : False).elim) (fun hc => ?_)
  refine z_aload_n (M := m_J12_coder) (k := 0) rfl dJ12_coder_6 ?_
  obtain ⟨g, H⟩ := H
  refine z_get (M := m_J12_coder) f_J12_15 dJ12_coder_7 g ?_
  refine z_goto (M := m_J12_coder) 14 rfl dJ12_coder_10 ?_
  obtain ⟨g, H⟩ := H
  exact z_ireturn (M := m_J12_coder) rfl g dJ12_coder_14 H
theorem c_J12_coder {s0 : zE} {d : Nat} {x0 : Nat} {h : zH} {Q : Value → zH → Prop} {E : Nat → zH → Prop} (H : (fI h x0 [48] 1) ∧ ((narrow .byte (.int (gI h x0 1)) = .int (gI h x0 1)) ∧ (Q (.int (gI h x0 1)) h))) : zX s0 m_J12_coder d [zr (x0)] h Q E := zX.of2 rfl (by decide +kernel) (zlay_r (zlay_n znone0)) (zle rfl) (b_J12_coder_0 H)
theorem b_J12_compareTo_0 {s0 : zE} {d : Nat} {x0 : Nat} {x1 : Nat} {h : zH} {Q : Value → zH → Prop} {E : Nat → zH → Prop} (H : (x1 = 0 ∨ zCast h x1 "java/lang/String") ∧ ((fC h x0 48 ∧ zX s0 m_J12_compareTo_2 d [zr x0, zr (x1)] h (fun v1 h1 => ∃ r1 : Int32, v1 = .int (r1) ∧ (Q (.int r1) h1)) E))) : zP s0 m_J12_compareTo (d + 1) 0 [some (zr (x0)), some (zr (x1))] [] h Q E := by
  refine z_aload_n (M := m_J12_compareTo) (k := 0) rfl dJ12_compareTo_0 ?_
  refine z_aload_n (M := m_J12_compareTo) (k := 1) rfl dJ12_compareTo_1 ?_
  obtain ⟨g, H⟩ := H
  refine z_checkcast (M := m_J12_compareTo) q946 dJ12_compareTo_2 g ?_
  obtain ⟨⟨fs9, g⟩, H⟩ := H
  refine z_invV (M := m_J12_compareTo) (cn := 48) (a := [zr (x1)]) ok_J12_compareTo_2 q2014 q2015 q2016 rfl dJ12_compareTo_5 g (Nat.le_refl _) (Nat.zero_le _) rfl H (fun v1 h1 H => ?_) (fun n9 h9 H => zPx.out rfl H)
  obtain ⟨r1, rfl, H⟩ := H
  show zP s0 m_J12_compareTo (d + 1) _ _ [.int (r1)] _ _ _
  exact z_ireturn (M := m_J12_compareTo) rfl rfl dJ12_compareTo_8 H
theorem c_J12_compareTo {s0 : zE} {d : Nat} {x0 : Nat} {x1 : Nat} {h : zH} {Q : Value → zH → Prop} {E : Nat → zH → Prop} (H : (x1 = 0 ∨ zCast h x1 "java/lang/String") ∧ ((fC h x0 48 ∧ zX s0 m_J12_compareTo_2 d [zr x0, zr (x1)] h (fun v1 h1 => ∃ r1 : Int32, v1 = .int (r1) ∧ (Q (.int r1) h1)) E))) : zX s0 m_J12_compareTo (d + 1) [zr (x0), zr (x1)] h Q E := zX.of2 rfl (by decide +kernel) (zlay_r (zlay_r (zlay_n znone0))) (zle rfl) (b_J12_compareTo_0 H)
theorem b_J12_compareTo_2_0 {s0 : zE} {d : Nat} {x0 : Nat} {x1 : Nat} {h : zH} {Q : Value → zH → Prop} {E : Nat → zH → Prop} (H : (fR h x0 [48] 0) ∧ ((fR h x1 [48] 0) ∧ ((fC h x0 48 ∧ zX s0 m_J12_coder d [zr x0] h (fun v1 h1 => ∃ r1 : Int32, v1 = .int (r1) ∧ ((fC h1 x1 48 ∧ zX s0 m_J12_coder d [zr x1] h1 (fun v2 h2 => ∃ r2 : Int32, v2 = .int (r2) ∧ ((¬ r1 = r2 → ((¬ r1 = 0 → (zX s0 m_J22_compareToLatin1 d [zr (gR h x0 0), zr (gR h x1 0)] h2 (fun v3 h3 => ∃ r3 : Int32, v3 = .int (r3) ∧ (Q (.int r3) h3)) E)) ∧ (r1 = 0 → (zX s0 m_J13_compareToUTF16 d [zr (gR h x0 0), zr (gR h x1 0)] h2 (fun v4 h4 => ∃ r4 : Int32, v4 = .int (r4) ∧ (Q (.int r4) h4)) E)))) ∧ (r1 = r2 → ((¬ r1 = 0 → (zX s0 m_J22_compareTo d [zr (gR h x0 0), zr (gR h x1 0)] h2 (fun v5 h5 => ∃ r5 : Int32, v5 = .int (r5) ∧ (Q (.int r5) h5)) E)) ∧ (r1 = 0 → (zX s0 m_J13_compareTo d [zr (gR h x0 0), zr (gR h x1 0)] h2 (fun v6 h6 => ∃ r6 : Int32, v6 = .int (r6) ∧ (Q (.int r6) h6)) E)))))) E))) E)))) : zP s0 m_J12_compareTo_2 (d + 1) 0 [some (zr (x0)), some (zr (x1)), none, none, none] [] h Q E := by
  refine z_aload_n (M := m_J12_compareTo_2) (k := 0) rfl dJ12_compareTo_2_0 ?_
  obtain ⟨g, H⟩ := H
  refine z_get (M := m_J12_compareTo_2) f_J12_9 dJ12_compareTo_2_1 g ?_
  refine z_astore_n (M := m_J12_compareTo_2) (k := 2) 2 rfl (zlt rfl) (zr_cat _) dJ12_compareTo_2_4 ?_
  show zP s0 m_J12_compareTo_2 (d + 1) _ [some (zr (x0)), some (zr (x1)), some (zr (gR h x0 0)), none, none] _ _ _ _
  refine z_aload_n (M := m_J12_compareTo_2) (k := 1) rfl dJ12_compareTo_2_5 ?_
  obtain ⟨g, H⟩ := H
  refine z_get (M := m_J12_compareTo_2) f_J12_9 dJ12_compareTo_2_6 g ?_
  refine z_astore_n (M := m_J12_compareTo_2) (k := 3) 3 rfl (zlt rfl) (zr_cat _) dJ12_compareTo_2_9 ?_
  show zP s0 m_J12_compareTo_2 (d + 1) _ [some (zr (x0)), some (zr (x1)), some (zr (gR h x0 0)), some (zr (gR h x1 0)), none] _ _ _ _
  refine z_aload_n (M := m_J12_compareTo_2) (k := 0) rfl dJ12_compareTo_2_10 ?_
  obtain ⟨⟨fs9, g⟩, H⟩ := H
  refine z_invV (M := m_J12_compareTo_2) (cn := 48) (a := []) ok_J12_coder q1387 q1388 q1389 rfl dJ12_compareTo_2_11 g (Nat.le_refl _) (Nat.zero_le _) rfl H (fun v1 h1 H => ?_) (fun n9 h9 H => zPx.out rfl H)
  obtain ⟨r1, rfl, H⟩ := H
  show zP s0 m_J12_compareTo_2 (d + 1) _ _ [.int (r1)] _ _ _
  refine z_istore (M := m_J12_compareTo_2) 4 (zlt rfl) (zr_cat _) dJ12_compareTo_2_14 ?_
  show zP s0 m_J12_compareTo_2 (d + 1) _ [some (zr (x0)), some (zr (x1)), some (zr (gR h x0 0)), some (zr (gR h x1 0)), some (.int (r1))] _ _ _ _
  refine z_iload (M := m_J12_compareTo_2) (i := 4) rfl dJ12_compareTo_2_16 ?_
  refine z_aload_n (M := m_J12_compareTo_2) (k := 1) rfl dJ12_compareTo_2_18 ?_
  obtain ⟨⟨fs9, g⟩, H⟩ := H
  refine z_invV (M := m_J12_compareTo_2) (cn := 48) (a := []) ok_J12_coder q1387 q1388 q1389 rfl dJ12_compareTo_2_19 g (Nat.le_refl _) (Nat.le_trans (zcati zcat0) (zle rfl)) rfl H (fun v2 h2 H => ?_) (fun n9 h9 H => zPx.out rfl H)
  obtain ⟨r2, rfl, H⟩ := H
  show zP s0 m_J12_compareTo_2 (d + 1) _ _ [.int (r2), .int (r1)] _ _ _
  refine z_icmpne (M := m_J12_compareTo_2) 44 rfl dJ12_compareTo_2_22 (fun hc => ?_) (fun hc => ?_)
  · have H := H.1 hc
    refine z_iload (M := m_J12_compareTo_2) (i := 4) rfl dJ12_compareTo_2_44 ?_
    refine z_ifne (M := m_J12_compareTo_2) 57 rfl dJ12_compareTo_2_46 (fun hc => ?_) (fun hc => ?_)
    · have H := H.1 hc
      refine z_aload_n (M := m_J12_compareTo_2) (k := 2) rfl dJ12_compareTo_2_57 ?_
      refine z_aload_n (M := m_J12_compareTo_2) (k := 3) rfl dJ12_compareTo_2_58 ?_
      refine z_invS (M := m_J12_compareTo_2) (a := [zr (gR h x0 0), zr (gR h x1 0)]) ok_J22_compareToLatin1 q2150 q2151 dJ12_compareTo_2_59 (Nat.le_refl _) (Nat.zero_le _) rfl H (fun v3 h3 H => ?_) (fun n9 h9 H => zPx.out rfl H)
      obtain ⟨r3, rfl, H⟩ := H
      show zP s0 m_J12_compareTo_2 (d + 1) _ _ [.int (r3)] _ _ _
      exact z_ireturn (M := m_J12_compareTo_2) rfl rfl dJ12_compareTo_2_62 H
    · have H := H.2 hc
      refine z_aload_n (M := m_J12_compareTo_2) (k := 2) rfl dJ12_compareTo_2_49 ?_
      refine z_aload_n (M := m_J12_compareTo_2) (k := 3) rfl dJ12_compareTo_2_50 ?_
      refine z_invS (M := m_J12_compareTo_2) (a := [zr (gR h x0 0), zr (gR h x1 0)]) ok_J13_compareToUTF16 q2139 q2140 dJ12_compareTo_2_51 (Nat.le_refl _) (Nat.zero_le _) rfl H (fun v4 h4 H => ?_) (fun n9 h9 H => zPx.out rfl H)
      obtain ⟨r4, rfl, H⟩ := H
      show zP s0 m_J12_compareTo_2 (d + 1) _ _ [.int (r4)] _ _ _
      refine z_goto (M := m_J12_compareTo_2) 62 rfl dJ12_compareTo_2_54 ?_
      exact z_ireturn (M := m_J12_compareTo_2) rfl rfl dJ12_compareTo_2_62 H
  · have H := H.2 hc
    refine z_iload (M := m_J12_compareTo_2) (i := 4) rfl dJ12_compareTo_2_25 ?_
    refine z_ifne (M := m_J12_compareTo_2) 38 rfl dJ12_compareTo_2_27 (fun hc => ?_) (fun hc => ?_)
    · have H := H.1 hc
      refine z_aload_n (M := m_J12_compareTo_2) (k := 2) rfl dJ12_compareTo_2_38 ?_
      refine z_aload_n (M := m_J12_compareTo_2) (k := 3) rfl dJ12_compareTo_2_39 ?_
      refine z_invS (M := m_J12_compareTo_2) (a := [zr (gR h x0 0), zr (gR h x1 0)]) ok_J22_compareTo q2132 q2133 dJ12_compareTo_2_40 (Nat.le_refl _) (Nat.zero_le _) rfl H (fun v5 h5 H => ?_) (fun n9 h9 H => zPx.out rfl H)
      obtain ⟨r5, rfl, H⟩ := H
      show zP s0 m_J12_compareTo_2 (d + 1) _ _ [.int (r5)] _ _ _
      exact z_ireturn (M := m_J12_compareTo_2) rfl rfl dJ12_compareTo_2_43 H
    · have H := H.2 hc
      refine z_aload_n (M := m_J12_compareTo_2) (k := 2) rfl dJ12_compareTo_2_30 ?_
      refine z_aload_n (M := m_J12_compareTo_2) (k := 3) rfl dJ12_compareTo_2_31 ?_
      refine z_invS (M := m_J12_compareTo_2) (a := [zr (gR h x0 0), zr (gR h x1 0)]) ok_J13_compareTo q2018 q2019 dJ12_compareTo_2_32 (Nat.le_refl _) (Nat.zero_le _) rfl H (fun v6 h6 H => ?_) (fun n9 h9 H => zPx.out rfl H)
      obtain ⟨r6, rfl, H⟩ := H
      show zP s0 m_J12_compareTo_2 (d + 1) _ _ [.int (r6)] _ _ _
      refine z_goto (M := m_J12_compareTo_2) 43 rfl dJ12_compareTo_2_35 ?_
      exact z_ireturn (M := m_J12_compareTo_2) rfl rfl dJ12_compareTo_2_43 H
theorem c_J12_compareTo_2 {s0 : zE} {d : Nat} {x0 : Nat} {x1 : Nat} {h : zH} {Q : Value → zH → Prop} {E : Nat → zH → Prop} (H : (fR h x0 [48] 0) ∧ ((fR h x1 [48] 0) ∧ ((fC h x0 48 ∧ zX s0 m_J12_coder d [zr x0] h (fun v1 h1 => ∃ r1 : Int32, v1 = .int (r1) ∧ ((fC h1 x1 48 ∧ zX s0 m_J12_coder d [zr x1] h1 (fun v2 h2 => ∃ r2 : Int32, v2 = .int (r2) ∧ ((¬ r1 = r2 → ((¬ r1 = 0 → (zX s0 m_J22_compareToLatin1 d [zr (gR h x0 0), zr (gR h x1 0)] h2 (fun v3 h3 => ∃ r3 : Int32, v3 = .int (r3) ∧ (Q (.int r3) h3)) E)) ∧ (r1 = 0 → (zX s0 m_J13_compareToUTF16 d [zr (gR h x0 0), zr (gR h x1 0)] h2 (fun v4 h4 => ∃ r4 : Int32, v4 = .int (r4) ∧ (Q (.int r4) h4)) E)))) ∧ (r1 = r2 → ((¬ r1 = 0 → (zX s0 m_J22_compareTo d [zr (gR h x0 0), zr (gR h x1 0)] h2 (fun v5 h5 => ∃ r5 : Int32, v5 = .int (r5) ∧ (Q (.int r5) h5)) E)) ∧ (r1 = 0 → (zX s0 m_J13_compareTo d [zr (gR h x0 0), zr (gR h x1 0)] h2 (fun v6 h6 => ∃ r6 : Int32, v6 = .int (r6) ∧ (Q (.int r6) h6)) E)))))) E))) E)))) : zX s0 m_J12_compareTo_2 (d + 1) [zr (x0), zr (x1)] h Q E := zX.of2 rfl (by decide +kernel) (zlay_r (zlay_r (zlay_n (znoneS (znoneS (znoneS znone0)))))) (zle rfl) (b_J12_compareTo_2_0 H)
theorem b_J12_equals_0 {s0 : zE} {d : Nat} {x0 : Nat} {x1 : Nat} {h : zH} {Q : Value → zH → Prop} {E : Nat → zH → Prop} (H : (¬ x0 = x1 → (∃ b1 : Int32, zIns s0 h x1 "java/lang/String" b1 ∧ ((b1 = 0 → (Q (.int 0) h)) ∧ (¬ b1 = 0 → ((x1 = 0 ∨ zCast h x1 "java/lang/String") ∧ ((fI h x0 [48] 1) ∧ ((fI h x1 [48] 1) ∧ ((¬ gI h x0 1 = gI h x1 1 → (Q (.int 0) h)) ∧ (gI h x0 1 = gI h x1 1 → (zP s0 m_J12_equals (d + 1) 36 [some (zr (x0)), none, some (zr (x1))] [] h Q E)))))))))) ∧ (x0 = x1 → (Q (.int 1) h))) : zP s0 m_J12_equals (d + 1) 0 [some (zr (x0)), some (zr (x1)), none] [] h Q E := by
  refine z_aload_n (M := m_J12_equals) (k := 0) rfl dJ12_equals_0 ?_
  refine z_aload_n (M := m_J12_equals) (k := 1) rfl dJ12_equals_1 ?_
  refine z_acmpne (M := m_J12_equals) 7 rfl dJ12_equals_2 (fun hc => ?_) (fun hc => ?_)
  · have H := H.1 hc
    refine z_aload_n (M := m_J12_equals) (k := 1) rfl dJ12_equals_7 ?_
    obtain ⟨b1, g, H⟩ := H
    refine z_instof (M := m_J12_equals) q946 dJ12_equals_8 g ?_
    refine z_ifeq (M := m_J12_equals) 54 rfl dJ12_equals_11 (fun hc => ?_) (fun hc => ?_)
    · have H := H.1 hc
      refine z_iconst (M := m_J12_equals) (v := 0) (by decide) dJ12_equals_54 ?_
      exact z_ireturn (M := m_J12_equals) rfl rfl dJ12_equals_55 H
    · have H := H.2 hc
      refine z_aload_n (M := m_J12_equals) (k := 1) rfl dJ12_equals_14 ?_
      obtain ⟨g, H⟩ := H
      refine z_checkcast (M := m_J12_equals) q946 dJ12_equals_15 g ?_
      refine z_astore_n (M := m_J12_equals) (k := 2) 2 rfl (zlt rfl) (zr_cat _) dJ12_equals_18 ?_
      show zP s0 m_J12_equals (d + 1) _ [some (zr (x0)), some (zr (x1)), some (zr (x1))] _ _ _ _
      refine z_gets (M := m_J12_equals) (k_String_COMPACT_STRINGS (s0 := s0)) q947 dJ12_equals_19 ?_
      refine z_ifeq (M := m_J12_equals) 36 rfl dJ12_equals_22 (fun hc => (by revert hc; decide : False).elim) (fun hc => ?_)
      refine z_aload_n (M := m_J12_equals) (k := 0) rfl dJ12_equals_25 ?_
      obtain ⟨g, H⟩ := H
      refine z_get (M := m_J12_equals) f_J12_15 dJ12_equals_26 g ?_
      refine z_aload_n (M := m_J12_equals) (k := 2) rfl dJ12_equals_29 ?_
      obtain ⟨g, H⟩ := H
      refine z_get (M := m_J12_equals) f_J12_15 dJ12_equals_30 g ?_
      refine z_icmpne (M := m_J12_equals) 54 rfl dJ12_equals_33 (fun hc => ?_) (fun hc => ?_)
      · have H := H.1 hc
        refine z_iconst (M := m_J12_equals) (v := 0) (by decide) dJ12_equals_54 ?_
        exact z_ireturn (M := m_J12_equals) rfl rfl dJ12_equals_55 H
      · have H := H.2 hc
        exact zP.weak (ls' := [some (zr (x0)), none, some (zr (x1))]) (zle rfl) (zsub_so (zsub_no (zsub_so zsub_nil))) H
  · have H := H.2 hc
    refine z_iconst (M := m_J12_equals) (v := 1) (by decide) dJ12_equals_5 ?_
    exact z_ireturn (M := m_J12_equals) rfl rfl dJ12_equals_6 H
theorem c_J12_equals {s0 : zE} {d : Nat} {x0 : Nat} {x1 : Nat} {h : zH} {Q : Value → zH → Prop} {E : Nat → zH → Prop} (H : (¬ x0 = x1 → (∃ b1 : Int32, zIns s0 h x1 "java/lang/String" b1 ∧ ((b1 = 0 → (Q (.int 0) h)) ∧ (¬ b1 = 0 → ((x1 = 0 ∨ zCast h x1 "java/lang/String") ∧ ((fI h x0 [48] 1) ∧ ((fI h x1 [48] 1) ∧ ((¬ gI h x0 1 = gI h x1 1 → (Q (.int 0) h)) ∧ (gI h x0 1 = gI h x1 1 → (zP s0 m_J12_equals (d + 1) 36 [some (zr (x0)), none, some (zr (x1))] [] h Q E)))))))))) ∧ (x0 = x1 → (Q (.int 1) h))) : zX s0 m_J12_equals (d + 1) [zr (x0), zr (x1)] h Q E := zX.of2 rfl (by decide +kernel) (zlay_r (zlay_r (zlay_n (znoneS znone0)))) (zle rfl) (b_J12_equals_0 H)
theorem b_J12_equals_36 {s0 : zE} {d : Nat} {x0 : Nat} {x2 : Nat} {h : zH} {Q : Value → zH → Prop} {E : Nat → zH → Prop} (H : (fR h x0 [48] 0) ∧ ((fR h x2 [48] 0) ∧ (zX s0 m_J13_equals d [zr (gR h x0 0), zr (gR h x2 0)] h (fun v1 h1 => ∃ r1 : Int32, v1 = .int (r1) ∧ ((r1 = 0 → (Q (.int 0) h1)) ∧ (¬ r1 = 0 → (Q (.int 1) h1)))) E))) : zP s0 m_J12_equals (d + 1) 36 [some (zr (x0)), none, some (zr (x2))] [] h Q E := by
  refine z_aload_n (M := m_J12_equals) (k := 0) rfl dJ12_equals_36 ?_
  obtain ⟨g, H⟩ := H
  refine z_get (M := m_J12_equals) f_J12_9 dJ12_equals_37 g ?_
  refine z_aload_n (M := m_J12_equals) (k := 2) rfl dJ12_equals_40 ?_
  obtain ⟨g, H⟩ := H
  refine z_get (M := m_J12_equals) f_J12_9 dJ12_equals_41 g ?_
  refine z_invS (M := m_J12_equals) (a := [zr (gR h x0 0), zr (gR h x2 0)]) ok_J13_equals q949 q950 dJ12_equals_44 (Nat.le_refl _) (Nat.zero_le _) rfl H (fun v1 h1 H => ?_) (fun n9 h9 H => zPx.out rfl H)
  obtain ⟨r1, rfl, H⟩ := H
  show zP s0 m_J12_equals (d + 1) _ _ [.int (r1)] _ _ _
  refine z_ifeq (M := m_J12_equals) 54 rfl dJ12_equals_47 (fun hc => ?_) (fun hc => ?_)
  · have H := H.1 hc
    refine z_iconst (M := m_J12_equals) (v := 0) (by decide) dJ12_equals_54 ?_
    exact z_ireturn (M := m_J12_equals) rfl rfl dJ12_equals_55 H
  · have H := H.2 hc
    refine z_iconst (M := m_J12_equals) (v := 1) (by decide) dJ12_equals_50 ?_
    refine z_goto (M := m_J12_equals) 55 rfl dJ12_equals_51 ?_
    exact z_ireturn (M := m_J12_equals) rfl rfl dJ12_equals_55 H
theorem b_J12_hashCode_0 {s0 : zE} {d : Nat} {x0 : Nat} {h : zH} {Q : Value → zH → Prop} {E : Nat → zH → Prop} (H : (fI h x0 [48] 2) ∧ ((¬ gI h x0 2 = 0 → (Q (.int (gI h x0 2)) h)) ∧ (gI h x0 2 = 0 → ((fI h x0 [48] 3) ∧ ((¬ gI h x0 3 = 0 → (Q (.int (gI h x0 2)) h)) ∧ (gI h x0 3 = 0 → ((fC h x0 48 ∧ zX s0 m_J12_isLatin1 d [zr x0] h (fun v1 h1 => ∃ r1 : Int32, v1 = .int (r1) ∧ ((r1 = 0 → ((fR h1 x0 [48] 0) ∧ (zX s0 m_J22_hashCode d [zr (gR h1 x0 0)] h1 (fun v2 h2 => ∃ r2 : Int32, v2 = .int (r2) ∧ (zP s0 m_J12_hashCode (d + 1) 40 [some (zr (x0)), none] [.int (r2)] h2 Q E)) E))) ∧ (¬ r1 = 0 → ((fR h1 x0 [48] 0) ∧ (zX s0 m_J13_hashCode d [zr (gR h1 x0 0)] h1 (fun v3 h3 => ∃ r3 : Int32, v3 = .int (r3) ∧ (zP s0 m_J12_hashCode (d + 1) 40 [some (zr (x0)), none] [.int (r3)] h3 Q E)) E))))) E)))))))) : zP s0 m_J12_hashCode (d + 1) 0 [some (zr (x0)), none] [] h Q E := by
  refine z_aload_n (M := m_J12_hashCode) (k := 0) rfl dJ12_hashCode_0 ?_
  obtain ⟨g, H⟩ := H
  refine z_get (M := m_J12_hashCode) f_J12_19 dJ12_hashCode_1 g ?_
  refine z_istore_n (M := m_J12_hashCode) (k := 1) 1 rfl (zlt rfl) (zr_cat _) dJ12_hashCode_4 ?_
  show zP s0 m_J12_hashCode (d + 1) _ [some (zr (x0)), some (.int (gI h x0 2))] _ _ _ _
  refine z_iload_n (M := m_J12_hashCode) (k := 1) rfl dJ12_hashCode_5 ?_
  refine z_ifne (M := m_J12_hashCode) 58 rfl dJ12_hashCode_6 (fun hc => ?_) (fun hc => ?_)
  · have H := H.1 hc
    refine z_iload_n (M := m_J12_hashCode) (k := 1) rfl dJ12_hashCode_58 ?_
    exact z_ireturn (M := m_J12_hashCode) rfl rfl dJ12_hashCode_59 H
  · have H := H.2 hc
    refine z_aload_n (M := m_J12_hashCode) (k := 0) rfl dJ12_hashCode_9 ?_
    obtain ⟨g, H⟩ := H
    refine z_get (M := m_J12_hashCode) f_J12_23 dJ12_hashCode_10 g ?_
    refine z_ifne (M := m_J12_hashCode) 58 rfl dJ12_hashCode_13 (fun hc => ?_) (fun hc => ?_)
    · have H := H.1 hc
      refine z_iload_n (M := m_J12_hashCode) (k := 1) rfl dJ12_hashCode_58 ?_
      exact z_ireturn (M := m_J12_hashCode) rfl rfl dJ12_hashCode_59 H
    · have H := H.2 hc
      refine z_aload_n (M := m_J12_hashCode) (k := 0) rfl dJ12_hashCode_16 ?_
      obtain ⟨⟨fs9, g⟩, H⟩ := H
      refine z_invV (M := m_J12_hashCode) (cn := 48) (a := []) ok_J12_isLatin1 q2412 q2413 q2414 rfl dJ12_hashCode_17 g (Nat.le_refl _) (Nat.zero_le _) rfl H (fun v1 h1 H => ?_) (fun n9 h9 H => zPx.out rfl H)
      obtain ⟨r1, rfl, H⟩ := H
      show zP s0 m_J12_hashCode (d + 1) _ _ [.int (r1)] _ _ _
      refine z_ifeq (M := m_J12_hashCode) 33 rfl dJ12_hashCode_20 (fun hc => ?_) (fun hc => ?_)
      · have H := H.1 hc
        refine z_aload_n (M := m_J12_hashCode) (k := 0) rfl dJ12_hashCode_33 ?_
        obtain ⟨g, H⟩ := H
        refine z_get (M := m_J12_hashCode) f_J12_9 dJ12_hashCode_34 g ?_
        refine z_invS (M := m_J12_hashCode) (a := [zr (gR h1 x0 0)]) ok_J22_hashCode q2465 q2466 dJ12_hashCode_37 (Nat.le_refl _) (Nat.zero_le _) rfl H (fun v2 h2 H => ?_) (fun n9 h9 H => zPx.out rfl H)
        obtain ⟨r2, rfl, H⟩ := H
        show zP s0 m_J12_hashCode (d + 1) _ _ [.int (r2)] _ _ _
        exact zP.weak (ls' := [some (zr (x0)), none]) (zle rfl) (zsub_so (zsub_no zsub_nil)) H
      · have H := H.2 hc
        refine z_aload_n (M := m_J12_hashCode) (k := 0) rfl dJ12_hashCode_23 ?_
        obtain ⟨g, H⟩ := H
        refine z_get (M := m_J12_hashCode) f_J12_9 dJ12_hashCode_24 g ?_
        refine z_invS (M := m_J12_hashCode) (a := [zr (gR h1 x0 0)]) ok_J13_hashCode q2416 q2417 dJ12_hashCode_27 (Nat.le_refl _) (Nat.zero_le _) rfl H (fun v3 h3 H => ?_) (fun n9 h9 H => zPx.out rfl H)
        obtain ⟨r3, rfl, H⟩ := H
        show zP s0 m_J12_hashCode (d + 1) _ _ [.int (r3)] _ _ _
        refine z_goto (M := m_J12_hashCode) 40 rfl dJ12_hashCode_30 ?_
        exact zP.weak (ls' := [some (zr (x0)), none]) (zle rfl) (zsub_so (zsub_no zsub_nil)) H
theorem c_J12_hashCode {s0 : zE} {d : Nat} {x0 : Nat} {h : zH} {Q : Value → zH → Prop} {E : Nat → zH → Prop} (H : (fI h x0 [48] 2) ∧ ((¬ gI h x0 2 = 0 → (Q (.int (gI h x0 2)) h)) ∧ (gI h x0 2 = 0 → ((fI h x0 [48] 3) ∧ ((¬ gI h x0 3 = 0 → (Q (.int (gI h x0 2)) h)) ∧ (gI h x0 3 = 0 → ((fC h x0 48 ∧ zX s0 m_J12_isLatin1 d [zr x0] h (fun v1 h1 => ∃ r1 : Int32, v1 = .int (r1) ∧ ((r1 = 0 → ((fR h1 x0 [48] 0) ∧ (zX s0 m_J22_hashCode d [zr (gR h1 x0 0)] h1 (fun v2 h2 => ∃ r2 : Int32, v2 = .int (r2) ∧ (zP s0 m_J12_hashCode (d + 1) 40 [some (zr (x0)), none] [.int (r2)] h2 Q E)) E))) ∧ (¬ r1 = 0 → ((fR h1 x0 [48] 0) ∧ (zX s0 m_J13_hashCode d [zr (gR h1 x0 0)] h1 (fun v3 h3 => ∃ r3 : Int32, v3 = .int (r3) ∧ (zP s0 m_J12_hashCode (d + 1) 40 [some (zr (x0)), none] [.int (r3)] h3 Q E)) E))))) E)))))))) : zX s0 m_J12_hashCode (d + 1) [zr (x0)] h Q E := zX.of2 rfl (by decide +kernel) (zlay_r (zlay_n (znoneS znone0))) (zle rfl) (b_J12_hashCode_0 H)
theorem b_J12_hashCode_40 {s0 : zE} {d : Nat} {x0 : Nat} {t0 : Int32} {h : zH} {Q : Value → zH → Prop} {E : Nat → zH → Prop} (H : (¬ t0 = 0 → ((s0.1.heap.size < x0) ∧ ((fC h x0 48) ∧ (∀ h1, h1 = zput h x0 2 (.int (t0)) → (Q (.int t0) h1))))) ∧ (t0 = 0 → ((s0.1.heap.size < x0) ∧ ((fC h x0 48) ∧ (∀ h2, h2 = zput h x0 3 (.int (1)) → (Q (.int t0) h2)))))) : zP s0 m_J12_hashCode (d + 1) 40 [some (zr (x0)), none] [.int (t0)] h Q E := by
  refine z_istore_n (M := m_J12_hashCode) (k := 1) 1 rfl (zlt rfl) (zr_cat _) dJ12_hashCode_40 ?_
  show zP s0 m_J12_hashCode (d + 1) _ [some (zr (x0)), some (.int (t0))] _ _ _ _
  refine z_iload_n (M := m_J12_hashCode) (k := 1) rfl dJ12_hashCode_41 ?_
  refine z_ifne (M := m_J12_hashCode) 53 rfl dJ12_hashCode_42 (fun hc => ?_) (fun hc => ?_)
  · have H := H.1 hc
    refine z_aload_n (M := m_J12_hashCode) (k := 0) rfl dJ12_hashCode_53 ?_
    refine z_iload_n (M := m_J12_hashCode) (k := 1) rfl dJ12_hashCode_54 ?_
    obtain ⟨gn, H⟩ := H
    obtain ⟨g, H⟩ := H
    refine zz_putO (M := m_J12_hashCode) f_J12_19 dJ12_hashCode_55 (fn_48_2) gn g (ft_48_2) (fun h1 e => ?_)
    have H := H h1 e
    refine z_iload_n (M := m_J12_hashCode) (k := 1) rfl dJ12_hashCode_58 ?_
    exact z_ireturn (M := m_J12_hashCode) rfl rfl dJ12_hashCode_59 H
  · have H := H.2 hc
    refine z_aload_n (M := m_J12_hashCode) (k := 0) rfl dJ12_hashCode_45 ?_
    refine z_iconst (M := m_J12_hashCode) (v := 1) (by decide) dJ12_hashCode_46 ?_
    obtain ⟨gn, H⟩ := H
    obtain ⟨g, H⟩ := H
    refine zz_putO (M := m_J12_hashCode) f_J12_23 dJ12_hashCode_47 (fn_48_3) gn g (ft_48_3 (Or.inr rfl)) (fun h2 e => ?_)
    have H := H h2 e
    refine z_goto (M := m_J12_hashCode) 58 rfl dJ12_hashCode_50 ?_
    refine z_iload_n (M := m_J12_hashCode) (k := 1) rfl dJ12_hashCode_58 ?_
    exact z_ireturn (M := m_J12_hashCode) rfl rfl dJ12_hashCode_59 H
theorem b_J12_init_0 {s0 : zE} {d : Nat} {x0 : Nat} {x1 : Nat} {h : zH} {Q : Value → zH → Prop} {E : Nat → zH → Prop} (H : (∃ c, fC h x0 c) ∧ (zX s0 m_J12_init_2 d [zr x0, zr (x1), zr (0)] h (fun _ h1 => (Q .null h1)) E)) : zP s0 m_J12_init (d + 1) 0 [some (zr (x0)), some (zr (x1))] [] h Q E := by
  refine z_aload_n (M := m_J12_init) (k := 0) rfl dJ12_init_0 ?_
  refine z_aload_n (M := m_J12_init) (k := 1) rfl dJ12_init_1 ?_
  refine z_null (M := m_J12_init) dJ12_init_2 ?_
  obtain ⟨⟨c9, g⟩, H⟩ := H
  refine zz_invI (M := m_J12_init) (a := [zr (x1), zr (0)]) ok_J12_init_2 rfl rfl q1434 q1435 dJ12_init_3 g (Nat.zero_le _) rfl H (fun v1 h1 H => ?_) (fun n9 h9 H => zPx.out rfl H)
  exact z_return (M := m_J12_init) rfl dJ12_init_6 H
theorem c_J12_init {s0 : zE} {d : Nat} {x0 : Nat} {x1 : Nat} {h : zH} {Q : Value → zH → Prop} {E : Nat → zH → Prop} (H : (∃ c, fC h x0 c) ∧ (zX s0 m_J12_init_2 d [zr x0, zr (x1), zr (0)] h (fun _ h1 => (Q .null h1)) E)) : zX s0 m_J12_init (d + 1) [zr (x0), zr (x1)] h Q E := zX.of2 rfl (by decide +kernel) (zlay_r (zlay_r (zlay_n znone0))) (zle rfl) (b_J12_init_0 H)
theorem b_J12_isEmpty_0 {s0 : zE} {d : Nat} {x0 : Nat} {h : zH} {Q : Value → zH → Prop} {E : Nat → zH → Prop} (H : (fR h x0 [48] 0) ∧ ((fC h (gR h x0 0) 1000) ∧ ((¬ Int32.ofNat (gA h (gR h x0 0)).length = 0 → (Q (.int 0) h)) ∧ (Int32.ofNat (gA h (gR h x0 0)).length = 0 → (Q (.int 1) h))))) : zP s0 m_J12_isEmpty d 0 [some (zr (x0))] [] h Q E := by
  refine z_aload_n (M := m_J12_isEmpty) (k := 0) rfl dJ12_isEmpty_0 ?_
  obtain ⟨g, H⟩ := H
  refine z_get (M := m_J12_isEmpty) f_J12_9 dJ12_isEmpty_1 g ?_
  obtain ⟨g, H⟩ := H
  refine z_len (M := m_J12_isEmpty) (t := 0) rfl dJ12_isEmpty_4 g ?_
  refine z_ifne (M := m_J12_isEmpty) 12 rfl dJ12_isEmpty_5 (fun hc => ?_) (fun hc => ?_)
  · have H := H.1 hc
    refine z_iconst (M := m_J12_isEmpty) (v := 0) (by decide) dJ12_isEmpty_12 ?_
    exact z_ireturn (M := m_J12_isEmpty) rfl rfl dJ12_isEmpty_13 H
  · have H := H.2 hc
    refine z_iconst (M := m_J12_isEmpty) (v := 1) (by decide) dJ12_isEmpty_8 ?_
    refine z_goto (M := m_J12_isEmpty) 13 rfl dJ12_isEmpty_9 ?_
    exact z_ireturn (M := m_J12_isEmpty) rfl rfl dJ12_isEmpty_13 H
theorem c_J12_isEmpty {s0 : zE} {d : Nat} {x0 : Nat} {h : zH} {Q : Value → zH → Prop} {E : Nat → zH → Prop} (H : (fR h x0 [48] 0) ∧ ((fC h (gR h x0 0) 1000) ∧ ((¬ Int32.ofNat (gA h (gR h x0 0)).length = 0 → (Q (.int 0) h)) ∧ (Int32.ofNat (gA h (gR h x0 0)).length = 0 → (Q (.int 1) h))))) : zX s0 m_J12_isEmpty d [zr (x0)] h Q E := zX.of2 rfl (by decide +kernel) (zlay_r (zlay_n znone0)) (zle rfl) (b_J12_isEmpty_0 H)
theorem b_J12_isLatin1_0 {s0 : zE} {d : Nat} {x0 : Nat} {h : zH} {Q : Value → zH → Prop} {E : Nat → zH → Prop} (H : (fI h x0 [48] 1) ∧ ((¬ gI h x0 1 = 0 → (Q (.int 0) h)) ∧ (gI h x0 1 = 0 → (Q (.int 1) h)))) : zP s0 m_J12_isLatin1 d 0 [some (zr (x0))] [] h Q E := by
  refine z_gets (M := m_J12_isLatin1) (k_String_COMPACT_STRINGS (s0 := s0)) q947 dJ12_isLatin1_0 ?_
  refine z_ifeq (M := m_J12_isLatin1) 17 rfl dJ12_isLatin1_3 (fun hc => (by revert hc; decide : False).elim) (fun hc => ?_)
  refine z_aload_n (M := m_J12_isLatin1) (k := 0) rfl dJ12_isLatin1_6 ?_
  obtain ⟨g, H⟩ := H
  refine z_get (M := m_J12_isLatin1) f_J12_15 dJ12_isLatin1_7 g ?_
  refine z_ifne (M := m_J12_isLatin1) 17 rfl dJ12_isLatin1_10 (fun hc => ?_) (fun hc => ?_)
  · have H := H.1 hc
    refine z_iconst (M := m_J12_isLatin1) (v := 0) (by decide) dJ12_isLatin1_17 ?_
    exact z_ireturn (M := m_J12_isLatin1) rfl rfl dJ12_isLatin1_18 H
  · have H := H.2 hc
    refine z_iconst (M := m_J12_isLatin1) (v := 1) (by decide) dJ12_isLatin1_13 ?_
    refine z_goto (M := m_J12_isLatin1) 18 rfl dJ12_isLatin1_14 ?_
    exact z_ireturn (M := m_J12_isLatin1) rfl rfl dJ12_isLatin1_18 H
theorem c_J12_isLatin1 {s0 : zE} {d : Nat} {x0 : Nat} {h : zH} {Q : Value → zH → Prop} {E : Nat → zH → Prop} (H : (fI h x0 [48] 1) ∧ ((¬ gI h x0 1 = 0 → (Q (.int 0) h)) ∧ (gI h x0 1 = 0 → (Q (.int 1) h)))) : zX s0 m_J12_isLatin1 d [zr (x0)] h Q E := zX.of2 rfl (by decide +kernel) (zlay_r (zlay_n znone0)) (zle rfl) (b_J12_isLatin1_0 H)
theorem b_J12_length_0 {s0 : zE} {d : Nat} {x0 : Nat} {h : zH} {Q : Value → zH → Prop} {E : Nat → zH → Prop} (H : (fR h x0 [48] 0) ∧ ((fC h (gR h x0 0) 1000) ∧ ((fC h x0 48 ∧ zX s0 m_J12_coder d [zr x0] h (fun v1 h1 => ∃ r1 : Int32, v1 = .int (r1) ∧ (Q (.int ((Int32.ofNat (gA h (gR h x0 0)).length) >>> (r1 &&& 31))) h1)) E)))) : zP s0 m_J12_length (d + 1) 0 [some (zr (x0))] [] h Q E := by
  refine z_aload_n (M := m_J12_length) (k := 0) rfl dJ12_length_0 ?_
  obtain ⟨g, H⟩ := H
  refine z_get (M := m_J12_length) f_J12_9 dJ12_length_1 g ?_
  obtain ⟨g, H⟩ := H
  refine z_len (M := m_J12_length) (t := 0) rfl dJ12_length_4 g ?_
  refine z_aload_n (M := m_J12_length) (k := 0) rfl dJ12_length_5 ?_
  obtain ⟨⟨fs9, g⟩, H⟩ := H
  refine z_invV (M := m_J12_length) (cn := 48) (a := []) ok_J12_coder q1387 q1388 q1389 rfl dJ12_length_6 g (Nat.le_refl _) (Nat.le_trans (zcati zcat0) (zle rfl)) rfl H (fun v1 h1 H => ?_) (fun n9 h9 H => zPx.out rfl H)
  obtain ⟨r1, rfl, H⟩ := H
  show zP s0 m_J12_length (d + 1) _ _ [.int (r1), .int (Int32.ofNat (gA h (gR h x0 0)).length)] _ _ _
  refine z_ishr (M := m_J12_length) dJ12_length_9 ?_
  exact z_ireturn (M := m_J12_length) rfl rfl dJ12_length_10 H
theorem c_J12_length {s0 : zE} {d : Nat} {x0 : Nat} {h : zH} {Q : Value → zH → Prop} {E : Nat → zH → Prop} (H : (fR h x0 [48] 0) ∧ ((fC h (gR h x0 0) 1000) ∧ ((fC h x0 48 ∧ zX s0 m_J12_coder d [zr x0] h (fun v1 h1 => ∃ r1 : Int32, v1 = .int (r1) ∧ (Q (.int ((Int32.ofNat (gA h (gR h x0 0)).length) >>> (r1 &&& 31))) h1)) E)))) : zX s0 m_J12_length (d + 1) [zr (x0)] h Q E := zX.of2 rfl (by decide +kernel) (zlay_r (zlay_n znone0)) (zle rfl) (b_J12_length_0 H)
theorem b_J13_canEncode_0 {s0 : zE} {d : Nat} {x0 : Int32} {h : zH} {Q : Value → zH → Prop} {E : Nat → zH → Prop} (H : (255 < x0 → (Q (.int 0) h)) ∧ (¬ 255 < x0 → (Q (.int 1) h))) : zP s0 m_J13_canEncode d 0 [some (.int (x0))] [] h Q E := by
  refine z_iload_n (M := m_J13_canEncode) (k := 0) rfl dJ13_canEncode_0 ?_
  refine z_sipush (M := m_J13_canEncode) (v := 255) (by decide) dJ13_canEncode_1 ?_
  refine z_icmpgt (M := m_J13_canEncode) 11 rfl dJ13_canEncode_4 (fun hc => ?_) (fun hc => ?_)
  · have H := H.1 hc
    refine z_iconst (M := m_J13_canEncode) (v := 0) (by decide) dJ13_canEncode_11 ?_
    exact z_ireturn (M := m_J13_canEncode) rfl rfl dJ13_canEncode_12 H
  · have H := H.2 hc
    refine z_iconst (M := m_J13_canEncode) (v := 1) (by decide) dJ13_canEncode_7 ?_
    refine z_goto (M := m_J13_canEncode) 12 rfl dJ13_canEncode_8 ?_
    exact z_ireturn (M := m_J13_canEncode) rfl rfl dJ13_canEncode_12 H
theorem c_J13_canEncode {s0 : zE} {d : Nat} {x0 : Int32} {h : zH} {Q : Value → zH → Prop} {E : Nat → zH → Prop} (H : (255 < x0 → (Q (.int 0) h)) ∧ (¬ 255 < x0 → (Q (.int 1) h))) : zX s0 m_J13_canEncode d [.int (x0)] h Q E := zX.of2 rfl (by decide +kernel) (zlay_i (zlay_n znone0)) (zle rfl) (b_J13_canEncode_0 H)
theorem b_J13_charAt_0 {s0 : zE} {d : Nat} {x0 : Nat} {x1 : Int32} {h : zH} {Q : Value → zH → Prop} {E : Nat → zH → Prop} (H : (fC h x0 1000) ∧ (zX s0 m_J12_checkIndex d [.int (x1), .int (Int32.ofNat (gA h x0).length)] h (fun _ h1 => ((fE h1 x0 0 x1 (.int (eI h1 x0 x1))) ∧ ((narrow .char (.int ((((eI h1 x0 x1) &&& 255).toUInt32 % 65536).toInt32)) = .int ((((eI h1 x0 x1) &&& 255).toUInt32 % 65536).toInt32)) ∧ (Q (.int ((((eI h1 x0 x1) &&& 255).toUInt32 % 65536).toInt32)) h1)))) E)) : zP s0 m_J13_charAt (d + 1) 0 [some (zr (x0)), some (.int (x1))] [] h Q E := by
  refine z_iload_n (M := m_J13_charAt) (k := 1) rfl dJ13_charAt_0 ?_
  refine z_aload_n (M := m_J13_charAt) (k := 0) rfl dJ13_charAt_1 ?_
  obtain ⟨g, H⟩ := H
  refine z_len (M := m_J13_charAt) (t := 0) rfl dJ13_charAt_2 g ?_
  refine z_invS (M := m_J13_charAt) (a := [.int (x1), .int (Int32.ofNat (gA h x0).length)]) ok_J12_checkIndex q2543 q2544 dJ13_charAt_3 (Nat.le_refl _) (Nat.zero_le _) rfl H (fun v1 h1 H => ?_) (fun n9 h9 H => zPx.out rfl H)
  show zP s0 m_J13_charAt (d + 1) _ _ [] _ _ _
  refine z_aload_n (M := m_J13_charAt) (k := 0) rfl dJ13_charAt_6 ?_
  refine z_iload_n (M := m_J13_charAt) (k := 1) rfl dJ13_charAt_7 ?_
  obtain ⟨g, H⟩ := H
  refine z_ildB (M := m_J13_charAt) dJ13_charAt_8 g ?_
  refine z_sipush (M := m_J13_charAt) (v := 255) (by decide) dJ13_charAt_9 ?_
  refine z_iand (M := m_J13_charAt) dJ13_charAt_12 ?_
  refine z_i2c (M := m_J13_charAt) dJ13_charAt_13 ?_
  obtain ⟨g, H⟩ := H
  exact z_ireturn (M := m_J13_charAt) rfl g dJ13_charAt_14 H
theorem c_J13_charAt {s0 : zE} {d : Nat} {x0 : Nat} {x1 : Int32} {h : zH} {Q : Value → zH → Prop} {E : Nat → zH → Prop} (H : (fC h x0 1000) ∧ (zX s0 m_J12_checkIndex d [.int (x1), .int (Int32.ofNat (gA h x0).length)] h (fun _ h1 => ((fE h1 x0 0 x1 (.int (eI h1 x0 x1))) ∧ ((narrow .char (.int ((((eI h1 x0 x1) &&& 255).toUInt32 % 65536).toInt32)) = .int ((((eI h1 x0 x1) &&& 255).toUInt32 % 65536).toInt32)) ∧ (Q (.int ((((eI h1 x0 x1) &&& 255).toUInt32 % 65536).toInt32)) h1)))) E)) : zX s0 m_J13_charAt (d + 1) [zr (x0), .int (x1)] h Q E := zX.of2 rfl (by decide +kernel) (zlay_r (zlay_i (zlay_n znone0))) (zle rfl) (b_J13_charAt_0 H)
theorem b_J13_compareTo_0 {s0 : zE} {d : Nat} {x0 : Nat} {x1 : Nat} {h : zH} {Q : Value → zH → Prop} {E : Nat → zH → Prop} (H : (fC h x0 1000) ∧ ((fC h x1 1000) ∧ (zX s0 m_J13_compareTo_2 d [zr (x0), zr (x1), .int (Int32.ofNat (gA h x0).length), .int (Int32.ofNat (gA h x1).length)] h (fun v1 h1 => ∃ r1 : Int32, v1 = .int (r1) ∧ (Q (.int r1) h1)) E))) : zP s0 m_J13_compareTo (d + 1) 0 [some (zr (x0)), some (zr (x1)), none, none] [] h Q E := by
  refine z_aload_n (M := m_J13_compareTo) (k := 0) rfl dJ13_compareTo_0 ?_
  obtain ⟨g, H⟩ := H
  refine z_len (M := m_J13_compareTo) (t := 0) rfl dJ13_compareTo_1 g ?_
  refine z_istore_n (M := m_J13_compareTo) (k := 2) 2 rfl (zlt rfl) (zr_cat _) dJ13_compareTo_2 ?_
  show zP s0 m_J13_compareTo (d + 1) _ [some (zr (x0)), some (zr (x1)), some (.int (Int32.ofNat (gA h x0).length)), none] _ _ _ _
  refine z_aload_n (M := m_J13_compareTo) (k := 1) rfl dJ13_compareTo_3 ?_
  obtain ⟨g, H⟩ := H
  refine z_len (M := m_J13_compareTo) (t := 0) rfl dJ13_compareTo_4 g ?_
  refine z_istore_n (M := m_J13_compareTo) (k := 3) 3 rfl (zlt rfl) rfl dJ13_compareTo_5 ?_
  show zP s0 m_J13_compareTo (d + 1) _ [some (zr (x0)), some (zr (x1)), some (.int (Int32.ofNat (gA h x0).length)), some (.int (Int32.ofNat (gA h x1).length))] _ _ _ _
  refine z_aload_n (M := m_J13_compareTo) (k := 0) rfl dJ13_compareTo_6 ?_
  refine z_aload_n (M := m_J13_compareTo) (k := 1) rfl dJ13_compareTo_7 ?_
  refine z_iload_n (M := m_J13_compareTo) (k := 2) rfl dJ13_compareTo_8 ?_
  refine z_iload_n (M := m_J13_compareTo) (k := 3) rfl dJ13_compareTo_9 ?_
  refine z_invS (M := m_J13_compareTo) (a := [zr (x0), zr (x1), .int (Int32.ofNat (gA h x0).length), .int (Int32.ofNat (gA h x1).length)]) ok_J13_compareTo_2 q2021 q2022 dJ13_compareTo_10 (Nat.le_refl _) (Nat.zero_le _) rfl H (fun v1 h1 H => ?_) (fun n9 h9 H => zPx.out rfl H)
  obtain ⟨r1, rfl, H⟩ := H
  show zP s0 m_J13_compareTo (d + 1) _ _ [.int (r1)] _ _ _
  exact z_ireturn (M := m_J13_compareTo) rfl rfl dJ13_compareTo_13 H
theorem c_J13_compareTo {s0 : zE} {d : Nat} {x0 : Nat} {x1 : Nat} {h : zH} {Q : Value → zH → Prop} {E : Nat → zH → Prop} (H : (fC h x0 1000) ∧ ((fC h x1 1000) ∧ (zX s0 m_J13_compareTo_2 d [zr (x0), zr (x1), .int (Int32.ofNat (gA h x0).length), .int (Int32.ofNat (gA h x1).length)] h (fun v1 h1 => ∃ r1 : Int32, v1 = .int (r1) ∧ (Q (.int r1) h1)) E))) : zX s0 m_J13_compareTo (d + 1) [zr (x0), zr (x1)] h Q E := zX.of2 rfl (by decide +kernel) (zlay_r (zlay_r (zlay_n (znoneS (znoneS znone0))))) (zle rfl) (b_J13_compareTo_0 H)
theorem b_J13_compareToUTF16_0 {s0 : zE} {d : Nat} {x0 : Nat} {x1 : Nat} {h : zH} {Q : Value → zH → Prop} {E : Nat → zH → Prop} (H : zX s0 m_J13_length d [zr (x0)] h (fun v1 h1 => ∃ r1 : Int32, v1 = .int (r1) ∧ (zX s0 m_J22_length d [zr (x1)] h1 (fun v2 h2 => ∃ r2 : Int32, v2 = .int (r2) ∧ (zX s0 m_J13_compareToUTF16Values d [zr (x0), zr (x1), .int (r1), .int (r2)] h2 (fun v3 h3 => ∃ r3 : Int32, v3 = .int (r3) ∧ (Q (.int r3) h3)) E)) E)) E) : zP s0 m_J13_compareToUTF16 (d + 1) 0 [some (zr (x0)), some (zr (x1)), none, none] [] h Q E := by
  refine z_aload_n (M := m_J13_compareToUTF16) (k := 0) rfl dJ13_compareToUTF16_0 ?_
  refine z_invS (M := m_J13_compareToUTF16) (a := [zr (x0)]) ok_J13_length q2142 q2143 dJ13_compareToUTF16_1 (Nat.le_refl _) (Nat.zero_le _) rfl H (fun v1 h1 H => ?_) (fun n9 h9 H => zPx.out rfl H)
  obtain ⟨r1, rfl, H⟩ := H
  show zP s0 m_J13_compareToUTF16 (d + 1) _ _ [.int (r1)] _ _ _
  refine z_istore_n (M := m_J13_compareToUTF16) (k := 2) 2 rfl (zlt rfl) (zr_cat _) dJ13_compareToUTF16_4 ?_
  show zP s0 m_J13_compareToUTF16 (d + 1) _ [some (zr (x0)), some (zr (x1)), some (.int (r1)), none] _ _ _ _
  refine z_aload_n (M := m_J13_compareToUTF16) (k := 1) rfl dJ13_compareToUTF16_5 ?_
  refine z_invS (M := m_J13_compareToUTF16) (a := [zr (x1)]) ok_J22_length q2145 q1344 dJ13_compareToUTF16_6 (Nat.le_refl _) (Nat.zero_le _) rfl H (fun v2 h2 H => ?_) (fun n9 h9 H => zPx.out rfl H)
  obtain ⟨r2, rfl, H⟩ := H
  show zP s0 m_J13_compareToUTF16 (d + 1) _ _ [.int (r2)] _ _ _
  refine z_istore_n (M := m_J13_compareToUTF16) (k := 3) 3 rfl (zlt rfl) rfl dJ13_compareToUTF16_9 ?_
  show zP s0 m_J13_compareToUTF16 (d + 1) _ [some (zr (x0)), some (zr (x1)), some (.int (r1)), some (.int (r2))] _ _ _ _
  refine z_aload_n (M := m_J13_compareToUTF16) (k := 0) rfl dJ13_compareToUTF16_10 ?_
  refine z_aload_n (M := m_J13_compareToUTF16) (k := 1) rfl dJ13_compareToUTF16_11 ?_
  refine z_iload_n (M := m_J13_compareToUTF16) (k := 2) rfl dJ13_compareToUTF16_12 ?_
  refine z_iload_n (M := m_J13_compareToUTF16) (k := 3) rfl dJ13_compareToUTF16_13 ?_
  refine z_invS (M := m_J13_compareToUTF16) (a := [zr (x0), zr (x1), .int (r1), .int (r2)]) ok_J13_compareToUTF16Values q2146 q2147 dJ13_compareToUTF16_14 (Nat.le_refl _) (Nat.zero_le _) rfl H (fun v3 h3 H => ?_) (fun n9 h9 H => zPx.out rfl H)
  obtain ⟨r3, rfl, H⟩ := H
  show zP s0 m_J13_compareToUTF16 (d + 1) _ _ [.int (r3)] _ _ _
  exact z_ireturn (M := m_J13_compareToUTF16) rfl rfl dJ13_compareToUTF16_17 H
theorem c_J13_compareToUTF16 {s0 : zE} {d : Nat} {x0 : Nat} {x1 : Nat} {h : zH} {Q : Value → zH → Prop} {E : Nat → zH → Prop} (H : zX s0 m_J13_length d [zr (x0)] h (fun v1 h1 => ∃ r1 : Int32, v1 = .int (r1) ∧ (zX s0 m_J22_length d [zr (x1)] h1 (fun v2 h2 => ∃ r2 : Int32, v2 = .int (r2) ∧ (zX s0 m_J13_compareToUTF16Values d [zr (x0), zr (x1), .int (r1), .int (r2)] h2 (fun v3 h3 => ∃ r3 : Int32, v3 = .int (r3) ∧ (Q (.int r3) h3)) E)) E)) E) : zX s0 m_J13_compareToUTF16 (d + 1) [zr (x0), zr (x1)] h Q E := zX.of2 rfl (by decide +kernel) (zlay_r (zlay_r (zlay_n (znoneS (znoneS znone0))))) (zle rfl) (b_J13_compareToUTF16_0 H)
theorem b_J13_compareToUTF16Values_0 {s0 : zE} {d : Nat} {x0 : Nat} {x1 : Nat} {x2 : Int32} {x3 : Int32} {h : zH} {Q : Value → zH → Prop} {E : Nat → zH → Prop} (H : zX s0 m_J16_min d [.int (x2), .int (x3)] h (fun v1 h1 => ∃ r1 : Int32, v1 = .int (r1) ∧ (zP s0 m_J13_compareToUTF16Values (d + 1) 10 [some (zr (x0)), some (zr (x1)), some (.int (x2)), some (.int (x3)), some (.int (r1)), some (.int (0)), none, none] [] h1 Q E)) E) : zP s0 m_J13_compareToUTF16Values (d + 1) 0 [some (zr (x0)), some (zr (x1)), some (.int (x2)), some (.int (x3)), none, none, none, none] [] h Q E := by
  refine z_iload_n (M := m_J13_compareToUTF16Values) (k := 2) rfl dJ13_compareToUTF16Values_0 ?_
  refine z_iload_n (M := m_J13_compareToUTF16Values) (k := 3) rfl dJ13_compareToUTF16Values_1 ?_
  refine z_invS (M := m_J13_compareToUTF16Values) (a := [.int (x2), .int (x3)]) ok_J16_min q2024 q1198 dJ13_compareToUTF16Values_2 (Nat.le_refl _) (Nat.zero_le _) rfl H (fun v1 h1 H => ?_) (fun n9 h9 H => zPx.out rfl H)
  obtain ⟨r1, rfl, H⟩ := H
  show zP s0 m_J13_compareToUTF16Values (d + 1) _ _ [.int (r1)] _ _ _
  refine z_istore (M := m_J13_compareToUTF16Values) 4 (zlt rfl) rfl dJ13_compareToUTF16Values_5 ?_
  show zP s0 m_J13_compareToUTF16Values (d + 1) _ [some (zr (x0)), some (zr (x1)), some (.int (x2)), some (.int (x3)), some (.int (r1)), none, none, none] _ _ _ _
  refine z_iconst (M := m_J13_compareToUTF16Values) (v := 0) (by decide) dJ13_compareToUTF16Values_7 ?_
  refine z_istore (M := m_J13_compareToUTF16Values) 5 (zlt rfl) rfl dJ13_compareToUTF16Values_8 ?_
  show zP s0 m_J13_compareToUTF16Values (d + 1) _ [some (zr (x0)), some (zr (x1)), some (.int (x2)), some (.int (x3)), some (.int (r1)), some (.int (0)), none, none] _ _ _ _
  exact H
theorem c_J13_compareToUTF16Values {s0 : zE} {d : Nat} {x0 : Nat} {x1 : Nat} {x2 : Int32} {x3 : Int32} {h : zH} {Q : Value → zH → Prop} {E : Nat → zH → Prop} (H : zX s0 m_J16_min d [.int (x2), .int (x3)] h (fun v1 h1 => ∃ r1 : Int32, v1 = .int (r1) ∧ (zP s0 m_J13_compareToUTF16Values (d + 1) 10 [some (zr (x0)), some (zr (x1)), some (.int (x2)), some (.int (x3)), some (.int (r1)), some (.int (0)), none, none] [] h1 Q E)) E) : zX s0 m_J13_compareToUTF16Values (d + 1) [zr (x0), zr (x1), .int (x2), .int (x3)] h Q E := zX.of2 rfl (by decide +kernel) (zlay_r (zlay_r (zlay_i (zlay_i (zlay_n (znoneS (znoneS (znoneS (znoneS znone0))))))))) (zle rfl) (b_J13_compareToUTF16Values_0 H)
theorem b_J13_compareToUTF16Values_10 {s0 : zE} {d : Nat} {x0 : Nat} {x1 : Nat} {x2 : Int32} {x3 : Int32} {x4 : Int32} {x5 : Int32} {h : zH} {Q : Value → zH → Prop} {E : Nat → zH → Prop} (H : (x4 ≤ x5 → (Q (.int (x2 - x3)) h)) ∧ (¬ x4 ≤ x5 → (zX s0 m_J13_getChar d [zr (x0), .int (x5)] h (fun v1 h1 => ∃ r1 : Int32, v1 = .int (r1) ∧ (zX s0 m_J22_getChar d [zr (x1), .int (x5)] h1 (fun v2 h2 => ∃ r2 : Int32, v2 = .int (r2) ∧ ((r1 = r2 → (zP s0 m_J13_compareToUTF16Values (d + 1) 10 [some (zr (x0)), some (zr (x1)), some (.int (x2)), some (.int (x3)), some (.int (x4)), some (.int (x5 + 1)), none, none] [] h2 Q E)) ∧ (¬ r1 = r2 → (Q (.int (r1 - r2)) h2)))) E)) E))) : zP s0 m_J13_compareToUTF16Values (d + 1) 10 [some (zr (x0)), some (zr (x1)), some (.int (x2)), some (.int (x3)), some (.int (x4)), some (.int (x5)), none, none] [] h Q E := by
  refine z_iload (M := m_J13_compareToUTF16Values) (i := 5) rfl dJ13_compareToUTF16Values_10 ?_
  refine z_iload (M := m_J13_compareToUTF16Values) (i := 4) rfl dJ13_compareToUTF16Values_12 ?_
  refine z_icmpge (M := m_J13_compareToUTF16Values) 52 rfl dJ13_compareToUTF16Values_14 (fun hc => ?_) (fun hc => ?_)
  · have H := H.1 hc
    refine z_iload_n (M := m_J13_compareToUTF16Values) (k := 2) rfl dJ13_compareToUTF16Values_52 ?_
    refine z_iload_n (M := m_J13_compareToUTF16Values) (k := 3) rfl dJ13_compareToUTF16Values_53 ?_
    refine z_isub (M := m_J13_compareToUTF16Values) dJ13_compareToUTF16Values_54 ?_
    exact z_ireturn (M := m_J13_compareToUTF16Values) rfl rfl dJ13_compareToUTF16Values_55 H
  · have H := H.2 hc
    refine z_aload_n (M := m_J13_compareToUTF16Values) (k := 0) rfl dJ13_compareToUTF16Values_17 ?_
    refine z_iload (M := m_J13_compareToUTF16Values) (i := 5) rfl dJ13_compareToUTF16Values_18 ?_
    refine z_invS (M := m_J13_compareToUTF16Values) (a := [zr (x0), .int (x5)]) ok_J13_getChar q2129 q2130 dJ13_compareToUTF16Values_20 (Nat.le_refl _) (Nat.zero_le _) rfl H (fun v1 h1 H => ?_) (fun n9 h9 H => zPx.out rfl H)
    obtain ⟨r1, rfl, H⟩ := H
    show zP s0 m_J13_compareToUTF16Values (d + 1) _ _ [.int (r1)] _ _ _
    refine z_istore (M := m_J13_compareToUTF16Values) 6 (zlt rfl) rfl dJ13_compareToUTF16Values_23 ?_
    show zP s0 m_J13_compareToUTF16Values (d + 1) _ [some (zr (x0)), some (zr (x1)), some (.int (x2)), some (.int (x3)), some (.int (x4)), some (.int (x5)), some (.int (r1)), none] _ _ _ _
    refine z_aload_n (M := m_J13_compareToUTF16Values) (k := 1) rfl dJ13_compareToUTF16Values_25 ?_
    refine z_iload (M := m_J13_compareToUTF16Values) (i := 5) rfl dJ13_compareToUTF16Values_26 ?_
    refine z_invS (M := m_J13_compareToUTF16Values) (a := [zr (x1), .int (x5)]) ok_J22_getChar q2149 q1477 dJ13_compareToUTF16Values_28 (Nat.le_refl _) (Nat.zero_le _) rfl H (fun v2 h2 H => ?_) (fun n9 h9 H => zPx.out rfl H)
    obtain ⟨r2, rfl, H⟩ := H
    show zP s0 m_J13_compareToUTF16Values (d + 1) _ _ [.int (r2)] _ _ _
    refine z_istore (M := m_J13_compareToUTF16Values) 7 (zlt rfl) rfl dJ13_compareToUTF16Values_31 ?_
    show zP s0 m_J13_compareToUTF16Values (d + 1) _ [some (zr (x0)), some (zr (x1)), some (.int (x2)), some (.int (x3)), some (.int (x4)), some (.int (x5)), some (.int (r1)), some (.int (r2))] _ _ _ _
    refine z_iload (M := m_J13_compareToUTF16Values) (i := 6) rfl dJ13_compareToUTF16Values_33 ?_
    refine z_iload (M := m_J13_compareToUTF16Values) (i := 7) rfl dJ13_compareToUTF16Values_35 ?_
    refine z_icmpeq (M := m_J13_compareToUTF16Values) 46 rfl dJ13_compareToUTF16Values_37 (fun hc => ?_) (fun hc => ?_)
    · have H := H.1 hc
      refine z_inc (M := m_J13_compareToUTF16Values) 5 (x5 + 1) 1 (by decide) rfl rfl rfl dJ13_compareToUTF16Values_46 ?_
      show zP s0 m_J13_compareToUTF16Values (d + 1) _ [some (zr (x0)), some (zr (x1)), some (.int (x2)), some (.int (x3)), some (.int (x4)), some (.int (x5 + 1)), some (.int (r1)), some (.int (r2))] _ _ _ _
      refine z_goto (M := m_J13_compareToUTF16Values) 10 rfl dJ13_compareToUTF16Values_49 ?_
      exact zP.weak (ls' := [some (zr (x0)), some (zr (x1)), some (.int (x2)), some (.int (x3)), some (.int (x4)), some (.int (x5 + 1)), none, none]) (zle rfl) (zsub_so (zsub_so (zsub_so (zsub_so (zsub_so (zsub_so (zsub_no (zsub_no zsub_nil)))))))) H
    · have H := H.2 hc
      refine z_iload (M := m_J13_compareToUTF16Values) (i := 6) rfl dJ13_compareToUTF16Values_40 ?_
      refine z_iload (M := m_J13_compareToUTF16Values) (i := 7) rfl dJ13_compareToUTF16Values_42 ?_
      refine z_isub (M := m_J13_compareToUTF16Values) dJ13_compareToUTF16Values_44 ?_
      exact z_ireturn (M := m_J13_compareToUTF16Values) rfl rfl dJ13_compareToUTF16Values_45 H
theorem b_J13_compareToUTF16_2_0 {s0 : zE} {d : Nat} {x0 : Nat} {x1 : Nat} {x2 : Int32} {x3 : Int32} {h : zH} {Q : Value → zH → Prop} {E : Nat → zH → Prop} (H : zX s0 m_J13_length d [zr (x0)] h (fun v1 h1 => ∃ r1 : Int32, v1 = .int (r1) ∧ (zX s0 m_J12_checkOffset d [.int (x2), .int (r1)] h1 (fun _ h2 => (zX s0 m_J22_length d [zr (x1)] h2 (fun v3 h3 => ∃ r2 : Int32, v3 = .int (r2) ∧ (zX s0 m_J12_checkOffset d [.int (x3), .int (r2)] h3 (fun _ h4 => (zX s0 m_J13_compareToUTF16Values d [zr (x0), zr (x1), .int (x2), .int (x3)] h4 (fun v5 h5 => ∃ r3 : Int32, v5 = .int (r3) ∧ (Q (.int r3) h5)) E)) E)) E)) E)) E) : zP s0 m_J13_compareToUTF16_2 (d + 1) 0 [some (zr (x0)), some (zr (x1)), some (.int (x2)), some (.int (x3))] [] h Q E := by
  refine z_iload_n (M := m_J13_compareToUTF16_2) (k := 2) rfl dJ13_compareToUTF16_2_0 ?_
  refine z_aload_n (M := m_J13_compareToUTF16_2) (k := 0) rfl dJ13_compareToUTF16_2_1 ?_
  refine z_invS (M := m_J13_compareToUTF16_2) (a := [zr (x0)]) ok_J13_length q2142 q2143 dJ13_compareToUTF16_2_2 (Nat.le_refl _) (Nat.le_trans (zcati zcat0) (zle rfl)) rfl H (fun v1 h1 H => ?_) (fun n9 h9 H => zPx.out rfl H)
  obtain ⟨r1, rfl, H⟩ := H
  show zP s0 m_J13_compareToUTF16_2 (d + 1) _ _ [.int (r1), .int (x2)] _ _ _
  refine z_invS (M := m_J13_compareToUTF16_2) (a := [.int (x2), .int (r1)]) ok_J12_checkOffset q2181 q2176 dJ13_compareToUTF16_2_5 (Nat.le_refl _) (Nat.zero_le _) rfl H (fun v2 h2 H => ?_) (fun n9 h9 H => zPx.out rfl H)
  show zP s0 m_J13_compareToUTF16_2 (d + 1) _ _ [] _ _ _
  refine z_iload_n (M := m_J13_compareToUTF16_2) (k := 3) rfl dJ13_compareToUTF16_2_8 ?_
  refine z_aload_n (M := m_J13_compareToUTF16_2) (k := 1) rfl dJ13_compareToUTF16_2_9 ?_
  refine z_invS (M := m_J13_compareToUTF16_2) (a := [zr (x1)]) ok_J22_length q2145 q1344 dJ13_compareToUTF16_2_10 (Nat.le_refl _) (Nat.le_trans (zcati zcat0) (zle rfl)) rfl H (fun v3 h3 H => ?_) (fun n9 h9 H => zPx.out rfl H)
  obtain ⟨r2, rfl, H⟩ := H
  show zP s0 m_J13_compareToUTF16_2 (d + 1) _ _ [.int (r2), .int (x3)] _ _ _
  refine z_invS (M := m_J13_compareToUTF16_2) (a := [.int (x3), .int (r2)]) ok_J12_checkOffset q2181 q2176 dJ13_compareToUTF16_2_13 (Nat.le_refl _) (Nat.zero_le _) rfl H (fun v4 h4 H => ?_) (fun n9 h9 H => zPx.out rfl H)
  show zP s0 m_J13_compareToUTF16_2 (d + 1) _ _ [] _ _ _
  refine z_aload_n (M := m_J13_compareToUTF16_2) (k := 0) rfl dJ13_compareToUTF16_2_16 ?_
  refine z_aload_n (M := m_J13_compareToUTF16_2) (k := 1) rfl dJ13_compareToUTF16_2_17 ?_
  refine z_iload_n (M := m_J13_compareToUTF16_2) (k := 2) rfl dJ13_compareToUTF16_2_18 ?_
  refine z_iload_n (M := m_J13_compareToUTF16_2) (k := 3) rfl dJ13_compareToUTF16_2_19 ?_
  refine z_invS (M := m_J13_compareToUTF16_2) (a := [zr (x0), zr (x1), .int (x2), .int (x3)]) ok_J13_compareToUTF16Values q2146 q2147 dJ13_compareToUTF16_2_20 (Nat.le_refl _) (Nat.zero_le _) rfl H (fun v5 h5 H => ?_) (fun n9 h9 H => zPx.out rfl H)
  obtain ⟨r3, rfl, H⟩ := H
  show zP s0 m_J13_compareToUTF16_2 (d + 1) _ _ [.int (r3)] _ _ _
  exact z_ireturn (M := m_J13_compareToUTF16_2) rfl rfl dJ13_compareToUTF16_2_23 H
theorem c_J13_compareToUTF16_2 {s0 : zE} {d : Nat} {x0 : Nat} {x1 : Nat} {x2 : Int32} {x3 : Int32} {h : zH} {Q : Value → zH → Prop} {E : Nat → zH → Prop} (H : zX s0 m_J13_length d [zr (x0)] h (fun v1 h1 => ∃ r1 : Int32, v1 = .int (r1) ∧ (zX s0 m_J12_checkOffset d [.int (x2), .int (r1)] h1 (fun _ h2 => (zX s0 m_J22_length d [zr (x1)] h2 (fun v3 h3 => ∃ r2 : Int32, v3 = .int (r2) ∧ (zX s0 m_J12_checkOffset d [.int (x3), .int (r2)] h3 (fun _ h4 => (zX s0 m_J13_compareToUTF16Values d [zr (x0), zr (x1), .int (x2), .int (x3)] h4 (fun v5 h5 => ∃ r3 : Int32, v5 = .int (r3) ∧ (Q (.int r3) h5)) E)) E)) E)) E)) E) : zX s0 m_J13_compareToUTF16_2 (d + 1) [zr (x0), zr (x1), .int (x2), .int (x3)] h Q E := zX.of2 rfl (by decide +kernel) (zlay_r (zlay_r (zlay_i (zlay_i (zlay_n znone0))))) (zle rfl) (b_J13_compareToUTF16_2_0 H)
theorem b_J13_compareTo_2_0 {s0 : zE} {d : Nat} {x0 : Nat} {x1 : Nat} {x2 : Int32} {x3 : Int32} {h : zH} {Q : Value → zH → Prop} {E : Nat → zH → Prop} (H : zX s0 m_J16_min d [.int (x2), .int (x3)] h (fun v1 h1 => ∃ r1 : Int32, v1 = .int (r1) ∧ (zX s0 m_J25_mismatch d [zr (x0), zr (x1), .int (r1)] h1 (fun v2 h2 => ∃ r2 : Int32, v2 = .int (r2) ∧ ((0 ≤ r2 → (zX s0 m_J13_getChar d [zr (x0), .int (r2)] h2 (fun v3 h3 => ∃ r3 : Int32, v3 = .int (r3) ∧ (zX s0 m_J13_getChar d [zr (x1), .int (r2)] h3 (fun v4 h4 => ∃ r4 : Int32, v4 = .int (r4) ∧ (Q (.int (r3 - r4)) h4)) E)) E)) ∧ (¬ 0 ≤ r2 → (Q (.int (x2 - x3)) h2)))) E)) E) : zP s0 m_J13_compareTo_2 (d + 1) 0 [some (zr (x0)), some (zr (x1)), some (.int (x2)), some (.int (x3)), none, none] [] h Q E := by
  refine z_iload_n (M := m_J13_compareTo_2) (k := 2) rfl dJ13_compareTo_2_0 ?_
  refine z_iload_n (M := m_J13_compareTo_2) (k := 3) rfl dJ13_compareTo_2_1 ?_
  refine z_invS (M := m_J13_compareTo_2) (a := [.int (x2), .int (x3)]) ok_J16_min q2024 q1198 dJ13_compareTo_2_2 (Nat.le_refl _) (Nat.zero_le _) rfl H (fun v1 h1 H => ?_) (fun n9 h9 H => zPx.out rfl H)
  obtain ⟨r1, rfl, H⟩ := H
  show zP s0 m_J13_compareTo_2 (d + 1) _ _ [.int (r1)] _ _ _
  refine z_istore (M := m_J13_compareTo_2) 4 (zlt rfl) rfl dJ13_compareTo_2_5 ?_
  show zP s0 m_J13_compareTo_2 (d + 1) _ [some (zr (x0)), some (zr (x1)), some (.int (x2)), some (.int (x3)), some (.int (r1)), none] _ _ _ _
  refine z_aload_n (M := m_J13_compareTo_2) (k := 0) rfl dJ13_compareTo_2_7 ?_
  refine z_aload_n (M := m_J13_compareTo_2) (k := 1) rfl dJ13_compareTo_2_8 ?_
  refine z_iload (M := m_J13_compareTo_2) (i := 4) rfl dJ13_compareTo_2_9 ?_
  refine z_invS (M := m_J13_compareTo_2) (a := [zr (x0), zr (x1), .int (r1)]) ok_J25_mismatch q2025 q2026 dJ13_compareTo_2_11 (Nat.le_refl _) (Nat.zero_le _) rfl H (fun v2 h2 H => ?_) (fun n9 h9 H => zPx.out rfl H)
  obtain ⟨r2, rfl, H⟩ := H
  show zP s0 m_J13_compareTo_2 (d + 1) _ _ [.int (r2)] _ _ _
  refine z_istore (M := m_J13_compareTo_2) 5 (zlt rfl) rfl dJ13_compareTo_2_14 ?_
  show zP s0 m_J13_compareTo_2 (d + 1) _ [some (zr (x0)), some (zr (x1)), some (.int (x2)), some (.int (x3)), some (.int (r1)), some (.int (r2))] _ _ _ _
  refine z_iload (M := m_J13_compareTo_2) (i := 5) rfl dJ13_compareTo_2_16 ?_
  refine z_ifge (M := m_J13_compareTo_2) 27 rfl dJ13_compareTo_2_18 (fun hc => ?_) (fun hc => ?_)
  · have H := H.1 hc
    refine z_aload_n (M := m_J13_compareTo_2) (k := 0) rfl dJ13_compareTo_2_27 ?_
    refine z_iload (M := m_J13_compareTo_2) (i := 5) rfl dJ13_compareTo_2_28 ?_
    refine z_invS (M := m_J13_compareTo_2) (a := [zr (x0), .int (r2)]) ok_J13_getChar q2129 q2130 dJ13_compareTo_2_30 (Nat.le_refl _) (Nat.zero_le _) rfl H (fun v3 h3 H => ?_) (fun n9 h9 H => zPx.out rfl H)
    obtain ⟨r3, rfl, H⟩ := H
    show zP s0 m_J13_compareTo_2 (d + 1) _ _ [.int (r3)] _ _ _
    refine z_aload_n (M := m_J13_compareTo_2) (k := 1) rfl dJ13_compareTo_2_33 ?_
    refine z_iload (M := m_J13_compareTo_2) (i := 5) rfl dJ13_compareTo_2_34 ?_
    refine z_invS (M := m_J13_compareTo_2) (a := [zr (x1), .int (r2)]) ok_J13_getChar q2129 q2130 dJ13_compareTo_2_36 (Nat.le_refl _) (Nat.le_trans (zcati zcat0) (zle rfl)) rfl H (fun v4 h4 H => ?_) (fun n9 h9 H => zPx.out rfl H)
    obtain ⟨r4, rfl, H⟩ := H
    show zP s0 m_J13_compareTo_2 (d + 1) _ _ [.int (r4), .int (r3)] _ _ _
    refine z_isub (M := m_J13_compareTo_2) dJ13_compareTo_2_39 ?_
    exact z_ireturn (M := m_J13_compareTo_2) rfl rfl dJ13_compareTo_2_40 H
  · have H := H.2 hc
    refine z_iload_n (M := m_J13_compareTo_2) (k := 2) rfl dJ13_compareTo_2_21 ?_
    refine z_iload_n (M := m_J13_compareTo_2) (k := 3) rfl dJ13_compareTo_2_22 ?_
    refine z_isub (M := m_J13_compareTo_2) dJ13_compareTo_2_23 ?_
    refine z_goto (M := m_J13_compareTo_2) 40 rfl dJ13_compareTo_2_24 ?_
    exact z_ireturn (M := m_J13_compareTo_2) rfl rfl dJ13_compareTo_2_40 H
theorem c_J13_compareTo_2 {s0 : zE} {d : Nat} {x0 : Nat} {x1 : Nat} {x2 : Int32} {x3 : Int32} {h : zH} {Q : Value → zH → Prop} {E : Nat → zH → Prop} (H : zX s0 m_J16_min d [.int (x2), .int (x3)] h (fun v1 h1 => ∃ r1 : Int32, v1 = .int (r1) ∧ (zX s0 m_J25_mismatch d [zr (x0), zr (x1), .int (r1)] h1 (fun v2 h2 => ∃ r2 : Int32, v2 = .int (r2) ∧ ((0 ≤ r2 → (zX s0 m_J13_getChar d [zr (x0), .int (r2)] h2 (fun v3 h3 => ∃ r3 : Int32, v3 = .int (r3) ∧ (zX s0 m_J13_getChar d [zr (x1), .int (r2)] h3 (fun v4 h4 => ∃ r4 : Int32, v4 = .int (r4) ∧ (Q (.int (r3 - r4)) h4)) E)) E)) ∧ (¬ 0 ≤ r2 → (Q (.int (x2 - x3)) h2)))) E)) E) : zX s0 m_J13_compareTo_2 (d + 1) [zr (x0), zr (x1), .int (x2), .int (x3)] h Q E := zX.of2 rfl (by decide +kernel) (zlay_r (zlay_r (zlay_i (zlay_i (zlay_n (znoneS (znoneS znone0))))))) (zle rfl) (b_J13_compareTo_2_0 H)
theorem b_J13_equals_0 {s0 : zE} {d : Nat} {x0 : Nat} {x1 : Nat} {h : zH} {Q : Value → zH → Prop} {E : Nat → zH → Prop} (H : (fC h x0 1000) ∧ ((fC h x1 1000) ∧ ((¬ Int32.ofNat (gA h x0).length = Int32.ofNat (gA h x1).length → (Q (.int 0) h)) ∧ (Int32.ofNat (gA h x0).length = Int32.ofNat (gA h x1).length → (zP s0 m_J13_equals d 9 [some (zr (x0)), some (zr (x1)), some (.int (0))] [] h Q E))))) : zP s0 m_J13_equals d 0 [some (zr (x0)), some (zr (x1)), none] [] h Q E := by
  refine z_aload_n (M := m_J13_equals) (k := 0) rfl dJ13_equals_0 ?_
  obtain ⟨g, H⟩ := H
  refine z_len (M := m_J13_equals) (t := 0) rfl dJ13_equals_1 g ?_
  refine z_aload_n (M := m_J13_equals) (k := 1) rfl dJ13_equals_2 ?_
  obtain ⟨g, H⟩ := H
  refine z_len (M := m_J13_equals) (t := 0) rfl dJ13_equals_3 g ?_
  refine z_icmpne (M := m_J13_equals) 34 rfl dJ13_equals_4 (fun hc => ?_) (fun hc => ?_)
  · have H := H.1 hc
    refine z_iconst (M := m_J13_equals) (v := 0) (by decide) dJ13_equals_34 ?_
    exact z_ireturn (M := m_J13_equals) rfl rfl dJ13_equals_35 H
  · have H := H.2 hc
    refine z_iconst (M := m_J13_equals) (v := 0) (by decide) dJ13_equals_7 ?_
    refine z_istore_n (M := m_J13_equals) (k := 2) 2 rfl (zlt rfl) (zr_cat _) dJ13_equals_8 ?_
    show zP s0 m_J13_equals d _ [some (zr (x0)), some (zr (x1)), some (.int (0))] _ _ _ _
    exact H
theorem c_J13_equals {s0 : zE} {d : Nat} {x0 : Nat} {x1 : Nat} {h : zH} {Q : Value → zH → Prop} {E : Nat → zH → Prop} (H : (fC h x0 1000) ∧ ((fC h x1 1000) ∧ ((¬ Int32.ofNat (gA h x0).length = Int32.ofNat (gA h x1).length → (Q (.int 0) h)) ∧ (Int32.ofNat (gA h x0).length = Int32.ofNat (gA h x1).length → (zP s0 m_J13_equals d 9 [some (zr (x0)), some (zr (x1)), some (.int (0))] [] h Q E))))) : zX s0 m_J13_equals d [zr (x0), zr (x1)] h Q E := zX.of2 rfl (by decide +kernel) (zlay_r (zlay_r (zlay_n (znoneS znone0)))) (zle rfl) (b_J13_equals_0 H)
theorem b_J13_equals_9 {s0 : zE} {d : Nat} {x0 : Nat} {x1 : Nat} {x2 : Int32} {h : zH} {Q : Value → zH → Prop} {E : Nat → zH → Prop} (H : (fC h x0 1000) ∧ ((Int32.ofNat (gA h x0).length ≤ x2 → (Q (.int 1) h)) ∧ (¬ Int32.ofNat (gA h x0).length ≤ x2 → ((fE h x0 0 x2 (.int (eI h x0 x2))) ∧ ((fE h x1 0 x2 (.int (eI h x1 x2))) ∧ ((eI h x0 x2 = eI h x1 x2 → (zP s0 m_J13_equals d 9 [some (zr (x0)), some (zr (x1)), some (.int (x2 + 1))] [] h Q E)) ∧ (¬ eI h x0 x2 = eI h x1 x2 → (Q (.int 0) h)))))))) : zP s0 m_J13_equals d 9 [some (zr (x0)), some (zr (x1)), some (.int (x2))] [] h Q E := by
  refine z_iload_n (M := m_J13_equals) (k := 2) rfl dJ13_equals_9 ?_
  refine z_aload_n (M := m_J13_equals) (k := 0) rfl dJ13_equals_10 ?_
  obtain ⟨g, H⟩ := H
  refine z_len (M := m_J13_equals) (t := 0) rfl dJ13_equals_11 g ?_
  refine z_icmpge (M := m_J13_equals) 32 rfl dJ13_equals_12 (fun hc => ?_) (fun hc => ?_)
  · have H := H.1 hc
    refine z_iconst (M := m_J13_equals) (v := 1) (by decide) dJ13_equals_32 ?_
    exact z_ireturn (M := m_J13_equals) rfl rfl dJ13_equals_33 H
  · have H := H.2 hc
    refine z_aload_n (M := m_J13_equals) (k := 0) rfl dJ13_equals_15 ?_
    refine z_iload_n (M := m_J13_equals) (k := 2) rfl dJ13_equals_16 ?_
    obtain ⟨g, H⟩ := H
    refine z_ildB (M := m_J13_equals) dJ13_equals_17 g ?_
    refine z_aload_n (M := m_J13_equals) (k := 1) rfl dJ13_equals_18 ?_
    refine z_iload_n (M := m_J13_equals) (k := 2) rfl dJ13_equals_19 ?_
    obtain ⟨g, H⟩ := H
    refine z_ildB (M := m_J13_equals) dJ13_equals_20 g ?_
    refine z_icmpeq (M := m_J13_equals) 26 rfl dJ13_equals_21 (fun hc => ?_) (fun hc => ?_)
    · have H := H.1 hc
      refine z_inc (M := m_J13_equals) 2 (x2 + 1) 1 (by decide) rfl rfl (zr_cat _) dJ13_equals_26 ?_
      show zP s0 m_J13_equals d _ [some (zr (x0)), some (zr (x1)), some (.int (x2 + 1))] _ _ _ _
      refine z_goto (M := m_J13_equals) 9 rfl dJ13_equals_29 ?_
      exact H
    · have H := H.2 hc
      refine z_iconst (M := m_J13_equals) (v := 0) (by decide) dJ13_equals_24 ?_
      exact z_ireturn (M := m_J13_equals) rfl rfl dJ13_equals_25 H
theorem b_J13_getChar_0 {s0 : zE} {d : Nat} {x0 : Nat} {x1 : Int32} {h : zH} {Q : Value → zH → Prop} {E : Nat → zH → Prop} (H : (fE h x0 0 x1 (.int (eI h x0 x1))) ∧ ((narrow .char (.int ((((eI h x0 x1) &&& 255).toUInt32 % 65536).toInt32)) = .int ((((eI h x0 x1) &&& 255).toUInt32 % 65536).toInt32)) ∧ (Q (.int ((((eI h x0 x1) &&& 255).toUInt32 % 65536).toInt32)) h))) : zP s0 m_J13_getChar d 0 [some (zr (x0)), some (.int (x1))] [] h Q E := by
  refine z_aload_n (M := m_J13_getChar) (k := 0) rfl dJ13_getChar_0 ?_
  refine z_iload_n (M := m_J13_getChar) (k := 1) rfl dJ13_getChar_1 ?_
  obtain ⟨g, H⟩ := H
  refine z_ildB (M := m_J13_getChar) dJ13_getChar_2 g ?_
  refine z_sipush (M := m_J13_getChar) (v := 255) (by decide) dJ13_getChar_3 ?_
  refine z_iand (M := m_J13_getChar) dJ13_getChar_6 ?_
  refine z_i2c (M := m_J13_getChar) dJ13_getChar_7 ?_
  obtain ⟨g, H⟩ := H
  exact z_ireturn (M := m_J13_getChar) rfl g dJ13_getChar_8 H
theorem c_J13_getChar {s0 : zE} {d : Nat} {x0 : Nat} {x1 : Int32} {h : zH} {Q : Value → zH → Prop} {E : Nat → zH → Prop} (H : (fE h x0 0 x1 (.int (eI h x0 x1))) ∧ ((narrow .char (.int ((((eI h x0 x1) &&& 255).toUInt32 % 65536).toInt32)) = .int ((((eI h x0 x1) &&& 255).toUInt32 % 65536).toInt32)) ∧ (Q (.int ((((eI h x0 x1) &&& 255).toUInt32 % 65536).toInt32)) h))) : zX s0 m_J13_getChar d [zr (x0), .int (x1)] h Q E := zX.of2 rfl (by decide +kernel) (zlay_r (zlay_i (zlay_n znone0))) (zle rfl) (b_J13_getChar_0 H)
theorem b_J13_hashCode_0 {s0 : zE} {d : Nat} {x0 : Nat} {h : zH} {Q : Value → zH → Prop} {E : Nat → zH → Prop} (H : (fC h x0 1000) ∧ ((Int32.ofNat (gA h x0).length = 0 → (Q (.int 0) h)) ∧ (¬ Int32.ofNat (gA h x0).length = 0 → ((Int32.ofNat (gA h x0).length = 1 → ((fE h x0 0 0 (.int (eI h x0 0))) ∧ (Q (.int ((eI h x0 0) &&& 255)) h))) ∧ (¬ Int32.ofNat (gA h x0).length = 1 → ((fC h x0 1000) ∧ (zX s0 m_J25_vectorizedHashCode d [zr (x0), .int (0), .int (Int32.ofNat (gA h x0).length), .int (0), .int (4)] h (fun v1 h1 => ∃ r1 : Int32, v1 = .int (r1) ∧ (Q (.int r1) h1)) E))))))) : zP s0 m_J13_hashCode (d + 1) 0 [some (zr (x0))] [] h Q E := by
  refine z_aload_n (M := m_J13_hashCode) (k := 0) rfl dJ13_hashCode_0 ?_
  obtain ⟨g, H⟩ := H
  refine z_len (M := m_J13_hashCode) (t := 0) rfl dJ13_hashCode_1 g ?_
  refine dite (Int32.ofNat (gA h x0).length = 0) (fun e0 => ?_) (fun e0 => ?_)
  · have H := H.1 e0
    refine z_lookup (M := m_J13_hashCode) (off := 26) 28 dJ13_hashCode_2 (by decide) (by rw [e0]; rfl) rfl ?_
    refine z_iconst (M := m_J13_hashCode) (v := 0) (by decide) dJ13_hashCode_28 ?_
    refine z_goto (M := m_J13_hashCode) 51 rfl dJ13_hashCode_29 ?_
    exact z_ireturn (M := m_J13_hashCode) rfl rfl dJ13_hashCode_51 H
  · have H := H.2 e0
    refine dite (Int32.ofNat (gA h x0).length = 1) (fun e1 => ?_) (fun e1 => ?_)
    · have H := H.1 e1
      refine z_lookup (M := m_J13_hashCode) (off := 30) 32 dJ13_hashCode_2 (by decide) (by rw [e1]; rfl) rfl ?_
      refine z_aload_n (M := m_J13_hashCode) (k := 0) rfl dJ13_hashCode_32 ?_
      refine z_iconst (M := m_J13_hashCode) (v := 0) (by decide) dJ13_hashCode_33 ?_
      obtain ⟨g, H⟩ := H
      refine z_ildB (M := m_J13_hashCode) dJ13_hashCode_34 g ?_
      refine z_sipush (M := m_J13_hashCode) (v := 255) (by decide) dJ13_hashCode_35 ?_
      refine z_iand (M := m_J13_hashCode) dJ13_hashCode_38 ?_
      refine z_goto (M := m_J13_hashCode) 51 rfl dJ13_hashCode_39 ?_
      exact z_ireturn (M := m_J13_hashCode) rfl rfl dJ13_hashCode_51 H
    · have H := H.2 e1
      refine z_lookup (M := m_J13_hashCode) (off := 40) 42 dJ13_hashCode_2 (by decide) (by simp only [List.toList_toArray]; rw [lookupswitch.offset_cons, if_neg (show ¬ (0 : Int) = (Int32.ofNat (gA h x0).length).toInt from zsw_ne e0), lookupswitch.offset_cons, if_neg (show ¬ (1 : Int) = (Int32.ofNat (gA h x0).length).toInt from zsw_ne e1), lookupswitch.offset_nil]) rfl ?_
      refine z_aload_n (M := m_J13_hashCode) (k := 0) rfl dJ13_hashCode_42 ?_
      refine z_iconst (M := m_J13_hashCode) (v := 0) (by decide) dJ13_hashCode_43 ?_
      refine z_aload_n (M := m_J13_hashCode) (k := 0) rfl dJ13_hashCode_44 ?_
      obtain ⟨g, H⟩ := H
      refine z_len (M := m_J13_hashCode) (t := 0) rfl dJ13_hashCode_45 g ?_
      refine z_iconst (M := m_J13_hashCode) (v := 0) (by decide) dJ13_hashCode_46 ?_
      refine z_iconst (M := m_J13_hashCode) (v := 4) (by decide) dJ13_hashCode_47 ?_
      refine z_invS (M := m_J13_hashCode) (a := [zr (x0), .int (0), .int (Int32.ofNat (gA h x0).length), .int (0), .int (4)]) ok_J25_vectorizedHashCode q2419 q2420 dJ13_hashCode_48 (Nat.le_refl _) (Nat.zero_le _) rfl H (fun v1 h1 H => ?_) (fun n9 h9 H => zPx.out rfl H)
      obtain ⟨r1, rfl, H⟩ := H
      show zP s0 m_J13_hashCode (d + 1) _ _ [.int (r1)] _ _ _
      exact z_ireturn (M := m_J13_hashCode) rfl rfl dJ13_hashCode_51 H
theorem c_J13_hashCode {s0 : zE} {d : Nat} {x0 : Nat} {h : zH} {Q : Value → zH → Prop} {E : Nat → zH → Prop} (H : (fC h x0 1000) ∧ ((Int32.ofNat (gA h x0).length = 0 → (Q (.int 0) h)) ∧ (¬ Int32.ofNat (gA h x0).length = 0 → ((Int32.ofNat (gA h x0).length = 1 → ((fE h x0 0 0 (.int (eI h x0 0))) ∧ (Q (.int ((eI h x0 0) &&& 255)) h))) ∧ (¬ Int32.ofNat (gA h x0).length = 1 → ((fC h x0 1000) ∧ (zX s0 m_J25_vectorizedHashCode d [zr (x0), .int (0), .int (Int32.ofNat (gA h x0).length), .int (0), .int (4)] h (fun v1 h1 => ∃ r1 : Int32, v1 = .int (r1) ∧ (Q (.int r1) h1)) E))))))) : zX s0 m_J13_hashCode (d + 1) [zr (x0)] h Q E := zX.of2 rfl (by decide +kernel) (zlay_r (zlay_n znone0)) (zle rfl) (b_J13_hashCode_0 H)
theorem b_J13_inflate_0 {s0 : zE} {d : Nat} {x0 : Nat} {x1 : Int32} {x2 : Nat} {x3 : Int32} {x4 : Int32} {h : zH} {Q : Value → zH → Prop} {E : Nat → zH → Prop} (H : zX s0 m_J22_inflate d [zr (x0), .int (x1), zr (x2), .int (x3), .int (x4)] h (fun _ h1 => (Q .null h1)) E) : zP s0 m_J13_inflate (d + 1) 0 [some (zr (x0)), some (.int (x1)), some (zr (x2)), some (.int (x3)), some (.int (x4))] [] h Q E := by
  refine z_aload_n (M := m_J13_inflate) (k := 0) rfl dJ13_inflate_0 ?_
  refine z_iload_n (M := m_J13_inflate) (k := 1) rfl dJ13_inflate_1 ?_
  refine z_aload_n (M := m_J13_inflate) (k := 2) rfl dJ13_inflate_2 ?_
  refine z_iload_n (M := m_J13_inflate) (k := 3) rfl dJ13_inflate_3 ?_
  refine z_iload (M := m_J13_inflate) (i := 4) rfl dJ13_inflate_4 ?_
  refine z_invS (M := m_J13_inflate) (a := [zr (x0), .int (x1), zr (x2), .int (x3), .int (x4)]) ok_J22_inflate q1407 q1408 dJ13_inflate_6 (Nat.le_refl _) (Nat.zero_le _) rfl H (fun v1 h1 H => ?_) (fun n9 h9 H => zPx.out rfl H)
  show zP s0 m_J13_inflate (d + 1) _ _ [] _ _ _
  exact z_return (M := m_J13_inflate) rfl dJ13_inflate_9 H
theorem c_J13_inflate {s0 : zE} {d : Nat} {x0 : Nat} {x1 : Int32} {x2 : Nat} {x3 : Int32} {x4 : Int32} {h : zH} {Q : Value → zH → Prop} {E : Nat → zH → Prop} (H : zX s0 m_J22_inflate d [zr (x0), .int (x1), zr (x2), .int (x3), .int (x4)] h (fun _ h1 => (Q .null h1)) E) : zX s0 m_J13_inflate (d + 1) [zr (x0), .int (x1), zr (x2), .int (x3), .int (x4)] h Q E := zX.of2 rfl (by decide +kernel) (zlay_r (zlay_i (zlay_r (zlay_i (zlay_i (zlay_n znone0)))))) (zle rfl) (b_J13_inflate_0 H)
theorem b_J13_length_0 {s0 : zE} {d : Nat} {x0 : Nat} {h : zH} {Q : Value → zH → Prop} {E : Nat → zH → Prop} (H : (fC h x0 1000) ∧ (Q (.int (Int32.ofNat (gA h x0).length)) h)) : zP s0 m_J13_length d 0 [some (zr (x0))] [] h Q E := by
  refine z_aload_n (M := m_J13_length) (k := 0) rfl dJ13_length_0 ?_
  obtain ⟨g, H⟩ := H
  refine z_len (M := m_J13_length) (t := 0) rfl dJ13_length_1 g ?_
  exact z_ireturn (M := m_J13_length) rfl rfl dJ13_length_2 H
theorem c_J13_length {s0 : zE} {d : Nat} {x0 : Nat} {h : zH} {Q : Value → zH → Prop} {E : Nat → zH → Prop} (H : (fC h x0 1000) ∧ (Q (.int (Int32.ofNat (gA h x0).length)) h)) : zX s0 m_J13_length d [zr (x0)] h Q E := zX.of2 rfl (by decide +kernel) (zlay_r (zlay_n znone0)) (zle rfl) (b_J13_length_0 H)
theorem b_J14_init_0 {s0 : zE} {d : Nat} {x0 : Nat} {h : zH} {Q : Value → zH → Prop} {E : Nat → zH → Prop} (H : (∃ c, fC h x0 c) ∧ (Q .null h)) : zP s0 m_J14_init (d + 1) 0 [some (zr (x0))] [] h Q E := by
  refine z_aload_n (M := m_J14_init) (k := 0) rfl dJ14_init_0 ?_
  obtain ⟨⟨c9, g⟩, H⟩ := H
  refine zz_objInit (M := m_J14_init) q1078 dJ14_init_1 g (Nat.zero_le _) ?_
  exact z_return (M := m_J14_init) rfl dJ14_init_4 H
theorem c_J14_init {s0 : zE} {d : Nat} {x0 : Nat} {h : zH} {Q : Value → zH → Prop} {E : Nat → zH → Prop} (H : (∃ c, fC h x0 c) ∧ (Q .null h)) : zX s0 m_J14_init (d + 1) [zr (x0)] h Q E := zX.of2 rfl (by decide +kernel) (zlay_r (zlay_n znone0)) (zle rfl) (b_J14_init_0 H)
theorem b_J15_checkLength_0 {s0 : zE} {d : Nat} {x0 : Int32} {x1 : Int32} {h : zH} {Q : Value → zH → Prop} {E : Nat → zH → Prop} (H : (x0 ≤ x1 → (Q .null h)) ∧ (¬ x0 ≤ x1 → (False))) : zP s0 m_J15_checkLength (d + 1) 0 [some (.int (x0)), some (.int (x1))] [] h Q E := by
  refine z_iload_n (M := m_J15_checkLength) (k := 1) rfl dJ15_checkLength_0 ?_
  refine z_iload_n (M := m_J15_checkLength) (k := 0) rfl dJ15_checkLength_1 ?_
  refine z_icmpge (M := m_J15_checkLength) 37 rfl dJ15_checkLength_2 (fun hc => ?_) (fun hc => ?_)
  · have H := H.1 hc
    exact z_return (M := m_J15_checkLength) rfl dJ15_checkLength_37 H
  · have H := H.2 hc
    exact H.elim
theorem c_J15_checkLength {s0 : zE} {d : Nat} {x0 : Int32} {x1 : Int32} {h : zH} {Q : Value → zH → Prop} {E : Nat → zH → Prop} (H : (x0 ≤ x1 → (Q .null h)) ∧ (¬ x0 ≤ x1 → (False))) : zX s0 m_J15_checkLength (d + 1) [.int (x0), .int (x1)] h Q E := zX.of2 rfl (by decide +kernel) (zlay_i (zlay_i (zlay_n znone0))) (zle rfl) (b_J15_checkLength_0 H)
theorem b_J16_max_0 {s0 : zE} {d : Nat} {x0 : Int32} {x1 : Int32} {h : zH} {Q : Value → zH → Prop} {E : Nat → zH → Prop} (H : (x0 < x1 → (Q (.int x1) h)) ∧ (¬ x0 < x1 → (Q (.int x0) h))) : zP s0 m_J16_max d 0 [some (.int (x0)), some (.int (x1))] [] h Q E := by
  refine z_iload_n (M := m_J16_max) (k := 0) rfl dJ16_max_0 ?_
  refine z_iload_n (M := m_J16_max) (k := 1) rfl dJ16_max_1 ?_
  refine z_icmplt (M := m_J16_max) 9 rfl dJ16_max_2 (fun hc => ?_) (fun hc => ?_)
  · have H := H.1 hc
    refine z_iload_n (M := m_J16_max) (k := 1) rfl dJ16_max_9 ?_
    exact z_ireturn (M := m_J16_max) rfl rfl dJ16_max_10 H
  · have H := H.2 hc
    refine z_iload_n (M := m_J16_max) (k := 0) rfl dJ16_max_5 ?_
    refine z_goto (M := m_J16_max) 10 rfl dJ16_max_6 ?_
    exact z_ireturn (M := m_J16_max) rfl rfl dJ16_max_10 H
theorem c_J16_max {s0 : zE} {d : Nat} {x0 : Int32} {x1 : Int32} {h : zH} {Q : Value → zH → Prop} {E : Nat → zH → Prop} (H : (x0 < x1 → (Q (.int x1) h)) ∧ (¬ x0 < x1 → (Q (.int x0) h))) : zX s0 m_J16_max d [.int (x0), .int (x1)] h Q E := zX.ofF rfl (by decide +kernel) (zlay_i (zlay_i (zlay_n znone0))) (zle rfl) (b_J16_max_0 H)
theorem b_J16_min_0 {s0 : zE} {d : Nat} {x0 : Int32} {x1 : Int32} {h : zH} {Q : Value → zH → Prop} {E : Nat → zH → Prop} (H : (x1 < x0 → (Q (.int x1) h)) ∧ (¬ x1 < x0 → (Q (.int x0) h))) : zP s0 m_J16_min d 0 [some (.int (x0)), some (.int (x1))] [] h Q E := by
  refine z_iload_n (M := m_J16_min) (k := 0) rfl dJ16_min_0 ?_
  refine z_iload_n (M := m_J16_min) (k := 1) rfl dJ16_min_1 ?_
  refine z_icmpgt (M := m_J16_min) 9 rfl dJ16_min_2 (fun hc => ?_) (fun hc => ?_)
  · have H := H.1 hc
    refine z_iload_n (M := m_J16_min) (k := 1) rfl dJ16_min_9 ?_
    exact z_ireturn (M := m_J16_min) rfl rfl dJ16_min_10 H
  · have H := H.2 hc
    refine z_iload_n (M := m_J16_min) (k := 0) rfl dJ16_min_5 ?_
    refine z_goto (M := m_J16_min) 10 rfl dJ16_min_6 ?_
    exact z_ireturn (M := m_J16_min) rfl rfl dJ16_min_10 H
theorem c_J16_min {s0 : zE} {d : Nat} {x0 : Int32} {x1 : Int32} {h : zH} {Q : Value → zH → Prop} {E : Nat → zH → Prop} (H : (x1 < x0 → (Q (.int x1) h)) ∧ (¬ x1 < x0 → (Q (.int x0) h))) : zX s0 m_J16_min d [.int (x0), .int (x1)] h Q E := zX.ofF rfl (by decide +kernel) (zlay_i (zlay_i (zlay_n znone0))) (zle rfl) (b_J16_min_0 H)
theorem b_J16_min_2_0 {s0 : zE} {d : Nat} {x0 : Int64} {x2 : Int64} {h : zH} {Q : Value → zH → Prop} {E : Nat → zH → Prop} (H : (0 < lg_cmp x0 x2 → (Q (.long x2) h)) ∧ (¬ 0 < lg_cmp x0 x2 → (Q (.long x0) h))) : zP s0 m_J16_min_2 d 0 [some (.long (x0)), none, some (.long (x2)), none] [] h Q E := by
  refine z_lload_n (M := m_J16_min_2) (k := 0) rfl dJ16_min_2_0 ?_
  refine z_lload_n (M := m_J16_min_2) (k := 2) rfl dJ16_min_2_1 ?_
  refine z_lcmp (M := m_J16_min_2) dJ16_min_2_2 ?_
  refine z_ifgt (M := m_J16_min_2) 10 rfl dJ16_min_2_3 (fun hc => ?_) (fun hc => ?_)
  · have H := H.1 hc
    refine z_lload_n (M := m_J16_min_2) (k := 2) rfl dJ16_min_2_10 ?_
    exact z_lreturn (M := m_J16_min_2) rfl dJ16_min_2_11 H
  · have H := H.2 hc
    refine z_lload_n (M := m_J16_min_2) (k := 0) rfl dJ16_min_2_6 ?_
    refine z_goto (M := m_J16_min_2) 11 rfl dJ16_min_2_7 ?_
    exact z_lreturn (M := m_J16_min_2) rfl dJ16_min_2_11 H
theorem c_J16_min_2 {s0 : zE} {d : Nat} {x0 : Int64} {x2 : Int64} {h : zH} {Q : Value → zH → Prop} {E : Nat → zH → Prop} (H : (0 < lg_cmp x0 x2 → (Q (.long x2) h)) ∧ (¬ 0 < lg_cmp x0 x2 → (Q (.long x0) h))) : zX s0 m_J16_min_2 d [.long (x0), .long (x2)] h Q E := zX.ofF rfl (by decide +kernel) (zlay_j (zlay_j (zlay_n znone0))) (zle rfl) (b_J16_min_2_0 H)
theorem b_J17_init_0 {s0 : zE} {d : Nat} {x0 : Nat} {x1 : Nat} {x2 : Int32} {h : zH} {Q : Value → zH → Prop} {E : Nat → zH → Prop} (H : (fC h x0 49) ∧ (∀ h1, h1 = zput h x0 1 (zr (x1)) → ((∃ c, fC h1 x0 c) ∧ (zX s0 m_J3_init d [zr x0] h1 (fun _ h2 => ((x2 = 0 ∨ x2 = 1) ∧ ((fC h2 x0 49) ∧ (∀ h3, h3 = zput h2 x0 0 (.int (x2)) → (Q .null h3))))) E)))) : zP s0 m_J17_init (d + 1) 0 [some (zr (x0)), some (zr (x1)), some (.int (x2))] [] h Q E := by
  refine z_aload_n (M := m_J17_init) (k := 0) rfl dJ17_init_0 ?_
  refine z_aload_n (M := m_J17_init) (k := 1) rfl dJ17_init_1 ?_
  obtain ⟨g, H⟩ := H
  refine zz_put (M := m_J17_init) f_J17_1 dJ17_init_2 rfl (⟨_, rfl, Or.inr ⟨rfl, rfl, rfl, q1217⟩⟩) g (ft_49_1) (fun h1 e => ?_)
  have H := H h1 e
  refine z_aload_n (M := m_J17_init) (k := 0) rfl dJ17_init_5 ?_
  obtain ⟨⟨c9, g⟩, H⟩ := H
  refine zz_invI (M := m_J17_init) (a := []) ok_J3_init rfl rfl q1215 q422 dJ17_init_6 g (Nat.zero_le _) rfl H (fun v1 h2 H => ?_) (fun n9 h9 H => zPx.out rfl H)
  refine z_aload_n (M := m_J17_init) (k := 0) rfl dJ17_init_9 ?_
  refine z_iload_n (M := m_J17_init) (k := 2) rfl dJ17_init_10 ?_
  obtain ⟨gz, H⟩ := H
  obtain ⟨g, H⟩ := H
  refine zz_put (M := m_J17_init) f_J17_13 dJ17_init_11 rfl (⟨_, rfl, Or.inr ⟨rfl, rfl, rfl, q1216⟩⟩) g (ft_49_0 gz) (fun h3 e => ?_)
  have H := H h3 e
  exact z_return (M := m_J17_init) rfl dJ17_init_14 H
theorem c_J17_init {s0 : zE} {d : Nat} {x0 : Nat} {x1 : Nat} {x2 : Int32} {h : zH} {Q : Value → zH → Prop} {E : Nat → zH → Prop} (H : (fC h x0 49) ∧ (∀ h1, h1 = zput h x0 1 (zr (x1)) → ((∃ c, fC h1 x0 c) ∧ (zX s0 m_J3_init d [zr x0] h1 (fun _ h2 => ((x2 = 0 ∨ x2 = 1) ∧ ((fC h2 x0 49) ∧ (∀ h3, h3 = zput h2 x0 0 (.int (x2)) → (Q .null h3))))) E)))) : zX s0 m_J17_init (d + 1) [zr (x0), zr (x1), .int (x2)] h Q E := zX.of2 rfl (by decide +kernel) (zlay_r (zlay_r (zlay_i (zlay_n znone0)))) (zle rfl) (b_J17_init_0 H)
theorem b_J17_iterator_0 {s0 : zE} {d : Nat} {x0 : Nat} {h : zH} {Q : Value → zH → Prop} {E : Nat → zH → Prop} (H : (zroom s0 h 5) ∧ (∀ n1, n1 = h.2.1 → (∀ h1, h1 = znew h 56 [zr 0, zr 0, .int 0, .int 0, zr 0] 5 → ((fR h1 x0 [49] 1) ∧ ((fI h1 x0 [49] 0) ∧ ((∃ c, fC h1 n1 c) ∧ (zX s0 m_J30_init d [zr n1, zr (gR h1 x0 1), .int (gI h1 x0 0)] h1 (fun _ h2 => (Q (zr n1) h2)) E))))))) : zP s0 m_J17_iterator (d + 1) 0 [some (zr (x0))] [] h Q E := by
  obtain ⟨g, H⟩ := H
  refine zz_new (M := m_J17_iterator) (fs := [zr 0, zr 0, .int 0, .int 0, zr 0]) (w := 5) (c := 56) rfl q1615 q1616 rfl znf_J30 dJ17_iterator_0 g (fun n1 e1 h1 e2 => ?_)
  have H := H n1 e1 h1 e2
  refine z_dup (M := m_J17_iterator) (zr_cat _) dJ17_iterator_3 ?_
  refine z_aload_n (M := m_J17_iterator) (k := 0) rfl dJ17_iterator_4 ?_
  obtain ⟨g, H⟩ := H
  refine z_get (M := m_J17_iterator) f_J17_1 dJ17_iterator_5 g ?_
  refine z_aload_n (M := m_J17_iterator) (k := 0) rfl dJ17_iterator_8 ?_
  obtain ⟨g, H⟩ := H
  refine z_get (M := m_J17_iterator) f_J17_13 dJ17_iterator_9 g ?_
  obtain ⟨⟨c9, g⟩, H⟩ := H
  refine zz_invI (M := m_J17_iterator) (a := [zr (gR h1 x0 1), .int (gI h1 x0 0)]) ok_J30_init rfl rfl q1617 q1618 dJ17_iterator_12 g (Nat.le_trans (zcatr zcat0) (zle rfl)) rfl H (fun v1 h2 H => ?_) (fun n9 h9 H => zPx.out rfl H)
  exact z_areturn (M := m_J17_iterator) rfl (Or.inl ⟨_, rfl⟩) dJ17_iterator_15 H
theorem c_J17_iterator {s0 : zE} {d : Nat} {x0 : Nat} {h : zH} {Q : Value → zH → Prop} {E : Nat → zH → Prop} (H : (zroom s0 h 5) ∧ (∀ n1, n1 = h.2.1 → (∀ h1, h1 = znew h 56 [zr 0, zr 0, .int 0, .int 0, zr 0] 5 → ((fR h1 x0 [49] 1) ∧ ((fI h1 x0 [49] 0) ∧ ((∃ c, fC h1 n1 c) ∧ (zX s0 m_J30_init d [zr n1, zr (gR h1 x0 1), .int (gI h1 x0 0)] h1 (fun _ h2 => (Q (zr n1) h2)) E))))))) : zX s0 m_J17_iterator (d + 1) [zr (x0)] h Q E := zX.of2 rfl (by decide +kernel) (zlay_r (zlay_n znone0)) (zle rfl) (b_J17_iterator_0 H)
theorem b_J17_size_0 {s0 : zE} {d : Nat} {x0 : Nat} {h : zH} {Q : Value → zH → Prop} {E : Nat → zH → Prop} (H : (fR h x0 [49] 1) ∧ ((fI h (gR h x0 1) [43] 2) ∧ (Q (.int (gI h (gR h x0 1) 2)) h))) : zP s0 m_J17_size d 0 [some (zr (x0))] [] h Q E := by
  refine z_aload_n (M := m_J17_size) (k := 0) rfl dJ17_size_0 ?_
  obtain ⟨g, H⟩ := H
  refine z_get (M := m_J17_size) f_J17_1 dJ17_size_1 g ?_
  obtain ⟨g, H⟩ := H
  refine z_get (M := m_J17_size) f_J17_17 dJ17_size_4 g ?_
  exact z_ireturn (M := m_J17_size) rfl rfl dJ17_size_7 H
theorem c_J17_size {s0 : zE} {d : Nat} {x0 : Nat} {h : zH} {Q : Value → zH → Prop} {E : Nat → zH → Prop} (H : (fR h x0 [49] 1) ∧ ((fI h (gR h x0 1) [43] 2) ∧ (Q (.int (gI h (gR h x0 1) 2)) h))) : zX s0 m_J17_size d [zr (x0)] h Q E := zX.of2 rfl (by decide +kernel) (zlay_r (zlay_n znone0)) (zle rfl) (b_J17_size_0 H)
theorem b_J17_toArray_0 {s0 : zE} {d : Nat} {x0 : Nat} {h : zH} {Q : Value → zH → Prop} {E : Nat → zH → Prop} (H : (fR h x0 [49] 1) ∧ ((fR h x0 [49] 1) ∧ ((fI h (gR h x0 1) [43] 2) ∧ ((¬ (gI h (gR h x0 1) 2) < 0) ∧ ((zroom s0 h ((gI h (gR h x0 1) 2)).toNatClampNeg) ∧ (∀ n1, n1 = h.2.1 → (∀ h1, h1 = znew h 1006 (List.replicate ((gI h (gR h x0 1) 2)).toNatClampNeg (zr 0)) ((gI h (gR h x0 1) 2)).toNatClampNeg → ((fI h1 x0 [49] 0) ∧ ((fC h1 (gR h x0 1) 43 ∧ zX s0 m_J2_valuesToArray d [zr (gR h x0 1), zr (n1), .int (gI h1 x0 0)] h1 (fun v1 h2 => ∃ n2 : Nat, v1 = zr (n2) ∧ (Q (zr n2) h2)) E)))))))))) : zP s0 m_J17_toArray (d + 1) 0 [some (zr (x0))] [] h Q E := by
  refine z_aload_n (M := m_J17_toArray) (k := 0) rfl dJ17_toArray_0 ?_
  obtain ⟨g, H⟩ := H
  refine z_get (M := m_J17_toArray) f_J17_1 dJ17_toArray_1 g ?_
  refine z_aload_n (M := m_J17_toArray) (k := 0) rfl dJ17_toArray_4 ?_
  obtain ⟨g, H⟩ := H
  refine z_get (M := m_J17_toArray) f_J17_1 dJ17_toArray_5 g ?_
  obtain ⟨g, H⟩ := H
  refine z_get (M := m_J17_toArray) f_J17_17 dJ17_toArray_8 g ?_
  obtain ⟨gn, H⟩ := H
  obtain ⟨g, H⟩ := H
  refine zz_anewarray (M := m_J17_toArray) (t := 6) rfl q1814 q449 dJ17_toArray_11 gn g (fun n1 e1 h1 e2 => ?_)
  have H := H n1 e1 h1 e2
  refine z_aload_n (M := m_J17_toArray) (k := 0) rfl dJ17_toArray_14 ?_
  obtain ⟨g, H⟩ := H
  refine z_get (M := m_J17_toArray) f_J17_13 dJ17_toArray_15 g ?_
  obtain ⟨⟨fs9, g⟩, H⟩ := H
  refine z_invV (M := m_J17_toArray) (cn := 43) (a := [zr (n1), .int (gI h1 x0 0)]) ok_J2_valuesToArray q1815 q1816 q1817 rfl dJ17_toArray_18 g (Nat.le_refl _) (Nat.zero_le _) rfl H (fun v1 h2 H => ?_) (fun n9 h9 H => zPx.out rfl H)
  obtain ⟨n2, rfl, H⟩ := H
  show zP s0 m_J17_toArray (d + 1) _ _ [zr (n2)] _ _ _
  exact z_areturn (M := m_J17_toArray) rfl (Or.inr ⟨_, rfl⟩) dJ17_toArray_21 H
theorem c_J17_toArray {s0 : zE} {d : Nat} {x0 : Nat} {h : zH} {Q : Value → zH → Prop} {E : Nat → zH → Prop} (H : (fR h x0 [49] 1) ∧ ((fR h x0 [49] 1) ∧ ((fI h (gR h x0 1) [43] 2) ∧ ((¬ (gI h (gR h x0 1) 2) < 0) ∧ ((zroom s0 h ((gI h (gR h x0 1) 2)).toNatClampNeg) ∧ (∀ n1, n1 = h.2.1 → (∀ h1, h1 = znew h 1006 (List.replicate ((gI h (gR h x0 1) 2)).toNatClampNeg (zr 0)) ((gI h (gR h x0 1) 2)).toNatClampNeg → ((fI h1 x0 [49] 0) ∧ ((fC h1 (gR h x0 1) 43 ∧ zX s0 m_J2_valuesToArray d [zr (gR h x0 1), zr (n1), .int (gI h1 x0 0)] h1 (fun v1 h2 => ∃ n2 : Nat, v1 = zr (n2) ∧ (Q (zr n2) h2)) E)))))))))) : zX s0 m_J17_toArray (d + 1) [zr (x0)] h Q E := zX.of2 rfl (by decide +kernel) (zlay_r (zlay_n znone0)) (zle rfl) (b_J17_toArray_0 H)
theorem b_J18_init_0 {s0 : zE} {d : Nat} {x0 : Nat} {x1 : Nat} {h : zH} {Q : Value → zH → Prop} {E : Nat → zH → Prop} (H : (∃ c, fC h x0 c) ∧ (zX s0 m_J8_init d [zr x0, zr (x1)] h (fun _ h1 => (Q .null h1)) E)) : zP s0 m_J18_init (d + 1) 0 [some (zr (x0)), some (zr (x1))] [] h Q E := by
  refine z_aload_n (M := m_J18_init) (k := 0) rfl dJ18_init_0 ?_
  refine z_aload_n (M := m_J18_init) (k := 1) rfl dJ18_init_1 ?_
  obtain ⟨⟨c9, g⟩, H⟩ := H
  refine zz_invI (M := m_J18_init) (a := [zr (x1)]) ok_J8_init rfl rfl q1467 q577 dJ18_init_2 g (Nat.zero_le _) rfl H (fun v1 h1 H => ?_) (fun n9 h9 H => zPx.out rfl H)
  exact z_return (M := m_J18_init) rfl dJ18_init_5 H
theorem c_J18_init {s0 : zE} {d : Nat} {x0 : Nat} {x1 : Nat} {h : zH} {Q : Value → zH → Prop} {E : Nat → zH → Prop} (H : (∃ c, fC h x0 c) ∧ (zX s0 m_J8_init d [zr x0, zr (x1)] h (fun _ h1 => (Q .null h1)) E)) : zX s0 m_J18_init (d + 1) [zr (x0), zr (x1)] h Q E := zX.of2 rfl (by decide +kernel) (zlay_r (zlay_r (zlay_n znone0))) (zle rfl) (b_J18_init_0 H)
theorem b_J18_init_2_0 {s0 : zE} {d : Nat} {x0 : Nat} {h : zH} {Q : Value → zH → Prop} {E : Nat → zH → Prop} (H : (∃ c, fC h x0 c) ∧ (zX s0 m_J8_init_2 d [zr x0] h (fun _ h1 => (Q .null h1)) E)) : zP s0 m_J18_init_2 (d + 1) 0 [some (zr (x0))] [] h Q E := by
  refine z_aload_n (M := m_J18_init_2) (k := 0) rfl dJ18_init_2_0 ?_
  obtain ⟨⟨c9, g⟩, H⟩ := H
  refine zz_invI (M := m_J18_init_2) (a := []) ok_J8_init_2 rfl rfl q1730 q1731 dJ18_init_2_1 g (Nat.zero_le _) rfl H (fun v1 h1 H => ?_) (fun n9 h9 H => zPx.out rfl H)
  exact z_return (M := m_J18_init_2) rfl dJ18_init_2_4 H
theorem c_J18_init_2 {s0 : zE} {d : Nat} {x0 : Nat} {h : zH} {Q : Value → zH → Prop} {E : Nat → zH → Prop} (H : (∃ c, fC h x0 c) ∧ (zX s0 m_J8_init_2 d [zr x0] h (fun _ h1 => (Q .null h1)) E)) : zX s0 m_J18_init_2 (d + 1) [zr (x0)] h Q E := zX.of2 rfl (by decide +kernel) (zlay_r (zlay_n znone0)) (zle rfl) (b_J18_init_2_0 H)
theorem b_J19_init_0 {s0 : zE} {d : Nat} {x0 : Nat} {x1 : Nat} {h : zH} {Q : Value → zH → Prop} {E : Nat → zH → Prop} (H : (∃ c, fC h x0 c) ∧ (zX s0 m_J18_init d [zr x0, zr (x1)] h (fun _ h1 => (Q .null h1)) E)) : zP s0 m_J19_init (d + 1) 0 [some (zr (x0)), some (zr (x1))] [] h Q E := by
  refine z_aload_n (M := m_J19_init) (k := 0) rfl dJ19_init_0 ?_
  refine z_aload_n (M := m_J19_init) (k := 1) rfl dJ19_init_1 ?_
  obtain ⟨⟨c9, g⟩, H⟩ := H
  refine zz_invI (M := m_J19_init) (a := [zr (x1)]) ok_J18_init rfl rfl q1464 q1465 dJ19_init_2 g (Nat.zero_le _) rfl H (fun v1 h1 H => ?_) (fun n9 h9 H => zPx.out rfl H)
  exact z_return (M := m_J19_init) rfl dJ19_init_5 H
theorem c_J19_init {s0 : zE} {d : Nat} {x0 : Nat} {x1 : Nat} {h : zH} {Q : Value → zH → Prop} {E : Nat → zH → Prop} (H : (∃ c, fC h x0 c) ∧ (zX s0 m_J18_init d [zr x0, zr (x1)] h (fun _ h1 => (Q .null h1)) E)) : zX s0 m_J19_init (d + 1) [zr (x0), zr (x1)] h Q E := zX.of2 rfl (by decide +kernel) (zlay_r (zlay_r (zlay_n znone0))) (zle rfl) (b_J19_init_0 H)
theorem b_J20_getValue_0 {s0 : zE} {d : Nat} {x0 : Nat} {h : zH} {Q : Value → zH → Prop} {E : Nat → zH → Prop} (H : (fR h x0 [51] 0) ∧ (Q (zr (gR h x0 0)) h)) : zP s0 m_J20_getValue d 0 [some (zr (x0))] [] h Q E := by
  refine z_aload_n (M := m_J20_getValue) (k := 0) rfl dJ20_getValue_0 ?_
  obtain ⟨g, H⟩ := H
  refine z_get (M := m_J20_getValue) f_J20_15 dJ20_getValue_1 g ?_
  exact z_areturn (M := m_J20_getValue) rfl (Or.inr ⟨_, rfl⟩) dJ20_getValue_4 H
theorem c_J20_getValue {s0 : zE} {d : Nat} {x0 : Nat} {h : zH} {Q : Value → zH → Prop} {E : Nat → zH → Prop} (H : (fR h x0 [51] 0) ∧ (Q (zr (gR h x0 0)) h)) : zX s0 m_J20_getValue d [zr (x0)] h Q E := zX.of2 rfl (by decide +kernel) (zlay_r (zlay_n znone0)) (zle rfl) (b_J20_getValue_0 H)
theorem b_J20_init_0 {s0 : zE} {d : Nat} {x0 : Nat} {x1 : Int32} {h : zH} {Q : Value → zH → Prop} {E : Nat → zH → Prop} (H : (∃ c, fC h x0 c) ∧ ((¬ x1 < 0) ∧ ((zroom s0 h (x1).toNatClampNeg) ∧ (∀ n1, n1 = h.2.1 → (∀ h1, h1 = znew h 1000 (List.replicate (x1).toNatClampNeg (.int 0)) (x1).toNatClampNeg → ((fC h1 x0 51) ∧ (∀ h2, h2 = zput h1 x0 0 (zr (n1)) → ((narrow .byte (.int 0) = .int 0 ∧ fits .byte (.int 0) = true) ∧ ((fC h2 x0 51) ∧ (∀ h3, h3 = zput h2 x0 1 (.int (0)) → (Q .null h3))))))))))) : zP s0 m_J20_init (d + 1) 0 [some (zr (x0)), some (.int (x1))] [] h Q E := by
  refine z_aload_n (M := m_J20_init) (k := 0) rfl dJ20_init_0 ?_
  obtain ⟨⟨c9, g⟩, H⟩ := H
  refine zz_objInit (M := m_J20_init) q1264 dJ20_init_1 g (Nat.zero_le _) ?_
  refine z_gets (M := m_J20_init) (k_String_COMPACT_STRINGS (s0 := s0)) q1265 dJ20_init_4 ?_
  refine z_ifeq (M := m_J20_init) 25 rfl dJ20_init_7 (fun hc => (by revert hc; decide : False).elim) (fun hc => ?_)
  refine z_aload_n (M := m_J20_init) (k := 0) rfl dJ20_init_10 ?_
  refine z_iload_n (M := m_J20_init) (k := 1) rfl dJ20_init_11 ?_
  obtain ⟨gn, H⟩ := H
  obtain ⟨g, H⟩ := H
  refine zz_newarray (M := m_J20_init) (atype := .byte) (t := 0) rfl q509 (by decide) dJ20_init_12 gn g (fun n1 e1 h1 e2 => ?_)
  have H := H n1 e1 h1 e2
  obtain ⟨g, H⟩ := H
  refine zz_put (M := m_J20_init) f_J20_15 dJ20_init_14 rfl (fn_51_0) g (ft_51_0) (fun h2 e => ?_)
  have H := H h2 e
  refine z_aload_n (M := m_J20_init) (k := 0) rfl dJ20_init_17 ?_
  refine z_iconst (M := m_J20_init) (v := 0) (by decide) dJ20_init_18 ?_
  obtain ⟨gz, H⟩ := H
  obtain ⟨g, H⟩ := H
  refine zz_put (M := m_J20_init) f_J20_22 dJ20_init_19 rfl (fn_51_1) g (ft_51_1 gz) (fun h3 e => ?_)
  have H := H h3 e
  refine z_goto (M := m_J20_init) 38 rfl dJ20_init_22 ?_
  exact z_return (M := m_J20_init) rfl dJ20_init_38 H
theorem c_J20_init {s0 : zE} {d : Nat} {x0 : Nat} {x1 : Int32} {h : zH} {Q : Value → zH → Prop} {E : Nat → zH → Prop} (H : (∃ c, fC h x0 c) ∧ ((¬ x1 < 0) ∧ ((zroom s0 h (x1).toNatClampNeg) ∧ (∀ n1, n1 = h.2.1 → (∀ h1, h1 = znew h 1000 (List.replicate (x1).toNatClampNeg (.int 0)) (x1).toNatClampNeg → ((fC h1 x0 51) ∧ (∀ h2, h2 = zput h1 x0 0 (zr (n1)) → ((narrow .byte (.int 0) = .int 0 ∧ fits .byte (.int 0) = true) ∧ ((fC h2 x0 51) ∧ (∀ h3, h3 = zput h2 x0 1 (.int (0)) → (Q .null h3))))))))))) : zX s0 m_J20_init (d + 1) [zr (x0), .int (x1)] h Q E := zX.of2 rfl (by decide +kernel) (zlay_r (zlay_i (zlay_n znone0))) (zle rfl) (b_J20_init_0 H)
theorem b_J20_isLatin1_0 {s0 : zE} {d : Nat} {x0 : Nat} {h : zH} {Q : Value → zH → Prop} {E : Nat → zH → Prop} (H : (fI h x0 [51] 1) ∧ ((¬ gI h x0 1 = 0 → (Q (.int 0) h)) ∧ (gI h x0 1 = 0 → (Q (.int 1) h)))) : zP s0 m_J20_isLatin1 d 0 [some (zr (x0))] [] h Q E := by
  refine z_gets (M := m_J20_isLatin1) (k_String_COMPACT_STRINGS (s0 := s0)) q1265 dJ20_isLatin1_0 ?_
  refine z_ifeq (M := m_J20_isLatin1) 17 rfl dJ20_isLatin1_3 (fun hc => (by revert hc; decide : False).elim) (fun hc => ?_)
  refine z_aload_n (M := m_J20_isLatin1) (k := 0) rfl dJ20_isLatin1_6 ?_
  obtain ⟨g, H⟩ := H
  refine z_get (M := m_J20_isLatin1) f_J20_22 dJ20_isLatin1_7 g ?_
  refine z_ifne (M := m_J20_isLatin1) 17 rfl dJ20_isLatin1_10 (fun hc => ?_) (fun hc => ?_)
  · have H := H.1 hc
    refine z_iconst (M := m_J20_isLatin1) (v := 0) (by decide) dJ20_isLatin1_17 ?_
    exact z_ireturn (M := m_J20_isLatin1) rfl rfl dJ20_isLatin1_18 H
  · have H := H.2 hc
    refine z_iconst (M := m_J20_isLatin1) (v := 1) (by decide) dJ20_isLatin1_13 ?_
    refine z_goto (M := m_J20_isLatin1) 18 rfl dJ20_isLatin1_14 ?_
    exact z_ireturn (M := m_J20_isLatin1) rfl rfl dJ20_isLatin1_18 H
theorem c_J20_isLatin1 {s0 : zE} {d : Nat} {x0 : Nat} {h : zH} {Q : Value → zH → Prop} {E : Nat → zH → Prop} (H : (fI h x0 [51] 1) ∧ ((¬ gI h x0 1 = 0 → (Q (.int 0) h)) ∧ (gI h x0 1 = 0 → (Q (.int 1) h)))) : zX s0 m_J20_isLatin1 d [zr (x0)] h Q E := zX.of2 rfl (by decide +kernel) (zlay_r (zlay_n znone0)) (zle rfl) (b_J20_isLatin1_0 H)
theorem b_J20_length_0 {s0 : zE} {d : Nat} {x0 : Nat} {h : zH} {Q : Value → zH → Prop} {E : Nat → zH → Prop} (H : (fI h x0 [51] 3) ∧ (Q (.int (gI h x0 3)) h)) : zP s0 m_J20_length d 0 [some (zr (x0))] [] h Q E := by
  refine z_aload_n (M := m_J20_length) (k := 0) rfl dJ20_length_0 ?_
  obtain ⟨g, H⟩ := H
  refine z_get (M := m_J20_length) f_J20_79 dJ20_length_1 g ?_
  exact z_ireturn (M := m_J20_length) rfl rfl dJ20_length_4 H
theorem c_J20_length {s0 : zE} {d : Nat} {x0 : Nat} {h : zH} {Q : Value → zH → Prop} {E : Nat → zH → Prop} (H : (fI h x0 [51] 3) ∧ (Q (.int (gI h x0 3)) h)) : zX s0 m_J20_length d [zr (x0)] h Q E := zX.of2 rfl (by decide +kernel) (zlay_r (zlay_n znone0)) (zle rfl) (b_J20_length_0 H)
theorem b_J20_newCapacity_0 {s0 : zE} {d : Nat} {x0 : Nat} {x1 : Int32} {h : zH} {Q : Value → zH → Prop} {E : Nat → zH → Prop} (H : (fR h x0 [51] 0) ∧ ((fC h (gR h x0 0) 1000) ∧ ((fI h x0 [51] 1) ∧ ((fI h x0 [51] 1) ∧ (zX s0 m_J25_newLength d [.int (Int32.ofNat (gA h (gR h x0 0)).length), .int ((x1 <<< ((gI h x0 1) &&& 31)) - (Int32.ofNat (gA h (gR h x0 0)).length)), .int ((Int32.ofNat (gA h (gR h x0 0)).length) + (2 <<< ((gI h x0 1) &&& 31)))] h (fun v1 h1 => ∃ r1 : Int32, v1 = .int (r1) ∧ ((¬ r1 = 2147483647 → ((fI h1 x0 [51] 1) ∧ (Q (.int (r1 >>> ((gI h1 x0 1) &&& 31))) h1))) ∧ (r1 = 2147483647 → (False)))) E))))) : zP s0 m_J20_newCapacity (d + 1) 0 [some (zr (x0)), some (.int (x1)), none, none, none, none] [] h Q E := by
  refine z_aload_n (M := m_J20_newCapacity) (k := 0) rfl dJ20_newCapacity_0 ?_
  obtain ⟨g, H⟩ := H
  refine z_get (M := m_J20_newCapacity) f_J20_15 dJ20_newCapacity_1 g ?_
  obtain ⟨g, H⟩ := H
  refine z_len (M := m_J20_newCapacity) (t := 0) rfl dJ20_newCapacity_4 g ?_
  refine z_istore_n (M := m_J20_newCapacity) (k := 2) 2 rfl (zlt rfl) rfl dJ20_newCapacity_5 ?_
  show zP s0 m_J20_newCapacity (d + 1) _ [some (zr (x0)), some (.int (x1)), some (.int (Int32.ofNat (gA h (gR h x0 0)).length)), none, none, none] _ _ _ _
  refine z_iload_n (M := m_J20_newCapacity) (k := 1) rfl dJ20_newCapacity_6 ?_
  refine z_aload_n (M := m_J20_newCapacity) (k := 0) rfl dJ20_newCapacity_7 ?_
  obtain ⟨g, H⟩ := H
  refine z_get (M := m_J20_newCapacity) f_J20_22 dJ20_newCapacity_8 g ?_
  refine z_ishl (M := m_J20_newCapacity) dJ20_newCapacity_11 ?_
  refine z_istore_n (M := m_J20_newCapacity) (k := 3) 3 rfl (zlt rfl) rfl dJ20_newCapacity_12 ?_
  show zP s0 m_J20_newCapacity (d + 1) _ [some (zr (x0)), some (.int (x1)), some (.int (Int32.ofNat (gA h (gR h x0 0)).length)), some (.int (x1 <<< ((gI h x0 1) &&& 31))), none, none] _ _ _ _
  refine z_iload_n (M := m_J20_newCapacity) (k := 3) rfl dJ20_newCapacity_13 ?_
  refine z_iload_n (M := m_J20_newCapacity) (k := 2) rfl dJ20_newCapacity_14 ?_
  refine z_isub (M := m_J20_newCapacity) dJ20_newCapacity_15 ?_
  refine z_istore (M := m_J20_newCapacity) 4 (zlt rfl) rfl dJ20_newCapacity_16 ?_
  show zP s0 m_J20_newCapacity (d + 1) _ [some (zr (x0)), some (.int (x1)), some (.int (Int32.ofNat (gA h (gR h x0 0)).length)), some (.int (x1 <<< ((gI h x0 1) &&& 31))), some (.int ((x1 <<< ((gI h x0 1) &&& 31)) - (Int32.ofNat (gA h (gR h x0 0)).length))), none] _ _ _ _
  refine z_iload_n (M := m_J20_newCapacity) (k := 2) rfl dJ20_newCapacity_18 ?_
  refine z_iload (M := m_J20_newCapacity) (i := 4) rfl dJ20_newCapacity_19 ?_
  refine z_iload_n (M := m_J20_newCapacity) (k := 2) rfl dJ20_newCapacity_21 ?_
  refine z_iconst (M := m_J20_newCapacity) (v := 2) (by decide) dJ20_newCapacity_22 ?_
  refine z_aload_n (M := m_J20_newCapacity) (k := 0) rfl dJ20_newCapacity_23 ?_
  obtain ⟨g, H⟩ := H
  refine z_get (M := m_J20_newCapacity) f_J20_22 dJ20_newCapacity_24 g ?_
  refine z_ishl (M := m_J20_newCapacity) dJ20_newCapacity_27 ?_
  refine z_iadd (M := m_J20_newCapacity) dJ20_newCapacity_28 ?_
  refine z_invS (M := m_J20_newCapacity) (a := [.int (Int32.ofNat (gA h (gR h x0 0)).length), .int ((x1 <<< ((gI h x0 1) &&& 31)) - (Int32.ofNat (gA h (gR h x0 0)).length)), .int ((Int32.ofNat (gA h (gR h x0 0)).length) + (2 <<< ((gI h x0 1) &&& 31)))]) ok_J25_newLength q1304 q1305 dJ20_newCapacity_29 (Nat.le_refl _) (Nat.zero_le _) rfl H (fun v1 h1 H => ?_) (fun n9 h9 H => zPx.out rfl H)
  obtain ⟨r1, rfl, H⟩ := H
  show zP s0 m_J20_newCapacity (d + 1) _ _ [.int (r1)] _ _ _
  refine z_istore (M := m_J20_newCapacity) 5 (zlt rfl) rfl dJ20_newCapacity_32 ?_
  show zP s0 m_J20_newCapacity (d + 1) _ [some (zr (x0)), some (.int (x1)), some (.int (Int32.ofNat (gA h (gR h x0 0)).length)), some (.int (x1 <<< ((gI h x0 1) &&& 31))), some (.int ((x1 <<< ((gI h x0 1) &&& 31)) - (Int32.ofNat (gA h (gR h x0 0)).length))), some (.int (r1))] _ _ _ _
  refine z_iload (M := m_J20_newCapacity) (i := 5) rfl dJ20_newCapacity_34 ?_
  refine z_ldc (M := m_J20_newCapacity) (v := 2147483647) q1314 dJ20_newCapacity_36 ?_
  refine z_icmpne (M := m_J20_newCapacity) 51 rfl dJ20_newCapacity_38 (fun hc => ?_) (fun hc => ?_)
  · have H := H.1 hc
    refine z_iload (M := m_J20_newCapacity) (i := 5) rfl dJ20_newCapacity_51 ?_
    refine z_aload_n (M := m_J20_newCapacity) (k := 0) rfl dJ20_newCapacity_53 ?_
    obtain ⟨g, H⟩ := H
    refine z_get (M := m_J20_newCapacity) f_J20_22 dJ20_newCapacity_54 g ?_
    refine z_ishr (M := m_J20_newCapacity) dJ20_newCapacity_57 ?_
    exact z_ireturn (M := m_J20_newCapacity) rfl rfl dJ20_newCapacity_58 H
  · have H := H.2 hc
    exact H.elim
theorem c_J20_newCapacity {s0 : zE} {d : Nat} {x0 : Nat} {x1 : Int32} {h : zH} {Q : Value → zH → Prop} {E : Nat → zH → Prop} (H : (fR h x0 [51] 0) ∧ ((fC h (gR h x0 0) 1000) ∧ ((fI h x0 [51] 1) ∧ ((fI h x0 [51] 1) ∧ (zX s0 m_J25_newLength d [.int (Int32.ofNat (gA h (gR h x0 0)).length), .int ((x1 <<< ((gI h x0 1) &&& 31)) - (Int32.ofNat (gA h (gR h x0 0)).length)), .int ((Int32.ofNat (gA h (gR h x0 0)).length) + (2 <<< ((gI h x0 1) &&& 31)))] h (fun v1 h1 => ∃ r1 : Int32, v1 = .int (r1) ∧ ((¬ r1 = 2147483647 → ((fI h1 x0 [51] 1) ∧ (Q (.int (r1 >>> ((gI h1 x0 1) &&& 31))) h1))) ∧ (r1 = 2147483647 → (False)))) E))))) : zX s0 m_J20_newCapacity (d + 1) [zr (x0), .int (x1)] h Q E := zX.of2 rfl (by decide +kernel) (zlay_r (zlay_i (zlay_n (znoneS (znoneS (znoneS (znoneS znone0))))))) (zle rfl) (b_J20_newCapacity_0 H)
theorem b_J21_compareTo_0 {s0 : zE} {d : Nat} {x0 : Nat} {x1 : Nat} {h : zH} {Q : Value → zH → Prop} {E : Nat → zH → Prop} (H : (x1 = 0 ∨ zCast h x1 "java/lang/StringBuilder") ∧ ((fC h x0 51 ∧ zX s0 m_J21_compareTo_2 d [zr x0, zr (x1)] h (fun v1 h1 => ∃ r1 : Int32, v1 = .int (r1) ∧ (Q (.int r1) h1)) E))) : zP s0 m_J21_compareTo (d + 1) 0 [some (zr (x0)), some (zr (x1))] [] h Q E := by
  refine z_aload_n (M := m_J21_compareTo) (k := 0) rfl dJ21_compareTo_0 ?_
  refine z_aload_n (M := m_J21_compareTo) (k := 1) rfl dJ21_compareTo_1 ?_
  obtain ⟨g, H⟩ := H
  refine z_checkcast (M := m_J21_compareTo) q2160 dJ21_compareTo_2 g ?_
  obtain ⟨⟨fs9, g⟩, H⟩ := H
  refine z_invV (M := m_J21_compareTo) (cn := 51) (a := [zr (x1)]) ok_J21_compareTo_2 q2161 q2162 q2163 rfl dJ21_compareTo_5 g (Nat.le_refl _) (Nat.zero_le _) rfl H (fun v1 h1 H => ?_) (fun n9 h9 H => zPx.out rfl H)
  obtain ⟨r1, rfl, H⟩ := H
  show zP s0 m_J21_compareTo (d + 1) _ _ [.int (r1)] _ _ _
  exact z_ireturn (M := m_J21_compareTo) rfl rfl dJ21_compareTo_8 H
theorem c_J21_compareTo {s0 : zE} {d : Nat} {x0 : Nat} {x1 : Nat} {h : zH} {Q : Value → zH → Prop} {E : Nat → zH → Prop} (H : (x1 = 0 ∨ zCast h x1 "java/lang/StringBuilder") ∧ ((fC h x0 51 ∧ zX s0 m_J21_compareTo_2 d [zr x0, zr (x1)] h (fun v1 h1 => ∃ r1 : Int32, v1 = .int (r1) ∧ (Q (.int r1) h1)) E))) : zX s0 m_J21_compareTo (d + 1) [zr (x0), zr (x1)] h Q E := zX.of2 rfl (by decide +kernel) (zlay_r (zlay_r (zlay_n znone0))) (zle rfl) (b_J21_compareTo_0 H)
theorem b_J21_init_0 {s0 : zE} {d : Nat} {x0 : Nat} {h : zH} {Q : Value → zH → Prop} {E : Nat → zH → Prop} (H : (∃ c, fC h x0 c) ∧ (zX s0 m_J20_init d [zr x0, .int (16)] h (fun _ h1 => (Q .null h1)) E)) : zP s0 m_J21_init (d + 1) 0 [some (zr (x0))] [] h Q E := by
  refine z_aload_n (M := m_J21_init) (k := 0) rfl dJ21_init_0 ?_
  refine z_bipush (M := m_J21_init) (v := 16) (by decide) dJ21_init_1 ?_
  obtain ⟨⟨c9, g⟩, H⟩ := H
  refine zz_invI (M := m_J21_init) (a := [.int (16)]) ok_J20_init rfl rfl q1261 q1262 dJ21_init_3 g (Nat.zero_le _) rfl H (fun v1 h1 H => ?_) (fun n9 h9 H => zPx.out rfl H)
  exact z_return (M := m_J21_init) rfl dJ21_init_6 H
theorem c_J21_init {s0 : zE} {d : Nat} {x0 : Nat} {h : zH} {Q : Value → zH → Prop} {E : Nat → zH → Prop} (H : (∃ c, fC h x0 c) ∧ (zX s0 m_J20_init d [zr x0, .int (16)] h (fun _ h1 => (Q .null h1)) E)) : zX s0 m_J21_init (d + 1) [zr (x0)] h Q E := zX.of2 rfl (by decide +kernel) (zlay_r (zlay_n znone0)) (zle rfl) (b_J21_init_0 H)
theorem b_J21_toString_0 {s0 : zE} {d : Nat} {x0 : Nat} {h : zH} {Q : Value → zH → Prop} {E : Nat → zH → Prop} (H : (zroom s0 h 4) ∧ (∀ n1, n1 = h.2.1 → (∀ h1, h1 = znew h 48 [zr 0, .int 0, .int 0, .int 0] 4 → ((∃ c, fC h1 n1 c) ∧ (zX s0 m_J12_init d [zr n1, zr (x0)] h1 (fun _ h2 => (Q (zr n1) h2)) E))))) : zP s0 m_J21_toString (d + 1) 0 [some (zr (x0))] [] h Q E := by
  obtain ⟨g, H⟩ := H
  refine zz_new (M := m_J21_toString) (fs := [zr 0, .int 0, .int 0, .int 0]) (w := 4) (c := 48) rfl q1429 q1430 rfl znf_J12 dJ21_toString_0 g (fun n1 e1 h1 e2 => ?_)
  have H := H n1 e1 h1 e2
  refine z_dup (M := m_J21_toString) (zr_cat _) dJ21_toString_3 ?_
  refine z_aload_n (M := m_J21_toString) (k := 0) rfl dJ21_toString_4 ?_
  obtain ⟨⟨c9, g⟩, H⟩ := H
  refine zz_invI (M := m_J21_toString) (a := [zr (x0)]) ok_J12_init rfl rfl q1431 q1432 dJ21_toString_5 g (Nat.le_trans (zcatr zcat0) (zle rfl)) rfl H (fun v1 h2 H => ?_) (fun n9 h9 H => zPx.out rfl H)
  exact z_areturn (M := m_J21_toString) rfl (Or.inl ⟨_, rfl⟩) dJ21_toString_8 H
theorem c_J21_toString {s0 : zE} {d : Nat} {x0 : Nat} {h : zH} {Q : Value → zH → Prop} {E : Nat → zH → Prop} (H : (zroom s0 h 4) ∧ (∀ n1, n1 = h.2.1 → (∀ h1, h1 = znew h 48 [zr 0, .int 0, .int 0, .int 0] 4 → ((∃ c, fC h1 n1 c) ∧ (zX s0 m_J12_init d [zr n1, zr (x0)] h1 (fun _ h2 => (Q (zr n1) h2)) E))))) : zX s0 m_J21_toString (d + 1) [zr (x0)] h Q E := zX.of2 rfl (by decide +kernel) (zlay_r (zlay_n znone0)) (zle rfl) (b_J21_toString_0 H)
theorem b_J23_init_0 {s0 : zE} {d : Nat} {x0 : Nat} {h : zH} {Q : Value → zH → Prop} {E : Nat → zH → Prop} (H : (∃ c, fC h x0 c) ∧ (Q .null h)) : zP s0 m_J23_init (d + 1) 0 [some (zr (x0))] [] h Q E := by
  refine z_aload_n (M := m_J23_init) (k := 0) rfl dJ23_init_0 ?_
  obtain ⟨⟨c9, g⟩, H⟩ := H
  refine zz_objInit (M := m_J23_init) q2665 dJ23_init_1 g (Nat.zero_le _) ?_
  exact z_return (M := m_J23_init) rfl dJ23_init_4 H
theorem c_J23_init {s0 : zE} {d : Nat} {x0 : Nat} {h : zH} {Q : Value → zH → Prop} {E : Nat → zH → Prop} (H : (∃ c, fC h x0 c) ∧ (Q .null h)) : zX s0 m_J23_init (d + 1) [zr (x0)] h Q E := zX.of2 rfl (by decide +kernel) (zlay_r (zlay_n znone0)) (zle rfl) (b_J23_init_0 H)
theorem b_J24_compare_0 {s0 : zE} {d : Nat} {x0 : Int32} {x1 : Int32} {h : zH} {Q : Value → zH → Prop} {E : Nat → zH → Prop} (H : (x1 ≤ x0 → ((¬ x0 = x1 → (Q (.int 1) h)) ∧ (x0 = x1 → (Q (.int 0) h)))) ∧ (¬ x1 ≤ x0 → (Q (.int (-1)) h))) : zP s0 m_J24_compare d 0 [some (.int (x0)), some (.int (x1))] [] h Q E := by
  refine z_iload_n (M := m_J24_compare) (k := 0) rfl dJ24_compare_0 ?_
  refine z_iload_n (M := m_J24_compare) (k := 1) rfl dJ24_compare_1 ?_
  refine z_icmpge (M := m_J24_compare) 9 rfl dJ24_compare_2 (fun hc => ?_) (fun hc => ?_)
  · have H := H.1 hc
    refine z_iload_n (M := m_J24_compare) (k := 0) rfl dJ24_compare_9 ?_
    refine z_iload_n (M := m_J24_compare) (k := 1) rfl dJ24_compare_10 ?_
    refine z_icmpne (M := m_J24_compare) 18 rfl dJ24_compare_11 (fun hc => ?_) (fun hc => ?_)
    · have H := H.1 hc
      refine z_iconst (M := m_J24_compare) (v := 1) (by decide) dJ24_compare_18 ?_
      exact z_ireturn (M := m_J24_compare) rfl rfl dJ24_compare_19 H
    · have H := H.2 hc
      refine z_iconst (M := m_J24_compare) (v := 0) (by decide) dJ24_compare_14 ?_
      refine z_goto (M := m_J24_compare) 19 rfl dJ24_compare_15 ?_
      exact z_ireturn (M := m_J24_compare) rfl rfl dJ24_compare_19 H
  · have H := H.2 hc
    refine z_iconst (M := m_J24_compare) (v := (-1)) (by decide) dJ24_compare_5 ?_
    refine z_goto (M := m_J24_compare) 19 rfl dJ24_compare_6 ?_
    exact z_ireturn (M := m_J24_compare) rfl rfl dJ24_compare_19 H
theorem c_J24_compare {s0 : zE} {d : Nat} {x0 : Int32} {x1 : Int32} {h : zH} {Q : Value → zH → Prop} {E : Nat → zH → Prop} (H : (x1 ≤ x0 → ((¬ x0 = x1 → (Q (.int 1) h)) ∧ (x0 = x1 → (Q (.int 0) h)))) ∧ (¬ x1 ≤ x0 → (Q (.int (-1)) h))) : zX s0 m_J24_compare d [.int (x0), .int (x1)] h Q E := zX.of2 rfl (by decide +kernel) (zlay_i (zlay_i (zlay_n znone0))) (zle rfl) (b_J24_compare_0 H)
theorem b_J24_compareTo_0 {s0 : zE} {d : Nat} {x0 : Nat} {x1 : Nat} {h : zH} {Q : Value → zH → Prop} {E : Nat → zH → Prop} (H : (x1 = 0 ∨ zCast h x1 "java/lang/Integer") ∧ ((fC h x0 52 ∧ zX s0 m_J24_compareTo_2 d [zr x0, zr (x1)] h (fun v1 h1 => ∃ r1 : Int32, v1 = .int (r1) ∧ (Q (.int r1) h1)) E))) : zP s0 m_J24_compareTo (d + 1) 0 [some (zr (x0)), some (zr (x1))] [] h Q E := by
  refine z_aload_n (M := m_J24_compareTo) (k := 0) rfl dJ24_compareTo_0 ?_
  refine z_aload_n (M := m_J24_compareTo) (k := 1) rfl dJ24_compareTo_1 ?_
  obtain ⟨g, H⟩ := H
  refine z_checkcast (M := m_J24_compareTo) q1032 dJ24_compareTo_2 g ?_
  obtain ⟨⟨fs9, g⟩, H⟩ := H
  refine z_invV (M := m_J24_compareTo) (cn := 52) (a := [zr (x1)]) ok_J24_compareTo_2 q2003 q2004 q2005 rfl dJ24_compareTo_5 g (Nat.le_refl _) (Nat.zero_le _) rfl H (fun v1 h1 H => ?_) (fun n9 h9 H => zPx.out rfl H)
  obtain ⟨r1, rfl, H⟩ := H
  show zP s0 m_J24_compareTo (d + 1) _ _ [.int (r1)] _ _ _
  exact z_ireturn (M := m_J24_compareTo) rfl rfl dJ24_compareTo_8 H
theorem c_J24_compareTo {s0 : zE} {d : Nat} {x0 : Nat} {x1 : Nat} {h : zH} {Q : Value → zH → Prop} {E : Nat → zH → Prop} (H : (x1 = 0 ∨ zCast h x1 "java/lang/Integer") ∧ ((fC h x0 52 ∧ zX s0 m_J24_compareTo_2 d [zr x0, zr (x1)] h (fun v1 h1 => ∃ r1 : Int32, v1 = .int (r1) ∧ (Q (.int r1) h1)) E))) : zX s0 m_J24_compareTo (d + 1) [zr (x0), zr (x1)] h Q E := zX.of2 rfl (by decide +kernel) (zlay_r (zlay_r (zlay_n znone0))) (zle rfl) (b_J24_compareTo_0 H)
theorem b_J24_compareTo_2_0 {s0 : zE} {d : Nat} {x0 : Nat} {x1 : Nat} {h : zH} {Q : Value → zH → Prop} {E : Nat → zH → Prop} (H : (fI h x0 [52] 0) ∧ ((fI h x1 [52] 0) ∧ (zX s0 m_J24_compare d [.int (gI h x0 0), .int (gI h x1 0)] h (fun v1 h1 => ∃ r1 : Int32, v1 = .int (r1) ∧ (Q (.int r1) h1)) E))) : zP s0 m_J24_compareTo_2 (d + 1) 0 [some (zr (x0)), some (zr (x1))] [] h Q E := by
  refine z_aload_n (M := m_J24_compareTo_2) (k := 0) rfl dJ24_compareTo_2_0 ?_
  obtain ⟨g, H⟩ := H
  refine z_get (M := m_J24_compareTo_2) f_J24_205 dJ24_compareTo_2_1 g ?_
  refine z_aload_n (M := m_J24_compareTo_2) (k := 1) rfl dJ24_compareTo_2_4 ?_
  obtain ⟨g, H⟩ := H
  refine z_get (M := m_J24_compareTo_2) f_J24_205 dJ24_compareTo_2_5 g ?_
  refine z_invS (M := m_J24_compareTo_2) (a := [.int (gI h x0 0), .int (gI h x1 0)]) ok_J24_compare q2007 q1995 dJ24_compareTo_2_8 (Nat.le_refl _) (Nat.zero_le _) rfl H (fun v1 h1 H => ?_) (fun n9 h9 H => zPx.out rfl H)
  obtain ⟨r1, rfl, H⟩ := H
  show zP s0 m_J24_compareTo_2 (d + 1) _ _ [.int (r1)] _ _ _
  exact z_ireturn (M := m_J24_compareTo_2) rfl rfl dJ24_compareTo_2_11 H
theorem c_J24_compareTo_2 {s0 : zE} {d : Nat} {x0 : Nat} {x1 : Nat} {h : zH} {Q : Value → zH → Prop} {E : Nat → zH → Prop} (H : (fI h x0 [52] 0) ∧ ((fI h x1 [52] 0) ∧ (zX s0 m_J24_compare d [.int (gI h x0 0), .int (gI h x1 0)] h (fun v1 h1 => ∃ r1 : Int32, v1 = .int (r1) ∧ (Q (.int r1) h1)) E))) : zX s0 m_J24_compareTo_2 (d + 1) [zr (x0), zr (x1)] h Q E := zX.of2 rfl (by decide +kernel) (zlay_r (zlay_r (zlay_n znone0))) (zle rfl) (b_J24_compareTo_2_0 H)
theorem b_J24_equals_0 {s0 : zE} {d : Nat} {x0 : Nat} {x1 : Nat} {h : zH} {Q : Value → zH → Prop} {E : Nat → zH → Prop} (H : ∃ b1 : Int32, zIns s0 h x1 "java/lang/Integer" b1 ∧ ((b1 = 0 → (Q (.int 0) h)) ∧ (¬ b1 = 0 → ((fI h x0 [52] 0) ∧ ((x1 = 0 ∨ zCast h x1 "java/lang/Integer") ∧ ((fC h x1 52 ∧ zX s0 m_J24_intValue d [zr x1] h (fun v1 h1 => ∃ r1 : Int32, v1 = .int (r1) ∧ ((¬ gI h x0 0 = r1 → (Q (.int 0) h1)) ∧ (gI h x0 0 = r1 → (Q (.int 1) h1)))) E))))))) : zP s0 m_J24_equals (d + 1) 0 [some (zr (x0)), some (zr (x1))] [] h Q E := by
  refine z_aload_n (M := m_J24_equals) (k := 1) rfl dJ24_equals_0 ?_
  obtain ⟨b1, g, H⟩ := H
  refine z_instof (M := m_J24_equals) q1032 dJ24_equals_1 g ?_
  refine z_ifeq (M := m_J24_equals) 27 rfl dJ24_equals_4 (fun hc => ?_) (fun hc => ?_)
  · have H := H.1 hc
    refine z_iconst (M := m_J24_equals) (v := 0) (by decide) dJ24_equals_27 ?_
    exact z_ireturn (M := m_J24_equals) rfl rfl dJ24_equals_28 H
  · have H := H.2 hc
    refine z_aload_n (M := m_J24_equals) (k := 0) rfl dJ24_equals_7 ?_
    obtain ⟨g, H⟩ := H
    refine z_get (M := m_J24_equals) f_J24_205 dJ24_equals_8 g ?_
    refine z_aload_n (M := m_J24_equals) (k := 1) rfl dJ24_equals_11 ?_
    obtain ⟨g, H⟩ := H
    refine z_checkcast (M := m_J24_equals) q1032 dJ24_equals_12 g ?_
    obtain ⟨⟨fs9, g⟩, H⟩ := H
    refine z_invV (M := m_J24_equals) (cn := 52) (a := []) ok_J24_intValue q1033 q1034 q1035 rfl dJ24_equals_15 g (Nat.le_refl _) (Nat.le_trans (zcati zcat0) (zle rfl)) rfl H (fun v1 h1 H => ?_) (fun n9 h9 H => zPx.out rfl H)
    obtain ⟨r1, rfl, H⟩ := H
    show zP s0 m_J24_equals (d + 1) _ _ [.int (r1), .int (gI h x0 0)] _ _ _
    refine z_icmpne (M := m_J24_equals) 25 rfl dJ24_equals_18 (fun hc => ?_) (fun hc => ?_)
    · have H := H.1 hc
      refine z_iconst (M := m_J24_equals) (v := 0) (by decide) dJ24_equals_25 ?_
      exact z_ireturn (M := m_J24_equals) rfl rfl dJ24_equals_26 H
    · have H := H.2 hc
      refine z_iconst (M := m_J24_equals) (v := 1) (by decide) dJ24_equals_21 ?_
      refine z_goto (M := m_J24_equals) 26 rfl dJ24_equals_22 ?_
      exact z_ireturn (M := m_J24_equals) rfl rfl dJ24_equals_26 H
theorem c_J24_equals {s0 : zE} {d : Nat} {x0 : Nat} {x1 : Nat} {h : zH} {Q : Value → zH → Prop} {E : Nat → zH → Prop} (H : ∃ b1 : Int32, zIns s0 h x1 "java/lang/Integer" b1 ∧ ((b1 = 0 → (Q (.int 0) h)) ∧ (¬ b1 = 0 → ((fI h x0 [52] 0) ∧ ((x1 = 0 ∨ zCast h x1 "java/lang/Integer") ∧ ((fC h x1 52 ∧ zX s0 m_J24_intValue d [zr x1] h (fun v1 h1 => ∃ r1 : Int32, v1 = .int (r1) ∧ ((¬ gI h x0 0 = r1 → (Q (.int 0) h1)) ∧ (gI h x0 0 = r1 → (Q (.int 1) h1)))) E))))))) : zX s0 m_J24_equals (d + 1) [zr (x0), zr (x1)] h Q E := zX.of2 rfl (by decide +kernel) (zlay_r (zlay_r (zlay_n znone0))) (zle rfl) (b_J24_equals_0 H)
theorem b_J24_getChars_0 {s0 : zE} {d : Nat} {x0 : Int32} {x1 : Int32} {x2 : Nat} {h : zH} {Q : Value → zH → Prop} {E : Nat → zH → Prop} (H : (0 ≤ x0 → (zP s0 m_J24_getChars d 12 [some (.int (x0)), none, some (zr (x2)), none, none, some (.int (x1)), none] [.int (0)] h Q E)) ∧ (¬ 0 ≤ x0 → (zP s0 m_J24_getChars d 12 [some (.int (x0)), none, some (zr (x2)), none, none, some (.int (x1)), none] [.int (1)] h Q E))) : zP s0 m_J24_getChars d 0 [some (.int (x0)), some (.int (x1)), some (zr (x2)), none, none, none, none] [] h Q E := by
  refine z_iload_n (M := m_J24_getChars) (k := 1) rfl dJ24_getChars_0 ?_
  refine z_istore (M := m_J24_getChars) 5 (zlt rfl) trivial dJ24_getChars_1 ?_
  show zP s0 m_J24_getChars d _ [some (.int (x0)), some (.int (x1)), some (zr (x2)), none, none, some (.int (x1)), none] _ _ _ _
  refine z_iload_n (M := m_J24_getChars) (k := 0) rfl dJ24_getChars_3 ?_
  refine z_ifge (M := m_J24_getChars) 11 rfl dJ24_getChars_4 (fun hc => ?_) (fun hc => ?_)
  · have H := H.1 hc
    refine z_iconst (M := m_J24_getChars) (v := 0) (by decide) dJ24_getChars_11 ?_
    exact zP.weak (ls' := [some (.int (x0)), none, some (zr (x2)), none, none, some (.int (x1)), none]) (zle rfl) (zsub_so (zsub_no (zsub_so (zsub_no (zsub_no (zsub_so (zsub_no zsub_nil))))))) H
  · have H := H.2 hc
    refine z_iconst (M := m_J24_getChars) (v := 1) (by decide) dJ24_getChars_7 ?_
    refine z_goto (M := m_J24_getChars) 12 rfl dJ24_getChars_8 ?_
    exact zP.weak (ls' := [some (.int (x0)), none, some (zr (x2)), none, none, some (.int (x1)), none]) (zle rfl) (zsub_so (zsub_no (zsub_so (zsub_no (zsub_no (zsub_so (zsub_no zsub_nil))))))) H
theorem c_J24_getChars {s0 : zE} {d : Nat} {x0 : Int32} {x1 : Int32} {x2 : Nat} {h : zH} {Q : Value → zH → Prop} {E : Nat → zH → Prop} (H : (0 ≤ x0 → (zP s0 m_J24_getChars d 12 [some (.int (x0)), none, some (zr (x2)), none, none, some (.int (x1)), none] [.int (0)] h Q E)) ∧ (¬ 0 ≤ x0 → (zP s0 m_J24_getChars d 12 [some (.int (x0)), none, some (zr (x2)), none, none, some (.int (x1)), none] [.int (1)] h Q E))) : zX s0 m_J24_getChars d [.int (x0), .int (x1), zr (x2)] h Q E := zX.of2 rfl (by decide +kernel) (zlay_i (zlay_i (zlay_r (zlay_n (znoneS (znoneS (znoneS (znoneS znone0)))))))) (zle rfl) (b_J24_getChars_0 H)
theorem b_J24_getChars_12 {s0 : zE} {d : Nat} {x0 : Int32} {x2 : Nat} {x5 : Int32} {t0 : Int32} {h : zH} {Q : Value → zH → Prop} {E : Nat → zH → Prop} (H : (¬ t0 = 0 → (zP s0 m_J24_getChars d 22 [some (.int (x0)), none, some (zr (x2)), none, none, some (.int (x5)), some (.int (t0))] [] h Q E)) ∧ (t0 = 0 → (zP s0 m_J24_getChars d 22 [some (.int (-x0)), none, some (zr (x2)), none, none, some (.int (x5)), some (.int (t0))] [] h Q E))) : zP s0 m_J24_getChars d 12 [some (.int (x0)), none, some (zr (x2)), none, none, some (.int (x5)), none] [.int (t0)] h Q E := by
  refine z_istore (M := m_J24_getChars) 6 (zlt rfl) rfl dJ24_getChars_12 ?_
  show zP s0 m_J24_getChars d _ [some (.int (x0)), none, some (zr (x2)), none, none, some (.int (x5)), some (.int (t0))] _ _ _ _
  refine z_iload (M := m_J24_getChars) (i := 6) rfl dJ24_getChars_14 ?_
  refine z_ifne (M := m_J24_getChars) 22 rfl dJ24_getChars_16 (fun hc => ?_) (fun hc => ?_)
  · have H := H.1 hc
    exact H
  · have H := H.2 hc
    refine z_iload_n (M := m_J24_getChars) (k := 0) rfl dJ24_getChars_19 ?_
    refine z_ineg (M := m_J24_getChars) dJ24_getChars_20 ?_
    refine z_istore_n (M := m_J24_getChars) (k := 0) 0 rfl (zlt rfl) trivial dJ24_getChars_21 ?_
    show zP s0 m_J24_getChars d _ [some (.int (-x0)), none, some (zr (x2)), none, none, some (.int (x5)), some (.int (t0))] _ _ _ _
    exact H
theorem b_J24_getChars_22 {s0 : zE} {d : Nat} {x0 : Int32} {x2 : Nat} {x5 : Int32} {x6 : Int32} {h : zH} {Q : Value → zH → Prop} {E : Nat → zH → Prop} (H : ((-100) < x0 → ((fE h (zst s0 "java/lang/Integer" "DigitOnes" "[B") 0 (-x0) (.int (eI h (zst s0 "java/lang/Integer" "DigitOnes" "[B") (-x0)))) ∧ ((fS s0 h x2 0 (x5 + (-1))) ∧ (∀ h1, h1 = zput h x2 ((x5 + (-1))).toNatClampNeg (narrow .byte (.int (eI h (zst s0 "java/lang/Integer" "DigitOnes" "[B") (-x0)))) → (((-9) ≤ x0 → (zP s0 m_J24_getChars d 104 [none, none, some (zr (x2)), none, none, some (.int (x5 + (-1))), some (.int (x6))] [] h1 Q E)) ∧ (¬ (-9) ≤ x0 → ((fE h1 (zst s0 "java/lang/Integer" "DigitTens" "[B") 0 (-x0) (.int (eI h1 (zst s0 "java/lang/Integer" "DigitTens" "[B") (-x0)))) ∧ ((fS s0 h1 x2 0 ((x5 + (-1)) + (-1))) ∧ (∀ h2, h2 = zput h1 x2 (((x5 + (-1)) + (-1))).toNatClampNeg (narrow .byte (.int (eI h1 (zst s0 "java/lang/Integer" "DigitTens" "[B") (-x0)))) → (zP s0 m_J24_getChars d 104 [none, none, some (zr (x2)), none, none, some (.int ((x5 + (-1)) + (-1))), some (.int (x6))] [] h2 Q E)))))))))) ∧ (¬ (-100) < x0 → ((fE h (zst s0 "java/lang/Integer" "DigitOnes" "[B") 0 (((x0 / 100) * 100) - x0) (.int (eI h (zst s0 "java/lang/Integer" "DigitOnes" "[B") (((x0 / 100) * 100) - x0)))) ∧ ((fS s0 h x2 0 (x5 + (-1))) ∧ (∀ h3, h3 = zput h x2 ((x5 + (-1))).toNatClampNeg (narrow .byte (.int (eI h (zst s0 "java/lang/Integer" "DigitOnes" "[B") (((x0 / 100) * 100) - x0)))) → ((fE h3 (zst s0 "java/lang/Integer" "DigitTens" "[B") 0 (((x0 / 100) * 100) - x0) (.int (eI h3 (zst s0 "java/lang/Integer" "DigitTens" "[B") (((x0 / 100) * 100) - x0)))) ∧ ((fS s0 h3 x2 0 ((x5 + (-1)) + (-1))) ∧ (∀ h4, h4 = zput h3 x2 (((x5 + (-1)) + (-1))).toNatClampNeg (narrow .byte (.int (eI h3 (zst s0 "java/lang/Integer" "DigitTens" "[B") (((x0 / 100) * 100) - x0)))) → (zP s0 m_J24_getChars d 22 [some (.int (x0 / 100)), none, some (zr (x2)), none, none, some (.int ((x5 + (-1)) + (-1))), some (.int (x6))] [] h4 Q E))))))))) : zP s0 m_J24_getChars d 22 [some (.int (x0)), none, some (zr (x2)), none, none, some (.int (x5)), some (.int (x6))] [] h Q E := by
  refine z_iload_n (M := m_J24_getChars) (k := 0) rfl dJ24_getChars_22 ?_
  refine z_bipush (M := m_J24_getChars) (v := (-100)) (by decide) dJ24_getChars_23 ?_
  refine z_icmpgt (M := m_J24_getChars) 72 rfl dJ24_getChars_25 (fun hc => ?_) (fun hc => ?_)
  · have H := H.1 hc
    refine z_aload_n (M := m_J24_getChars) (k := 2) rfl dJ24_getChars_72 ?_
    refine z_inc (M := m_J24_getChars) 5 (x5 + (-1)) (-1) (by decide) rfl rfl trivial dJ24_getChars_73 ?_
    show zP s0 m_J24_getChars d _ [some (.int (x0)), none, some (zr (x2)), none, none, some (.int (x5 + (-1))), some (.int (x6))] _ _ _ _
    refine z_iload (M := m_J24_getChars) (i := 5) rfl dJ24_getChars_76 ?_
    refine z_gets (M := m_J24_getChars) (k_Integer_DigitOnes (s0 := s0)) q1333 dJ24_getChars_78 ?_
    refine z_iload_n (M := m_J24_getChars) (k := 0) rfl dJ24_getChars_81 ?_
    refine z_ineg (M := m_J24_getChars) dJ24_getChars_82 ?_
    obtain ⟨g, H⟩ := H
    refine z_ildB (M := m_J24_getChars) dJ24_getChars_83 g ?_
    obtain ⟨g, H⟩ := H
    refine zz_istB (M := m_J24_getChars) dJ24_getChars_84 g (fun h1 e => ?_)
    have H := H h1 e
    refine z_iload_n (M := m_J24_getChars) (k := 0) rfl dJ24_getChars_85 ?_
    refine z_bipush (M := m_J24_getChars) (v := (-9)) (by decide) dJ24_getChars_86 ?_
    refine z_icmpge (M := m_J24_getChars) 104 rfl dJ24_getChars_88 (fun hc => ?_) (fun hc => ?_)
    · have H := H.1 hc
      exact zP.weak (ls' := [none, none, some (zr (x2)), none, none, some (.int (x5 + (-1))), some (.int (x6))]) (zle rfl) (zsub_no (zsub_no (zsub_so (zsub_no (zsub_no (zsub_so (zsub_so zsub_nil))))))) H
    · have H := H.2 hc
      refine z_aload_n (M := m_J24_getChars) (k := 2) rfl dJ24_getChars_91 ?_
      refine z_inc (M := m_J24_getChars) 5 ((x5 + (-1)) + (-1)) (-1) (by decide) rfl rfl trivial dJ24_getChars_92 ?_
      show zP s0 m_J24_getChars d _ [some (.int (x0)), none, some (zr (x2)), none, none, some (.int ((x5 + (-1)) + (-1))), some (.int (x6))] _ _ _ _
      refine z_iload (M := m_J24_getChars) (i := 5) rfl dJ24_getChars_95 ?_
      refine z_gets (M := m_J24_getChars) (k_Integer_DigitTens (s0 := s0)) q1335 dJ24_getChars_97 ?_
      refine z_iload_n (M := m_J24_getChars) (k := 0) rfl dJ24_getChars_100 ?_
      refine z_ineg (M := m_J24_getChars) dJ24_getChars_101 ?_
      obtain ⟨g, H⟩ := H
      refine z_ildB (M := m_J24_getChars) dJ24_getChars_102 g ?_
      obtain ⟨g, H⟩ := H
      refine zz_istB (M := m_J24_getChars) dJ24_getChars_103 g (fun h2 e => ?_)
      have H := H h2 e
      exact zP.weak (ls' := [none, none, some (zr (x2)), none, none, some (.int ((x5 + (-1)) + (-1))), some (.int (x6))]) (zle rfl) (zsub_no (zsub_no (zsub_so (zsub_no (zsub_no (zsub_so (zsub_so zsub_nil))))))) H
  · have H := H.2 hc
    refine z_iload_n (M := m_J24_getChars) (k := 0) rfl dJ24_getChars_28 ?_
    refine z_bipush (M := m_J24_getChars) (v := 100) (by decide) dJ24_getChars_29 ?_
    refine z_idiv (M := m_J24_getChars) (by decide) dJ24_getChars_31 ?_
    refine z_istore_n (M := m_J24_getChars) (k := 3) 3 rfl (zlt rfl) (zr_cat _) dJ24_getChars_32 ?_
    show zP s0 m_J24_getChars d _ [some (.int (x0)), none, some (zr (x2)), some (.int (x0 / 100)), none, some (.int (x5)), some (.int (x6))] _ _ _ _
    refine z_iload_n (M := m_J24_getChars) (k := 3) rfl dJ24_getChars_33 ?_
    refine z_bipush (M := m_J24_getChars) (v := 100) (by decide) dJ24_getChars_34 ?_
    refine z_imul (M := m_J24_getChars) dJ24_getChars_36 ?_
    refine z_iload_n (M := m_J24_getChars) (k := 0) rfl dJ24_getChars_37 ?_
    refine z_isub (M := m_J24_getChars) dJ24_getChars_38 ?_
    refine z_istore (M := m_J24_getChars) 4 (zlt rfl) rfl dJ24_getChars_39 ?_
    show zP s0 m_J24_getChars d _ [some (.int (x0)), none, some (zr (x2)), some (.int (x0 / 100)), some (.int (((x0 / 100) * 100) - x0)), some (.int (x5)), some (.int (x6))] _ _ _ _
    refine z_iload_n (M := m_J24_getChars) (k := 3) rfl dJ24_getChars_41 ?_
    refine z_istore_n (M := m_J24_getChars) (k := 0) 0 rfl (zlt rfl) trivial dJ24_getChars_42 ?_
    show zP s0 m_J24_getChars d _ [some (.int (x0 / 100)), none, some (zr (x2)), some (.int (x0 / 100)), some (.int (((x0 / 100) * 100) - x0)), some (.int (x5)), some (.int (x6))] _ _ _ _
    refine z_aload_n (M := m_J24_getChars) (k := 2) rfl dJ24_getChars_43 ?_
    refine z_inc (M := m_J24_getChars) 5 (x5 + (-1)) (-1) (by decide) rfl rfl rfl dJ24_getChars_44 ?_
    show zP s0 m_J24_getChars d _ [some (.int (x0 / 100)), none, some (zr (x2)), some (.int (x0 / 100)), some (.int (((x0 / 100) * 100) - x0)), some (.int (x5 + (-1))), some (.int (x6))] _ _ _ _
    refine z_iload (M := m_J24_getChars) (i := 5) rfl dJ24_getChars_47 ?_
    refine z_gets (M := m_J24_getChars) (k_Integer_DigitOnes (s0 := s0)) q1333 dJ24_getChars_49 ?_
    refine z_iload (M := m_J24_getChars) (i := 4) rfl dJ24_getChars_52 ?_
    obtain ⟨g, H⟩ := H
    refine z_ildB (M := m_J24_getChars) dJ24_getChars_54 g ?_
    obtain ⟨g, H⟩ := H
    refine zz_istB (M := m_J24_getChars) dJ24_getChars_55 g (fun h3 e => ?_)
    have H := H h3 e
    refine z_aload_n (M := m_J24_getChars) (k := 2) rfl dJ24_getChars_56 ?_
    refine z_inc (M := m_J24_getChars) 5 ((x5 + (-1)) + (-1)) (-1) (by decide) rfl rfl rfl dJ24_getChars_57 ?_
    show zP s0 m_J24_getChars d _ [some (.int (x0 / 100)), none, some (zr (x2)), some (.int (x0 / 100)), some (.int (((x0 / 100) * 100) - x0)), some (.int ((x5 + (-1)) + (-1))), some (.int (x6))] _ _ _ _
    refine z_iload (M := m_J24_getChars) (i := 5) rfl dJ24_getChars_60 ?_
    refine z_gets (M := m_J24_getChars) (k_Integer_DigitTens (s0 := s0)) q1335 dJ24_getChars_62 ?_
    refine z_iload (M := m_J24_getChars) (i := 4) rfl dJ24_getChars_65 ?_
    obtain ⟨g, H⟩ := H
    refine z_ildB (M := m_J24_getChars) dJ24_getChars_67 g ?_
    obtain ⟨g, H⟩ := H
    refine zz_istB (M := m_J24_getChars) dJ24_getChars_68 g (fun h4 e => ?_)
    have H := H h4 e
    refine z_goto (M := m_J24_getChars) 22 rfl dJ24_getChars_69 ?_
    exact zP.weak (ls' := [some (.int (x0 / 100)), none, some (zr (x2)), none, none, some (.int ((x5 + (-1)) + (-1))), some (.int (x6))]) (zle rfl) (zsub_so (zsub_no (zsub_so (zsub_no (zsub_no (zsub_so (zsub_so zsub_nil))))))) H
theorem b_J24_getChars_104 {s0 : zE} {d : Nat} {x2 : Nat} {x5 : Int32} {x6 : Int32} {h : zH} {Q : Value → zH → Prop} {E : Nat → zH → Prop} (H : (x6 = 0 → (Q (.int x5) h)) ∧ (¬ x6 = 0 → ((fS s0 h x2 0 (x5 + (-1))) ∧ (∀ h1, h1 = zput h x2 ((x5 + (-1))).toNatClampNeg (narrow .byte (.int 45)) → (Q (.int (x5 + (-1))) h1))))) : zP s0 m_J24_getChars d 104 [none, none, some (zr (x2)), none, none, some (.int (x5)), some (.int (x6))] [] h Q E := by
  refine z_iload (M := m_J24_getChars) (i := 6) rfl dJ24_getChars_104 ?_
  refine z_ifeq (M := m_J24_getChars) 118 rfl dJ24_getChars_106 (fun hc => ?_) (fun hc => ?_)
  · have H := H.1 hc
    refine z_iload (M := m_J24_getChars) (i := 5) rfl dJ24_getChars_118 ?_
    exact z_ireturn (M := m_J24_getChars) rfl rfl dJ24_getChars_120 H
  · have H := H.2 hc
    refine z_aload_n (M := m_J24_getChars) (k := 2) rfl dJ24_getChars_109 ?_
    refine z_inc (M := m_J24_getChars) 5 (x5 + (-1)) (-1) (by decide) rfl rfl trivial dJ24_getChars_110 ?_
    show zP s0 m_J24_getChars d _ [none, none, some (zr (x2)), none, none, some (.int (x5 + (-1))), some (.int (x6))] _ _ _ _
    refine z_iload (M := m_J24_getChars) (i := 5) rfl dJ24_getChars_113 ?_
    refine z_bipush (M := m_J24_getChars) (v := 45) (by decide) dJ24_getChars_115 ?_
    obtain ⟨g, H⟩ := H
    refine zz_istB (M := m_J24_getChars) dJ24_getChars_117 g (fun h1 e => ?_)
    have H := H h1 e
    refine z_iload (M := m_J24_getChars) (i := 5) rfl dJ24_getChars_118 ?_
    exact z_ireturn (M := m_J24_getChars) rfl rfl dJ24_getChars_120 H
theorem b_J24_hashCode_0 {s0 : zE} {d : Nat} {x0 : Nat} {h : zH} {Q : Value → zH → Prop} {E : Nat → zH → Prop} (H : (fI h x0 [52] 0) ∧ (zX s0 m_J24_hashCode_2 d [.int (gI h x0 0)] h (fun v1 h1 => ∃ r1 : Int32, v1 = .int (r1) ∧ (Q (.int r1) h1)) E)) : zP s0 m_J24_hashCode (d + 1) 0 [some (zr (x0))] [] h Q E := by
  refine z_aload_n (M := m_J24_hashCode) (k := 0) rfl dJ24_hashCode_0 ?_
  obtain ⟨g, H⟩ := H
  refine z_get (M := m_J24_hashCode) f_J24_205 dJ24_hashCode_1 g ?_
  refine z_invS (M := m_J24_hashCode) (a := [.int (gI h x0 0)]) ok_J24_hashCode_2 q2491 q2492 dJ24_hashCode_4 (Nat.le_refl _) (Nat.zero_le _) rfl H (fun v1 h1 H => ?_) (fun n9 h9 H => zPx.out rfl H)
  obtain ⟨r1, rfl, H⟩ := H
  show zP s0 m_J24_hashCode (d + 1) _ _ [.int (r1)] _ _ _
  exact z_ireturn (M := m_J24_hashCode) rfl rfl dJ24_hashCode_7 H
theorem c_J24_hashCode {s0 : zE} {d : Nat} {x0 : Nat} {h : zH} {Q : Value → zH → Prop} {E : Nat → zH → Prop} (H : (fI h x0 [52] 0) ∧ (zX s0 m_J24_hashCode_2 d [.int (gI h x0 0)] h (fun v1 h1 => ∃ r1 : Int32, v1 = .int (r1) ∧ (Q (.int r1) h1)) E)) : zX s0 m_J24_hashCode (d + 1) [zr (x0)] h Q E := zX.of2 rfl (by decide +kernel) (zlay_r (zlay_n znone0)) (zle rfl) (b_J24_hashCode_0 H)
theorem b_J24_hashCode_2_0 {s0 : zE} {d : Nat} {x0 : Int32} {h : zH} {Q : Value → zH → Prop} {E : Nat → zH → Prop} (H : Q (.int x0) h) : zP s0 m_J24_hashCode_2 d 0 [some (.int (x0))] [] h Q E := by
  refine z_iload_n (M := m_J24_hashCode_2) (k := 0) rfl dJ24_hashCode_2_0 ?_
  exact z_ireturn (M := m_J24_hashCode_2) rfl rfl dJ24_hashCode_2_1 H
theorem c_J24_hashCode_2 {s0 : zE} {d : Nat} {x0 : Int32} {h : zH} {Q : Value → zH → Prop} {E : Nat → zH → Prop} (H : Q (.int x0) h) : zX s0 m_J24_hashCode_2 d [.int (x0)] h Q E := zX.of2 rfl (by decide +kernel) (zlay_i (zlay_n znone0)) (zle rfl) (b_J24_hashCode_2_0 H)
theorem b_J24_init_0 {s0 : zE} {d : Nat} {x0 : Nat} {x1 : Int32} {h : zH} {Q : Value → zH → Prop} {E : Nat → zH → Prop} (H : (∃ c, fC h x0 c) ∧ (zX s0 m_J23_init d [zr x0] h (fun _ h1 => ((s0.1.heap.size < x0) ∧ ((fC h1 x0 52) ∧ (∀ h2, h2 = zput h1 x0 0 (.int (x1)) → (Q .null h2))))) E)) : zP s0 m_J24_init (d + 1) 0 [some (zr (x0)), some (.int (x1))] [] h Q E := by
  refine z_aload_n (M := m_J24_init) (k := 0) rfl dJ24_init_0 ?_
  obtain ⟨⟨c9, g⟩, H⟩ := H
  refine zz_invI (M := m_J24_init) (a := []) ok_J23_init rfl rfl q2662 q2663 dJ24_init_1 g (Nat.zero_le _) rfl H (fun v1 h1 H => ?_) (fun n9 h9 H => zPx.out rfl H)
  refine z_aload_n (M := m_J24_init) (k := 0) rfl dJ24_init_4 ?_
  refine z_iload_n (M := m_J24_init) (k := 1) rfl dJ24_init_5 ?_
  obtain ⟨gn, H⟩ := H
  obtain ⟨g, H⟩ := H
  refine zz_putO (M := m_J24_init) f_J24_205 dJ24_init_6 (⟨_, rfl, Or.inr ⟨rfl, rfl, rfl, q2666⟩⟩) gn g (ft_52_0) (fun h2 e => ?_)
  have H := H h2 e
  exact z_return (M := m_J24_init) rfl dJ24_init_9 H
theorem c_J24_init {s0 : zE} {d : Nat} {x0 : Nat} {x1 : Int32} {h : zH} {Q : Value → zH → Prop} {E : Nat → zH → Prop} (H : (∃ c, fC h x0 c) ∧ (zX s0 m_J23_init d [zr x0] h (fun _ h1 => ((s0.1.heap.size < x0) ∧ ((fC h1 x0 52) ∧ (∀ h2, h2 = zput h1 x0 0 (.int (x1)) → (Q .null h2))))) E)) : zX s0 m_J24_init (d + 1) [zr (x0), .int (x1)] h Q E := zX.of2 rfl (by decide +kernel) (zlay_r (zlay_i (zlay_n znone0))) (zle rfl) (b_J24_init_0 H)
theorem b_J24_intValue_0 {s0 : zE} {d : Nat} {x0 : Nat} {h : zH} {Q : Value → zH → Prop} {E : Nat → zH → Prop} (H : (fI h x0 [52] 0) ∧ (Q (.int (gI h x0 0)) h)) : zP s0 m_J24_intValue d 0 [some (zr (x0))] [] h Q E := by
  refine z_aload_n (M := m_J24_intValue) (k := 0) rfl dJ24_intValue_0 ?_
  obtain ⟨g, H⟩ := H
  refine z_get (M := m_J24_intValue) f_J24_205 dJ24_intValue_1 g ?_
  exact z_ireturn (M := m_J24_intValue) rfl rfl dJ24_intValue_4 H
theorem c_J24_intValue {s0 : zE} {d : Nat} {x0 : Nat} {h : zH} {Q : Value → zH → Prop} {E : Nat → zH → Prop} (H : (fI h x0 [52] 0) ∧ (Q (.int (gI h x0 0)) h)) : zX s0 m_J24_intValue d [zr (x0)] h Q E := zX.of2 rfl (by decide +kernel) (zlay_r (zlay_n znone0)) (zle rfl) (b_J24_intValue_0 H)
theorem b_J24_numberOfLeadingZeros_0 {s0 : zE} {d : Nat} {x0 : Int32} {h : zH} {Q : Value → zH → Prop} {E : Nat → zH → Prop} (H : (0 < x0 → ((x0 < 65536 → (zP s0 m_J24_numberOfLeadingZeros d 33 [some (.int (x0)), some (.int (31))] [] h Q E)) ∧ (¬ x0 < 65536 → (zP s0 m_J24_numberOfLeadingZeros d 33 [some (.int ((x0.toUInt32 >>> ((16 : Int32).toUInt32 &&& Int32.toUInt32 31)).toInt32)), some (.int (31 + (-16)))] [] h Q E)))) ∧ (¬ 0 < x0 → ((¬ x0 = 0 → (Q (.int 0) h)) ∧ (x0 = 0 → (Q (.int 32) h))))) : zP s0 m_J24_numberOfLeadingZeros d 0 [some (.int (x0)), none] [] h Q E := by
  refine z_iload_n (M := m_J24_numberOfLeadingZeros) (k := 0) rfl dJ24_numberOfLeadingZeros_0 ?_
  refine z_ifgt (M := m_J24_numberOfLeadingZeros) 15 rfl dJ24_numberOfLeadingZeros_1 (fun hc => ?_) (fun hc => ?_)
  · have H := H.1 hc
    refine z_bipush (M := m_J24_numberOfLeadingZeros) (v := 31) (by decide) dJ24_numberOfLeadingZeros_15 ?_
    refine z_istore_n (M := m_J24_numberOfLeadingZeros) (k := 1) 1 rfl (zlt rfl) rfl dJ24_numberOfLeadingZeros_17 ?_
    show zP s0 m_J24_numberOfLeadingZeros d _ [some (.int (x0)), some (.int (31))] _ _ _ _
    refine z_iload_n (M := m_J24_numberOfLeadingZeros) (k := 0) rfl dJ24_numberOfLeadingZeros_18 ?_
    refine z_ldcw (M := m_J24_numberOfLeadingZeros) (v := 65536) q2099 dJ24_numberOfLeadingZeros_19 ?_
    refine z_icmplt (M := m_J24_numberOfLeadingZeros) 33 rfl dJ24_numberOfLeadingZeros_22 (fun hc => ?_) (fun hc => ?_)
    · have H := H.1 hc
      exact H
    · have H := H.2 hc
      refine z_inc (M := m_J24_numberOfLeadingZeros) 1 (31 + (-16)) (-16) (by decide) rfl rfl rfl dJ24_numberOfLeadingZeros_25 ?_
      show zP s0 m_J24_numberOfLeadingZeros d _ [some (.int (x0)), some (.int (31 + (-16)))] _ _ _ _
      refine z_iload_n (M := m_J24_numberOfLeadingZeros) (k := 0) rfl dJ24_numberOfLeadingZeros_28 ?_
      refine z_bipush (M := m_J24_numberOfLeadingZeros) (v := 16) (by decide) dJ24_numberOfLeadingZeros_29 ?_
      refine z_iushr (M := m_J24_numberOfLeadingZeros) dJ24_numberOfLeadingZeros_31 ?_
      refine z_istore_n (M := m_J24_numberOfLeadingZeros) (k := 0) 0 rfl (zlt rfl) trivial dJ24_numberOfLeadingZeros_32 ?_
      show zP s0 m_J24_numberOfLeadingZeros d _ [some (.int ((x0.toUInt32 >>> ((16 : Int32).toUInt32 &&& Int32.toUInt32 31)).toInt32)), some (.int (31 + (-16)))] _ _ _ _
      exact H
  · have H := H.2 hc
    refine z_iload_n (M := m_J24_numberOfLeadingZeros) (k := 0) rfl dJ24_numberOfLeadingZeros_4 ?_
    refine z_ifne (M := m_J24_numberOfLeadingZeros) 13 rfl dJ24_numberOfLeadingZeros_5 (fun hc => ?_) (fun hc => ?_)
    · have H := H.1 hc
      refine z_iconst (M := m_J24_numberOfLeadingZeros) (v := 0) (by decide) dJ24_numberOfLeadingZeros_13 ?_
      exact z_ireturn (M := m_J24_numberOfLeadingZeros) rfl rfl dJ24_numberOfLeadingZeros_14 H
    · have H := H.2 hc
      refine z_bipush (M := m_J24_numberOfLeadingZeros) (v := 32) (by decide) dJ24_numberOfLeadingZeros_8 ?_
      refine z_goto (M := m_J24_numberOfLeadingZeros) 14 rfl dJ24_numberOfLeadingZeros_10 ?_
      exact z_ireturn (M := m_J24_numberOfLeadingZeros) rfl rfl dJ24_numberOfLeadingZeros_14 H
theorem c_J24_numberOfLeadingZeros {s0 : zE} {d : Nat} {x0 : Int32} {h : zH} {Q : Value → zH → Prop} {E : Nat → zH → Prop} (H : (0 < x0 → ((x0 < 65536 → (zP s0 m_J24_numberOfLeadingZeros d 33 [some (.int (x0)), some (.int (31))] [] h Q E)) ∧ (¬ x0 < 65536 → (zP s0 m_J24_numberOfLeadingZeros d 33 [some (.int ((x0.toUInt32 >>> ((16 : Int32).toUInt32 &&& Int32.toUInt32 31)).toInt32)), some (.int (31 + (-16)))] [] h Q E)))) ∧ (¬ 0 < x0 → ((¬ x0 = 0 → (Q (.int 0) h)) ∧ (x0 = 0 → (Q (.int 32) h))))) : zX s0 m_J24_numberOfLeadingZeros d [.int (x0)] h Q E := zX.of2 rfl (by decide +kernel) (zlay_i (zlay_n (znoneS znone0))) (zle rfl) (b_J24_numberOfLeadingZeros_0 H)
theorem b_J24_numberOfLeadingZeros_33 {s0 : zE} {d : Nat} {x0 : Int32} {x1 : Int32} {h : zH} {Q : Value → zH → Prop} {E : Nat → zH → Prop} (H : (x0 < 256 → (zP s0 m_J24_numberOfLeadingZeros d 48 [some (.int (x0)), some (.int (x1))] [] h Q E)) ∧ (¬ x0 < 256 → (zP s0 m_J24_numberOfLeadingZeros d 48 [some (.int ((x0.toUInt32 >>> ((8 : Int32).toUInt32 &&& Int32.toUInt32 31)).toInt32)), some (.int (x1 + (-8)))] [] h Q E))) : zP s0 m_J24_numberOfLeadingZeros d 33 [some (.int (x0)), some (.int (x1))] [] h Q E := by
  refine z_iload_n (M := m_J24_numberOfLeadingZeros) (k := 0) rfl dJ24_numberOfLeadingZeros_33 ?_
  refine z_sipush (M := m_J24_numberOfLeadingZeros) (v := 256) (by decide) dJ24_numberOfLeadingZeros_34 ?_
  refine z_icmplt (M := m_J24_numberOfLeadingZeros) 48 rfl dJ24_numberOfLeadingZeros_37 (fun hc => ?_) (fun hc => ?_)
  · have H := H.1 hc
    exact H
  · have H := H.2 hc
    refine z_inc (M := m_J24_numberOfLeadingZeros) 1 (x1 + (-8)) (-8) (by decide) rfl rfl rfl dJ24_numberOfLeadingZeros_40 ?_
    show zP s0 m_J24_numberOfLeadingZeros d _ [some (.int (x0)), some (.int (x1 + (-8)))] _ _ _ _
    refine z_iload_n (M := m_J24_numberOfLeadingZeros) (k := 0) rfl dJ24_numberOfLeadingZeros_43 ?_
    refine z_bipush (M := m_J24_numberOfLeadingZeros) (v := 8) (by decide) dJ24_numberOfLeadingZeros_44 ?_
    refine z_iushr (M := m_J24_numberOfLeadingZeros) dJ24_numberOfLeadingZeros_46 ?_
    refine z_istore_n (M := m_J24_numberOfLeadingZeros) (k := 0) 0 rfl (zlt rfl) trivial dJ24_numberOfLeadingZeros_47 ?_
    show zP s0 m_J24_numberOfLeadingZeros d _ [some (.int ((x0.toUInt32 >>> ((8 : Int32).toUInt32 &&& Int32.toUInt32 31)).toInt32)), some (.int (x1 + (-8)))] _ _ _ _
    exact H
theorem b_J24_numberOfLeadingZeros_48 {s0 : zE} {d : Nat} {x0 : Int32} {x1 : Int32} {h : zH} {Q : Value → zH → Prop} {E : Nat → zH → Prop} (H : (x0 < 16 → (zP s0 m_J24_numberOfLeadingZeros d 61 [some (.int (x0)), some (.int (x1))] [] h Q E)) ∧ (¬ x0 < 16 → (zP s0 m_J24_numberOfLeadingZeros d 61 [some (.int ((x0.toUInt32 >>> ((4 : Int32).toUInt32 &&& Int32.toUInt32 31)).toInt32)), some (.int (x1 + (-4)))] [] h Q E))) : zP s0 m_J24_numberOfLeadingZeros d 48 [some (.int (x0)), some (.int (x1))] [] h Q E := by
  refine z_iload_n (M := m_J24_numberOfLeadingZeros) (k := 0) rfl dJ24_numberOfLeadingZeros_48 ?_
  refine z_bipush (M := m_J24_numberOfLeadingZeros) (v := 16) (by decide) dJ24_numberOfLeadingZeros_49 ?_
  refine z_icmplt (M := m_J24_numberOfLeadingZeros) 61 rfl dJ24_numberOfLeadingZeros_51 (fun hc => ?_) (fun hc => ?_)
  · have H := H.1 hc
    exact H
  · have H := H.2 hc
    refine z_inc (M := m_J24_numberOfLeadingZeros) 1 (x1 + (-4)) (-4) (by decide) rfl rfl rfl dJ24_numberOfLeadingZeros_54 ?_
    show zP s0 m_J24_numberOfLeadingZeros d _ [some (.int (x0)), some (.int (x1 + (-4)))] _ _ _ _
    refine z_iload_n (M := m_J24_numberOfLeadingZeros) (k := 0) rfl dJ24_numberOfLeadingZeros_57 ?_
    refine z_iconst (M := m_J24_numberOfLeadingZeros) (v := 4) (by decide) dJ24_numberOfLeadingZeros_58 ?_
    refine z_iushr (M := m_J24_numberOfLeadingZeros) dJ24_numberOfLeadingZeros_59 ?_
    refine z_istore_n (M := m_J24_numberOfLeadingZeros) (k := 0) 0 rfl (zlt rfl) trivial dJ24_numberOfLeadingZeros_60 ?_
    show zP s0 m_J24_numberOfLeadingZeros d _ [some (.int ((x0.toUInt32 >>> ((4 : Int32).toUInt32 &&& Int32.toUInt32 31)).toInt32)), some (.int (x1 + (-4)))] _ _ _ _
    exact H
theorem b_J24_numberOfLeadingZeros_61 {s0 : zE} {d : Nat} {x0 : Int32} {x1 : Int32} {h : zH} {Q : Value → zH → Prop} {E : Nat → zH → Prop} (H : (x0 < 4 → (Q (.int (x1 - ((x0.toUInt32 >>> ((1 : Int32).toUInt32 &&& Int32.toUInt32 31)).toInt32))) h)) ∧ (¬ x0 < 4 → (Q (.int ((x1 + (-2)) - ((((x0.toUInt32 >>> ((2 : Int32).toUInt32 &&& Int32.toUInt32 31)).toInt32).toUInt32 >>> ((1 : Int32).toUInt32 &&& Int32.toUInt32 31)).toInt32))) h))) : zP s0 m_J24_numberOfLeadingZeros d 61 [some (.int (x0)), some (.int (x1))] [] h Q E := by
  refine z_iload_n (M := m_J24_numberOfLeadingZeros) (k := 0) rfl dJ24_numberOfLeadingZeros_61 ?_
  refine z_iconst (M := m_J24_numberOfLeadingZeros) (v := 4) (by decide) dJ24_numberOfLeadingZeros_62 ?_
  refine z_icmplt (M := m_J24_numberOfLeadingZeros) 73 rfl dJ24_numberOfLeadingZeros_63 (fun hc => ?_) (fun hc => ?_)
  · have H := H.1 hc
    refine z_iload_n (M := m_J24_numberOfLeadingZeros) (k := 1) rfl dJ24_numberOfLeadingZeros_73 ?_
    refine z_iload_n (M := m_J24_numberOfLeadingZeros) (k := 0) rfl dJ24_numberOfLeadingZeros_74 ?_
    refine z_iconst (M := m_J24_numberOfLeadingZeros) (v := 1) (by decide) dJ24_numberOfLeadingZeros_75 ?_
    refine z_iushr (M := m_J24_numberOfLeadingZeros) dJ24_numberOfLeadingZeros_76 ?_
    refine z_isub (M := m_J24_numberOfLeadingZeros) dJ24_numberOfLeadingZeros_77 ?_
    exact z_ireturn (M := m_J24_numberOfLeadingZeros) rfl rfl dJ24_numberOfLeadingZeros_78 H
  · have H := H.2 hc
    refine z_inc (M := m_J24_numberOfLeadingZeros) 1 (x1 + (-2)) (-2) (by decide) rfl rfl rfl dJ24_numberOfLeadingZeros_66 ?_
    show zP s0 m_J24_numberOfLeadingZeros d _ [some (.int (x0)), some (.int (x1 + (-2)))] _ _ _ _
    refine z_iload_n (M := m_J24_numberOfLeadingZeros) (k := 0) rfl dJ24_numberOfLeadingZeros_69 ?_
    refine z_iconst (M := m_J24_numberOfLeadingZeros) (v := 2) (by decide) dJ24_numberOfLeadingZeros_70 ?_
    refine z_iushr (M := m_J24_numberOfLeadingZeros) dJ24_numberOfLeadingZeros_71 ?_
    refine z_istore_n (M := m_J24_numberOfLeadingZeros) (k := 0) 0 rfl (zlt rfl) trivial dJ24_numberOfLeadingZeros_72 ?_
    show zP s0 m_J24_numberOfLeadingZeros d _ [some (.int ((x0.toUInt32 >>> ((2 : Int32).toUInt32 &&& Int32.toUInt32 31)).toInt32)), some (.int (x1 + (-2)))] _ _ _ _
    refine z_iload_n (M := m_J24_numberOfLeadingZeros) (k := 1) rfl dJ24_numberOfLeadingZeros_73 ?_
    refine z_iload_n (M := m_J24_numberOfLeadingZeros) (k := 0) rfl dJ24_numberOfLeadingZeros_74 ?_
    refine z_iconst (M := m_J24_numberOfLeadingZeros) (v := 1) (by decide) dJ24_numberOfLeadingZeros_75 ?_
    refine z_iushr (M := m_J24_numberOfLeadingZeros) dJ24_numberOfLeadingZeros_76 ?_
    refine z_isub (M := m_J24_numberOfLeadingZeros) dJ24_numberOfLeadingZeros_77 ?_
    exact z_ireturn (M := m_J24_numberOfLeadingZeros) rfl rfl dJ24_numberOfLeadingZeros_78 H
theorem b_J24_numberOfTrailingZeros_0 {s0 : zE} {d : Nat} {x0 : Int32} {h : zH} {Q : Value → zH → Prop} {E : Nat → zH → Prop} (H : (0 < (x0 ^^^ (-1)) &&& (x0 - 1) → (((x0 ^^^ (-1)) &&& (x0 - 1) ≤ 65536 → (zP s0 m_J24_numberOfTrailingZeros d 34 [some (.int ((x0 ^^^ (-1)) &&& (x0 - 1))), some (.int (1))] [] h Q E)) ∧ (¬ (x0 ^^^ (-1)) &&& (x0 - 1) ≤ 65536 → (zP s0 m_J24_numberOfTrailingZeros d 34 [some (.int ((((x0 ^^^ (-1)) &&& (x0 - 1)).toUInt32 >>> ((16 : Int32).toUInt32 &&& Int32.toUInt32 31)).toInt32)), some (.int (1 + 16))] [] h Q E)))) ∧ (¬ 0 < (x0 ^^^ (-1)) &&& (x0 - 1) → (Q (.int (((x0 ^^^ (-1)) &&& (x0 - 1)) &&& 32)) h))) : zP s0 m_J24_numberOfTrailingZeros d 0 [some (.int (x0)), none] [] h Q E := by
  refine z_iload_n (M := m_J24_numberOfTrailingZeros) (k := 0) rfl dJ24_numberOfTrailingZeros_0 ?_
  refine z_iconst (M := m_J24_numberOfTrailingZeros) (v := (-1)) (by decide) dJ24_numberOfTrailingZeros_1 ?_
  refine z_ixor (M := m_J24_numberOfTrailingZeros) dJ24_numberOfTrailingZeros_2 ?_
  refine z_iload_n (M := m_J24_numberOfTrailingZeros) (k := 0) rfl dJ24_numberOfTrailingZeros_3 ?_
  refine z_iconst (M := m_J24_numberOfTrailingZeros) (v := 1) (by decide) dJ24_numberOfTrailingZeros_4 ?_
  refine z_isub (M := m_J24_numberOfTrailingZeros) dJ24_numberOfTrailingZeros_5 ?_
  refine z_iand (M := m_J24_numberOfTrailingZeros) dJ24_numberOfTrailingZeros_6 ?_
  refine z_istore_n (M := m_J24_numberOfTrailingZeros) (k := 0) 0 rfl (zlt rfl) trivial dJ24_numberOfTrailingZeros_7 ?_
  show zP s0 m_J24_numberOfTrailingZeros d _ [some (.int ((x0 ^^^ (-1)) &&& (x0 - 1))), none] _ _ _ _
  refine z_iload_n (M := m_J24_numberOfTrailingZeros) (k := 0) rfl dJ24_numberOfTrailingZeros_8 ?_
  refine z_ifgt (M := m_J24_numberOfTrailingZeros) 17 rfl dJ24_numberOfTrailingZeros_9 (fun hc => ?_) (fun hc => ?_)
  · have H := H.1 hc
    refine z_iconst (M := m_J24_numberOfTrailingZeros) (v := 1) (by decide) dJ24_numberOfTrailingZeros_17 ?_
    refine z_istore_n (M := m_J24_numberOfTrailingZeros) (k := 1) 1 rfl (zlt rfl) rfl dJ24_numberOfTrailingZeros_18 ?_
    show zP s0 m_J24_numberOfTrailingZeros d _ [some (.int ((x0 ^^^ (-1)) &&& (x0 - 1))), some (.int (1))] _ _ _ _
    refine z_iload_n (M := m_J24_numberOfTrailingZeros) (k := 0) rfl dJ24_numberOfTrailingZeros_19 ?_
    refine z_ldcw (M := m_J24_numberOfTrailingZeros) (v := 65536) q2099 dJ24_numberOfTrailingZeros_20 ?_
    refine z_icmple (M := m_J24_numberOfTrailingZeros) 34 rfl dJ24_numberOfTrailingZeros_23 (fun hc => ?_) (fun hc => ?_)
    · have H := H.1 hc
      exact H
    · have H := H.2 hc
      refine z_inc (M := m_J24_numberOfTrailingZeros) 1 (1 + 16) 16 (by decide) rfl rfl rfl dJ24_numberOfTrailingZeros_26 ?_
      show zP s0 m_J24_numberOfTrailingZeros d _ [some (.int ((x0 ^^^ (-1)) &&& (x0 - 1))), some (.int (1 + 16))] _ _ _ _
      refine z_iload_n (M := m_J24_numberOfTrailingZeros) (k := 0) rfl dJ24_numberOfTrailingZeros_29 ?_
      refine z_bipush (M := m_J24_numberOfTrailingZeros) (v := 16) (by decide) dJ24_numberOfTrailingZeros_30 ?_
      refine z_iushr (M := m_J24_numberOfTrailingZeros) dJ24_numberOfTrailingZeros_32 ?_
      refine z_istore_n (M := m_J24_numberOfTrailingZeros) (k := 0) 0 rfl (zlt rfl) trivial dJ24_numberOfTrailingZeros_33 ?_
      show zP s0 m_J24_numberOfTrailingZeros d _ [some (.int ((((x0 ^^^ (-1)) &&& (x0 - 1)).toUInt32 >>> ((16 : Int32).toUInt32 &&& Int32.toUInt32 31)).toInt32)), some (.int (1 + 16))] _ _ _ _
      exact H
  · have H := H.2 hc
    refine z_iload_n (M := m_J24_numberOfTrailingZeros) (k := 0) rfl dJ24_numberOfTrailingZeros_12 ?_
    refine z_bipush (M := m_J24_numberOfTrailingZeros) (v := 32) (by decide) dJ24_numberOfTrailingZeros_13 ?_
    refine z_iand (M := m_J24_numberOfTrailingZeros) dJ24_numberOfTrailingZeros_15 ?_
    exact z_ireturn (M := m_J24_numberOfTrailingZeros) rfl rfl dJ24_numberOfTrailingZeros_16 H
theorem c_J24_numberOfTrailingZeros {s0 : zE} {d : Nat} {x0 : Int32} {h : zH} {Q : Value → zH → Prop} {E : Nat → zH → Prop} (H : (0 < (x0 ^^^ (-1)) &&& (x0 - 1) → (((x0 ^^^ (-1)) &&& (x0 - 1) ≤ 65536 → (zP s0 m_J24_numberOfTrailingZeros d 34 [some (.int ((x0 ^^^ (-1)) &&& (x0 - 1))), some (.int (1))] [] h Q E)) ∧ (¬ (x0 ^^^ (-1)) &&& (x0 - 1) ≤ 65536 → (zP s0 m_J24_numberOfTrailingZeros d 34 [some (.int ((((x0 ^^^ (-1)) &&& (x0 - 1)).toUInt32 >>> ((16 : Int32).toUInt32 &&& Int32.toUInt32 31)).toInt32)), some (.int (1 + 16))] [] h Q E)))) ∧ (¬ 0 < (x0 ^^^ (-1)) &&& (x0 - 1) → (Q (.int (((x0 ^^^ (-1)) &&& (x0 - 1)) &&& 32)) h))) : zX s0 m_J24_numberOfTrailingZeros d [.int (x0)] h Q E := zX.of2 rfl (by decide +kernel) (zlay_i (zlay_n (znoneS znone0))) (zle rfl) (b_J24_numberOfTrailingZeros_0 H)
theorem b_J24_numberOfTrailingZeros_34 {s0 : zE} {d : Nat} {x0 : Int32} {x1 : Int32} {h : zH} {Q : Value → zH → Prop} {E : Nat → zH → Prop} (H : (x0 ≤ 256 → (zP s0 m_J24_numberOfTrailingZeros d 49 [some (.int (x0)), some (.int (x1))] [] h Q E)) ∧ (¬ x0 ≤ 256 → (zP s0 m_J24_numberOfTrailingZeros d 49 [some (.int ((x0.toUInt32 >>> ((8 : Int32).toUInt32 &&& Int32.toUInt32 31)).toInt32)), some (.int (x1 + 8))] [] h Q E))) : zP s0 m_J24_numberOfTrailingZeros d 34 [some (.int (x0)), some (.int (x1))] [] h Q E := by
  refine z_iload_n (M := m_J24_numberOfTrailingZeros) (k := 0) rfl dJ24_numberOfTrailingZeros_34 ?_
  refine z_sipush (M := m_J24_numberOfTrailingZeros) (v := 256) (by decide) dJ24_numberOfTrailingZeros_35 ?_
  refine z_icmple (M := m_J24_numberOfTrailingZeros) 49 rfl dJ24_numberOfTrailingZeros_38 (fun hc => ?_) (fun hc => ?_)
  · have H := H.1 hc
    exact H
  · have H := H.2 hc
    refine z_inc (M := m_J24_numberOfTrailingZeros) 1 (x1 + 8) 8 (by decide) rfl rfl rfl dJ24_numberOfTrailingZeros_41 ?_
    show zP s0 m_J24_numberOfTrailingZeros d _ [some (.int (x0)), some (.int (x1 + 8))] _ _ _ _
    refine z_iload_n (M := m_J24_numberOfTrailingZeros) (k := 0) rfl dJ24_numberOfTrailingZeros_44 ?_
    refine z_bipush (M := m_J24_numberOfTrailingZeros) (v := 8) (by decide) dJ24_numberOfTrailingZeros_45 ?_
    refine z_iushr (M := m_J24_numberOfTrailingZeros) dJ24_numberOfTrailingZeros_47 ?_
    refine z_istore_n (M := m_J24_numberOfTrailingZeros) (k := 0) 0 rfl (zlt rfl) trivial dJ24_numberOfTrailingZeros_48 ?_
    show zP s0 m_J24_numberOfTrailingZeros d _ [some (.int ((x0.toUInt32 >>> ((8 : Int32).toUInt32 &&& Int32.toUInt32 31)).toInt32)), some (.int (x1 + 8))] _ _ _ _
    exact H
theorem b_J24_numberOfTrailingZeros_49 {s0 : zE} {d : Nat} {x0 : Int32} {x1 : Int32} {h : zH} {Q : Value → zH → Prop} {E : Nat → zH → Prop} (H : (x0 ≤ 16 → (zP s0 m_J24_numberOfTrailingZeros d 62 [some (.int (x0)), some (.int (x1))] [] h Q E)) ∧ (¬ x0 ≤ 16 → (zP s0 m_J24_numberOfTrailingZeros d 62 [some (.int ((x0.toUInt32 >>> ((4 : Int32).toUInt32 &&& Int32.toUInt32 31)).toInt32)), some (.int (x1 + 4))] [] h Q E))) : zP s0 m_J24_numberOfTrailingZeros d 49 [some (.int (x0)), some (.int (x1))] [] h Q E := by
  refine z_iload_n (M := m_J24_numberOfTrailingZeros) (k := 0) rfl dJ24_numberOfTrailingZeros_49 ?_
  refine z_bipush (M := m_J24_numberOfTrailingZeros) (v := 16) (by decide) dJ24_numberOfTrailingZeros_50 ?_
  refine z_icmple (M := m_J24_numberOfTrailingZeros) 62 rfl dJ24_numberOfTrailingZeros_52 (fun hc => ?_) (fun hc => ?_)
  · have H := H.1 hc
    exact H
  · have H := H.2 hc
    refine z_inc (M := m_J24_numberOfTrailingZeros) 1 (x1 + 4) 4 (by decide) rfl rfl rfl dJ24_numberOfTrailingZeros_55 ?_
    show zP s0 m_J24_numberOfTrailingZeros d _ [some (.int (x0)), some (.int (x1 + 4))] _ _ _ _
    refine z_iload_n (M := m_J24_numberOfTrailingZeros) (k := 0) rfl dJ24_numberOfTrailingZeros_58 ?_
    refine z_iconst (M := m_J24_numberOfTrailingZeros) (v := 4) (by decide) dJ24_numberOfTrailingZeros_59 ?_
    refine z_iushr (M := m_J24_numberOfTrailingZeros) dJ24_numberOfTrailingZeros_60 ?_
    refine z_istore_n (M := m_J24_numberOfTrailingZeros) (k := 0) 0 rfl (zlt rfl) trivial dJ24_numberOfTrailingZeros_61 ?_
    show zP s0 m_J24_numberOfTrailingZeros d _ [some (.int ((x0.toUInt32 >>> ((4 : Int32).toUInt32 &&& Int32.toUInt32 31)).toInt32)), some (.int (x1 + 4))] _ _ _ _
    exact H
theorem b_J24_numberOfTrailingZeros_62 {s0 : zE} {d : Nat} {x0 : Int32} {x1 : Int32} {h : zH} {Q : Value → zH → Prop} {E : Nat → zH → Prop} (H : (x0 ≤ 4 → (Q (.int (x1 + ((x0.toUInt32 >>> ((1 : Int32).toUInt32 &&& Int32.toUInt32 31)).toInt32))) h)) ∧ (¬ x0 ≤ 4 → (Q (.int ((x1 + 2) + ((((x0.toUInt32 >>> ((2 : Int32).toUInt32 &&& Int32.toUInt32 31)).toInt32).toUInt32 >>> ((1 : Int32).toUInt32 &&& Int32.toUInt32 31)).toInt32))) h))) : zP s0 m_J24_numberOfTrailingZeros d 62 [some (.int (x0)), some (.int (x1))] [] h Q E := by
  refine z_iload_n (M := m_J24_numberOfTrailingZeros) (k := 0) rfl dJ24_numberOfTrailingZeros_62 ?_
  refine z_iconst (M := m_J24_numberOfTrailingZeros) (v := 4) (by decide) dJ24_numberOfTrailingZeros_63 ?_
  refine z_icmple (M := m_J24_numberOfTrailingZeros) 74 rfl dJ24_numberOfTrailingZeros_64 (fun hc => ?_) (fun hc => ?_)
  · have H := H.1 hc
    refine z_iload_n (M := m_J24_numberOfTrailingZeros) (k := 1) rfl dJ24_numberOfTrailingZeros_74 ?_
    refine z_iload_n (M := m_J24_numberOfTrailingZeros) (k := 0) rfl dJ24_numberOfTrailingZeros_75 ?_
    refine z_iconst (M := m_J24_numberOfTrailingZeros) (v := 1) (by decide) dJ24_numberOfTrailingZeros_76 ?_
    refine z_iushr (M := m_J24_numberOfTrailingZeros) dJ24_numberOfTrailingZeros_77 ?_
    refine z_iadd (M := m_J24_numberOfTrailingZeros) dJ24_numberOfTrailingZeros_78 ?_
    exact z_ireturn (M := m_J24_numberOfTrailingZeros) rfl rfl dJ24_numberOfTrailingZeros_79 H
  · have H := H.2 hc
    refine z_inc (M := m_J24_numberOfTrailingZeros) 1 (x1 + 2) 2 (by decide) rfl rfl rfl dJ24_numberOfTrailingZeros_67 ?_
    show zP s0 m_J24_numberOfTrailingZeros d _ [some (.int (x0)), some (.int (x1 + 2))] _ _ _ _
    refine z_iload_n (M := m_J24_numberOfTrailingZeros) (k := 0) rfl dJ24_numberOfTrailingZeros_70 ?_
    refine z_iconst (M := m_J24_numberOfTrailingZeros) (v := 2) (by decide) dJ24_numberOfTrailingZeros_71 ?_
    refine z_iushr (M := m_J24_numberOfTrailingZeros) dJ24_numberOfTrailingZeros_72 ?_
    refine z_istore_n (M := m_J24_numberOfTrailingZeros) (k := 0) 0 rfl (zlt rfl) trivial dJ24_numberOfTrailingZeros_73 ?_
    show zP s0 m_J24_numberOfTrailingZeros d _ [some (.int ((x0.toUInt32 >>> ((2 : Int32).toUInt32 &&& Int32.toUInt32 31)).toInt32)), some (.int (x1 + 2))] _ _ _ _
    refine z_iload_n (M := m_J24_numberOfTrailingZeros) (k := 1) rfl dJ24_numberOfTrailingZeros_74 ?_
    refine z_iload_n (M := m_J24_numberOfTrailingZeros) (k := 0) rfl dJ24_numberOfTrailingZeros_75 ?_
    refine z_iconst (M := m_J24_numberOfTrailingZeros) (v := 1) (by decide) dJ24_numberOfTrailingZeros_76 ?_
    refine z_iushr (M := m_J24_numberOfTrailingZeros) dJ24_numberOfTrailingZeros_77 ?_
    refine z_iadd (M := m_J24_numberOfTrailingZeros) dJ24_numberOfTrailingZeros_78 ?_
    exact z_ireturn (M := m_J24_numberOfTrailingZeros) rfl rfl dJ24_numberOfTrailingZeros_79 H
theorem b_J24_stringSize_0 {s0 : zE} {d : Nat} {x0 : Int32} {h : zH} {Q : Value → zH → Prop} {E : Nat → zH → Prop} (H : (x0 < 0 → (zP s0 m_J24_stringSize d 11 [some (.int (x0)), some (.int (1)), none, none] [] h Q E)) ∧ (¬ x0 < 0 → (zP s0 m_J24_stringSize d 11 [some (.int (-x0)), some (.int (0)), none, none] [] h Q E))) : zP s0 m_J24_stringSize d 0 [some (.int (x0)), none, none, none] [] h Q E := by
  refine z_iconst (M := m_J24_stringSize) (v := 1) (by decide) dJ24_stringSize_0 ?_
  refine z_istore_n (M := m_J24_stringSize) (k := 1) 1 rfl (zlt rfl) rfl dJ24_stringSize_1 ?_
  show zP s0 m_J24_stringSize d _ [some (.int (x0)), some (.int (1)), none, none] _ _ _ _
  refine z_iload_n (M := m_J24_stringSize) (k := 0) rfl dJ24_stringSize_2 ?_
  refine z_iflt (M := m_J24_stringSize) 11 rfl dJ24_stringSize_3 (fun hc => ?_) (fun hc => ?_)
  · have H := H.1 hc
    exact H
  · have H := H.2 hc
    refine z_iconst (M := m_J24_stringSize) (v := 0) (by decide) dJ24_stringSize_6 ?_
    refine z_istore_n (M := m_J24_stringSize) (k := 1) 1 rfl (zlt rfl) rfl dJ24_stringSize_7 ?_
    show zP s0 m_J24_stringSize d _ [some (.int (x0)), some (.int (0)), none, none] _ _ _ _
    refine z_iload_n (M := m_J24_stringSize) (k := 0) rfl dJ24_stringSize_8 ?_
    refine z_ineg (M := m_J24_stringSize) dJ24_stringSize_9 ?_
    refine z_istore_n (M := m_J24_stringSize) (k := 0) 0 rfl (zlt rfl) trivial dJ24_stringSize_10 ?_
    show zP s0 m_J24_stringSize d _ [some (.int (-x0)), some (.int (0)), none, none] _ _ _ _
    exact H
theorem c_J24_stringSize {s0 : zE} {d : Nat} {x0 : Int32} {h : zH} {Q : Value → zH → Prop} {E : Nat → zH → Prop} (H : (x0 < 0 → (zP s0 m_J24_stringSize d 11 [some (.int (x0)), some (.int (1)), none, none] [] h Q E)) ∧ (¬ x0 < 0 → (zP s0 m_J24_stringSize d 11 [some (.int (-x0)), some (.int (0)), none, none] [] h Q E))) : zX s0 m_J24_stringSize d [.int (x0)] h Q E := zX.of2 rfl (by decide +kernel) (zlay_i (zlay_n (znoneS (znoneS (znoneS znone0))))) (zle rfl) (b_J24_stringSize_0 H)
theorem b_J24_stringSize_11 {s0 : zE} {d : Nat} {x0 : Int32} {x1 : Int32} {h : zH} {Q : Value → zH → Prop} {E : Nat → zH → Prop} (H : zP s0 m_J24_stringSize d 16 [some (.int (x0)), some (.int (x1)), some (.int ((-10))), some (.int (1))] [] h Q E) : zP s0 m_J24_stringSize d 11 [some (.int (x0)), some (.int (x1)), none, none] [] h Q E := by
  refine z_bipush (M := m_J24_stringSize) (v := (-10)) (by decide) dJ24_stringSize_11 ?_
  refine z_istore_n (M := m_J24_stringSize) (k := 2) 2 rfl (zlt rfl) rfl dJ24_stringSize_13 ?_
  show zP s0 m_J24_stringSize d _ [some (.int (x0)), some (.int (x1)), some (.int ((-10))), none] _ _ _ _
  refine z_iconst (M := m_J24_stringSize) (v := 1) (by decide) dJ24_stringSize_14 ?_
  refine z_istore_n (M := m_J24_stringSize) (k := 3) 3 rfl (zlt rfl) rfl dJ24_stringSize_15 ?_
  show zP s0 m_J24_stringSize d _ [some (.int (x0)), some (.int (x1)), some (.int ((-10))), some (.int (1))] _ _ _ _
  exact H
theorem b_J24_stringSize_16 {s0 : zE} {d : Nat} {x0 : Int32} {x1 : Int32} {x2 : Int32} {x3 : Int32} {h : zH} {Q : Value → zH → Prop} {E : Nat → zH → Prop} (H : (10 ≤ x3 → (Q (.int (10 + x1)) h)) ∧ (¬ 10 ≤ x3 → ((x0 ≤ x2 → (zP s0 m_J24_stringSize d 16 [some (.int (x0)), some (.int (x1)), some (.int (10 * x2)), some (.int (x3 + 1))] [] h Q E)) ∧ (¬ x0 ≤ x2 → (Q (.int (x3 + x1)) h))))) : zP s0 m_J24_stringSize d 16 [some (.int (x0)), some (.int (x1)), some (.int (x2)), some (.int (x3))] [] h Q E := by
  refine z_iload_n (M := m_J24_stringSize) (k := 3) rfl dJ24_stringSize_16 ?_
  refine z_bipush (M := m_J24_stringSize) (v := 10) (by decide) dJ24_stringSize_17 ?_
  refine z_icmpge (M := m_J24_stringSize) 42 rfl dJ24_stringSize_19 (fun hc => ?_) (fun hc => ?_)
  · have H := H.1 hc
    refine z_bipush (M := m_J24_stringSize) (v := 10) (by decide) dJ24_stringSize_42 ?_
    refine z_iload_n (M := m_J24_stringSize) (k := 1) rfl dJ24_stringSize_44 ?_
    refine z_iadd (M := m_J24_stringSize) dJ24_stringSize_45 ?_
    exact z_ireturn (M := m_J24_stringSize) rfl rfl dJ24_stringSize_46 H
  · have H := H.2 hc
    refine z_iload_n (M := m_J24_stringSize) (k := 0) rfl dJ24_stringSize_22 ?_
    refine z_iload_n (M := m_J24_stringSize) (k := 2) rfl dJ24_stringSize_23 ?_
    refine z_icmple (M := m_J24_stringSize) 31 rfl dJ24_stringSize_24 (fun hc => ?_) (fun hc => ?_)
    · have H := H.1 hc
      refine z_bipush (M := m_J24_stringSize) (v := 10) (by decide) dJ24_stringSize_31 ?_
      refine z_iload_n (M := m_J24_stringSize) (k := 2) rfl dJ24_stringSize_33 ?_
      refine z_imul (M := m_J24_stringSize) dJ24_stringSize_34 ?_
      refine z_istore_n (M := m_J24_stringSize) (k := 2) 2 rfl (zlt rfl) rfl dJ24_stringSize_35 ?_
      show zP s0 m_J24_stringSize d _ [some (.int (x0)), some (.int (x1)), some (.int (10 * x2)), some (.int (x3))] _ _ _ _
      refine z_inc (M := m_J24_stringSize) 3 (x3 + 1) 1 (by decide) rfl rfl rfl dJ24_stringSize_36 ?_
      show zP s0 m_J24_stringSize d _ [some (.int (x0)), some (.int (x1)), some (.int (10 * x2)), some (.int (x3 + 1))] _ _ _ _
      refine z_goto (M := m_J24_stringSize) 16 rfl dJ24_stringSize_39 ?_
      exact H
    · have H := H.2 hc
      refine z_iload_n (M := m_J24_stringSize) (k := 3) rfl dJ24_stringSize_27 ?_
      refine z_iload_n (M := m_J24_stringSize) (k := 1) rfl dJ24_stringSize_28 ?_
      refine z_iadd (M := m_J24_stringSize) dJ24_stringSize_29 ?_
      exact z_ireturn (M := m_J24_stringSize) rfl rfl dJ24_stringSize_30 H
theorem b_J26_hasNext_0 {s0 : zE} {d : Nat} {x0 : Nat} {h : zH} {Q : Value → zH → Prop} {E : Nat → zH → Prop} (H : (fI h x0 [53] 1) ∧ ((gI h x0 1 ≤ 0 → (Q (.int 0) h)) ∧ (¬ gI h x0 1 ≤ 0 → (Q (.int 1) h)))) : zP s0 m_J26_hasNext d 0 [some (zr (x0))] [] h Q E := by
  refine z_aload_n (M := m_J26_hasNext) (k := 0) rfl dJ26_hasNext_0 ?_
  obtain ⟨g, H⟩ := H
  refine z_get (M := m_J26_hasNext) f_J26_19 dJ26_hasNext_1 g ?_
  refine z_ifle (M := m_J26_hasNext) 11 rfl dJ26_hasNext_4 (fun hc => ?_) (fun hc => ?_)
  · have H := H.1 hc
    refine z_iconst (M := m_J26_hasNext) (v := 0) (by decide) dJ26_hasNext_11 ?_
    exact z_ireturn (M := m_J26_hasNext) rfl rfl dJ26_hasNext_12 H
  · have H := H.2 hc
    refine z_iconst (M := m_J26_hasNext) (v := 1) (by decide) dJ26_hasNext_7 ?_
    refine z_goto (M := m_J26_hasNext) 12 rfl dJ26_hasNext_8 ?_
    exact z_ireturn (M := m_J26_hasNext) rfl rfl dJ26_hasNext_12 H
theorem c_J26_hasNext {s0 : zE} {d : Nat} {x0 : Nat} {h : zH} {Q : Value → zH → Prop} {E : Nat → zH → Prop} (H : (fI h x0 [53] 1) ∧ ((gI h x0 1 ≤ 0 → (Q (.int 0) h)) ∧ (¬ gI h x0 1 ≤ 0 → (Q (.int 1) h)))) : zX s0 m_J26_hasNext d [zr (x0)] h Q E := zX.of2 rfl (by decide +kernel) (zlay_r (zlay_n znone0)) (zle rfl) (b_J26_hasNext_0 H)
theorem b_J26_init_0 {s0 : zE} {d : Nat} {x0 : Nat} {x1 : Nat} {h : zH} {Q : Value → zH → Prop} {E : Nat → zH → Prop} (H : (fC h x0 53) ∧ (∀ h1, h1 = zput h x0 3 (zr (x1)) → ((∃ c, fC h1 x0 c) ∧ ((fR h1 x0 [53] 3) ∧ ((fC h1 (gR h1 x0 3) 45 ∧ zX s0 m_J6_size d [zr (gR h1 x0 3)] h1 (fun v1 h2 => ∃ r1 : Int32, v1 = .int (r1) ∧ ((fC h2 x0 53) ∧ (∀ h3, h3 = zput h2 x0 1 (.int (r1)) → ((fC h3 x0 53) ∧ (∀ h4, h4 = zput h3 x0 2 (.int ((-1))) → ((fI h4 x1 [45] 1) ∧ ((fC h4 x0 53) ∧ (∀ h5, h5 = zput h4 x0 0 (.int (gI h4 x1 1)) → (Q .null h5))))))))) E)))))) : zP s0 m_J26_init (d + 1) 0 [some (zr (x0)), some (zr (x1))] [] h Q E := by
  refine z_aload_n (M := m_J26_init) (k := 0) rfl dJ26_init_0 ?_
  refine z_aload_n (M := m_J26_init) (k := 1) rfl dJ26_init_1 ?_
  obtain ⟨g, H⟩ := H
  refine zz_put (M := m_J26_init) f_J26_1 dJ26_init_2 rfl (⟨_, rfl, Or.inr ⟨rfl, rfl, rfl, q1552⟩⟩) g (ft_53_3) (fun h1 e => ?_)
  have H := H h1 e
  refine z_aload_n (M := m_J26_init) (k := 0) rfl dJ26_init_5 ?_
  obtain ⟨⟨c9, g⟩, H⟩ := H
  refine zz_objInit (M := m_J26_init) q1547 dJ26_init_6 g (Nat.zero_le _) ?_
  refine z_aload_n (M := m_J26_init) (k := 0) rfl dJ26_init_9 ?_
  refine z_aload_n (M := m_J26_init) (k := 0) rfl dJ26_init_10 ?_
  obtain ⟨g, H⟩ := H
  refine z_get (M := m_J26_init) f_J26_1 dJ26_init_11 g ?_
  obtain ⟨⟨fs9, g⟩, H⟩ := H
  refine z_invV (M := m_J26_init) (cn := 45) (a := []) ok_J6_size q1548 q1513 q5663 rfl dJ26_init_14 g (Nat.le_refl _) (Nat.le_trans (zcatr zcat0) (zle rfl)) rfl H (fun v1 h2 H => ?_) (fun n9 h9 H => zPx.out rfl H)
  obtain ⟨r1, rfl, H⟩ := H
  show zP s0 m_J26_init (d + 1) _ _ [.int (r1), zr (x0)] _ _ _
  obtain ⟨g, H⟩ := H
  refine zz_put (M := m_J26_init) f_J26_19 dJ26_init_17 rfl (fn_53_1) g (ft_53_1) (fun h3 e => ?_)
  have H := H h3 e
  refine z_aload_n (M := m_J26_init) (k := 0) rfl dJ26_init_20 ?_
  refine z_iconst (M := m_J26_init) (v := (-1)) (by decide) dJ26_init_21 ?_
  obtain ⟨g, H⟩ := H
  refine zz_put (M := m_J26_init) f_J26_23 dJ26_init_22 rfl (fn_53_2) g (ft_53_2) (fun h4 e => ?_)
  have H := H h4 e
  refine z_aload_n (M := m_J26_init) (k := 0) rfl dJ26_init_25 ?_
  refine z_aload_n (M := m_J26_init) (k := 1) rfl dJ26_init_26 ?_
  obtain ⟨g, H⟩ := H
  refine z_get (M := m_J26_init) f_J26_26 dJ26_init_27 g ?_
  obtain ⟨g, H⟩ := H
  refine zz_put (M := m_J26_init) f_J26_29 dJ26_init_30 rfl (fn_53_0) g (ft_53_0) (fun h5 e => ?_)
  have H := H h5 e
  exact z_return (M := m_J26_init) rfl dJ26_init_33 H
theorem c_J26_init {s0 : zE} {d : Nat} {x0 : Nat} {x1 : Nat} {h : zH} {Q : Value → zH → Prop} {E : Nat → zH → Prop} (H : (fC h x0 53) ∧ (∀ h1, h1 = zput h x0 3 (zr (x1)) → ((∃ c, fC h1 x0 c) ∧ ((fR h1 x0 [53] 3) ∧ ((fC h1 (gR h1 x0 3) 45 ∧ zX s0 m_J6_size d [zr (gR h1 x0 3)] h1 (fun v1 h2 => ∃ r1 : Int32, v1 = .int (r1) ∧ ((fC h2 x0 53) ∧ (∀ h3, h3 = zput h2 x0 1 (.int (r1)) → ((fC h3 x0 53) ∧ (∀ h4, h4 = zput h3 x0 2 (.int ((-1))) → ((fI h4 x1 [45] 1) ∧ ((fC h4 x0 53) ∧ (∀ h5, h5 = zput h4 x0 0 (.int (gI h4 x1 1)) → (Q .null h5))))))))) E)))))) : zX s0 m_J26_init (d + 1) [zr (x0), zr (x1)] h Q E := zX.of2 rfl (by decide +kernel) (zlay_r (zlay_r (zlay_n znone0))) (zle rfl) (b_J26_init_0 H)
theorem b_J26_next_0 {s0 : zE} {d : Nat} {x0 : Nat} {h : zH} {Q : Value → zH → Prop} {E : Nat → zH → Prop} (H : (fI h x0 [53] 1) ∧ ((0 < gI h x0 1 → ((fR h x0 [53] 3) ∧ ((fR h (gR h x0 3) [45] 0) ∧ ((fI h x0 [53] 0) ∧ (zX s0 m_J6_nonNullElementAt d [zr (gR h (gR h x0 3) 0), .int (gI h x0 0)] h (fun v1 h1 => ∃ n1 : Nat, v1 = zr (n1) ∧ ((fI h1 x0 [53] 0) ∧ ((fC h1 x0 53) ∧ (∀ h2, h2 = zput h1 x0 2 (.int (gI h1 x0 0)) → ((fC h2 (gR h (gR h x0 3) 0) 1006) ∧ (zX s0 m_J6_inc d [.int (gI h1 x0 0), .int (Int32.ofNat (gA h2 (gR h (gR h x0 3) 0)).length)] h2 (fun v2 h3 => ∃ r1 : Int32, v2 = .int (r1) ∧ ((fC h3 x0 53) ∧ (∀ h4, h4 = zput h3 x0 0 (.int (r1)) → ((fI h4 x0 [53] 1) ∧ ((fC h4 x0 53) ∧ (∀ h5, h5 = zput h4 x0 1 (.int ((gI h4 x0 1) - 1)) → (Q (zr n1) h5))))))) E)))))) E))))) ∧ (¬ 0 < gI h x0 1 → (False)))) : zP s0 m_J26_next (d + 1) 0 [some (zr (x0)), none, none] [] h Q E := by
  refine z_aload_n (M := m_J26_next) (k := 0) rfl dJ26_next_0 ?_
  obtain ⟨g, H⟩ := H
  refine z_get (M := m_J26_next) f_J26_19 dJ26_next_1 g ?_
  refine z_ifgt (M := m_J26_next) 15 rfl dJ26_next_4 (fun hc => ?_) (fun hc => ?_)
  · have H := H.1 hc
    refine z_aload_n (M := m_J26_next) (k := 0) rfl dJ26_next_15 ?_
    obtain ⟨g, H⟩ := H
    refine z_get (M := m_J26_next) f_J26_1 dJ26_next_16 g ?_
    obtain ⟨g, H⟩ := H
    refine z_get (M := m_J26_next) f_J26_35 dJ26_next_19 g ?_
    refine z_astore_n (M := m_J26_next) (k := 1) 1 rfl (zlt rfl) (zr_cat _) dJ26_next_22 ?_
    show zP s0 m_J26_next (d + 1) _ [some (zr (x0)), some (zr (gR h (gR h x0 3) 0)), none] _ _ _ _
    refine z_aload_n (M := m_J26_next) (k := 1) rfl dJ26_next_23 ?_
    refine z_aload_n (M := m_J26_next) (k := 0) rfl dJ26_next_24 ?_
    obtain ⟨g, H⟩ := H
    refine z_get (M := m_J26_next) f_J26_29 dJ26_next_25 g ?_
    refine z_invS (M := m_J26_next) (a := [zr (gR h (gR h x0 3) 0), .int (gI h x0 0)]) ok_J6_nonNullElementAt q1736 q1737 dJ26_next_28 (Nat.le_refl _) (Nat.zero_le _) rfl H (fun v1 h1 H => ?_) (fun n9 h9 H => zPx.out rfl H)
    obtain ⟨n1, rfl, H⟩ := H
    show zP s0 m_J26_next (d + 1) _ _ [zr (n1)] _ _ _
    refine z_astore_n (M := m_J26_next) (k := 2) 2 rfl (zlt rfl) (zr_cat _) dJ26_next_31 ?_
    show zP s0 m_J26_next (d + 1) _ [some (zr (x0)), some (zr (gR h (gR h x0 3) 0)), some (zr (n1))] _ _ _ _
    refine z_aload_n (M := m_J26_next) (k := 0) rfl dJ26_next_32 ?_
    refine z_aload_n (M := m_J26_next) (k := 0) rfl dJ26_next_33 ?_
    refine z_aload_n (M := m_J26_next) (k := 0) rfl dJ26_next_34 ?_
    obtain ⟨g, H⟩ := H
    refine z_get (M := m_J26_next) f_J26_29 dJ26_next_35 g ?_
    refine z_dup_x1 (M := m_J26_next) rfl (zr_cat _) dJ26_next_38 ?_
    obtain ⟨g, H⟩ := H
    refine zz_put (M := m_J26_next) f_J26_23 dJ26_next_39 rfl (fn_53_2) g (ft_53_2) (fun h2 e => ?_)
    have H := H h2 e
    refine z_aload_n (M := m_J26_next) (k := 1) rfl dJ26_next_42 ?_
    obtain ⟨g, H⟩ := H
    refine z_len (M := m_J26_next) (t := 6) rfl dJ26_next_43 g ?_
    refine z_invS (M := m_J26_next) (a := [.int (gI h1 x0 0), .int (Int32.ofNat (gA h2 (gR h (gR h x0 3) 0)).length)]) ok_J6_inc q1739 q1096 dJ26_next_44 (Nat.le_refl _) (Nat.le_trans (zcatr zcat0) (zle rfl)) rfl H (fun v2 h3 H => ?_) (fun n9 h9 H => zPx.out rfl H)
    obtain ⟨r1, rfl, H⟩ := H
    show zP s0 m_J26_next (d + 1) _ _ [.int (r1), zr (x0)] _ _ _
    obtain ⟨g, H⟩ := H
    refine zz_put (M := m_J26_next) f_J26_29 dJ26_next_47 rfl (fn_53_0) g (ft_53_0) (fun h4 e => ?_)
    have H := H h4 e
    refine z_aload_n (M := m_J26_next) (k := 0) rfl dJ26_next_50 ?_
    refine z_dup (M := m_J26_next) (zr_cat _) dJ26_next_51 ?_
    obtain ⟨g, H⟩ := H
    refine z_get (M := m_J26_next) f_J26_19 dJ26_next_52 g ?_
    refine z_iconst (M := m_J26_next) (v := 1) (by decide) dJ26_next_55 ?_
    refine z_isub (M := m_J26_next) dJ26_next_56 ?_
    obtain ⟨g, H⟩ := H
    refine zz_put (M := m_J26_next) f_J26_19 dJ26_next_57 rfl (fn_53_1) g (ft_53_1) (fun h5 e => ?_)
    have H := H h5 e
    refine z_aload_n (M := m_J26_next) (k := 2) rfl dJ26_next_60 ?_
    exact z_areturn (M := m_J26_next) rfl (Or.inl ⟨_, rfl⟩) dJ26_next_61 H
  · have H := H.2 hc
    exact H.elim
theorem c_J26_next {s0 : zE} {d : Nat} {x0 : Nat} {h : zH} {Q : Value → zH → Prop} {E : Nat → zH → Prop} (H : (fI h x0 [53] 1) ∧ ((0 < gI h x0 1 → ((fR h x0 [53] 3) ∧ ((fR h (gR h x0 3) [45] 0) ∧ ((fI h x0 [53] 0) ∧ (zX s0 m_J6_nonNullElementAt d [zr (gR h (gR h x0 3) 0), .int (gI h x0 0)] h (fun v1 h1 => ∃ n1 : Nat, v1 = zr (n1) ∧ ((fI h1 x0 [53] 0) ∧ ((fC h1 x0 53) ∧ (∀ h2, h2 = zput h1 x0 2 (.int (gI h1 x0 0)) → ((fC h2 (gR h (gR h x0 3) 0) 1006) ∧ (zX s0 m_J6_inc d [.int (gI h1 x0 0), .int (Int32.ofNat (gA h2 (gR h (gR h x0 3) 0)).length)] h2 (fun v2 h3 => ∃ r1 : Int32, v2 = .int (r1) ∧ ((fC h3 x0 53) ∧ (∀ h4, h4 = zput h3 x0 0 (.int (r1)) → ((fI h4 x0 [53] 1) ∧ ((fC h4 x0 53) ∧ (∀ h5, h5 = zput h4 x0 1 (.int ((gI h4 x0 1) - 1)) → (Q (zr n1) h5))))))) E)))))) E))))) ∧ (¬ 0 < gI h x0 1 → (False)))) : zX s0 m_J26_next (d + 1) [zr (x0)] h Q E := zX.of2 rfl (by decide +kernel) (zlay_r (zlay_n (znoneS (znoneS znone0)))) (zle rfl) (b_J26_next_0 H)
theorem b_J26_postDelete_0 {s0 : zE} {d : Nat} {x0 : Nat} {x1 : Int32} {h : zH} {Q : Value → zH → Prop} {E : Nat → zH → Prop} (H : (x1 = 0 → (Q .null h)) ∧ (¬ x1 = 0 → ((fI h x0 [53] 0) ∧ ((fR h x0 [53] 3) ∧ ((fR h (gR h x0 3) [45] 0) ∧ ((fC h (gR h (gR h x0 3) 0) 1006) ∧ (zX s0 m_J6_dec d [.int (gI h x0 0), .int (Int32.ofNat (gA h (gR h (gR h x0 3) 0)).length)] h (fun v1 h1 => ∃ r1 : Int32, v1 = .int (r1) ∧ ((fC h1 x0 53) ∧ (∀ h2, h2 = zput h1 x0 0 (.int (r1)) → (Q .null h2)))) E))))))) : zP s0 m_J26_postDelete (d + 1) 0 [some (zr (x0)), some (.int (x1))] [] h Q E := by
  refine z_iload_n (M := m_J26_postDelete) (k := 1) rfl dJ26_postDelete_0 ?_
  refine z_ifeq (M := m_J26_postDelete) 23 rfl dJ26_postDelete_1 (fun hc => ?_) (fun hc => ?_)
  · have H := H.1 hc
    exact z_return (M := m_J26_postDelete) rfl dJ26_postDelete_23 H
  · have H := H.2 hc
    refine z_aload_n (M := m_J26_postDelete) (k := 0) rfl dJ26_postDelete_4 ?_
    refine z_aload_n (M := m_J26_postDelete) (k := 0) rfl dJ26_postDelete_5 ?_
    obtain ⟨g, H⟩ := H
    refine z_get (M := m_J26_postDelete) f_J26_29 dJ26_postDelete_6 g ?_
    refine z_aload_n (M := m_J26_postDelete) (k := 0) rfl dJ26_postDelete_9 ?_
    obtain ⟨g, H⟩ := H
    refine z_get (M := m_J26_postDelete) f_J26_1 dJ26_postDelete_10 g ?_
    obtain ⟨g, H⟩ := H
    refine z_get (M := m_J26_postDelete) f_J26_35 dJ26_postDelete_13 g ?_
    obtain ⟨g, H⟩ := H
    refine z_len (M := m_J26_postDelete) (t := 6) rfl dJ26_postDelete_16 g ?_
    refine z_invS (M := m_J26_postDelete) (a := [.int (gI h x0 0), .int (Int32.ofNat (gA h (gR h (gR h x0 3) 0)).length)]) ok_J6_dec q1873 q1867 dJ26_postDelete_17 (Nat.le_refl _) (Nat.le_trans (zcatr zcat0) (zle rfl)) rfl H (fun v1 h1 H => ?_) (fun n9 h9 H => zPx.out rfl H)
    obtain ⟨r1, rfl, H⟩ := H
    show zP s0 m_J26_postDelete (d + 1) _ _ [.int (r1), zr (x0)] _ _ _
    obtain ⟨g, H⟩ := H
    refine zz_put (M := m_J26_postDelete) f_J26_29 dJ26_postDelete_20 rfl (fn_53_0) g (ft_53_0) (fun h2 e => ?_)
    have H := H h2 e
    exact z_return (M := m_J26_postDelete) rfl dJ26_postDelete_23 H
theorem c_J26_postDelete {s0 : zE} {d : Nat} {x0 : Nat} {x1 : Int32} {h : zH} {Q : Value → zH → Prop} {E : Nat → zH → Prop} (H : (x1 = 0 → (Q .null h)) ∧ (¬ x1 = 0 → ((fI h x0 [53] 0) ∧ ((fR h x0 [53] 3) ∧ ((fR h (gR h x0 3) [45] 0) ∧ ((fC h (gR h (gR h x0 3) 0) 1006) ∧ (zX s0 m_J6_dec d [.int (gI h x0 0), .int (Int32.ofNat (gA h (gR h (gR h x0 3) 0)).length)] h (fun v1 h1 => ∃ r1 : Int32, v1 = .int (r1) ∧ ((fC h1 x0 53) ∧ (∀ h2, h2 = zput h1 x0 0 (.int (r1)) → (Q .null h2)))) E))))))) : zX s0 m_J26_postDelete (d + 1) [zr (x0), .int (x1)] h Q E := zX.of2 rfl (by decide +kernel) (zlay_r (zlay_i (zlay_n znone0))) (zle rfl) (b_J26_postDelete_0 H)
theorem b_J26_remove_0 {s0 : zE} {d : Nat} {x0 : Nat} {h : zH} {Q : Value → zH → Prop} {E : Nat → zH → Prop} (H : (fI h x0 [53] 2) ∧ ((0 ≤ gI h x0 2 → ((fR h x0 [53] 3) ∧ ((fI h x0 [53] 2) ∧ ((fC h (gR h x0 3) 45 ∧ zX s0 m_J6_delete d [zr (gR h x0 3), .int (gI h x0 2)] h (fun v1 h1 => ∃ r1 : Int32, v1 = .int (r1) ∧ ((fC h1 x0 53 ∧ zX s0 m_J26_postDelete d [zr x0, .int (r1)] h1 (fun _ h2 => ((fC h2 x0 53) ∧ (∀ h3, h3 = zput h2 x0 2 (.int ((-1))) → (Q .null h3)))) E))) E))))) ∧ (¬ 0 ≤ gI h x0 2 → (False)))) : zP s0 m_J26_remove (d + 1) 0 [some (zr (x0))] [] h Q E := by
  refine z_aload_n (M := m_J26_remove) (k := 0) rfl dJ26_remove_0 ?_
  obtain ⟨g, H⟩ := H
  refine z_get (M := m_J26_remove) f_J26_23 dJ26_remove_1 g ?_
  refine z_ifge (M := m_J26_remove) 15 rfl dJ26_remove_4 (fun hc => ?_) (fun hc => ?_)
  · have H := H.1 hc
    refine z_aload_n (M := m_J26_remove) (k := 0) rfl dJ26_remove_15 ?_
    refine z_aload_n (M := m_J26_remove) (k := 0) rfl dJ26_remove_16 ?_
    obtain ⟨g, H⟩ := H
    refine z_get (M := m_J26_remove) f_J26_1 dJ26_remove_17 g ?_
    refine z_aload_n (M := m_J26_remove) (k := 0) rfl dJ26_remove_20 ?_
    obtain ⟨g, H⟩ := H
    refine z_get (M := m_J26_remove) f_J26_23 dJ26_remove_21 g ?_
    obtain ⟨⟨fs9, g⟩, H⟩ := H
    refine z_invV (M := m_J26_remove) (cn := 45) (a := [.int (gI h x0 2)]) ok_J6_delete q1862 q1863 q1864 rfl dJ26_remove_24 g (Nat.le_refl _) (Nat.le_trans (zcatr zcat0) (zle rfl)) rfl H (fun v1 h1 H => ?_) (fun n9 h9 H => zPx.out rfl H)
    obtain ⟨r1, rfl, H⟩ := H
    show zP s0 m_J26_remove (d + 1) _ _ [.int (r1), zr (x0)] _ _ _
    obtain ⟨⟨fs9, g⟩, H⟩ := H
    refine z_invV (M := m_J26_remove) (cn := 53) (a := [.int (r1)]) ok_J26_postDelete q1869 q1870 q1871 rfl dJ26_remove_27 g (Nat.le_refl _) (Nat.zero_le _) rfl H (fun v2 h2 H => ?_) (fun n9 h9 H => zPx.out rfl H)
    show zP s0 m_J26_remove (d + 1) _ _ [] _ _ _
    refine z_aload_n (M := m_J26_remove) (k := 0) rfl dJ26_remove_30 ?_
    refine z_iconst (M := m_J26_remove) (v := (-1)) (by decide) dJ26_remove_31 ?_
    obtain ⟨g, H⟩ := H
    refine zz_put (M := m_J26_remove) f_J26_23 dJ26_remove_32 rfl (fn_53_2) g (ft_53_2) (fun h3 e => ?_)
    have H := H h3 e
    exact z_return (M := m_J26_remove) rfl dJ26_remove_35 H
  · have H := H.2 hc
    exact H.elim
theorem c_J26_remove {s0 : zE} {d : Nat} {x0 : Nat} {h : zH} {Q : Value → zH → Prop} {E : Nat → zH → Prop} (H : (fI h x0 [53] 2) ∧ ((0 ≤ gI h x0 2 → ((fR h x0 [53] 3) ∧ ((fI h x0 [53] 2) ∧ ((fC h (gR h x0 3) 45 ∧ zX s0 m_J6_delete d [zr (gR h x0 3), .int (gI h x0 2)] h (fun v1 h1 => ∃ r1 : Int32, v1 = .int (r1) ∧ ((fC h1 x0 53 ∧ zX s0 m_J26_postDelete d [zr x0, .int (r1)] h1 (fun _ h2 => ((fC h2 x0 53) ∧ (∀ h3, h3 = zput h2 x0 2 (.int ((-1))) → (Q .null h3)))) E))) E))))) ∧ (¬ 0 ≤ gI h x0 2 → (False)))) : zX s0 m_J26_remove (d + 1) [zr (x0)] h Q E := zX.of2 rfl (by decide +kernel) (zlay_r (zlay_n znone0)) (zle rfl) (b_J26_remove_0 H)
theorem b_J27_checkForComodification_0 {s0 : zE} {d : Nat} {x0 : Nat} {h : zH} {Q : Value → zH → Prop} {E : Nat → zH → Prop} (H : (fR h x0 [54] 3) ∧ ((fI h (gR h x0 3) [44] 0) ∧ ((fI h x0 [54] 2) ∧ ((gI h (gR h x0 3) 0 = gI h x0 2 → (Q .null h)) ∧ (¬ gI h (gR h x0 3) 0 = gI h x0 2 → (False)))))) : zP s0 m_J27_checkForComodification (d + 1) 0 [some (zr (x0))] [] h Q E := by
  refine z_aload_n (M := m_J27_checkForComodification) (k := 0) rfl dJ27_checkForComodification_0 ?_
  obtain ⟨g, H⟩ := H
  refine z_get (M := m_J27_checkForComodification) f_J27_1 dJ27_checkForComodification_1 g ?_
  obtain ⟨g, H⟩ := H
  refine z_get (M := m_J27_checkForComodification) f_J27_17 dJ27_checkForComodification_4 g ?_
  refine z_aload_n (M := m_J27_checkForComodification) (k := 0) rfl dJ27_checkForComodification_7 ?_
  obtain ⟨g, H⟩ := H
  refine z_get (M := m_J27_checkForComodification) f_J27_22 dJ27_checkForComodification_8 g ?_
  refine z_icmpeq (M := m_J27_checkForComodification) 22 rfl dJ27_checkForComodification_11 (fun hc => ?_) (fun hc => ?_)
  · have H := H.1 hc
    exact z_return (M := m_J27_checkForComodification) rfl dJ27_checkForComodification_22 H
  · have H := H.2 hc
    exact H.elim
theorem c_J27_checkForComodification {s0 : zE} {d : Nat} {x0 : Nat} {h : zH} {Q : Value → zH → Prop} {E : Nat → zH → Prop} (H : (fR h x0 [54] 3) ∧ ((fI h (gR h x0 3) [44] 0) ∧ ((fI h x0 [54] 2) ∧ ((gI h (gR h x0 3) 0 = gI h x0 2 → (Q .null h)) ∧ (¬ gI h (gR h x0 3) 0 = gI h x0 2 → (False)))))) : zX s0 m_J27_checkForComodification (d + 1) [zr (x0)] h Q E := zX.of2 rfl (by decide +kernel) (zlay_r (zlay_n znone0)) (zle rfl) (b_J27_checkForComodification_0 H)
theorem b_J27_hasNext_0 {s0 : zE} {d : Nat} {x0 : Nat} {h : zH} {Q : Value → zH → Prop} {E : Nat → zH → Prop} (H : (fI h x0 [54] 0) ∧ ((fR h x0 [54] 3) ∧ ((fI h (gR h x0 3) [44] 2) ∧ ((gI h x0 0 = gI h (gR h x0 3) 2 → (Q (.int 0) h)) ∧ (¬ gI h x0 0 = gI h (gR h x0 3) 2 → (Q (.int 1) h)))))) : zP s0 m_J27_hasNext d 0 [some (zr (x0))] [] h Q E := by
  refine z_aload_n (M := m_J27_hasNext) (k := 0) rfl dJ27_hasNext_0 ?_
  obtain ⟨g, H⟩ := H
  refine z_get (M := m_J27_hasNext) f_J27_25 dJ27_hasNext_1 g ?_
  refine z_aload_n (M := m_J27_hasNext) (k := 0) rfl dJ27_hasNext_4 ?_
  obtain ⟨g, H⟩ := H
  refine z_get (M := m_J27_hasNext) f_J27_1 dJ27_hasNext_5 g ?_
  obtain ⟨g, H⟩ := H
  refine z_get (M := m_J27_hasNext) f_J27_28 dJ27_hasNext_8 g ?_
  refine z_icmpeq (M := m_J27_hasNext) 18 rfl dJ27_hasNext_11 (fun hc => ?_) (fun hc => ?_)
  · have H := H.1 hc
    refine z_iconst (M := m_J27_hasNext) (v := 0) (by decide) dJ27_hasNext_18 ?_
    exact z_ireturn (M := m_J27_hasNext) rfl rfl dJ27_hasNext_19 H
  · have H := H.2 hc
    refine z_iconst (M := m_J27_hasNext) (v := 1) (by decide) dJ27_hasNext_14 ?_
    refine z_goto (M := m_J27_hasNext) 19 rfl dJ27_hasNext_15 ?_
    exact z_ireturn (M := m_J27_hasNext) rfl rfl dJ27_hasNext_19 H
theorem c_J27_hasNext {s0 : zE} {d : Nat} {x0 : Nat} {h : zH} {Q : Value → zH → Prop} {E : Nat → zH → Prop} (H : (fI h x0 [54] 0) ∧ ((fR h x0 [54] 3) ∧ ((fI h (gR h x0 3) [44] 2) ∧ ((gI h x0 0 = gI h (gR h x0 3) 2 → (Q (.int 0) h)) ∧ (¬ gI h x0 0 = gI h (gR h x0 3) 2 → (Q (.int 1) h)))))) : zX s0 m_J27_hasNext d [zr (x0)] h Q E := zX.of2 rfl (by decide +kernel) (zlay_r (zlay_n znone0)) (zle rfl) (b_J27_hasNext_0 H)
theorem b_J27_init_0 {s0 : zE} {d : Nat} {x0 : Nat} {x1 : Nat} {h : zH} {Q : Value → zH → Prop} {E : Nat → zH → Prop} (H : (fC h x0 54) ∧ (∀ h1, h1 = zput h x0 3 (zr (x1)) → ((∃ c, fC h1 x0 c) ∧ ((fC h1 x0 54) ∧ (∀ h2, h2 = zput h1 x0 1 (.int ((-1))) → ((fR h2 x0 [54] 3) ∧ ((fI h2 (gR h2 x0 3) [44] 0) ∧ ((fC h2 x0 54) ∧ (∀ h3, h3 = zput h2 x0 2 (.int (gI h2 (gR h2 x0 3) 0)) → (Q .null h3)))))))))) : zP s0 m_J27_init (d + 1) 0 [some (zr (x0)), some (zr (x1))] [] h Q E := by
  refine z_aload_n (M := m_J27_init) (k := 0) rfl dJ27_init_0 ?_
  refine z_aload_n (M := m_J27_init) (k := 1) rfl dJ27_init_1 ?_
  obtain ⟨g, H⟩ := H
  refine zz_put (M := m_J27_init) f_J27_1 dJ27_init_2 rfl (⟨_, rfl, Or.inr ⟨rfl, rfl, rfl, q1574⟩⟩) g (ft_54_3) (fun h1 e => ?_)
  have H := H h1 e
  refine z_aload_n (M := m_J27_init) (k := 0) rfl dJ27_init_5 ?_
  obtain ⟨⟨c9, g⟩, H⟩ := H
  refine zz_objInit (M := m_J27_init) q1570 dJ27_init_6 g (Nat.zero_le _) ?_
  refine z_aload_n (M := m_J27_init) (k := 0) rfl dJ27_init_9 ?_
  refine z_iconst (M := m_J27_init) (v := (-1)) (by decide) dJ27_init_10 ?_
  obtain ⟨g, H⟩ := H
  refine zz_put (M := m_J27_init) f_J27_13 dJ27_init_11 rfl (fn_54_1) g (ft_54_1) (fun h2 e => ?_)
  have H := H h2 e
  refine z_aload_n (M := m_J27_init) (k := 0) rfl dJ27_init_14 ?_
  refine z_aload_n (M := m_J27_init) (k := 0) rfl dJ27_init_15 ?_
  obtain ⟨g, H⟩ := H
  refine z_get (M := m_J27_init) f_J27_1 dJ27_init_16 g ?_
  obtain ⟨g, H⟩ := H
  refine z_get (M := m_J27_init) f_J27_17 dJ27_init_19 g ?_
  obtain ⟨g, H⟩ := H
  refine zz_put (M := m_J27_init) f_J27_22 dJ27_init_22 rfl (fn_54_2) g (ft_54_2) (fun h3 e => ?_)
  have H := H h3 e
  exact z_return (M := m_J27_init) rfl dJ27_init_25 H
theorem c_J27_init {s0 : zE} {d : Nat} {x0 : Nat} {x1 : Nat} {h : zH} {Q : Value → zH → Prop} {E : Nat → zH → Prop} (H : (fC h x0 54) ∧ (∀ h1, h1 = zput h x0 3 (zr (x1)) → ((∃ c, fC h1 x0 c) ∧ ((fC h1 x0 54) ∧ (∀ h2, h2 = zput h1 x0 1 (.int ((-1))) → ((fR h2 x0 [54] 3) ∧ ((fI h2 (gR h2 x0 3) [44] 0) ∧ ((fC h2 x0 54) ∧ (∀ h3, h3 = zput h2 x0 2 (.int (gI h2 (gR h2 x0 3) 0)) → (Q .null h3)))))))))) : zX s0 m_J27_init (d + 1) [zr (x0), zr (x1)] h Q E := zX.of2 rfl (by decide +kernel) (zlay_r (zlay_r (zlay_n znone0))) (zle rfl) (b_J27_init_0 H)
theorem b_J27_next_0 {s0 : zE} {d : Nat} {x0 : Nat} {h : zH} {Q : Value → zH → Prop} {E : Nat → zH → Prop} (H : (fC h x0 54 ∧ zX s0 m_J27_checkForComodification d [zr x0] h (fun _ h1 => ((fI h1 x0 [54] 0) ∧ ((fR h1 x0 [54] 3) ∧ ((fI h1 (gR h1 x0 3) [44] 2) ∧ ((gI h1 x0 0 < gI h1 (gR h1 x0 3) 2 → ((fR h1 x0 [54] 3) ∧ ((fR h1 (gR h1 x0 3) [44] 1) ∧ ((fC h1 (gR h1 (gR h1 x0 3) 1) 1006) ∧ ((gI h1 x0 0 < Int32.ofNat (gA h1 (gR h1 (gR h1 x0 3) 1)).length → ((fC h1 x0 54) ∧ (∀ h2, h2 = zput h1 x0 0 (.int ((gI h1 x0 0) + 1)) → ((fC h2 x0 54) ∧ (∀ h3, h3 = zput h2 x0 1 (.int (gI h1 x0 0)) → ((fE h3 (gR h1 (gR h1 x0 3) 1) 6 (gI h1 x0 0) (zr (eR h3 (gR h1 (gR h1 x0 3) 1) (gI h1 x0 0)))) ∧ (Q (zr (eR h3 (gR h1 (gR h1 x0 3) 1) (gI h1 x0 0))) h3))))))) ∧ (¬ gI h1 x0 0 < Int32.ofNat (gA h1 (gR h1 (gR h1 x0 3) 1)).length → (False))))))) ∧ (¬ gI h1 x0 0 < gI h1 (gR h1 x0 3) 2 → (False))))))) E)) : zP s0 m_J27_next (d + 1) 0 [some (zr (x0)), none, none] [] h Q E := by
  refine z_aload_n (M := m_J27_next) (k := 0) rfl dJ27_next_0 ?_
  obtain ⟨⟨fs9, g⟩, H⟩ := H
  refine z_invV (M := m_J27_next) (cn := 54) (a := []) ok_J27_checkForComodification q1745 q1746 q1747 rfl dJ27_next_1 g (Nat.le_refl _) (Nat.zero_le _) rfl H (fun v1 h1 H => ?_) (fun n9 h9 H => zPx.out rfl H)
  show zP s0 m_J27_next (d + 1) _ _ [] _ _ _
  refine z_aload_n (M := m_J27_next) (k := 0) rfl dJ27_next_4 ?_
  obtain ⟨g, H⟩ := H
  refine z_get (M := m_J27_next) f_J27_25 dJ27_next_5 g ?_
  refine z_istore_n (M := m_J27_next) (k := 1) 1 rfl (zlt rfl) (zr_cat _) dJ27_next_8 ?_
  show zP s0 m_J27_next (d + 1) _ [some (zr (x0)), some (.int (gI h1 x0 0)), none] _ _ _ _
  refine z_iload_n (M := m_J27_next) (k := 1) rfl dJ27_next_9 ?_
  refine z_aload_n (M := m_J27_next) (k := 0) rfl dJ27_next_10 ?_
  obtain ⟨g, H⟩ := H
  refine z_get (M := m_J27_next) f_J27_1 dJ27_next_11 g ?_
  obtain ⟨g, H⟩ := H
  refine z_get (M := m_J27_next) f_J27_28 dJ27_next_14 g ?_
  refine z_icmplt (M := m_J27_next) 28 rfl dJ27_next_17 (fun hc => ?_) (fun hc => ?_)
  · have H := H.1 hc
    refine z_aload_n (M := m_J27_next) (k := 0) rfl dJ27_next_28 ?_
    obtain ⟨g, H⟩ := H
    refine z_get (M := m_J27_next) f_J27_1 dJ27_next_29 g ?_
    obtain ⟨g, H⟩ := H
    refine z_get (M := m_J27_next) f_J27_37 dJ27_next_32 g ?_
    refine z_astore_n (M := m_J27_next) (k := 2) 2 rfl (zlt rfl) rfl dJ27_next_35 ?_
    show zP s0 m_J27_next (d + 1) _ [some (zr (x0)), some (.int (gI h1 x0 0)), some (zr (gR h1 (gR h1 x0 3) 1))] _ _ _ _
    refine z_iload_n (M := m_J27_next) (k := 1) rfl dJ27_next_36 ?_
    refine z_aload_n (M := m_J27_next) (k := 2) rfl dJ27_next_37 ?_
    obtain ⟨g, H⟩ := H
    refine z_len (M := m_J27_next) (t := 6) rfl dJ27_next_38 g ?_
    refine z_icmplt (M := m_J27_next) 50 rfl dJ27_next_39 (fun hc => ?_) (fun hc => ?_)
    · have H := H.1 hc
      refine z_aload_n (M := m_J27_next) (k := 0) rfl dJ27_next_50 ?_
      refine z_iload_n (M := m_J27_next) (k := 1) rfl dJ27_next_51 ?_
      refine z_iconst (M := m_J27_next) (v := 1) (by decide) dJ27_next_52 ?_
      refine z_iadd (M := m_J27_next) dJ27_next_53 ?_
      obtain ⟨g, H⟩ := H
      refine zz_put (M := m_J27_next) f_J27_25 dJ27_next_54 rfl (fn_54_0) g (ft_54_0) (fun h2 e => ?_)
      have H := H h2 e
      refine z_aload_n (M := m_J27_next) (k := 2) rfl dJ27_next_57 ?_
      refine z_aload_n (M := m_J27_next) (k := 0) rfl dJ27_next_58 ?_
      refine z_iload_n (M := m_J27_next) (k := 1) rfl dJ27_next_59 ?_
      refine z_dup_x1 (M := m_J27_next) rfl (zr_cat _) dJ27_next_60 ?_
      obtain ⟨g, H⟩ := H
      refine zz_put (M := m_J27_next) f_J27_13 dJ27_next_61 rfl (fn_54_1) g (ft_54_1) (fun h3 e => ?_)
      have H := H h3 e
      obtain ⟨g, H⟩ := H
      refine z_ildA (M := m_J27_next) (t := 6) rfl rfl dJ27_next_64 g ?_
      exact z_areturn (M := m_J27_next) rfl (Or.inl ⟨_, rfl⟩) dJ27_next_65 H
    · have H := H.2 hc
      exact H.elim
  · have H := H.2 hc
    exact H.elim
theorem c_J27_next {s0 : zE} {d : Nat} {x0 : Nat} {h : zH} {Q : Value → zH → Prop} {E : Nat → zH → Prop} (H : (fC h x0 54 ∧ zX s0 m_J27_checkForComodification d [zr x0] h (fun _ h1 => ((fI h1 x0 [54] 0) ∧ ((fR h1 x0 [54] 3) ∧ ((fI h1 (gR h1 x0 3) [44] 2) ∧ ((gI h1 x0 0 < gI h1 (gR h1 x0 3) 2 → ((fR h1 x0 [54] 3) ∧ ((fR h1 (gR h1 x0 3) [44] 1) ∧ ((fC h1 (gR h1 (gR h1 x0 3) 1) 1006) ∧ ((gI h1 x0 0 < Int32.ofNat (gA h1 (gR h1 (gR h1 x0 3) 1)).length → ((fC h1 x0 54) ∧ (∀ h2, h2 = zput h1 x0 0 (.int ((gI h1 x0 0) + 1)) → ((fC h2 x0 54) ∧ (∀ h3, h3 = zput h2 x0 1 (.int (gI h1 x0 0)) → ((fE h3 (gR h1 (gR h1 x0 3) 1) 6 (gI h1 x0 0) (zr (eR h3 (gR h1 (gR h1 x0 3) 1) (gI h1 x0 0)))) ∧ (Q (zr (eR h3 (gR h1 (gR h1 x0 3) 1) (gI h1 x0 0))) h3))))))) ∧ (¬ gI h1 x0 0 < Int32.ofNat (gA h1 (gR h1 (gR h1 x0 3) 1)).length → (False))))))) ∧ (¬ gI h1 x0 0 < gI h1 (gR h1 x0 3) 2 → (False))))))) E)) : zX s0 m_J27_next (d + 1) [zr (x0)] h Q E := zX.of2 rfl (by decide +kernel) (zlay_r (zlay_n (znoneS (znoneS znone0)))) (zle rfl) (b_J27_next_0 H)
theorem b_J27_remove_0 {s0 : zE} {d : Nat} {x0 : Nat} {h : zH} {Q : Value → zH → Prop} {E : Nat → zH → Prop} (H : (fI h x0 [54] 1) ∧ ((0 ≤ gI h x0 1 → ((fC h x0 54 ∧ zX s0 m_J27_checkForComodification d [zr x0] h (fun _ h1 => ((fR h1 x0 [54] 3) ∧ ((fI h1 x0 [54] 1) ∧ ((fC h1 (gR h1 x0 3) 44 ∧ zX s0 m_J5_remove_2 d [zr (gR h1 x0 3), .int (gI h1 x0 1)] h1 (fun v2 h2 => ∃ n1 : Nat, v2 = zr (n1) ∧ ((fI h2 x0 [54] 1) ∧ ((fC h2 x0 54) ∧ (∀ h3, h3 = zput h2 x0 0 (.int (gI h2 x0 1)) → ((fC h3 x0 54) ∧ (∀ h4, h4 = zput h3 x0 1 (.int ((-1))) → ((fR h4 x0 [54] 3) ∧ ((fI h4 (gR h4 x0 3) [44] 0) ∧ ((fC h4 x0 54) ∧ (∀ h5, h5 = zput h4 x0 2 (.int (gI h4 (gR h4 x0 3) 0)) → (Q .null h5))))))))))) (fun n9 h9 => zPx s0 m_J27_remove (d + 1) 27 [some (zr (x0)), none] n9 h9 Q E)))))) (fun n9 h9 => zPx s0 m_J27_remove (d + 1) 16 [some (zr (x0)), none] n9 h9 Q E)))) ∧ (¬ 0 ≤ gI h x0 1 → (False)))) : zP s0 m_J27_remove (d + 1) 0 [some (zr (x0)), none] [] h Q E := by
  refine z_aload_n (M := m_J27_remove) (k := 0) rfl dJ27_remove_0 ?_
  obtain ⟨g, H⟩ := H
  refine z_get (M := m_J27_remove) f_J27_13 dJ27_remove_1 g ?_
  refine z_ifge (M := m_J27_remove) 15 rfl dJ27_remove_4 (fun hc => ?_) (fun hc => ?_)
  · have H := H.1 hc
    refine z_aload_n (M := m_J27_remove) (k := 0) rfl dJ27_remove_15 ?_
    obtain ⟨⟨fs9, g⟩, H⟩ := H
    refine z_invV (M := m_J27_remove) (cn := 54) (a := []) ok_J27_checkForComodification q1745 q1746 q1747 rfl dJ27_remove_16 g (Nat.le_refl _) (Nat.zero_le _) rfl H (fun v1 h1 H => ?_) (fun n9 h9 H => H)
    show zP s0 m_J27_remove (d + 1) _ _ [] _ _ _
    refine z_aload_n (M := m_J27_remove) (k := 0) rfl dJ27_remove_19 ?_
    obtain ⟨g, H⟩ := H
    refine z_get (M := m_J27_remove) f_J27_1 dJ27_remove_20 g ?_
    refine z_aload_n (M := m_J27_remove) (k := 0) rfl dJ27_remove_23 ?_
    obtain ⟨g, H⟩ := H
    refine z_get (M := m_J27_remove) f_J27_13 dJ27_remove_24 g ?_
    obtain ⟨⟨fs9, g⟩, H⟩ := H
    refine z_invV (M := m_J27_remove) (cn := 44) (a := [.int (gI h1 x0 1)]) ok_J5_remove_2 q1894 q1895 q1896 rfl dJ27_remove_27 g (Nat.le_refl _) (Nat.zero_le _) rfl H (fun v2 h2 H => ?_) (fun n9 h9 H => H)
    obtain ⟨n1, rfl, H⟩ := H
    show zP s0 m_J27_remove (d + 1) _ _ [zr (n1)] _ _ _
    refine z_pop (M := m_J27_remove) (zr_cat _) dJ27_remove_30 ?_
    refine z_aload_n (M := m_J27_remove) (k := 0) rfl dJ27_remove_31 ?_
    refine z_aload_n (M := m_J27_remove) (k := 0) rfl dJ27_remove_32 ?_
    obtain ⟨g, H⟩ := H
    refine z_get (M := m_J27_remove) f_J27_13 dJ27_remove_33 g ?_
    obtain ⟨g, H⟩ := H
    refine zz_put (M := m_J27_remove) f_J27_25 dJ27_remove_36 rfl (fn_54_0) g (ft_54_0) (fun h3 e => ?_)
    have H := H h3 e
    refine z_aload_n (M := m_J27_remove) (k := 0) rfl dJ27_remove_39 ?_
    refine z_iconst (M := m_J27_remove) (v := (-1)) (by decide) dJ27_remove_40 ?_
    obtain ⟨g, H⟩ := H
    refine zz_put (M := m_J27_remove) f_J27_13 dJ27_remove_41 rfl (fn_54_1) g (ft_54_1) (fun h4 e => ?_)
    have H := H h4 e
    refine z_aload_n (M := m_J27_remove) (k := 0) rfl dJ27_remove_44 ?_
    refine z_aload_n (M := m_J27_remove) (k := 0) rfl dJ27_remove_45 ?_
    obtain ⟨g, H⟩ := H
    refine z_get (M := m_J27_remove) f_J27_1 dJ27_remove_46 g ?_
    obtain ⟨g, H⟩ := H
    refine z_get (M := m_J27_remove) f_J27_17 dJ27_remove_49 g ?_
    obtain ⟨g, H⟩ := H
    refine zz_put (M := m_J27_remove) f_J27_22 dJ27_remove_52 rfl (fn_54_2) g (ft_54_2) (fun h5 e => ?_)
    have H := H h5 e
    refine z_goto (M := m_J27_remove) 67 rfl dJ27_remove_55 ?_
    exact z_return (M := m_J27_remove) rfl dJ27_remove_67 H
  · have H := H.2 hc
    exact H.elim
theorem b_J27_remove_58 {s0 : zE} {d : Nat} {t0 : Nat} {h : zH} {Q : Value → zH → Prop} {E : Nat → zH → Prop} (H : False) : zP s0 m_J27_remove (d + 1) 58 [none, none] [zr (t0)] h Q E := by
  refine z_astore_n (M := m_J27_remove) (k := 1) 1 rfl (zlt rfl) trivial dJ27_remove_58 ?_
  show zP s0 m_J27_remove (d + 1) _ [none, some (zr (t0))] _ _ _ _
  exact H.elim
theorem b_J28_hasNext_0 {s0 : zE} {d : Nat} {x0 : Nat} {h : zH} {Q : Value → zH → Prop} {E : Nat → zH → Prop} (H : (fR h x0 [55, 56] 0) ∧ ((gR h x0 0 = 0 → (Q (.int 0) h)) ∧ (¬ gR h x0 0 = 0 → (Q (.int 1) h)))) : zP s0 m_J28_hasNext d 0 [some (zr (x0))] [] h Q E := by
  refine z_aload_n (M := m_J28_hasNext) (k := 0) rfl dJ28_hasNext_0 ?_
  obtain ⟨g, H⟩ := H
  refine z_get (M := m_J28_hasNext) f_J28_26 dJ28_hasNext_1 g ?_
  refine z_ifnull (M := m_J28_hasNext) 11 rfl dJ28_hasNext_4 (fun hc => ?_) (fun hc => ?_)
  · have H := H.1 hc
    refine z_iconst (M := m_J28_hasNext) (v := 0) (by decide) dJ28_hasNext_11 ?_
    exact z_ireturn (M := m_J28_hasNext) rfl rfl dJ28_hasNext_12 H
  · have H := H.2 hc
    refine z_iconst (M := m_J28_hasNext) (v := 1) (by decide) dJ28_hasNext_7 ?_
    refine z_goto (M := m_J28_hasNext) 12 rfl dJ28_hasNext_8 ?_
    exact z_ireturn (M := m_J28_hasNext) rfl rfl dJ28_hasNext_12 H
theorem c_J28_hasNext {s0 : zE} {d : Nat} {x0 : Nat} {h : zH} {Q : Value → zH → Prop} {E : Nat → zH → Prop} (H : (fR h x0 [55, 56] 0) ∧ ((gR h x0 0 = 0 → (Q (.int 0) h)) ∧ (¬ gR h x0 0 = 0 → (Q (.int 1) h)))) : zX s0 m_J28_hasNext d [zr (x0)] h Q E := zX.of2 rfl (by decide +kernel) (zlay_r (zlay_n znone0)) (zle rfl) (b_J28_hasNext_0 H)
theorem b_J28_init_0 {s0 : zE} {d : Nat} {x0 : Nat} {x1 : Nat} {x2 : Int32} {h : zH} {Q : Value → zH → Prop} {E : Nat → zH → Prop} (H : (∃ c ∈ ([55, 56] : List Nat), fC h x0 c) ∧ (∀ h1, h1 = zput h x0 4 (zr (x1)) → ((∃ c, fC h1 x0 c) ∧ ((x2 = 0 ∨ x2 = 1) ∧ ((∃ c ∈ ([55, 56] : List Nat), fC h1 x0 c) ∧ (∀ h2, h2 = zput h1 x0 3 (.int (x2)) → ((x2 = 0 → ((fR h2 x1 [43] 8) ∧ (zP s0 m_J28_init (d + 1) 30 [some (zr (x0)), some (zr (x1)), none] [zr (gR h2 x1 8), zr (x0)] h2 Q E))) ∧ (¬ x2 = 0 → ((fR h2 x1 [43] 9) ∧ (zP s0 m_J28_init (d + 1) 30 [some (zr (x0)), some (zr (x1)), none] [zr (gR h2 x1 9), zr (x0)] h2 Q E)))))))))) : zP s0 m_J28_init (d + 1) 0 [some (zr (x0)), some (zr (x1)), some (.int (x2))] [] h Q E := by
  refine z_aload_n (M := m_J28_init) (k := 0) rfl dJ28_init_0 ?_
  refine z_aload_n (M := m_J28_init) (k := 1) rfl dJ28_init_1 ?_
  obtain ⟨g, H⟩ := H
  refine zz_putM (M := m_J28_init) f_J28_1 dJ28_init_2 (fun c hc => by simp only [List.mem_cons, List.not_mem_nil, or_false] at hc; rcases hc with rfl | rfl <;> exact rfl) (fun c hc => by simp only [List.mem_cons, List.not_mem_nil, or_false] at hc; rcases hc with rfl | rfl <;> exact ⟨_, rfl, Or.inr ⟨rfl, rfl, rfl, q1600⟩⟩) g (fun c hc => by simp only [List.mem_cons, List.not_mem_nil, or_false] at hc; rcases hc with rfl | rfl <;> exact (zfit_r rfl rfl rfl)) (fun h1 e => ?_)
  have H := H h1 e
  refine z_aload_n (M := m_J28_init) (k := 0) rfl dJ28_init_5 ?_
  obtain ⟨⟨c9, g⟩, H⟩ := H
  refine zz_objInit (M := m_J28_init) q1595 dJ28_init_6 g (Nat.zero_le _) ?_
  refine z_aload_n (M := m_J28_init) (k := 0) rfl dJ28_init_9 ?_
  refine z_iload_n (M := m_J28_init) (k := 2) rfl dJ28_init_10 ?_
  obtain ⟨gz, H⟩ := H
  obtain ⟨g, H⟩ := H
  refine zz_putM (M := m_J28_init) f_J28_13 dJ28_init_11 (fun c hc => by simp only [List.mem_cons, List.not_mem_nil, or_false] at hc; rcases hc with rfl | rfl <;> exact rfl) (fun c hc => by simp only [List.mem_cons, List.not_mem_nil, or_false] at hc; rcases hc with rfl | rfl <;> exact ⟨_, rfl, Or.inl rfl⟩) g (fun c hc => by simp only [List.mem_cons, List.not_mem_nil, or_false] at hc; rcases hc with rfl | rfl <;> exact (zfit_z rfl rfl gz)) (fun h2 e => ?_)
  have H := H h2 e
  refine z_aload_n (M := m_J28_init) (k := 0) rfl dJ28_init_14 ?_
  refine z_iload_n (M := m_J28_init) (k := 2) rfl dJ28_init_15 ?_
  refine z_ifeq (M := m_J28_init) 26 rfl dJ28_init_16 (fun hc => ?_) (fun hc => ?_)
  · have H := H.1 hc
    refine z_aload_n (M := m_J28_init) (k := 1) rfl dJ28_init_26 ?_
    obtain ⟨g, H⟩ := H
    refine z_get (M := m_J28_init) f_J28_23 dJ28_init_27 g ?_
    exact zP.weak (ls' := [some (zr (x0)), some (zr (x1)), none]) (zle rfl) (zsub_so (zsub_so (zsub_no zsub_nil))) H
  · have H := H.2 hc
    refine z_aload_n (M := m_J28_init) (k := 1) rfl dJ28_init_19 ?_
    obtain ⟨g, H⟩ := H
    refine z_get (M := m_J28_init) f_J28_17 dJ28_init_20 g ?_
    refine z_goto (M := m_J28_init) 30 rfl dJ28_init_23 ?_
    exact zP.weak (ls' := [some (zr (x0)), some (zr (x1)), none]) (zle rfl) (zsub_so (zsub_so (zsub_no zsub_nil))) H
theorem c_J28_init {s0 : zE} {d : Nat} {x0 : Nat} {x1 : Nat} {x2 : Int32} {h : zH} {Q : Value → zH → Prop} {E : Nat → zH → Prop} (H : (∃ c ∈ ([55, 56] : List Nat), fC h x0 c) ∧ (∀ h1, h1 = zput h x0 4 (zr (x1)) → ((∃ c, fC h1 x0 c) ∧ ((x2 = 0 ∨ x2 = 1) ∧ ((∃ c ∈ ([55, 56] : List Nat), fC h1 x0 c) ∧ (∀ h2, h2 = zput h1 x0 3 (.int (x2)) → ((x2 = 0 → ((fR h2 x1 [43] 8) ∧ (zP s0 m_J28_init (d + 1) 30 [some (zr (x0)), some (zr (x1)), none] [zr (gR h2 x1 8), zr (x0)] h2 Q E))) ∧ (¬ x2 = 0 → ((fR h2 x1 [43] 9) ∧ (zP s0 m_J28_init (d + 1) 30 [some (zr (x0)), some (zr (x1)), none] [zr (gR h2 x1 9), zr (x0)] h2 Q E)))))))))) : zX s0 m_J28_init (d + 1) [zr (x0), zr (x1), .int (x2)] h Q E := zX.of2 rfl (by decide +kernel) (zlay_r (zlay_r (zlay_i (zlay_n znone0)))) (zle rfl) (b_J28_init_0 H)
theorem b_J28_init_30 {s0 : zE} {d : Nat} {x0 : Nat} {x1 : Nat} {t0 : Nat} {t1 : Nat} {h : zH} {Q : Value → zH → Prop} {E : Nat → zH → Prop} (H : (∃ c ∈ ([55, 56] : List Nat), fC h t0 c) ∧ (∀ h1, h1 = zput h t0 0 (zr (t1)) → ((fI h1 x1 [43] 3) ∧ ((∃ c ∈ ([55, 56] : List Nat), fC h1 x0 c) ∧ (∀ h2, h2 = zput h1 x0 2 (.int (gI h1 x1 3)) → ((∃ c ∈ ([55, 56] : List Nat), fC h2 x0 c) ∧ (∀ h3, h3 = zput h2 x0 1 (zr (0)) → (Q .null h3)))))))) : zP s0 m_J28_init (d + 1) 30 [some (zr (x0)), some (zr (x1)), none] [zr (t1), zr (t0)] h Q E := by
  obtain ⟨g, H⟩ := H
  refine zz_putM (M := m_J28_init) f_J28_26 dJ28_init_30 (fun c hc => by simp only [List.mem_cons, List.not_mem_nil, or_false] at hc; rcases hc with rfl | rfl <;> exact rfl) (fun c hc => by simp only [List.mem_cons, List.not_mem_nil, or_false] at hc; rcases hc with rfl | rfl <;> exact ⟨_, rfl, Or.inl rfl⟩) g (fun c hc => by simp only [List.mem_cons, List.not_mem_nil, or_false] at hc; rcases hc with rfl | rfl <;> exact (zfit_r rfl rfl rfl)) (fun h1 e => ?_)
  have H := H h1 e
  refine z_aload_n (M := m_J28_init) (k := 0) rfl dJ28_init_33 ?_
  refine z_aload_n (M := m_J28_init) (k := 1) rfl dJ28_init_34 ?_
  obtain ⟨g, H⟩ := H
  refine z_get (M := m_J28_init) f_J28_29 dJ28_init_35 g ?_
  obtain ⟨g, H⟩ := H
  refine zz_putM (M := m_J28_init) f_J28_33 dJ28_init_38 (fun c hc => by simp only [List.mem_cons, List.not_mem_nil, or_false] at hc; rcases hc with rfl | rfl <;> exact rfl) (fun c hc => by simp only [List.mem_cons, List.not_mem_nil, or_false] at hc; rcases hc with rfl | rfl <;> exact ⟨_, rfl, Or.inl rfl⟩) g (fun c hc => by simp only [List.mem_cons, List.not_mem_nil, or_false] at hc; rcases hc with rfl | rfl <;> exact (zfit_i rfl rfl)) (fun h2 e => ?_)
  have H := H h2 e
  refine z_aload_n (M := m_J28_init) (k := 0) rfl dJ28_init_41 ?_
  refine z_null (M := m_J28_init) dJ28_init_42 ?_
  obtain ⟨g, H⟩ := H
  refine zz_putM (M := m_J28_init) f_J28_36 dJ28_init_43 (fun c hc => by simp only [List.mem_cons, List.not_mem_nil, or_false] at hc; rcases hc with rfl | rfl <;> exact rfl) (fun c hc => by simp only [List.mem_cons, List.not_mem_nil, or_false] at hc; rcases hc with rfl | rfl <;> exact ⟨_, rfl, Or.inl rfl⟩) g (fun c hc => by simp only [List.mem_cons, List.not_mem_nil, or_false] at hc; rcases hc with rfl | rfl <;> exact (zfit_r rfl rfl rfl)) (fun h3 e => ?_)
  have H := H h3 e
  exact z_return (M := m_J28_init) rfl dJ28_init_46 H
theorem b_J28_nextNode_0 {s0 : zE} {d : Nat} {x0 : Nat} {h : zH} {Q : Value → zH → Prop} {E : Nat → zH → Prop} (H : (fR h x0 [55, 56] 0) ∧ ((fR h x0 [55, 56] 4) ∧ ((fI h (gR h x0 4) [43] 3) ∧ ((fI h x0 [55, 56] 2) ∧ ((gI h (gR h x0 4) 3 = gI h x0 2 → ((¬ gR h x0 0 = 0 → ((∃ c ∈ ([55, 56] : List Nat), fC h x0 c) ∧ (∀ h1, h1 = zput h x0 1 (zr (gR h x0 0)) → ((fI h1 x0 [55, 56] 3) ∧ ((gI h1 x0 3 = 0 → ((fR h1 (gR h x0 0) [62, 63] 5) ∧ ((∃ c ∈ ([55, 56] : List Nat), fC h1 x0 c) ∧ (∀ h2, h2 = zput h1 x0 0 (zr (gR h1 (gR h x0 0) 5)) → (Q (zr (gR h x0 0)) h2))))) ∧ (¬ gI h1 x0 3 = 0 → ((fR h1 (gR h x0 0) [62, 63] 4) ∧ ((∃ c ∈ ([55, 56] : List Nat), fC h1 x0 c) ∧ (∀ h3, h3 = zput h1 x0 0 (zr (gR h1 (gR h x0 0) 4)) → (Q (zr (gR h x0 0)) h3)))))))))) ∧ (gR h x0 0 = 0 → (False)))) ∧ (¬ gI h (gR h x0 4) 3 = gI h x0 2 → (False))))))) : zP s0 m_J28_nextNode (d + 1) 0 [some (zr (x0)), none] [] h Q E := by
  refine z_aload_n (M := m_J28_nextNode) (k := 0) rfl dJ28_nextNode_0 ?_
  obtain ⟨g, H⟩ := H
  refine z_get (M := m_J28_nextNode) f_J28_26 dJ28_nextNode_1 g ?_
  refine z_astore_n (M := m_J28_nextNode) (k := 1) 1 rfl (zlt rfl) (zr_cat _) dJ28_nextNode_4 ?_
  show zP s0 m_J28_nextNode (d + 1) _ [some (zr (x0)), some (zr (gR h x0 0))] _ _ _ _
  refine z_aload_n (M := m_J28_nextNode) (k := 0) rfl dJ28_nextNode_5 ?_
  obtain ⟨g, H⟩ := H
  refine z_get (M := m_J28_nextNode) f_J28_1 dJ28_nextNode_6 g ?_
  obtain ⟨g, H⟩ := H
  refine z_get (M := m_J28_nextNode) f_J28_29 dJ28_nextNode_9 g ?_
  refine z_aload_n (M := m_J28_nextNode) (k := 0) rfl dJ28_nextNode_12 ?_
  obtain ⟨g, H⟩ := H
  refine z_get (M := m_J28_nextNode) f_J28_33 dJ28_nextNode_13 g ?_
  refine z_icmpeq (M := m_J28_nextNode) 27 rfl dJ28_nextNode_16 (fun hc => ?_) (fun hc => ?_)
  · have H := H.1 hc
    refine z_aload_n (M := m_J28_nextNode) (k := 1) rfl dJ28_nextNode_27 ?_
    refine z_ifnonnull (M := m_J28_nextNode) 39 rfl dJ28_nextNode_28 (fun hc => ?_) (fun hc => ?_)
    · have H := H.1 hc
      refine z_aload_n (M := m_J28_nextNode) (k := 0) rfl dJ28_nextNode_39 ?_
      refine z_aload_n (M := m_J28_nextNode) (k := 1) rfl dJ28_nextNode_40 ?_
      obtain ⟨g, H⟩ := H
      refine zz_putM (M := m_J28_nextNode) f_J28_36 dJ28_nextNode_41 (fun c hc => by simp only [List.mem_cons, List.not_mem_nil, or_false] at hc; rcases hc with rfl | rfl <;> exact rfl) (fun c hc => by simp only [List.mem_cons, List.not_mem_nil, or_false] at hc; rcases hc with rfl | rfl <;> exact ⟨_, rfl, Or.inl rfl⟩) g (fun c hc => by simp only [List.mem_cons, List.not_mem_nil, or_false] at hc; rcases hc with rfl | rfl <;> exact (zfit_r rfl rfl rfl)) (fun h1 e => ?_)
      have H := H h1 e
      refine z_aload_n (M := m_J28_nextNode) (k := 0) rfl dJ28_nextNode_44 ?_
      refine z_aload_n (M := m_J28_nextNode) (k := 0) rfl dJ28_nextNode_45 ?_
      obtain ⟨g, H⟩ := H
      refine z_get (M := m_J28_nextNode) f_J28_13 dJ28_nextNode_46 g ?_
      refine z_ifeq (M := m_J28_nextNode) 59 rfl dJ28_nextNode_49 (fun hc => ?_) (fun hc => ?_)
      · have H := H.1 hc
        refine z_aload_n (M := m_J28_nextNode) (k := 1) rfl dJ28_nextNode_59 ?_
        obtain ⟨g, H⟩ := H
        refine z_get (M := m_J28_nextNode) f_J28_50 dJ28_nextNode_60 g ?_
        obtain ⟨g, H⟩ := H
        refine zz_putM (M := m_J28_nextNode) f_J28_26 dJ28_nextNode_63 (fun c hc => by simp only [List.mem_cons, List.not_mem_nil, or_false] at hc; rcases hc with rfl | rfl <;> exact rfl) (fun c hc => by simp only [List.mem_cons, List.not_mem_nil, or_false] at hc; rcases hc with rfl | rfl <;> exact ⟨_, rfl, Or.inl rfl⟩) g (fun c hc => by simp only [List.mem_cons, List.not_mem_nil, or_false] at hc; rcases hc with rfl | rfl <;> exact (zfit_r rfl rfl rfl)) (fun h2 e => ?_)
        have H := H h2 e
        refine z_aload_n (M := m_J28_nextNode) (k := 1) rfl dJ28_nextNode_66 ?_
        exact z_areturn (M := m_J28_nextNode) rfl (Or.inl ⟨_, rfl⟩) dJ28_nextNode_67 H
      · have H := H.2 hc
        refine z_aload_n (M := m_J28_nextNode) (k := 1) rfl dJ28_nextNode_52 ?_
        obtain ⟨g, H⟩ := H
        refine z_get (M := m_J28_nextNode) f_J28_45 dJ28_nextNode_53 g ?_
        refine z_goto (M := m_J28_nextNode) 63 rfl dJ28_nextNode_56 ?_
        obtain ⟨g, H⟩ := H
        refine zz_putM (M := m_J28_nextNode) f_J28_26 dJ28_nextNode_63 (fun c hc => by simp only [List.mem_cons, List.not_mem_nil, or_false] at hc; rcases hc with rfl | rfl <;> exact rfl) (fun c hc => by simp only [List.mem_cons, List.not_mem_nil, or_false] at hc; rcases hc with rfl | rfl <;> exact ⟨_, rfl, Or.inl rfl⟩) g (fun c hc => by simp only [List.mem_cons, List.not_mem_nil, or_false] at hc; rcases hc with rfl | rfl <;> exact (zfit_r rfl rfl rfl)) (fun h3 e => ?_)
        have H := H h3 e
        refine z_aload_n (M := m_J28_nextNode) (k := 1) rfl dJ28_nextNode_66 ?_
        exact z_areturn (M := m_J28_nextNode) rfl (Or.inl ⟨_, rfl⟩) dJ28_nextNode_67 H
    · have H := H.2 hc
      exact H.elim
  · have H := H.2 hc
    exact H.elim
theorem c_J28_nextNode {s0 : zE} {d : Nat} {x0 : Nat} {h : zH} {Q : Value → zH → Prop} {E : Nat → zH → Prop} (H : (fR h x0 [55, 56] 0) ∧ ((fR h x0 [55, 56] 4) ∧ ((fI h (gR h x0 4) [43] 3) ∧ ((fI h x0 [55, 56] 2) ∧ ((gI h (gR h x0 4) 3 = gI h x0 2 → ((¬ gR h x0 0 = 0 → ((∃ c ∈ ([55, 56] : List Nat), fC h x0 c) ∧ (∀ h1, h1 = zput h x0 1 (zr (gR h x0 0)) → ((fI h1 x0 [55, 56] 3) ∧ ((gI h1 x0 3 = 0 → ((fR h1 (gR h x0 0) [62, 63] 5) ∧ ((∃ c ∈ ([55, 56] : List Nat), fC h1 x0 c) ∧ (∀ h2, h2 = zput h1 x0 0 (zr (gR h1 (gR h x0 0) 5)) → (Q (zr (gR h x0 0)) h2))))) ∧ (¬ gI h1 x0 3 = 0 → ((fR h1 (gR h x0 0) [62, 63] 4) ∧ ((∃ c ∈ ([55, 56] : List Nat), fC h1 x0 c) ∧ (∀ h3, h3 = zput h1 x0 0 (zr (gR h1 (gR h x0 0) 4)) → (Q (zr (gR h x0 0)) h3)))))))))) ∧ (gR h x0 0 = 0 → (False)))) ∧ (¬ gI h (gR h x0 4) 3 = gI h x0 2 → (False))))))) : zX s0 m_J28_nextNode (d + 1) [zr (x0)] h Q E := zX.of2 rfl (by decide +kernel) (zlay_r (zlay_n (znoneS znone0))) (zle rfl) (b_J28_nextNode_0 H)
theorem b_J28_remove_0 {s0 : zE} {d : Nat} {x0 : Nat} {h : zH} {Q : Value → zH → Prop} {E : Nat → zH → Prop} (H : (fR h x0 [55, 56] 1) ∧ ((¬ gR h x0 1 = 0 → ((fR h x0 [55, 56] 4) ∧ ((fI h (gR h x0 4) [43] 3) ∧ ((fI h x0 [55, 56] 2) ∧ ((gI h (gR h x0 4) 3 = gI h x0 2 → ((∃ c ∈ ([55, 56] : List Nat), fC h x0 c) ∧ (∀ h1, h1 = zput h x0 1 (zr (0)) → ((fR h1 x0 [55, 56] 4) ∧ ((fI h1 (gR h x0 1) [62, 63] 0) ∧ ((fR h1 (gR h x0 1) [62, 63] 1) ∧ ((fC h1 (gR h1 x0 4) 43 ∧ zX s0 m_J1_removeNode d [zr (gR h1 x0 4), .int (gI h1 (gR h x0 1) 0), zr (gR h1 (gR h x0 1) 1), zr (0), .int (0), .int (0)] h1 (fun v1 h2 => ∃ n1 : Nat, v1 = zr (n1) ∧ ((fR h2 x0 [55, 56] 4) ∧ ((fI h2 (gR h2 x0 4) [43] 3) ∧ ((∃ c ∈ ([55, 56] : List Nat), fC h2 x0 c) ∧ (∀ h3, h3 = zput h2 x0 2 (.int (gI h2 (gR h2 x0 4) 3)) → (Q .null h3)))))) E)))))))) ∧ (¬ gI h (gR h x0 4) 3 = gI h x0 2 → (False))))))) ∧ (gR h x0 1 = 0 → (False)))) : zP s0 m_J28_remove (d + 1) 0 [some (zr (x0)), none] [] h Q E := by
  refine z_aload_n (M := m_J28_remove) (k := 0) rfl dJ28_remove_0 ?_
  obtain ⟨g, H⟩ := H
  refine z_get (M := m_J28_remove) f_J28_36 dJ28_remove_1 g ?_
  refine z_astore_n (M := m_J28_remove) (k := 1) 1 rfl (zlt rfl) (zr_cat _) dJ28_remove_4 ?_
  show zP s0 m_J28_remove (d + 1) _ [some (zr (x0)), some (zr (gR h x0 1))] _ _ _ _
  refine z_aload_n (M := m_J28_remove) (k := 1) rfl dJ28_remove_5 ?_
  refine z_ifnonnull (M := m_J28_remove) 17 rfl dJ28_remove_6 (fun hc => ?_) (fun hc => ?_)
  · have H := H.1 hc
    refine z_aload_n (M := m_J28_remove) (k := 0) rfl dJ28_remove_17 ?_
    obtain ⟨g, H⟩ := H
    refine z_get (M := m_J28_remove) f_J28_1 dJ28_remove_18 g ?_
    obtain ⟨g, H⟩ := H
    refine z_get (M := m_J28_remove) f_J28_29 dJ28_remove_21 g ?_
    refine z_aload_n (M := m_J28_remove) (k := 0) rfl dJ28_remove_24 ?_
    obtain ⟨g, H⟩ := H
    refine z_get (M := m_J28_remove) f_J28_33 dJ28_remove_25 g ?_
    refine z_icmpeq (M := m_J28_remove) 39 rfl dJ28_remove_28 (fun hc => ?_) (fun hc => ?_)
    · have H := H.1 hc
      refine z_aload_n (M := m_J28_remove) (k := 0) rfl dJ28_remove_39 ?_
      refine z_null (M := m_J28_remove) dJ28_remove_40 ?_
      obtain ⟨g, H⟩ := H
      refine zz_putM (M := m_J28_remove) f_J28_36 dJ28_remove_41 (fun c hc => by simp only [List.mem_cons, List.not_mem_nil, or_false] at hc; rcases hc with rfl | rfl <;> exact rfl) (fun c hc => by simp only [List.mem_cons, List.not_mem_nil, or_false] at hc; rcases hc with rfl | rfl <;> exact ⟨_, rfl, Or.inl rfl⟩) g (fun c hc => by simp only [List.mem_cons, List.not_mem_nil, or_false] at hc; rcases hc with rfl | rfl <;> exact (zfit_r rfl rfl rfl)) (fun h1 e => ?_)
      have H := H h1 e
      refine z_aload_n (M := m_J28_remove) (k := 0) rfl dJ28_remove_44 ?_
      obtain ⟨g, H⟩ := H
      refine z_get (M := m_J28_remove) f_J28_1 dJ28_remove_45 g ?_
      refine z_aload_n (M := m_J28_remove) (k := 1) rfl dJ28_remove_48 ?_
      obtain ⟨g, H⟩ := H
      refine z_get (M := m_J28_remove) f_J28_56 dJ28_remove_49 g ?_
      refine z_aload_n (M := m_J28_remove) (k := 1) rfl dJ28_remove_52 ?_
      obtain ⟨g, H⟩ := H
      refine z_get (M := m_J28_remove) f_J28_61 dJ28_remove_53 g ?_
      refine z_null (M := m_J28_remove) dJ28_remove_56 ?_
      refine z_iconst (M := m_J28_remove) (v := 0) (by decide) dJ28_remove_57 ?_
      refine z_iconst (M := m_J28_remove) (v := 0) (by decide) dJ28_remove_58 ?_
      obtain ⟨⟨fs9, g⟩, H⟩ := H
      refine z_invU (M := m_J28_remove) (cn := 43) (a := [.int (gI h1 (gR h x0 1) 0), zr (gR h1 (gR h x0 1) 1), zr (0), .int (0), .int (0)]) ok_J1_removeNode (by change _ = some 5; decide +kernel) q1916 q1917 ⟨by decide, by decide⟩ (Or.inl rfl) q1920 q1919 rfl dJ28_remove_59 g (Nat.le_refl _) (Nat.zero_le _) rfl H (fun v1 h2 H => ?_) (fun n9 h9 H => zPx.out rfl H)
      obtain ⟨n1, rfl, H⟩ := H
      show zP s0 m_J28_remove (d + 1) _ _ [zr (n1)] _ _ _
      refine z_pop (M := m_J28_remove) (zr_cat _) dJ28_remove_62 ?_
      refine z_aload_n (M := m_J28_remove) (k := 0) rfl dJ28_remove_63 ?_
      refine z_aload_n (M := m_J28_remove) (k := 0) rfl dJ28_remove_64 ?_
      obtain ⟨g, H⟩ := H
      refine z_get (M := m_J28_remove) f_J28_1 dJ28_remove_65 g ?_
      obtain ⟨g, H⟩ := H
      refine z_get (M := m_J28_remove) f_J28_29 dJ28_remove_68 g ?_
      obtain ⟨g, H⟩ := H
      refine zz_putM (M := m_J28_remove) f_J28_33 dJ28_remove_71 (fun c hc => by simp only [List.mem_cons, List.not_mem_nil, or_false] at hc; rcases hc with rfl | rfl <;> exact rfl) (fun c hc => by simp only [List.mem_cons, List.not_mem_nil, or_false] at hc; rcases hc with rfl | rfl <;> exact ⟨_, rfl, Or.inl rfl⟩) g (fun c hc => by simp only [List.mem_cons, List.not_mem_nil, or_false] at hc; rcases hc with rfl | rfl <;> exact (zfit_i rfl rfl)) (fun h3 e => ?_)
      have H := H h3 e
      exact z_return (M := m_J28_remove) rfl dJ28_remove_74 H
    · have H := H.2 hc
      exact H.elim
  · have H := H.2 hc
    exact H.elim
theorem c_J28_remove {s0 : zE} {d : Nat} {x0 : Nat} {h : zH} {Q : Value → zH → Prop} {E : Nat → zH → Prop} (H : (fR h x0 [55, 56] 1) ∧ ((¬ gR h x0 1 = 0 → ((fR h x0 [55, 56] 4) ∧ ((fI h (gR h x0 4) [43] 3) ∧ ((fI h x0 [55, 56] 2) ∧ ((gI h (gR h x0 4) 3 = gI h x0 2 → ((∃ c ∈ ([55, 56] : List Nat), fC h x0 c) ∧ (∀ h1, h1 = zput h x0 1 (zr (0)) → ((fR h1 x0 [55, 56] 4) ∧ ((fI h1 (gR h x0 1) [62, 63] 0) ∧ ((fR h1 (gR h x0 1) [62, 63] 1) ∧ ((fC h1 (gR h1 x0 4) 43 ∧ zX s0 m_J1_removeNode d [zr (gR h1 x0 4), .int (gI h1 (gR h x0 1) 0), zr (gR h1 (gR h x0 1) 1), zr (0), .int (0), .int (0)] h1 (fun v1 h2 => ∃ n1 : Nat, v1 = zr (n1) ∧ ((fR h2 x0 [55, 56] 4) ∧ ((fI h2 (gR h2 x0 4) [43] 3) ∧ ((∃ c ∈ ([55, 56] : List Nat), fC h2 x0 c) ∧ (∀ h3, h3 = zput h2 x0 2 (.int (gI h2 (gR h2 x0 4) 3)) → (Q .null h3)))))) E)))))))) ∧ (¬ gI h (gR h x0 4) 3 = gI h x0 2 → (False))))))) ∧ (gR h x0 1 = 0 → (False)))) : zX s0 m_J28_remove (d + 1) [zr (x0)] h Q E := zX.of2 rfl (by decide +kernel) (zlay_r (zlay_n (znoneS znone0))) (zle rfl) (b_J28_remove_0 H)
theorem b_J29_init_0 {s0 : zE} {d : Nat} {x0 : Nat} {x1 : Nat} {x2 : Int32} {h : zH} {Q : Value → zH → Prop} {E : Nat → zH → Prop} (H : (∃ c, fC h x0 c) ∧ (zX s0 m_J28_init d [zr x0, zr (x1), .int (x2)] h (fun _ h1 => (Q .null h1)) E)) : zP s0 m_J29_init (d + 1) 0 [some (zr (x0)), some (zr (x1)), some (.int (x2))] [] h Q E := by
  refine z_aload_n (M := m_J29_init) (k := 0) rfl dJ29_init_0 ?_
  refine z_aload_n (M := m_J29_init) (k := 1) rfl dJ29_init_1 ?_
  refine z_iload_n (M := m_J29_init) (k := 2) rfl dJ29_init_2 ?_
  obtain ⟨⟨c9, g⟩, H⟩ := H
  refine zz_invI (M := m_J29_init) (a := [zr (x1), .int (x2)]) ok_J28_init rfl rfl q1592 q1593 dJ29_init_3 g (Nat.zero_le _) rfl H (fun v1 h1 H => ?_) (fun n9 h9 H => zPx.out rfl H)
  exact z_return (M := m_J29_init) rfl dJ29_init_6 H
theorem c_J29_init {s0 : zE} {d : Nat} {x0 : Nat} {x1 : Nat} {x2 : Int32} {h : zH} {Q : Value → zH → Prop} {E : Nat → zH → Prop} (H : (∃ c, fC h x0 c) ∧ (zX s0 m_J28_init d [zr x0, zr (x1), .int (x2)] h (fun _ h1 => (Q .null h1)) E)) : zX s0 m_J29_init (d + 1) [zr (x0), zr (x1), .int (x2)] h Q E := zX.of2 rfl (by decide +kernel) (zlay_r (zlay_r (zlay_i (zlay_n znone0)))) (zle rfl) (b_J29_init_0 H)
theorem b_J29_next_0 {s0 : zE} {d : Nat} {x0 : Nat} {h : zH} {Q : Value → zH → Prop} {E : Nat → zH → Prop} (H : (fC h x0 55 ∧ zX s0 m_J29_next_2 d [zr x0] h (fun v1 h1 => ∃ n1 : Nat, v1 = zr (n1) ∧ (Q (zr n1) h1)) E)) : zP s0 m_J29_next (d + 1) 0 [some (zr (x0))] [] h Q E := by
  refine z_aload_n (M := m_J29_next) (k := 0) rfl dJ29_next_0 ?_
  obtain ⟨⟨fs9, g⟩, H⟩ := H
  refine z_invV (M := m_J29_next) (cn := 55) (a := []) ok_J29_next_2 q1756 q1757 q1758 rfl dJ29_next_1 g (Nat.le_refl _) (Nat.zero_le _) rfl H (fun v1 h1 H => ?_) (fun n9 h9 H => zPx.out rfl H)
  obtain ⟨n1, rfl, H⟩ := H
  show zP s0 m_J29_next (d + 1) _ _ [zr (n1)] _ _ _
  exact z_areturn (M := m_J29_next) rfl (Or.inl ⟨_, rfl⟩) dJ29_next_4 H
theorem c_J29_next {s0 : zE} {d : Nat} {x0 : Nat} {h : zH} {Q : Value → zH → Prop} {E : Nat → zH → Prop} (H : (fC h x0 55 ∧ zX s0 m_J29_next_2 d [zr x0] h (fun v1 h1 => ∃ n1 : Nat, v1 = zr (n1) ∧ (Q (zr n1) h1)) E)) : zX s0 m_J29_next (d + 1) [zr (x0)] h Q E := zX.of2 rfl (by decide +kernel) (zlay_r (zlay_n znone0)) (zle rfl) (b_J29_next_0 H)
theorem b_J29_next_2_0 {s0 : zE} {d : Nat} {x0 : Nat} {h : zH} {Q : Value → zH → Prop} {E : Nat → zH → Prop} (H : (fC h x0 55 ∧ zX s0 m_J28_nextNode d [zr x0] h (fun v1 h1 => ∃ n1 : Nat, v1 = zr (n1) ∧ (Q (zr n1) h1)) E)) : zP s0 m_J29_next_2 (d + 1) 0 [some (zr (x0))] [] h Q E := by
  refine z_aload_n (M := m_J29_next_2) (k := 0) rfl dJ29_next_2_0 ?_
  obtain ⟨⟨fs9, g⟩, H⟩ := H
  refine z_invU (M := m_J29_next_2) (cn := 55) (a := []) ok_J28_nextNode (by change _ = some 0; decide +kernel) q1760 q1761 ⟨by decide, by decide⟩ (Or.inl rfl) q1764 q1763 rfl dJ29_next_2_1 g (Nat.le_refl _) (Nat.zero_le _) rfl H (fun v1 h1 H => ?_) (fun n9 h9 H => zPx.out rfl H)
  obtain ⟨n1, rfl, H⟩ := H
  show zP s0 m_J29_next_2 (d + 1) _ _ [zr (n1)] _ _ _
  exact z_areturn (M := m_J29_next_2) rfl (Or.inl ⟨_, rfl⟩) dJ29_next_2_4 H
theorem c_J29_next_2 {s0 : zE} {d : Nat} {x0 : Nat} {h : zH} {Q : Value → zH → Prop} {E : Nat → zH → Prop} (H : (fC h x0 55 ∧ zX s0 m_J28_nextNode d [zr x0] h (fun v1 h1 => ∃ n1 : Nat, v1 = zr (n1) ∧ (Q (zr n1) h1)) E)) : zX s0 m_J29_next_2 (d + 1) [zr (x0)] h Q E := zX.of2 rfl (by decide +kernel) (zlay_r (zlay_n znone0)) (zle rfl) (b_J29_next_2_0 H)
theorem b_J30_init_0 {s0 : zE} {d : Nat} {x0 : Nat} {x1 : Nat} {x2 : Int32} {h : zH} {Q : Value → zH → Prop} {E : Nat → zH → Prop} (H : (∃ c, fC h x0 c) ∧ (zX s0 m_J28_init d [zr x0, zr (x1), .int (x2)] h (fun _ h1 => (Q .null h1)) E)) : zP s0 m_J30_init (d + 1) 0 [some (zr (x0)), some (zr (x1)), some (.int (x2))] [] h Q E := by
  refine z_aload_n (M := m_J30_init) (k := 0) rfl dJ30_init_0 ?_
  refine z_aload_n (M := m_J30_init) (k := 1) rfl dJ30_init_1 ?_
  refine z_iload_n (M := m_J30_init) (k := 2) rfl dJ30_init_2 ?_
  obtain ⟨⟨c9, g⟩, H⟩ := H
  refine zz_invI (M := m_J30_init) (a := [zr (x1), .int (x2)]) ok_J28_init rfl rfl q1620 q1593 dJ30_init_3 g (Nat.zero_le _) rfl H (fun v1 h1 H => ?_) (fun n9 h9 H => zPx.out rfl H)
  exact z_return (M := m_J30_init) rfl dJ30_init_6 H
theorem c_J30_init {s0 : zE} {d : Nat} {x0 : Nat} {x1 : Nat} {x2 : Int32} {h : zH} {Q : Value → zH → Prop} {E : Nat → zH → Prop} (H : (∃ c, fC h x0 c) ∧ (zX s0 m_J28_init d [zr x0, zr (x1), .int (x2)] h (fun _ h1 => (Q .null h1)) E)) : zX s0 m_J30_init (d + 1) [zr (x0), zr (x1), .int (x2)] h Q E := zX.of2 rfl (by decide +kernel) (zlay_r (zlay_r (zlay_i (zlay_n znone0)))) (zle rfl) (b_J30_init_0 H)
theorem b_J30_next_0 {s0 : zE} {d : Nat} {x0 : Nat} {h : zH} {Q : Value → zH → Prop} {E : Nat → zH → Prop} (H : (fC h x0 56 ∧ zX s0 m_J28_nextNode d [zr x0] h (fun v1 h1 => ∃ n1 : Nat, v1 = zr (n1) ∧ ((fR h1 n1 [62, 63] 2) ∧ (Q (zr (gR h1 n1 2)) h1))) E)) : zP s0 m_J30_next (d + 1) 0 [some (zr (x0))] [] h Q E := by
  refine z_aload_n (M := m_J30_next) (k := 0) rfl dJ30_next_0 ?_
  obtain ⟨⟨fs9, g⟩, H⟩ := H
  refine z_invU (M := m_J30_next) (cn := 56) (a := []) ok_J28_nextNode (by change _ = some 0; decide +kernel) q1773 q1774 ⟨by decide, by decide⟩ (Or.inl rfl) q1764 q1775 rfl dJ30_next_1 g (Nat.le_refl _) (Nat.zero_le _) rfl H (fun v1 h1 H => ?_) (fun n9 h9 H => zPx.out rfl H)
  obtain ⟨n1, rfl, H⟩ := H
  show zP s0 m_J30_next (d + 1) _ _ [zr (n1)] _ _ _
  obtain ⟨g, H⟩ := H
  refine z_get (M := m_J30_next) f_J30_13 dJ30_next_4 g ?_
  exact z_areturn (M := m_J30_next) rfl (Or.inl ⟨_, rfl⟩) dJ30_next_7 H
theorem c_J30_next {s0 : zE} {d : Nat} {x0 : Nat} {h : zH} {Q : Value → zH → Prop} {E : Nat → zH → Prop} (H : (fC h x0 56 ∧ zX s0 m_J28_nextNode d [zr x0] h (fun v1 h1 => ∃ n1 : Nat, v1 = zr (n1) ∧ ((fR h1 n1 [62, 63] 2) ∧ (Q (zr (gR h1 n1 2)) h1))) E)) : zX s0 m_J30_next (d + 1) [zr (x0)] h Q E := zX.of2 rfl (by decide +kernel) (zlay_r (zlay_n znone0)) (zle rfl) (b_J30_next_0 H)
theorem b_J31_hasNext_0 {s0 : zE} {d : Nat} {x0 : Nat} {h : zH} {Q : Value → zH → Prop} {E : Nat → zH → Prop} (H : (fR h x0 [57, 58] 0) ∧ ((gR h x0 0 = 0 → (Q (.int 0) h)) ∧ (¬ gR h x0 0 = 0 → (Q (.int 1) h)))) : zP s0 m_J31_hasNext d 0 [some (zr (x0))] [] h Q E := by
  refine z_aload_n (M := m_J31_hasNext) (k := 0) rfl dJ31_hasNext_0 ?_
  obtain ⟨g, H⟩ := H
  refine z_get (M := m_J31_hasNext) f_J31_26 dJ31_hasNext_1 g ?_
  refine z_ifnull (M := m_J31_hasNext) 11 rfl dJ31_hasNext_4 (fun hc => ?_) (fun hc => ?_)
  · have H := H.1 hc
    refine z_iconst (M := m_J31_hasNext) (v := 0) (by decide) dJ31_hasNext_11 ?_
    exact z_ireturn (M := m_J31_hasNext) rfl rfl dJ31_hasNext_12 H
  · have H := H.2 hc
    refine z_iconst (M := m_J31_hasNext) (v := 1) (by decide) dJ31_hasNext_7 ?_
    refine z_goto (M := m_J31_hasNext) 12 rfl dJ31_hasNext_8 ?_
    exact z_ireturn (M := m_J31_hasNext) rfl rfl dJ31_hasNext_12 H
theorem c_J31_hasNext {s0 : zE} {d : Nat} {x0 : Nat} {h : zH} {Q : Value → zH → Prop} {E : Nat → zH → Prop} (H : (fR h x0 [57, 58] 0) ∧ ((gR h x0 0 = 0 → (Q (.int 0) h)) ∧ (¬ gR h x0 0 = 0 → (Q (.int 1) h)))) : zX s0 m_J31_hasNext d [zr (x0)] h Q E := zX.of2 rfl (by decide +kernel) (zlay_r (zlay_n znone0)) (zle rfl) (b_J31_hasNext_0 H)
theorem b_J31_init_0 {s0 : zE} {d : Nat} {x0 : Nat} {x1 : Nat} {x2 : Nat} {h : zH} {Q : Value → zH → Prop} {E : Nat → zH → Prop} (H : (∃ c ∈ ([57, 58] : List Nat), fC h x0 c) ∧ (∀ h1, h1 = zput h x0 3 (zr (x1)) → ((∃ c, fC h1 x0 c) ∧ ((fI h1 x1 [47] 5) ∧ ((∃ c ∈ ([57, 58] : List Nat), fC h1 x0 c) ∧ (∀ h2, h2 = zput h1 x0 2 (.int (gI h1 x1 5)) → ((∃ c ∈ ([57, 58] : List Nat), fC h2 x0 c) ∧ (∀ h3, h3 = zput h2 x0 1 (zr (0)) → ((∃ c ∈ ([57, 58] : List Nat), fC h3 x0 c) ∧ (∀ h4, h4 = zput h3 x0 0 (zr (x2)) → (Q .null h4))))))))))) : zP s0 m_J31_init (d + 1) 0 [some (zr (x0)), some (zr (x1)), some (zr (x2))] [] h Q E := by
  refine z_aload_n (M := m_J31_init) (k := 0) rfl dJ31_init_0 ?_
  refine z_aload_n (M := m_J31_init) (k := 1) rfl dJ31_init_1 ?_
  obtain ⟨g, H⟩ := H
  refine zz_putM (M := m_J31_init) f_J31_1 dJ31_init_2 (fun c hc => by simp only [List.mem_cons, List.not_mem_nil, or_false] at hc; rcases hc with rfl | rfl <;> exact rfl) (fun c hc => by simp only [List.mem_cons, List.not_mem_nil, or_false] at hc; rcases hc with rfl | rfl <;> exact ⟨_, rfl, Or.inr ⟨rfl, rfl, rfl, q1646⟩⟩) g (fun c hc => by simp only [List.mem_cons, List.not_mem_nil, or_false] at hc; rcases hc with rfl | rfl <;> exact (zfit_r rfl rfl rfl)) (fun h1 e => ?_)
  have H := H h1 e
  refine z_aload_n (M := m_J31_init) (k := 0) rfl dJ31_init_5 ?_
  obtain ⟨⟨c9, g⟩, H⟩ := H
  refine zz_objInit (M := m_J31_init) q1642 dJ31_init_6 g (Nat.zero_le _) ?_
  refine z_aload_n (M := m_J31_init) (k := 0) rfl dJ31_init_9 ?_
  refine z_aload_n (M := m_J31_init) (k := 1) rfl dJ31_init_10 ?_
  obtain ⟨g, H⟩ := H
  refine z_get (M := m_J31_init) f_J31_13 dJ31_init_11 g ?_
  obtain ⟨g, H⟩ := H
  refine zz_putM (M := m_J31_init) f_J31_19 dJ31_init_14 (fun c hc => by simp only [List.mem_cons, List.not_mem_nil, or_false] at hc; rcases hc with rfl | rfl <;> exact rfl) (fun c hc => by simp only [List.mem_cons, List.not_mem_nil, or_false] at hc; rcases hc with rfl | rfl <;> exact ⟨_, rfl, Or.inl rfl⟩) g (fun c hc => by simp only [List.mem_cons, List.not_mem_nil, or_false] at hc; rcases hc with rfl | rfl <;> exact (zfit_i rfl rfl)) (fun h2 e => ?_)
  have H := H h2 e
  refine z_aload_n (M := m_J31_init) (k := 0) rfl dJ31_init_17 ?_
  refine z_null (M := m_J31_init) dJ31_init_18 ?_
  obtain ⟨g, H⟩ := H
  refine zz_putM (M := m_J31_init) f_J31_22 dJ31_init_19 (fun c hc => by simp only [List.mem_cons, List.not_mem_nil, or_false] at hc; rcases hc with rfl | rfl <;> exact rfl) (fun c hc => by simp only [List.mem_cons, List.not_mem_nil, or_false] at hc; rcases hc with rfl | rfl <;> exact ⟨_, rfl, Or.inl rfl⟩) g (fun c hc => by simp only [List.mem_cons, List.not_mem_nil, or_false] at hc; rcases hc with rfl | rfl <;> exact (zfit_r rfl rfl rfl)) (fun h3 e => ?_)
  have H := H h3 e
  refine z_aload_n (M := m_J31_init) (k := 0) rfl dJ31_init_22 ?_
  refine z_aload_n (M := m_J31_init) (k := 2) rfl dJ31_init_23 ?_
  obtain ⟨g, H⟩ := H
  refine zz_putM (M := m_J31_init) f_J31_26 dJ31_init_24 (fun c hc => by simp only [List.mem_cons, List.not_mem_nil, or_false] at hc; rcases hc with rfl | rfl <;> exact rfl) (fun c hc => by simp only [List.mem_cons, List.not_mem_nil, or_false] at hc; rcases hc with rfl | rfl <;> exact ⟨_, rfl, Or.inl rfl⟩) g (fun c hc => by simp only [List.mem_cons, List.not_mem_nil, or_false] at hc; rcases hc with rfl | rfl <;> exact (zfit_r rfl rfl rfl)) (fun h4 e => ?_)
  have H := H h4 e
  exact z_return (M := m_J31_init) rfl dJ31_init_27 H
theorem c_J31_init {s0 : zE} {d : Nat} {x0 : Nat} {x1 : Nat} {x2 : Nat} {h : zH} {Q : Value → zH → Prop} {E : Nat → zH → Prop} (H : (∃ c ∈ ([57, 58] : List Nat), fC h x0 c) ∧ (∀ h1, h1 = zput h x0 3 (zr (x1)) → ((∃ c, fC h1 x0 c) ∧ ((fI h1 x1 [47] 5) ∧ ((∃ c ∈ ([57, 58] : List Nat), fC h1 x0 c) ∧ (∀ h2, h2 = zput h1 x0 2 (.int (gI h1 x1 5)) → ((∃ c ∈ ([57, 58] : List Nat), fC h2 x0 c) ∧ (∀ h3, h3 = zput h2 x0 1 (zr (0)) → ((∃ c ∈ ([57, 58] : List Nat), fC h3 x0 c) ∧ (∀ h4, h4 = zput h3 x0 0 (zr (x2)) → (Q .null h4))))))))))) : zX s0 m_J31_init (d + 1) [zr (x0), zr (x1), zr (x2)] h Q E := zX.of2 rfl (by decide +kernel) (zlay_r (zlay_r (zlay_r (zlay_n znone0)))) (zle rfl) (b_J31_init_0 H)
theorem b_J31_nextEntry_0 {s0 : zE} {d : Nat} {x0 : Nat} {h : zH} {Q : Value → zH → Prop} {E : Nat → zH → Prop} (H : (fR h x0 [57, 58] 0) ∧ ((¬ gR h x0 0 = 0 → ((fR h x0 [57, 58] 3) ∧ ((fI h (gR h x0 3) [47] 5) ∧ ((fI h x0 [57, 58] 2) ∧ ((gI h (gR h x0 3) 5 = gI h x0 2 → (zX s0 m_J9_successor d [zr (gR h x0 0)] h (fun v1 h1 => ∃ n1 : Nat, v1 = zr (n1) ∧ ((∃ c ∈ ([57, 58] : List Nat), fC h1 x0 c) ∧ (∀ h2, h2 = zput h1 x0 0 (zr (n1)) → ((∃ c ∈ ([57, 58] : List Nat), fC h2 x0 c) ∧ (∀ h3, h3 = zput h2 x0 1 (zr (gR h x0 0)) → (Q (zr (gR h x0 0)) h3)))))) E)) ∧ (¬ gI h (gR h x0 3) 5 = gI h x0 2 → (False))))))) ∧ (gR h x0 0 = 0 → (False)))) : zP s0 m_J31_nextEntry (d + 1) 0 [some (zr (x0)), none] [] h Q E := by
  refine z_aload_n (M := m_J31_nextEntry) (k := 0) rfl dJ31_nextEntry_0 ?_
  obtain ⟨g, H⟩ := H
  refine z_get (M := m_J31_nextEntry) f_J31_26 dJ31_nextEntry_1 g ?_
  refine z_astore_n (M := m_J31_nextEntry) (k := 1) 1 rfl (zlt rfl) (zr_cat _) dJ31_nextEntry_4 ?_
  show zP s0 m_J31_nextEntry (d + 1) _ [some (zr (x0)), some (zr (gR h x0 0))] _ _ _ _
  refine z_aload_n (M := m_J31_nextEntry) (k := 1) rfl dJ31_nextEntry_5 ?_
  refine z_ifnonnull (M := m_J31_nextEntry) 17 rfl dJ31_nextEntry_6 (fun hc => ?_) (fun hc => ?_)
  · have H := H.1 hc
    refine z_aload_n (M := m_J31_nextEntry) (k := 0) rfl dJ31_nextEntry_17 ?_
    obtain ⟨g, H⟩ := H
    refine z_get (M := m_J31_nextEntry) f_J31_1 dJ31_nextEntry_18 g ?_
    obtain ⟨g, H⟩ := H
    refine z_get (M := m_J31_nextEntry) f_J31_13 dJ31_nextEntry_21 g ?_
    refine z_aload_n (M := m_J31_nextEntry) (k := 0) rfl dJ31_nextEntry_24 ?_
    obtain ⟨g, H⟩ := H
    refine z_get (M := m_J31_nextEntry) f_J31_19 dJ31_nextEntry_25 g ?_
    refine z_icmpeq (M := m_J31_nextEntry) 39 rfl dJ31_nextEntry_28 (fun hc => ?_) (fun hc => ?_)
    · have H := H.1 hc
      refine z_aload_n (M := m_J31_nextEntry) (k := 0) rfl dJ31_nextEntry_39 ?_
      refine z_aload_n (M := m_J31_nextEntry) (k := 1) rfl dJ31_nextEntry_40 ?_
      refine z_invS (M := m_J31_nextEntry) (a := [zr (gR h x0 0)]) ok_J9_successor q1793 q1794 dJ31_nextEntry_41 (Nat.le_refl _) (Nat.le_trans (zcatr zcat0) (zle rfl)) rfl H (fun v1 h1 H => ?_) (fun n9 h9 H => zPx.out rfl H)
      obtain ⟨n1, rfl, H⟩ := H
      show zP s0 m_J31_nextEntry (d + 1) _ _ [zr (n1), zr (x0)] _ _ _
      obtain ⟨g, H⟩ := H
      refine zz_putM (M := m_J31_nextEntry) f_J31_26 dJ31_nextEntry_44 (fun c hc => by simp only [List.mem_cons, List.not_mem_nil, or_false] at hc; rcases hc with rfl | rfl <;> exact rfl) (fun c hc => by simp only [List.mem_cons, List.not_mem_nil, or_false] at hc; rcases hc with rfl | rfl <;> exact ⟨_, rfl, Or.inl rfl⟩) g (fun c hc => by simp only [List.mem_cons, List.not_mem_nil, or_false] at hc; rcases hc with rfl | rfl <;> exact (zfit_r rfl rfl rfl)) (fun h2 e => ?_)
      have H := H h2 e
      refine z_aload_n (M := m_J31_nextEntry) (k := 0) rfl dJ31_nextEntry_47 ?_
      refine z_aload_n (M := m_J31_nextEntry) (k := 1) rfl dJ31_nextEntry_48 ?_
      obtain ⟨g, H⟩ := H
      refine zz_putM (M := m_J31_nextEntry) f_J31_22 dJ31_nextEntry_49 (fun c hc => by simp only [List.mem_cons, List.not_mem_nil, or_false] at hc; rcases hc with rfl | rfl <;> exact rfl) (fun c hc => by simp only [List.mem_cons, List.not_mem_nil, or_false] at hc; rcases hc with rfl | rfl <;> exact ⟨_, rfl, Or.inl rfl⟩) g (fun c hc => by simp only [List.mem_cons, List.not_mem_nil, or_false] at hc; rcases hc with rfl | rfl <;> exact (zfit_r rfl rfl rfl)) (fun h3 e => ?_)
      have H := H h3 e
      refine z_aload_n (M := m_J31_nextEntry) (k := 1) rfl dJ31_nextEntry_52 ?_
      exact z_areturn (M := m_J31_nextEntry) rfl (Or.inl ⟨_, rfl⟩) dJ31_nextEntry_53 H
    · have H := H.2 hc
      exact H.elim
  · have H := H.2 hc
    exact H.elim
theorem c_J31_nextEntry {s0 : zE} {d : Nat} {x0 : Nat} {h : zH} {Q : Value → zH → Prop} {E : Nat → zH → Prop} (H : (fR h x0 [57, 58] 0) ∧ ((¬ gR h x0 0 = 0 → ((fR h x0 [57, 58] 3) ∧ ((fI h (gR h x0 3) [47] 5) ∧ ((fI h x0 [57, 58] 2) ∧ ((gI h (gR h x0 3) 5 = gI h x0 2 → (zX s0 m_J9_successor d [zr (gR h x0 0)] h (fun v1 h1 => ∃ n1 : Nat, v1 = zr (n1) ∧ ((∃ c ∈ ([57, 58] : List Nat), fC h1 x0 c) ∧ (∀ h2, h2 = zput h1 x0 0 (zr (n1)) → ((∃ c ∈ ([57, 58] : List Nat), fC h2 x0 c) ∧ (∀ h3, h3 = zput h2 x0 1 (zr (gR h x0 0)) → (Q (zr (gR h x0 0)) h3)))))) E)) ∧ (¬ gI h (gR h x0 3) 5 = gI h x0 2 → (False))))))) ∧ (gR h x0 0 = 0 → (False)))) : zX s0 m_J31_nextEntry (d + 1) [zr (x0)] h Q E := zX.of2 rfl (by decide +kernel) (zlay_r (zlay_n (znoneS znone0))) (zle rfl) (b_J31_nextEntry_0 H)
theorem b_J31_remove_0 {s0 : zE} {d : Nat} {x0 : Nat} {h : zH} {Q : Value → zH → Prop} {E : Nat → zH → Prop} (H : (fR h x0 [57, 58] 1) ∧ ((¬ gR h x0 1 = 0 → ((fR h x0 [57, 58] 3) ∧ ((fI h (gR h x0 3) [47] 5) ∧ ((fI h x0 [57, 58] 2) ∧ ((gI h (gR h x0 3) 5 = gI h x0 2 → ((fR h x0 [57, 58] 1) ∧ ((fR h (gR h x0 1) [67] 2) ∧ ((gR h (gR h x0 1) 2 = 0 → (zP s0 m_J31_remove (d + 1) 65 [some (zr (x0))] [] h Q E)) ∧ (¬ gR h (gR h x0 1) 2 = 0 → ((fR h x0 [57, 58] 1) ∧ ((fR h (gR h x0 1) [67] 3) ∧ ((gR h (gR h x0 1) 3 = 0 → (zP s0 m_J31_remove (d + 1) 65 [some (zr (x0))] [] h Q E)) ∧ (¬ gR h (gR h x0 1) 3 = 0 → ((fR h x0 [57, 58] 1) ∧ ((∃ c ∈ ([57, 58] : List Nat), fC h x0 c) ∧ (∀ h1, h1 = zput h x0 0 (zr (gR h x0 1)) → (zP s0 m_J31_remove (d + 1) 65 [some (zr (x0))] [] h1 Q E))))))))))))) ∧ (¬ gI h (gR h x0 3) 5 = gI h x0 2 → (False))))))) ∧ (gR h x0 1 = 0 → (False)))) : zP s0 m_J31_remove (d + 1) 0 [some (zr (x0))] [] h Q E := by
  refine z_aload_n (M := m_J31_remove) (k := 0) rfl dJ31_remove_0 ?_
  obtain ⟨g, H⟩ := H
  refine z_get (M := m_J31_remove) f_J31_22 dJ31_remove_1 g ?_
  refine z_ifnonnull (M := m_J31_remove) 15 rfl dJ31_remove_4 (fun hc => ?_) (fun hc => ?_)
  · have H := H.1 hc
    refine z_aload_n (M := m_J31_remove) (k := 0) rfl dJ31_remove_15 ?_
    obtain ⟨g, H⟩ := H
    refine z_get (M := m_J31_remove) f_J31_1 dJ31_remove_16 g ?_
    obtain ⟨g, H⟩ := H
    refine z_get (M := m_J31_remove) f_J31_13 dJ31_remove_19 g ?_
    refine z_aload_n (M := m_J31_remove) (k := 0) rfl dJ31_remove_22 ?_
    obtain ⟨g, H⟩ := H
    refine z_get (M := m_J31_remove) f_J31_19 dJ31_remove_23 g ?_
    refine z_icmpeq (M := m_J31_remove) 37 rfl dJ31_remove_26 (fun hc => ?_) (fun hc => ?_)
    · have H := H.1 hc
      refine z_aload_n (M := m_J31_remove) (k := 0) rfl dJ31_remove_37 ?_
      obtain ⟨g, H⟩ := H
      refine z_get (M := m_J31_remove) f_J31_22 dJ31_remove_38 g ?_
      obtain ⟨g, H⟩ := H
      refine z_get (M := m_J31_remove) f_J31_45 dJ31_remove_41 g ?_
      refine z_ifnull (M := m_J31_remove) 65 rfl dJ31_remove_44 (fun hc => ?_) (fun hc => ?_)
      · have H := H.1 hc
        exact H
      · have H := H.2 hc
        refine z_aload_n (M := m_J31_remove) (k := 0) rfl dJ31_remove_47 ?_
        obtain ⟨g, H⟩ := H
        refine z_get (M := m_J31_remove) f_J31_22 dJ31_remove_48 g ?_
        obtain ⟨g, H⟩ := H
        refine z_get (M := m_J31_remove) f_J31_50 dJ31_remove_51 g ?_
        refine z_ifnull (M := m_J31_remove) 65 rfl dJ31_remove_54 (fun hc => ?_) (fun hc => ?_)
        · have H := H.1 hc
          exact H
        · have H := H.2 hc
          refine z_aload_n (M := m_J31_remove) (k := 0) rfl dJ31_remove_57 ?_
          refine z_aload_n (M := m_J31_remove) (k := 0) rfl dJ31_remove_58 ?_
          obtain ⟨g, H⟩ := H
          refine z_get (M := m_J31_remove) f_J31_22 dJ31_remove_59 g ?_
          obtain ⟨g, H⟩ := H
          refine zz_putM (M := m_J31_remove) f_J31_26 dJ31_remove_62 (fun c hc => by simp only [List.mem_cons, List.not_mem_nil, or_false] at hc; rcases hc with rfl | rfl <;> exact rfl) (fun c hc => by simp only [List.mem_cons, List.not_mem_nil, or_false] at hc; rcases hc with rfl | rfl <;> exact ⟨_, rfl, Or.inl rfl⟩) g (fun c hc => by simp only [List.mem_cons, List.not_mem_nil, or_false] at hc; rcases hc with rfl | rfl <;> exact (zfit_r rfl rfl rfl)) (fun h1 e => ?_)
          have H := H h1 e
          exact H
    · have H := H.2 hc
      exact H.elim
  · have H := H.2 hc
    exact H.elim
theorem c_J31_remove {s0 : zE} {d : Nat} {x0 : Nat} {h : zH} {Q : Value → zH → Prop} {E : Nat → zH → Prop} (H : (fR h x0 [57, 58] 1) ∧ ((¬ gR h x0 1 = 0 → ((fR h x0 [57, 58] 3) ∧ ((fI h (gR h x0 3) [47] 5) ∧ ((fI h x0 [57, 58] 2) ∧ ((gI h (gR h x0 3) 5 = gI h x0 2 → ((fR h x0 [57, 58] 1) ∧ ((fR h (gR h x0 1) [67] 2) ∧ ((gR h (gR h x0 1) 2 = 0 → (zP s0 m_J31_remove (d + 1) 65 [some (zr (x0))] [] h Q E)) ∧ (¬ gR h (gR h x0 1) 2 = 0 → ((fR h x0 [57, 58] 1) ∧ ((fR h (gR h x0 1) [67] 3) ∧ ((gR h (gR h x0 1) 3 = 0 → (zP s0 m_J31_remove (d + 1) 65 [some (zr (x0))] [] h Q E)) ∧ (¬ gR h (gR h x0 1) 3 = 0 → ((fR h x0 [57, 58] 1) ∧ ((∃ c ∈ ([57, 58] : List Nat), fC h x0 c) ∧ (∀ h1, h1 = zput h x0 0 (zr (gR h x0 1)) → (zP s0 m_J31_remove (d + 1) 65 [some (zr (x0))] [] h1 Q E))))))))))))) ∧ (¬ gI h (gR h x0 3) 5 = gI h x0 2 → (False))))))) ∧ (gR h x0 1 = 0 → (False)))) : zX s0 m_J31_remove (d + 1) [zr (x0)] h Q E := zX.of2 rfl (by decide +kernel) (zlay_r (zlay_n znone0)) (zle rfl) (b_J31_remove_0 H)
theorem b_J31_remove_65 {s0 : zE} {d : Nat} {x0 : Nat} {h : zH} {Q : Value → zH → Prop} {E : Nat → zH → Prop} (H : (fR h x0 [57, 58] 3) ∧ ((fR h x0 [57, 58] 1) ∧ ((fC h (gR h x0 3) 47 ∧ zX s0 m_J9_deleteEntry d [zr (gR h x0 3), zr (gR h x0 1)] h (fun _ h1 => ((fR h1 x0 [57, 58] 3) ∧ ((fI h1 (gR h1 x0 3) [47] 5) ∧ ((∃ c ∈ ([57, 58] : List Nat), fC h1 x0 c) ∧ (∀ h2, h2 = zput h1 x0 2 (.int (gI h1 (gR h1 x0 3) 5)) → ((∃ c ∈ ([57, 58] : List Nat), fC h2 x0 c) ∧ (∀ h3, h3 = zput h2 x0 1 (zr (0)) → (Q .null h3)))))))) E)))) : zP s0 m_J31_remove (d + 1) 65 [some (zr (x0))] [] h Q E := by
  refine z_aload_n (M := m_J31_remove) (k := 0) rfl dJ31_remove_65 ?_
  obtain ⟨g, H⟩ := H
  refine z_get (M := m_J31_remove) f_J31_1 dJ31_remove_66 g ?_
  refine z_aload_n (M := m_J31_remove) (k := 0) rfl dJ31_remove_69 ?_
  obtain ⟨g, H⟩ := H
  refine z_get (M := m_J31_remove) f_J31_22 dJ31_remove_70 g ?_
  obtain ⟨⟨fs9, g⟩, H⟩ := H
  refine z_invVN (M := m_J31_remove) (cn := 47) (a := [zr (gR h x0 1)]) ok_J9_deleteEntry q2286 q2288 qs16 rfl dJ31_remove_73 g (Nat.le_refl _) (Nat.zero_le _) rfl H (fun v1 h1 H => ?_) (fun n9 h9 H => zPx.out rfl H)
  show zP s0 m_J31_remove (d + 1) _ _ [] _ _ _
  refine z_aload_n (M := m_J31_remove) (k := 0) rfl dJ31_remove_76 ?_
  refine z_aload_n (M := m_J31_remove) (k := 0) rfl dJ31_remove_77 ?_
  obtain ⟨g, H⟩ := H
  refine z_get (M := m_J31_remove) f_J31_1 dJ31_remove_78 g ?_
  obtain ⟨g, H⟩ := H
  refine z_get (M := m_J31_remove) f_J31_13 dJ31_remove_81 g ?_
  obtain ⟨g, H⟩ := H
  refine zz_putM (M := m_J31_remove) f_J31_19 dJ31_remove_84 (fun c hc => by simp only [List.mem_cons, List.not_mem_nil, or_false] at hc; rcases hc with rfl | rfl <;> exact rfl) (fun c hc => by simp only [List.mem_cons, List.not_mem_nil, or_false] at hc; rcases hc with rfl | rfl <;> exact ⟨_, rfl, Or.inl rfl⟩) g (fun c hc => by simp only [List.mem_cons, List.not_mem_nil, or_false] at hc; rcases hc with rfl | rfl <;> exact (zfit_i rfl rfl)) (fun h2 e => ?_)
  have H := H h2 e
  refine z_aload_n (M := m_J31_remove) (k := 0) rfl dJ31_remove_87 ?_
  refine z_null (M := m_J31_remove) dJ31_remove_88 ?_
  obtain ⟨g, H⟩ := H
  refine zz_putM (M := m_J31_remove) f_J31_22 dJ31_remove_89 (fun c hc => by simp only [List.mem_cons, List.not_mem_nil, or_false] at hc; rcases hc with rfl | rfl <;> exact rfl) (fun c hc => by simp only [List.mem_cons, List.not_mem_nil, or_false] at hc; rcases hc with rfl | rfl <;> exact ⟨_, rfl, Or.inl rfl⟩) g (fun c hc => by simp only [List.mem_cons, List.not_mem_nil, or_false] at hc; rcases hc with rfl | rfl <;> exact (zfit_r rfl rfl rfl)) (fun h3 e => ?_)
  have H := H h3 e
  exact z_return (M := m_J31_remove) rfl dJ31_remove_92 H
theorem b_J32_init_0 {s0 : zE} {d : Nat} {x0 : Nat} {x1 : Nat} {x2 : Nat} {h : zH} {Q : Value → zH → Prop} {E : Nat → zH → Prop} (H : (∃ c, fC h x0 c) ∧ (zX s0 m_J31_init d [zr x0, zr (x1), zr (x2)] h (fun _ h1 => (Q .null h1)) E)) : zP s0 m_J32_init (d + 1) 0 [some (zr (x0)), some (zr (x1)), some (zr (x2))] [] h Q E := by
  refine z_aload_n (M := m_J32_init) (k := 0) rfl dJ32_init_0 ?_
  refine z_aload_n (M := m_J32_init) (k := 1) rfl dJ32_init_1 ?_
  refine z_aload_n (M := m_J32_init) (k := 2) rfl dJ32_init_2 ?_
  obtain ⟨⟨c9, g⟩, H⟩ := H
  refine zz_invI (M := m_J32_init) (a := [zr (x1), zr (x2)]) ok_J31_init rfl rfl q1639 q1640 dJ32_init_3 g (Nat.zero_le _) rfl H (fun v1 h1 H => ?_) (fun n9 h9 H => zPx.out rfl H)
  exact z_return (M := m_J32_init) rfl dJ32_init_6 H
theorem c_J32_init {s0 : zE} {d : Nat} {x0 : Nat} {x1 : Nat} {x2 : Nat} {h : zH} {Q : Value → zH → Prop} {E : Nat → zH → Prop} (H : (∃ c, fC h x0 c) ∧ (zX s0 m_J31_init d [zr x0, zr (x1), zr (x2)] h (fun _ h1 => (Q .null h1)) E)) : zX s0 m_J32_init (d + 1) [zr (x0), zr (x1), zr (x2)] h Q E := zX.of2 rfl (by decide +kernel) (zlay_r (zlay_r (zlay_r (zlay_n znone0)))) (zle rfl) (b_J32_init_0 H)
theorem b_J32_next_0 {s0 : zE} {d : Nat} {x0 : Nat} {h : zH} {Q : Value → zH → Prop} {E : Nat → zH → Prop} (H : (fC h x0 57 ∧ zX s0 m_J32_next_2 d [zr x0] h (fun v1 h1 => ∃ n1 : Nat, v1 = zr (n1) ∧ (Q (zr n1) h1)) E)) : zP s0 m_J32_next (d + 1) 0 [some (zr (x0))] [] h Q E := by
  refine z_aload_n (M := m_J32_next) (k := 0) rfl dJ32_next_0 ?_
  obtain ⟨⟨fs9, g⟩, H⟩ := H
  refine z_invV (M := m_J32_next) (cn := 57) (a := []) ok_J32_next_2 q1781 q1782 q1783 rfl dJ32_next_1 g (Nat.le_refl _) (Nat.zero_le _) rfl H (fun v1 h1 H => ?_) (fun n9 h9 H => zPx.out rfl H)
  obtain ⟨n1, rfl, H⟩ := H
  show zP s0 m_J32_next (d + 1) _ _ [zr (n1)] _ _ _
  exact z_areturn (M := m_J32_next) rfl (Or.inl ⟨_, rfl⟩) dJ32_next_4 H
theorem c_J32_next {s0 : zE} {d : Nat} {x0 : Nat} {h : zH} {Q : Value → zH → Prop} {E : Nat → zH → Prop} (H : (fC h x0 57 ∧ zX s0 m_J32_next_2 d [zr x0] h (fun v1 h1 => ∃ n1 : Nat, v1 = zr (n1) ∧ (Q (zr n1) h1)) E)) : zX s0 m_J32_next (d + 1) [zr (x0)] h Q E := zX.of2 rfl (by decide +kernel) (zlay_r (zlay_n znone0)) (zle rfl) (b_J32_next_0 H)
theorem b_J32_next_2_0 {s0 : zE} {d : Nat} {x0 : Nat} {h : zH} {Q : Value → zH → Prop} {E : Nat → zH → Prop} (H : (fC h x0 57 ∧ zX s0 m_J31_nextEntry d [zr x0] h (fun v1 h1 => ∃ n1 : Nat, v1 = zr (n1) ∧ (Q (zr n1) h1)) E)) : zP s0 m_J32_next_2 (d + 1) 0 [some (zr (x0))] [] h Q E := by
  refine z_aload_n (M := m_J32_next_2) (k := 0) rfl dJ32_next_2_0 ?_
  obtain ⟨⟨fs9, g⟩, H⟩ := H
  refine z_invU (M := m_J32_next_2) (cn := 57) (a := []) ok_J31_nextEntry (by change _ = some 0; decide +kernel) q1785 q1786 ⟨by decide, by decide⟩ (Or.inl rfl) q1789 q1788 rfl dJ32_next_2_1 g (Nat.le_refl _) (Nat.zero_le _) rfl H (fun v1 h1 H => ?_) (fun n9 h9 H => zPx.out rfl H)
  obtain ⟨n1, rfl, H⟩ := H
  show zP s0 m_J32_next_2 (d + 1) _ _ [zr (n1)] _ _ _
  exact z_areturn (M := m_J32_next_2) rfl (Or.inl ⟨_, rfl⟩) dJ32_next_2_4 H
theorem c_J32_next_2 {s0 : zE} {d : Nat} {x0 : Nat} {h : zH} {Q : Value → zH → Prop} {E : Nat → zH → Prop} (H : (fC h x0 57 ∧ zX s0 m_J31_nextEntry d [zr x0] h (fun v1 h1 => ∃ n1 : Nat, v1 = zr (n1) ∧ (Q (zr n1) h1)) E)) : zX s0 m_J32_next_2 (d + 1) [zr (x0)] h Q E := zX.of2 rfl (by decide +kernel) (zlay_r (zlay_n znone0)) (zle rfl) (b_J32_next_2_0 H)
theorem b_J33_init_0 {s0 : zE} {d : Nat} {x0 : Nat} {x1 : Nat} {x2 : Nat} {h : zH} {Q : Value → zH → Prop} {E : Nat → zH → Prop} (H : (∃ c, fC h x0 c) ∧ (zX s0 m_J31_init d [zr x0, zr (x1), zr (x2)] h (fun _ h1 => (Q .null h1)) E)) : zP s0 m_J33_init (d + 1) 0 [some (zr (x0)), some (zr (x1)), some (zr (x2))] [] h Q E := by
  refine z_aload_n (M := m_J33_init) (k := 0) rfl dJ33_init_0 ?_
  refine z_aload_n (M := m_J33_init) (k := 1) rfl dJ33_init_1 ?_
  refine z_aload_n (M := m_J33_init) (k := 2) rfl dJ33_init_2 ?_
  obtain ⟨⟨c9, g⟩, H⟩ := H
  refine zz_invI (M := m_J33_init) (a := [zr (x1), zr (x2)]) ok_J31_init rfl rfl q1665 q1640 dJ33_init_3 g (Nat.zero_le _) rfl H (fun v1 h1 H => ?_) (fun n9 h9 H => zPx.out rfl H)
  exact z_return (M := m_J33_init) rfl dJ33_init_6 H
theorem c_J33_init {s0 : zE} {d : Nat} {x0 : Nat} {x1 : Nat} {x2 : Nat} {h : zH} {Q : Value → zH → Prop} {E : Nat → zH → Prop} (H : (∃ c, fC h x0 c) ∧ (zX s0 m_J31_init d [zr x0, zr (x1), zr (x2)] h (fun _ h1 => (Q .null h1)) E)) : zX s0 m_J33_init (d + 1) [zr (x0), zr (x1), zr (x2)] h Q E := zX.of2 rfl (by decide +kernel) (zlay_r (zlay_r (zlay_r (zlay_n znone0)))) (zle rfl) (b_J33_init_0 H)
theorem b_J33_next_0 {s0 : zE} {d : Nat} {x0 : Nat} {h : zH} {Q : Value → zH → Prop} {E : Nat → zH → Prop} (H : (fC h x0 58 ∧ zX s0 m_J31_nextEntry d [zr x0] h (fun v1 h1 => ∃ n1 : Nat, v1 = zr (n1) ∧ ((fR h1 n1 [67] 1) ∧ (Q (zr (gR h1 n1 1)) h1))) E)) : zP s0 m_J33_next (d + 1) 0 [some (zr (x0))] [] h Q E := by
  refine z_aload_n (M := m_J33_next) (k := 0) rfl dJ33_next_0 ?_
  obtain ⟨⟨fs9, g⟩, H⟩ := H
  refine z_invU (M := m_J33_next) (cn := 58) (a := []) ok_J31_nextEntry (by change _ = some 0; decide +kernel) q1801 q1802 ⟨by decide, by decide⟩ (Or.inl rfl) q1789 q1803 rfl dJ33_next_1 g (Nat.le_refl _) (Nat.zero_le _) rfl H (fun v1 h1 H => ?_) (fun n9 h9 H => zPx.out rfl H)
  obtain ⟨n1, rfl, H⟩ := H
  show zP s0 m_J33_next (d + 1) _ _ [zr (n1)] _ _ _
  obtain ⟨g, H⟩ := H
  refine z_get (M := m_J33_next) f_J33_13 dJ33_next_4 g ?_
  exact z_areturn (M := m_J33_next) rfl (Or.inl ⟨_, rfl⟩) dJ33_next_7 H
theorem c_J33_next {s0 : zE} {d : Nat} {x0 : Nat} {h : zH} {Q : Value → zH → Prop} {E : Nat → zH → Prop} (H : (fC h x0 58 ∧ zX s0 m_J31_nextEntry d [zr x0] h (fun v1 h1 => ∃ n1 : Nat, v1 = zr (n1) ∧ ((fR h1 n1 [67] 1) ∧ (Q (zr (gR h1 n1 1)) h1))) E)) : zX s0 m_J33_next (d + 1) [zr (x0)] h Q E := zX.of2 rfl (by decide +kernel) (zlay_r (zlay_n znone0)) (zle rfl) (b_J33_next_0 H)
theorem b_J34_init_0 {s0 : zE} {d : Nat} {x0 : Nat} {h : zH} {Q : Value → zH → Prop} {E : Nat → zH → Prop} (H : (∃ c, fC h x0 c) ∧ (zX s0 m_J18_init_2 d [zr x0] h (fun _ h1 => (Q .null h1)) E)) : zP s0 m_J34_init (d + 1) 0 [some (zr (x0))] [] h Q E := by
  refine z_aload_n (M := m_J34_init) (k := 0) rfl dJ34_init_0 ?_
  obtain ⟨⟨c9, g⟩, H⟩ := H
  refine zz_invI (M := m_J34_init) (a := []) ok_J18_init_2 rfl rfl q1727 q1728 dJ34_init_1 g (Nat.zero_le _) rfl H (fun v1 h1 H => ?_) (fun n9 h9 H => zPx.out rfl H)
  exact z_return (M := m_J34_init) rfl dJ34_init_4 H
theorem c_J34_init {s0 : zE} {d : Nat} {x0 : Nat} {h : zH} {Q : Value → zH → Prop} {E : Nat → zH → Prop} (H : (∃ c, fC h x0 c) ∧ (zX s0 m_J18_init_2 d [zr x0] h (fun _ h1 => (Q .null h1)) E)) : zX s0 m_J34_init (d + 1) [zr (x0)] h Q E := zX.of2 rfl (by decide +kernel) (zlay_r (zlay_n znone0)) (zle rfl) (b_J34_init_0 H)
theorem b_J34_init_2_0 {s0 : zE} {d : Nat} {x0 : Nat} {x1 : Nat} {h : zH} {Q : Value → zH → Prop} {E : Nat → zH → Prop} (H : (∃ c, fC h x0 c) ∧ (zX s0 m_J18_init d [zr x0, zr (x1)] h (fun _ h1 => (Q .null h1)) E)) : zP s0 m_J34_init_2 (d + 1) 0 [some (zr (x0)), some (zr (x1))] [] h Q E := by
  refine z_aload_n (M := m_J34_init_2) (k := 0) rfl dJ34_init_2_0 ?_
  refine z_aload_n (M := m_J34_init_2) (k := 1) rfl dJ34_init_2_1 ?_
  obtain ⟨⟨c9, g⟩, H⟩ := H
  refine zz_invI (M := m_J34_init_2) (a := [zr (x1)]) ok_J18_init rfl rfl q4199 q1465 dJ34_init_2_2 g (Nat.zero_le _) rfl H (fun v1 h1 H => ?_) (fun n9 h9 H => zPx.out rfl H)
  exact z_return (M := m_J34_init_2) rfl dJ34_init_2_5 H
theorem c_J34_init_2 {s0 : zE} {d : Nat} {x0 : Nat} {x1 : Nat} {h : zH} {Q : Value → zH → Prop} {E : Nat → zH → Prop} (H : (∃ c, fC h x0 c) ∧ (zX s0 m_J18_init d [zr x0, zr (x1)] h (fun _ h1 => (Q .null h1)) E)) : zX s0 m_J34_init_2 (d + 1) [zr (x0), zr (x1)] h Q E := zX.of2 rfl (by decide +kernel) (zlay_r (zlay_r (zlay_n znone0))) (zle rfl) (b_J34_init_2_0 H)
theorem b_J35_init_0 {s0 : zE} {d : Nat} {x0 : Nat} {h : zH} {Q : Value → zH → Prop} {E : Nat → zH → Prop} (H : (∃ c, fC h x0 c) ∧ (zX s0 m_J18_init_2 d [zr x0] h (fun _ h1 => (Q .null h1)) E)) : zP s0 m_J35_init (d + 1) 0 [some (zr (x0))] [] h Q E := by
  refine z_aload_n (M := m_J35_init) (k := 0) rfl dJ35_init_0 ?_
  obtain ⟨⟨c9, g⟩, H⟩ := H
  refine zz_invI (M := m_J35_init) (a := []) ok_J18_init_2 rfl rfl q1891 q1728 dJ35_init_1 g (Nat.zero_le _) rfl H (fun v1 h1 H => ?_) (fun n9 h9 H => zPx.out rfl H)
  exact z_return (M := m_J35_init) rfl dJ35_init_4 H
theorem c_J35_init {s0 : zE} {d : Nat} {x0 : Nat} {h : zH} {Q : Value → zH → Prop} {E : Nat → zH → Prop} (H : (∃ c, fC h x0 c) ∧ (zX s0 m_J18_init_2 d [zr x0] h (fun _ h1 => (Q .null h1)) E)) : zX s0 m_J35_init (d + 1) [zr (x0)] h Q E := zX.of2 rfl (by decide +kernel) (zlay_r (zlay_n znone0)) (zle rfl) (b_J35_init_0 H)
theorem b_J36_init_0 {s0 : zE} {d : Nat} {x0 : Nat} {h : zH} {Q : Value → zH → Prop} {E : Nat → zH → Prop} (H : (∃ c, fC h x0 c) ∧ (zX s0 m_J18_init_2 d [zr x0] h (fun _ h1 => (Q .null h1)) E)) : zP s0 m_J36_init (d + 1) 0 [some (zr (x0))] [] h Q E := by
  refine z_aload_n (M := m_J36_init) (k := 0) rfl dJ36_init_0 ?_
  obtain ⟨⟨c9, g⟩, H⟩ := H
  refine zz_invI (M := m_J36_init) (a := []) ok_J18_init_2 rfl rfl q1903 q1728 dJ36_init_1 g (Nat.zero_le _) rfl H (fun v1 h1 H => ?_) (fun n9 h9 H => zPx.out rfl H)
  exact z_return (M := m_J36_init) rfl dJ36_init_4 H
theorem c_J36_init {s0 : zE} {d : Nat} {x0 : Nat} {h : zH} {Q : Value → zH → Prop} {E : Nat → zH → Prop} (H : (∃ c, fC h x0 c) ∧ (zX s0 m_J18_init_2 d [zr x0] h (fun _ h1 => (Q .null h1)) E)) : zX s0 m_J36_init (d + 1) [zr (x0)] h Q E := zX.of2 rfl (by decide +kernel) (zlay_r (zlay_n znone0)) (zle rfl) (b_J36_init_0 H)
theorem b_J39_getKey_0 {s0 : zE} {d : Nat} {x0 : Nat} {h : zH} {Q : Value → zH → Prop} {E : Nat → zH → Prop} (H : (fR h x0 [62, 63] 1) ∧ (Q (zr (gR h x0 1)) h)) : zP s0 m_J39_getKey d 0 [some (zr (x0))] [] h Q E := by
  refine z_aload_n (M := m_J39_getKey) (k := 0) rfl dJ39_getKey_0 ?_
  obtain ⟨g, H⟩ := H
  refine z_get (M := m_J39_getKey) f_J39_13 dJ39_getKey_1 g ?_
  exact z_areturn (M := m_J39_getKey) rfl (Or.inl ⟨_, rfl⟩) dJ39_getKey_4 H
theorem c_J39_getKey {s0 : zE} {d : Nat} {x0 : Nat} {h : zH} {Q : Value → zH → Prop} {E : Nat → zH → Prop} (H : (fR h x0 [62, 63] 1) ∧ (Q (zr (gR h x0 1)) h)) : zX s0 m_J39_getKey d [zr (x0)] h Q E := zX.of2 rfl (by decide +kernel) (zlay_r (zlay_n znone0)) (zle rfl) (b_J39_getKey_0 H)
theorem b_J39_getValue_0 {s0 : zE} {d : Nat} {x0 : Nat} {h : zH} {Q : Value → zH → Prop} {E : Nat → zH → Prop} (H : (fR h x0 [62, 63] 2) ∧ (Q (zr (gR h x0 2)) h)) : zP s0 m_J39_getValue d 0 [some (zr (x0))] [] h Q E := by
  refine z_aload_n (M := m_J39_getValue) (k := 0) rfl dJ39_getValue_0 ?_
  obtain ⟨g, H⟩ := H
  refine z_get (M := m_J39_getValue) f_J39_17 dJ39_getValue_1 g ?_
  exact z_areturn (M := m_J39_getValue) rfl (Or.inl ⟨_, rfl⟩) dJ39_getValue_4 H
theorem c_J39_getValue {s0 : zE} {d : Nat} {x0 : Nat} {h : zH} {Q : Value → zH → Prop} {E : Nat → zH → Prop} (H : (fR h x0 [62, 63] 2) ∧ (Q (zr (gR h x0 2)) h)) : zX s0 m_J39_getValue d [zr (x0)] h Q E := zX.of2 rfl (by decide +kernel) (zlay_r (zlay_n znone0)) (zle rfl) (b_J39_getValue_0 H)
theorem b_J39_init_0 {s0 : zE} {d : Nat} {x0 : Nat} {x1 : Int32} {x2 : Nat} {x3 : Nat} {x4 : Nat} {h : zH} {Q : Value → zH → Prop} {E : Nat → zH → Prop} (H : (∃ c, fC h x0 c) ∧ ((∃ c ∈ ([62, 63] : List Nat), fC h x0 c) ∧ (∀ h1, h1 = zput h x0 0 (.int (x1)) → ((∃ c ∈ ([62, 63] : List Nat), fC h1 x0 c) ∧ (∀ h2, h2 = zput h1 x0 1 (zr (x2)) → ((∃ c ∈ ([62, 63] : List Nat), fC h2 x0 c) ∧ (∀ h3, h3 = zput h2 x0 2 (zr (x3)) → ((∃ c ∈ ([62, 63] : List Nat), fC h3 x0 c) ∧ (∀ h4, h4 = zput h3 x0 3 (zr (x4)) → (Q .null h4)))))))))) : zP s0 m_J39_init (d + 1) 0 [some (zr (x0)), some (.int (x1)), some (zr (x2)), some (zr (x3)), some (zr (x4))] [] h Q E := by
  refine z_aload_n (M := m_J39_init) (k := 0) rfl dJ39_init_0 ?_
  obtain ⟨⟨c9, g⟩, H⟩ := H
  refine zz_objInit (M := m_J39_init) q2209 dJ39_init_1 g (Nat.zero_le _) ?_
  refine z_aload_n (M := m_J39_init) (k := 0) rfl dJ39_init_4 ?_
  refine z_iload_n (M := m_J39_init) (k := 1) rfl dJ39_init_5 ?_
  obtain ⟨g, H⟩ := H
  refine zz_putM (M := m_J39_init) f_J39_7 dJ39_init_6 (fun c hc => by simp only [List.mem_cons, List.not_mem_nil, or_false] at hc; rcases hc with rfl | rfl <;> exact rfl) (fun c hc => by simp only [List.mem_cons, List.not_mem_nil, or_false] at hc; rcases hc with rfl | rfl <;> exact ⟨_, rfl, Or.inr ⟨rfl, rfl, rfl, q2214⟩⟩) g (fun c hc => by simp only [List.mem_cons, List.not_mem_nil, or_false] at hc; rcases hc with rfl | rfl <;> exact (zfit_i rfl rfl)) (fun h1 e => ?_)
  have H := H h1 e
  refine z_aload_n (M := m_J39_init) (k := 0) rfl dJ39_init_9 ?_
  refine z_aload_n (M := m_J39_init) (k := 2) rfl dJ39_init_10 ?_
  obtain ⟨g, H⟩ := H
  refine zz_putM (M := m_J39_init) f_J39_13 dJ39_init_11 (fun c hc => by simp only [List.mem_cons, List.not_mem_nil, or_false] at hc; rcases hc with rfl | rfl <;> exact rfl) (fun c hc => by simp only [List.mem_cons, List.not_mem_nil, or_false] at hc; rcases hc with rfl | rfl <;> exact ⟨_, rfl, Or.inr ⟨rfl, rfl, rfl, q2221⟩⟩) g (fun c hc => by simp only [List.mem_cons, List.not_mem_nil, or_false] at hc; rcases hc with rfl | rfl <;> exact (zfit_r rfl rfl rfl)) (fun h2 e => ?_)
  have H := H h2 e
  refine z_aload_n (M := m_J39_init) (k := 0) rfl dJ39_init_14 ?_
  refine z_aload_n (M := m_J39_init) (k := 3) rfl dJ39_init_15 ?_
  obtain ⟨g, H⟩ := H
  refine zz_putM (M := m_J39_init) f_J39_17 dJ39_init_16 (fun c hc => by simp only [List.mem_cons, List.not_mem_nil, or_false] at hc; rcases hc with rfl | rfl <;> exact rfl) (fun c hc => by simp only [List.mem_cons, List.not_mem_nil, or_false] at hc; rcases hc with rfl | rfl <;> exact ⟨_, rfl, Or.inl rfl⟩) g (fun c hc => by simp only [List.mem_cons, List.not_mem_nil, or_false] at hc; rcases hc with rfl | rfl <;> exact (zfit_r rfl rfl rfl)) (fun h3 e => ?_)
  have H := H h3 e
  refine z_aload_n (M := m_J39_init) (k := 0) rfl dJ39_init_19 ?_
  refine z_aload (M := m_J39_init) (i := 4) rfl dJ39_init_20 ?_
  obtain ⟨g, H⟩ := H
  refine zz_putM (M := m_J39_init) f_J39_20 dJ39_init_22 (fun c hc => by simp only [List.mem_cons, List.not_mem_nil, or_false] at hc; rcases hc with rfl | rfl <;> exact rfl) (fun c hc => by simp only [List.mem_cons, List.not_mem_nil, or_false] at hc; rcases hc with rfl | rfl <;> exact ⟨_, rfl, Or.inl rfl⟩) g (fun c hc => by simp only [List.mem_cons, List.not_mem_nil, or_false] at hc; rcases hc with rfl | rfl <;> exact (zfit_r rfl rfl rfl)) (fun h4 e => ?_)
  have H := H h4 e
  exact z_return (M := m_J39_init) rfl dJ39_init_25 H
theorem c_J39_init {s0 : zE} {d : Nat} {x0 : Nat} {x1 : Int32} {x2 : Nat} {x3 : Nat} {x4 : Nat} {h : zH} {Q : Value → zH → Prop} {E : Nat → zH → Prop} (H : (∃ c, fC h x0 c) ∧ ((∃ c ∈ ([62, 63] : List Nat), fC h x0 c) ∧ (∀ h1, h1 = zput h x0 0 (.int (x1)) → ((∃ c ∈ ([62, 63] : List Nat), fC h1 x0 c) ∧ (∀ h2, h2 = zput h1 x0 1 (zr (x2)) → ((∃ c ∈ ([62, 63] : List Nat), fC h2 x0 c) ∧ (∀ h3, h3 = zput h2 x0 2 (zr (x3)) → ((∃ c ∈ ([62, 63] : List Nat), fC h3 x0 c) ∧ (∀ h4, h4 = zput h3 x0 3 (zr (x4)) → (Q .null h4)))))))))) : zX s0 m_J39_init (d + 1) [zr (x0), .int (x1), zr (x2), zr (x3), zr (x4)] h Q E := zX.of2 rfl (by decide +kernel) (zlay_r (zlay_i (zlay_r (zlay_r (zlay_r (zlay_n znone0)))))) (zle rfl) (b_J39_init_0 H)
theorem b_J40_init_0 {s0 : zE} {d : Nat} {x0 : Nat} {x1 : Int32} {x2 : Nat} {x3 : Nat} {x4 : Nat} {h : zH} {Q : Value → zH → Prop} {E : Nat → zH → Prop} (H : (∃ c, fC h x0 c) ∧ (zX s0 m_J39_init d [zr x0, .int (x1), zr (x2), zr (x3), zr (x4)] h (fun _ h1 => (Q .null h1)) E)) : zP s0 m_J40_init (d + 1) 0 [some (zr (x0)), some (.int (x1)), some (zr (x2)), some (zr (x3)), some (zr (x4))] [] h Q E := by
  refine z_aload_n (M := m_J40_init) (k := 0) rfl dJ40_init_0 ?_
  refine z_iload_n (M := m_J40_init) (k := 1) rfl dJ40_init_1 ?_
  refine z_aload_n (M := m_J40_init) (k := 2) rfl dJ40_init_2 ?_
  refine z_aload_n (M := m_J40_init) (k := 3) rfl dJ40_init_3 ?_
  refine z_aload (M := m_J40_init) (i := 4) rfl dJ40_init_4 ?_
  obtain ⟨⟨c9, g⟩, H⟩ := H
  refine zz_invI (M := m_J40_init) (a := [.int (x1), zr (x2), zr (x3), zr (x4)]) ok_J39_init rfl rfl q2206 q2207 dJ40_init_6 g (Nat.zero_le _) rfl H (fun v1 h1 H => ?_) (fun n9 h9 H => zPx.out rfl H)
  exact z_return (M := m_J40_init) rfl dJ40_init_9 H
theorem c_J40_init {s0 : zE} {d : Nat} {x0 : Nat} {x1 : Int32} {x2 : Nat} {x3 : Nat} {x4 : Nat} {h : zH} {Q : Value → zH → Prop} {E : Nat → zH → Prop} (H : (∃ c, fC h x0 c) ∧ (zX s0 m_J39_init d [zr x0, .int (x1), zr (x2), zr (x3), zr (x4)] h (fun _ h1 => (Q .null h1)) E)) : zX s0 m_J40_init (d + 1) [zr (x0), .int (x1), zr (x2), zr (x3), zr (x4)] h Q E := zX.of2 rfl (by decide +kernel) (zlay_r (zlay_i (zlay_r (zlay_r (zlay_r (zlay_n znone0)))))) (zle rfl) (b_J40_init_0 H)
theorem b_J41_balanceDeletion_0 {s0 : zE} {d : Nat} {x0 : Nat} {x1 : Nat} {h : zH} {Q : Value → zH → Prop} {E : Nat → zH → Prop} (H : (x1 = 0 → (Q (zr x0) h)) ∧ (¬ x1 = 0 → ((¬ x1 = x0 → ((fR h x1 [63] 6) ∧ ((¬ gR h x1 6 = 0 → ((fI h x1 [63] 10) ∧ ((gI h x1 10 = 0 → ((fR h (gR h x1 6) [63] 7) ∧ ((¬ gR h (gR h x1 6) 7 = x1 → ((gR h (gR h x1 6) 7 = 0 → (zP s0 m_J41_balanceDeletion (d + 1) 326 [some (zr (x0)), some (zr (x1)), some (zr (gR h x1 6)), some (zr (gR h (gR h x1 6) 7)), none, none, none] [] h Q E)) ∧ (¬ gR h (gR h x1 6) 7 = 0 → ((fI h (gR h (gR h x1 6) 7) [63] 10) ∧ ((gI h (gR h (gR h x1 6) 7) 10 = 0 → (zP s0 m_J41_balanceDeletion (d + 1) 326 [some (zr (x0)), some (zr (x1)), some (zr (gR h x1 6)), some (zr (gR h (gR h x1 6) 7)), none, none, none] [] h Q E)) ∧ (¬ gI h (gR h (gR h x1 6) 7) 10 = 0 → ((fC h (gR h (gR h x1 6) 7) 63) ∧ (∀ h1, h1 = zput h (gR h (gR h x1 6) 7) 10 (.int (0)) → ((fC h1 (gR h x1 6) 63) ∧ (∀ h2, h2 = zput h1 (gR h x1 6) 10 (.int (1)) → (zX s0 m_J41_rotateRight d [zr (x0), zr (gR h x1 6)] h2 (fun v1 h3 => ∃ n1 : Nat, v1 = zr (n1) ∧ ((fR h3 x1 [63] 6) ∧ ((¬ gR h3 x1 6 = 0 → ((fR h3 (gR h3 x1 6) [63] 7) ∧ (zP s0 m_J41_balanceDeletion (d + 1) 326 [some (zr (n1)), some (zr (x1)), some (zr (gR h3 x1 6)), some (zr (gR h3 (gR h3 x1 6) 7)), none, none, none] [] h3 Q E))) ∧ (gR h3 x1 6 = 0 → (zP s0 m_J41_balanceDeletion (d + 1) 326 [some (zr (n1)), some (zr (x1)), some (zr (gR h3 x1 6)), some (zr (0)), none, none, none] [] h3 Q E))))) E))))))))))) ∧ (gR h (gR h x1 6) 7 = x1 → ((fR h (gR h x1 6) [63] 8) ∧ ((gR h (gR h x1 6) 8 = 0 → (zP s0 m_J41_balanceDeletion (d + 1) 105 [some (zr (x0)), some (zr (x1)), some (zr (gR h x1 6)), none, some (zr (gR h (gR h x1 6) 8)), none, none] [] h Q E)) ∧ (¬ gR h (gR h x1 6) 8 = 0 → ((fI h (gR h (gR h x1 6) 8) [63] 10) ∧ ((gI h (gR h (gR h x1 6) 8) 10 = 0 → (zP s0 m_J41_balanceDeletion (d + 1) 105 [some (zr (x0)), some (zr (x1)), some (zr (gR h x1 6)), none, some (zr (gR h (gR h x1 6) 8)), none, none] [] h Q E)) ∧ (¬ gI h (gR h (gR h x1 6) 8) 10 = 0 → ((fC h (gR h (gR h x1 6) 8) 63) ∧ (∀ h4, h4 = zput h (gR h (gR h x1 6) 8) 10 (.int (0)) → ((fC h4 (gR h x1 6) 63) ∧ (∀ h5, h5 = zput h4 (gR h x1 6) 10 (.int (1)) → (zX s0 m_J41_rotateLeft d [zr (x0), zr (gR h x1 6)] h5 (fun v2 h6 => ∃ n2 : Nat, v2 = zr (n2) ∧ ((fR h6 x1 [63] 6) ∧ ((¬ gR h6 x1 6 = 0 → ((fR h6 (gR h6 x1 6) [63] 8) ∧ (zP s0 m_J41_balanceDeletion (d + 1) 105 [some (zr (n2)), some (zr (x1)), some (zr (gR h6 x1 6)), none, some (zr (gR h6 (gR h6 x1 6) 8)), none, none] [] h6 Q E))) ∧ (gR h6 x1 6 = 0 → (zP s0 m_J41_balanceDeletion (d + 1) 105 [some (zr (n2)), some (zr (x1)), some (zr (gR h6 x1 6)), none, some (zr (0)), none, none] [] h6 Q E))))) E))))))))))))))) ∧ (¬ gI h x1 10 = 0 → ((fC h x1 63) ∧ (∀ h7, h7 = zput h x1 10 (.int (0)) → (Q (zr x0) h7))))))) ∧ (gR h x1 6 = 0 → ((fC h x1 63) ∧ (∀ h8, h8 = zput h x1 10 (.int (0)) → (Q (zr x1) h8))))))) ∧ (x1 = x0 → (Q (zr x0) h))))) : zP s0 m_J41_balanceDeletion (d + 1) 0 [some (zr (x0)), some (zr (x1)), none, none, none, none, none] [] h Q E := by
  refine z_aload_n (M := m_J41_balanceDeletion) (k := 1) rfl dJ41_balanceDeletion_0 ?_
  refine z_ifnull (M := m_J41_balanceDeletion) 9 rfl dJ41_balanceDeletion_1 (fun hc => ?_) (fun hc => ?_)
  · have H := H.1 hc
    refine z_aload_n (M := m_J41_balanceDeletion) (k := 0) rfl dJ41_balanceDeletion_9 ?_
    exact z_areturn (M := m_J41_balanceDeletion) rfl (Or.inl ⟨_, rfl⟩) dJ41_balanceDeletion_10 H
  · have H := H.2 hc
    refine z_aload_n (M := m_J41_balanceDeletion) (k := 1) rfl dJ41_balanceDeletion_4 ?_
    refine z_aload_n (M := m_J41_balanceDeletion) (k := 0) rfl dJ41_balanceDeletion_5 ?_
    refine z_acmpne (M := m_J41_balanceDeletion) 11 rfl dJ41_balanceDeletion_6 (fun hc => ?_) (fun hc => ?_)
    · have H := H.1 hc
      refine z_aload_n (M := m_J41_balanceDeletion) (k := 1) rfl dJ41_balanceDeletion_11 ?_
      obtain ⟨g, H⟩ := H
      refine z_get (M := m_J41_balanceDeletion) f_J41_9 dJ41_balanceDeletion_12 g ?_
      refine z_dup (M := m_J41_balanceDeletion) (zr_cat _) dJ41_balanceDeletion_15 ?_
      refine z_astore_n (M := m_J41_balanceDeletion) (k := 2) 2 rfl (zlt rfl) (zr_cat _) dJ41_balanceDeletion_16 ?_
      show zP s0 m_J41_balanceDeletion (d + 1) _ [some (zr (x0)), some (zr (x1)), some (zr (gR h x1 6)), none, none, none, none] _ _ _ _
      refine z_ifnonnull (M := m_J41_balanceDeletion) 27 rfl dJ41_balanceDeletion_17 (fun hc => ?_) (fun hc => ?_)
      · have H := H.1 hc
        refine z_aload_n (M := m_J41_balanceDeletion) (k := 1) rfl dJ41_balanceDeletion_27 ?_
        obtain ⟨g, H⟩ := H
        refine z_get (M := m_J41_balanceDeletion) f_J41_93 dJ41_balanceDeletion_28 g ?_
        refine z_ifeq (M := m_J41_balanceDeletion) 41 rfl dJ41_balanceDeletion_31 (fun hc => ?_) (fun hc => ?_)
        · have H := H.1 hc
          refine z_aload_n (M := m_J41_balanceDeletion) (k := 2) rfl dJ41_balanceDeletion_41 ?_
          obtain ⟨g, H⟩ := H
          refine z_get (M := m_J41_balanceDeletion) f_J41_39 dJ41_balanceDeletion_42 g ?_
          refine z_dup (M := m_J41_balanceDeletion) (zr_cat _) dJ41_balanceDeletion_45 ?_
          refine z_astore_n (M := m_J41_balanceDeletion) (k := 3) 3 rfl (zlt rfl) (zr_cat _) dJ41_balanceDeletion_46 ?_
          show zP s0 m_J41_balanceDeletion (d + 1) _ [some (zr (x0)), some (zr (x1)), some (zr (gR h x1 6)), some (zr (gR h (gR h x1 6) 7)), none, none, none] _ _ _ _
          refine z_aload_n (M := m_J41_balanceDeletion) (k := 1) rfl dJ41_balanceDeletion_47 ?_
          refine z_acmpne (M := m_J41_balanceDeletion) 281 rfl dJ41_balanceDeletion_48 (fun hc => ?_) (fun hc => ?_)
          · have H := H.1 hc
            refine z_aload_n (M := m_J41_balanceDeletion) (k := 3) rfl dJ41_balanceDeletion_281 ?_
            refine z_ifnull (M := m_J41_balanceDeletion) 326 rfl dJ41_balanceDeletion_282 (fun hc => ?_) (fun hc => ?_)
            · have H := H.1 hc
              exact H
            · have H := H.2 hc
              refine z_aload_n (M := m_J41_balanceDeletion) (k := 3) rfl dJ41_balanceDeletion_285 ?_
              obtain ⟨g, H⟩ := H
              refine z_get (M := m_J41_balanceDeletion) f_J41_93 dJ41_balanceDeletion_286 g ?_
              refine z_ifeq (M := m_J41_balanceDeletion) 326 rfl dJ41_balanceDeletion_289 (fun hc => ?_) (fun hc => ?_)
              · have H := H.1 hc
                exact H
              · have H := H.2 hc
                refine z_aload_n (M := m_J41_balanceDeletion) (k := 3) rfl dJ41_balanceDeletion_292 ?_
                refine z_iconst (M := m_J41_balanceDeletion) (v := 0) (by decide) dJ41_balanceDeletion_293 ?_
                obtain ⟨g, H⟩ := H
                refine zz_put (M := m_J41_balanceDeletion) f_J41_93 dJ41_balanceDeletion_294 rfl (fn_63_10) g (ft_63_10 (Or.inl rfl)) (fun h1 e => ?_)
                have H := H h1 e
                refine z_aload_n (M := m_J41_balanceDeletion) (k := 2) rfl dJ41_balanceDeletion_297 ?_
                refine z_iconst (M := m_J41_balanceDeletion) (v := 1) (by decide) dJ41_balanceDeletion_298 ?_
                obtain ⟨g, H⟩ := H
                refine zz_put (M := m_J41_balanceDeletion) f_J41_93 dJ41_balanceDeletion_299 rfl (fn_63_10) g (ft_63_10 (Or.inr rfl)) (fun h2 e => ?_)
                have H := H h2 e
                refine z_aload_n (M := m_J41_balanceDeletion) (k := 0) rfl dJ41_balanceDeletion_302 ?_
                refine z_aload_n (M := m_J41_balanceDeletion) (k := 2) rfl dJ41_balanceDeletion_303 ?_
                refine z_invS (M := m_J41_balanceDeletion) (a := [zr (x0), zr (gR h x1 6)]) ok_J41_rotateRight q2264 q2265 dJ41_balanceDeletion_304 (Nat.le_refl _) (Nat.zero_le _) rfl H (fun v1 h3 H => ?_) (fun n9 h9 H => zPx.out rfl H)
                obtain ⟨n1, rfl, H⟩ := H
                show zP s0 m_J41_balanceDeletion (d + 1) _ _ [zr (n1)] _ _ _
                refine z_astore_n (M := m_J41_balanceDeletion) (k := 0) 0 rfl (zlt rfl) trivial dJ41_balanceDeletion_307 ?_
                show zP s0 m_J41_balanceDeletion (d + 1) _ [some (zr (n1)), some (zr (x1)), some (zr (gR h x1 6)), some (zr (gR h (gR h x1 6) 7)), none, none, none] _ _ _ _
                refine z_aload_n (M := m_J41_balanceDeletion) (k := 1) rfl dJ41_balanceDeletion_308 ?_
                obtain ⟨g, H⟩ := H
                refine z_get (M := m_J41_balanceDeletion) f_J41_9 dJ41_balanceDeletion_309 g ?_
                refine z_dup (M := m_J41_balanceDeletion) (zr_cat _) dJ41_balanceDeletion_312 ?_
                refine z_astore_n (M := m_J41_balanceDeletion) (k := 2) 2 rfl (zlt rfl) (zr_cat _) dJ41_balanceDeletion_313 ?_
                show zP s0 m_J41_balanceDeletion (d + 1) _ [some (zr (n1)), some (zr (x1)), some (zr (gR h3 x1 6)), some (zr (gR h (gR h x1 6) 7)), none, none, none] _ _ _ _
                refine z_ifnonnull (M := m_J41_balanceDeletion) 321 rfl dJ41_balanceDeletion_314 (fun hc => ?_) (fun hc => ?_)
                · have H := H.1 hc
                  refine z_aload_n (M := m_J41_balanceDeletion) (k := 2) rfl dJ41_balanceDeletion_321 ?_
                  obtain ⟨g, H⟩ := H
                  refine z_get (M := m_J41_balanceDeletion) f_J41_39 dJ41_balanceDeletion_322 g ?_
                  refine z_astore_n (M := m_J41_balanceDeletion) (k := 3) 3 rfl (zlt rfl) (zr_cat _) dJ41_balanceDeletion_325 ?_
                  show zP s0 m_J41_balanceDeletion (d + 1) _ [some (zr (n1)), some (zr (x1)), some (zr (gR h3 x1 6)), some (zr (gR h3 (gR h3 x1 6) 7)), none, none, none] _ _ _ _
                  exact H
                · have H := H.2 hc
                  refine z_null (M := m_J41_balanceDeletion) dJ41_balanceDeletion_317 ?_
                  refine z_goto (M := m_J41_balanceDeletion) 325 rfl dJ41_balanceDeletion_318 ?_
                  refine z_astore_n (M := m_J41_balanceDeletion) (k := 3) 3 rfl (zlt rfl) (zr_cat _) dJ41_balanceDeletion_325 ?_
                  show zP s0 m_J41_balanceDeletion (d + 1) _ [some (zr (n1)), some (zr (x1)), some (zr (gR h3 x1 6)), some (zr (0)), none, none, none] _ _ _ _
                  exact H
          · have H := H.2 hc
            refine z_aload_n (M := m_J41_balanceDeletion) (k := 2) rfl dJ41_balanceDeletion_51 ?_
            obtain ⟨g, H⟩ := H
            refine z_get (M := m_J41_balanceDeletion) f_J41_42 dJ41_balanceDeletion_52 g ?_
            refine z_dup (M := m_J41_balanceDeletion) (zr_cat _) dJ41_balanceDeletion_55 ?_
            refine z_astore (M := m_J41_balanceDeletion) 4 (zlt rfl) (zr_cat _) dJ41_balanceDeletion_56 ?_
            show zP s0 m_J41_balanceDeletion (d + 1) _ [some (zr (x0)), some (zr (x1)), some (zr (gR h x1 6)), some (zr (gR h (gR h x1 6) 7)), some (zr (gR h (gR h x1 6) 8)), none, none] _ _ _ _
            refine z_ifnull (M := m_J41_balanceDeletion) 105 rfl dJ41_balanceDeletion_58 (fun hc => ?_) (fun hc => ?_)
            · have H := H.1 hc
              exact zP.weak (ls' := [some (zr (x0)), some (zr (x1)), some (zr (gR h x1 6)), none, some (zr (gR h (gR h x1 6) 8)), none, none]) (zle rfl) (zsub_so (zsub_so (zsub_so (zsub_no (zsub_so (zsub_no (zsub_no zsub_nil))))))) H
            · have H := H.2 hc
              refine z_aload (M := m_J41_balanceDeletion) (i := 4) rfl dJ41_balanceDeletion_61 ?_
              obtain ⟨g, H⟩ := H
              refine z_get (M := m_J41_balanceDeletion) f_J41_93 dJ41_balanceDeletion_63 g ?_
              refine z_ifeq (M := m_J41_balanceDeletion) 105 rfl dJ41_balanceDeletion_66 (fun hc => ?_) (fun hc => ?_)
              · have H := H.1 hc
                exact zP.weak (ls' := [some (zr (x0)), some (zr (x1)), some (zr (gR h x1 6)), none, some (zr (gR h (gR h x1 6) 8)), none, none]) (zle rfl) (zsub_so (zsub_so (zsub_so (zsub_no (zsub_so (zsub_no (zsub_no zsub_nil))))))) H
              · have H := H.2 hc
                refine z_aload (M := m_J41_balanceDeletion) (i := 4) rfl dJ41_balanceDeletion_69 ?_
                refine z_iconst (M := m_J41_balanceDeletion) (v := 0) (by decide) dJ41_balanceDeletion_71 ?_
                obtain ⟨g, H⟩ := H
                refine zz_put (M := m_J41_balanceDeletion) f_J41_93 dJ41_balanceDeletion_72 rfl (fn_63_10) g (ft_63_10 (Or.inl rfl)) (fun h4 e => ?_)
                have H := H h4 e
                refine z_aload_n (M := m_J41_balanceDeletion) (k := 2) rfl dJ41_balanceDeletion_75 ?_
                refine z_iconst (M := m_J41_balanceDeletion) (v := 1) (by decide) dJ41_balanceDeletion_76 ?_
                obtain ⟨g, H⟩ := H
                refine zz_put (M := m_J41_balanceDeletion) f_J41_93 dJ41_balanceDeletion_77 rfl (fn_63_10) g (ft_63_10 (Or.inr rfl)) (fun h5 e => ?_)
                have H := H h5 e
                refine z_aload_n (M := m_J41_balanceDeletion) (k := 0) rfl dJ41_balanceDeletion_80 ?_
                refine z_aload_n (M := m_J41_balanceDeletion) (k := 2) rfl dJ41_balanceDeletion_81 ?_
                refine z_invS (M := m_J41_balanceDeletion) (a := [zr (x0), zr (gR h x1 6)]) ok_J41_rotateLeft q2261 q2262 dJ41_balanceDeletion_82 (Nat.le_refl _) (Nat.zero_le _) rfl H (fun v2 h6 H => ?_) (fun n9 h9 H => zPx.out rfl H)
                obtain ⟨n2, rfl, H⟩ := H
                show zP s0 m_J41_balanceDeletion (d + 1) _ _ [zr (n2)] _ _ _
                refine z_astore_n (M := m_J41_balanceDeletion) (k := 0) 0 rfl (zlt rfl) trivial dJ41_balanceDeletion_85 ?_
                show zP s0 m_J41_balanceDeletion (d + 1) _ [some (zr (n2)), some (zr (x1)), some (zr (gR h x1 6)), some (zr (gR h (gR h x1 6) 7)), some (zr (gR h (gR h x1 6) 8)), none, none] _ _ _ _
                refine z_aload_n (M := m_J41_balanceDeletion) (k := 1) rfl dJ41_balanceDeletion_86 ?_
                obtain ⟨g, H⟩ := H
                refine z_get (M := m_J41_balanceDeletion) f_J41_9 dJ41_balanceDeletion_87 g ?_
                refine z_dup (M := m_J41_balanceDeletion) (zr_cat _) dJ41_balanceDeletion_90 ?_
                refine z_astore_n (M := m_J41_balanceDeletion) (k := 2) 2 rfl (zlt rfl) (zr_cat _) dJ41_balanceDeletion_91 ?_
                show zP s0 m_J41_balanceDeletion (d + 1) _ [some (zr (n2)), some (zr (x1)), some (zr (gR h6 x1 6)), some (zr (gR h (gR h x1 6) 7)), some (zr (gR h (gR h x1 6) 8)), none, none] _ _ _ _
                refine z_ifnonnull (M := m_J41_balanceDeletion) 99 rfl dJ41_balanceDeletion_92 (fun hc => ?_) (fun hc => ?_)
                · have H := H.1 hc
                  refine z_aload_n (M := m_J41_balanceDeletion) (k := 2) rfl dJ41_balanceDeletion_99 ?_
                  obtain ⟨g, H⟩ := H
                  refine z_get (M := m_J41_balanceDeletion) f_J41_42 dJ41_balanceDeletion_100 g ?_
                  refine z_astore (M := m_J41_balanceDeletion) 4 (zlt rfl) (zr_cat _) dJ41_balanceDeletion_103 ?_
                  show zP s0 m_J41_balanceDeletion (d + 1) _ [some (zr (n2)), some (zr (x1)), some (zr (gR h6 x1 6)), some (zr (gR h (gR h x1 6) 7)), some (zr (gR h6 (gR h6 x1 6) 8)), none, none] _ _ _ _
                  exact zP.weak (ls' := [some (zr (n2)), some (zr (x1)), some (zr (gR h6 x1 6)), none, some (zr (gR h6 (gR h6 x1 6) 8)), none, none]) (zle rfl) (zsub_so (zsub_so (zsub_so (zsub_no (zsub_so (zsub_no (zsub_no zsub_nil))))))) H
                · have H := H.2 hc
                  refine z_null (M := m_J41_balanceDeletion) dJ41_balanceDeletion_95 ?_
                  refine z_goto (M := m_J41_balanceDeletion) 103 rfl dJ41_balanceDeletion_96 ?_
                  refine z_astore (M := m_J41_balanceDeletion) 4 (zlt rfl) (zr_cat _) dJ41_balanceDeletion_103 ?_
                  show zP s0 m_J41_balanceDeletion (d + 1) _ [some (zr (n2)), some (zr (x1)), some (zr (gR h6 x1 6)), some (zr (gR h (gR h x1 6) 7)), some (zr (0)), none, none] _ _ _ _
                  exact zP.weak (ls' := [some (zr (n2)), some (zr (x1)), some (zr (gR h6 x1 6)), none, some (zr (0)), none, none]) (zle rfl) (zsub_so (zsub_so (zsub_so (zsub_no (zsub_so (zsub_no (zsub_no zsub_nil))))))) H
        · have H := H.2 hc
          refine z_aload_n (M := m_J41_balanceDeletion) (k := 1) rfl dJ41_balanceDeletion_34 ?_
          refine z_iconst (M := m_J41_balanceDeletion) (v := 0) (by decide) dJ41_balanceDeletion_35 ?_
          obtain ⟨g, H⟩ := H
          refine zz_put (M := m_J41_balanceDeletion) f_J41_93 dJ41_balanceDeletion_36 rfl (fn_63_10) g (ft_63_10 (Or.inl rfl)) (fun h7 e => ?_)
          have H := H h7 e
          refine z_aload_n (M := m_J41_balanceDeletion) (k := 0) rfl dJ41_balanceDeletion_39 ?_
          exact z_areturn (M := m_J41_balanceDeletion) rfl (Or.inl ⟨_, rfl⟩) dJ41_balanceDeletion_40 H
      · have H := H.2 hc
        refine z_aload_n (M := m_J41_balanceDeletion) (k := 1) rfl dJ41_balanceDeletion_20 ?_
        refine z_iconst (M := m_J41_balanceDeletion) (v := 0) (by decide) dJ41_balanceDeletion_21 ?_
        obtain ⟨g, H⟩ := H
        refine zz_put (M := m_J41_balanceDeletion) f_J41_93 dJ41_balanceDeletion_22 rfl (fn_63_10) g (ft_63_10 (Or.inl rfl)) (fun h8 e => ?_)
        have H := H h8 e
        refine z_aload_n (M := m_J41_balanceDeletion) (k := 1) rfl dJ41_balanceDeletion_25 ?_
        exact z_areturn (M := m_J41_balanceDeletion) rfl (Or.inl ⟨_, rfl⟩) dJ41_balanceDeletion_26 H
    · have H := H.2 hc
      refine z_aload_n (M := m_J41_balanceDeletion) (k := 0) rfl dJ41_balanceDeletion_9 ?_
      exact z_areturn (M := m_J41_balanceDeletion) rfl (Or.inl ⟨_, rfl⟩) dJ41_balanceDeletion_10 H
theorem c_J41_balanceDeletion {s0 : zE} {d : Nat} {x0 : Nat} {x1 : Nat} {h : zH} {Q : Value → zH → Prop} {E : Nat → zH → Prop} (H : zP s0 m_J41_balanceDeletion (d + 1) 0 [some (zr (x0)), some (zr (x1)), none, none, none, none, none] [] h Q E) : zX s0 m_J41_balanceDeletion (d + 1) [zr (x0), zr (x1)] h Q E := zX.of2 rfl (by decide +kernel) (zlay_r (zlay_r (zlay_n (znoneS (znoneS (znoneS (znoneS (znoneS znone0)))))))) (zle rfl) H
theorem b_J41_balanceDeletion_105 {s0 : zE} {d : Nat} {x0 : Nat} {x1 : Nat} {x2 : Nat} {x4 : Nat} {h : zH} {Q : Value → zH → Prop} {E : Nat → zH → Prop} (H : (¬ x4 = 0 → ((fR h x4 [63] 7) ∧ ((fR h x4 [63] 8) ∧ ((gR h x4 8 = 0 → (zP s0 m_J41_balanceDeletion (d + 1) 142 [some (zr (x0)), some (zr (x1)), some (zr (x2)), none, some (zr (x4)), some (zr (gR h x4 7)), some (zr (gR h x4 8))] [] h Q E)) ∧ (¬ gR h x4 8 = 0 → ((fI h (gR h x4 8) [63] 10) ∧ ((¬ gI h (gR h x4 8) 10 = 0 → (zP s0 m_J41_balanceDeletion (d + 1) 166 [some (zr (x0)), some (zr (x1)), some (zr (x2)), none, some (zr (x4)), some (zr (gR h x4 7)), some (zr (gR h x4 8))] [] h Q E)) ∧ (gI h (gR h x4 8) 10 = 0 → (zP s0 m_J41_balanceDeletion (d + 1) 142 [some (zr (x0)), some (zr (x1)), some (zr (x2)), none, some (zr (x4)), some (zr (gR h x4 7)), some (zr (gR h x4 8))] [] h Q E))))))))) ∧ (x4 = 0 → (zP s0 m_J41_balanceDeletion (d + 1) 0 [some (zr (x0)), some (zr (x2)), none, none, none, none, none] [] h Q E))) : zP s0 m_J41_balanceDeletion (d + 1) 105 [some (zr (x0)), some (zr (x1)), some (zr (x2)), none, some (zr (x4)), none, none] [] h Q E := by
  refine z_aload (M := m_J41_balanceDeletion) (i := 4) rfl dJ41_balanceDeletion_105 ?_
  refine z_ifnonnull (M := m_J41_balanceDeletion) 115 rfl dJ41_balanceDeletion_107 (fun hc => ?_) (fun hc => ?_)
  · have H := H.1 hc
    refine z_aload (M := m_J41_balanceDeletion) (i := 4) rfl dJ41_balanceDeletion_115 ?_
    obtain ⟨g, H⟩ := H
    refine z_get (M := m_J41_balanceDeletion) f_J41_39 dJ41_balanceDeletion_117 g ?_
    refine z_astore (M := m_J41_balanceDeletion) 5 (zlt rfl) (zr_cat _) dJ41_balanceDeletion_120 ?_
    show zP s0 m_J41_balanceDeletion (d + 1) _ [some (zr (x0)), some (zr (x1)), some (zr (x2)), none, some (zr (x4)), some (zr (gR h x4 7)), none] _ _ _ _
    refine z_aload (M := m_J41_balanceDeletion) (i := 4) rfl dJ41_balanceDeletion_122 ?_
    obtain ⟨g, H⟩ := H
    refine z_get (M := m_J41_balanceDeletion) f_J41_42 dJ41_balanceDeletion_124 g ?_
    refine z_astore (M := m_J41_balanceDeletion) 6 (zlt rfl) (zr_cat _) dJ41_balanceDeletion_127 ?_
    show zP s0 m_J41_balanceDeletion (d + 1) _ [some (zr (x0)), some (zr (x1)), some (zr (x2)), none, some (zr (x4)), some (zr (gR h x4 7)), some (zr (gR h x4 8))] _ _ _ _
    refine z_aload (M := m_J41_balanceDeletion) (i := 6) rfl dJ41_balanceDeletion_129 ?_
    refine z_ifnull (M := m_J41_balanceDeletion) 142 rfl dJ41_balanceDeletion_131 (fun hc => ?_) (fun hc => ?_)
    · have H := H.1 hc
      exact H
    · have H := H.2 hc
      refine z_aload (M := m_J41_balanceDeletion) (i := 6) rfl dJ41_balanceDeletion_134 ?_
      obtain ⟨g, H⟩ := H
      refine z_get (M := m_J41_balanceDeletion) f_J41_93 dJ41_balanceDeletion_136 g ?_
      refine z_ifne (M := m_J41_balanceDeletion) 166 rfl dJ41_balanceDeletion_139 (fun hc => ?_) (fun hc => ?_)
      · have H := H.1 hc
        exact H
      · have H := H.2 hc
        exact H
  · have H := H.2 hc
    refine z_aload_n (M := m_J41_balanceDeletion) (k := 2) rfl dJ41_balanceDeletion_110 ?_
    refine z_astore_n (M := m_J41_balanceDeletion) (k := 1) 1 rfl (zlt rfl) (zr_cat _) dJ41_balanceDeletion_111 ?_
    show zP s0 m_J41_balanceDeletion (d + 1) _ [some (zr (x0)), some (zr (x2)), some (zr (x2)), none, some (zr (x4)), none, none] _ _ _ _
    refine z_goto (M := m_J41_balanceDeletion) 0 rfl dJ41_balanceDeletion_112 ?_
    exact zP.weak (ls' := [some (zr (x0)), some (zr (x2)), none, none, none, none, none]) (zle rfl) (zsub_so (zsub_so (zsub_no (zsub_no (zsub_no (zsub_no (zsub_no zsub_nil))))))) H
theorem b_J41_balanceDeletion_142 {s0 : zE} {d : Nat} {x0 : Nat} {x1 : Nat} {x2 : Nat} {x4 : Nat} {x5 : Nat} {x6 : Nat} {h : zH} {Q : Value → zH → Prop} {E : Nat → zH → Prop} (H : (x5 = 0 → ((fC h x4 63) ∧ (∀ h1, h1 = zput h x4 10 (.int (1)) → (zP s0 m_J41_balanceDeletion (d + 1) 0 [some (zr (x0)), some (zr (x2)), none, none, none, none, none] [] h1 Q E)))) ∧ (¬ x5 = 0 → ((fI h x5 [63] 10) ∧ ((¬ gI h x5 10 = 0 → (zP s0 m_J41_balanceDeletion (d + 1) 166 [some (zr (x0)), some (zr (x1)), some (zr (x2)), none, some (zr (x4)), some (zr (x5)), some (zr (x6))] [] h Q E)) ∧ (gI h x5 10 = 0 → ((fC h x4 63) ∧ (∀ h2, h2 = zput h x4 10 (.int (1)) → (zP s0 m_J41_balanceDeletion (d + 1) 0 [some (zr (x0)), some (zr (x2)), none, none, none, none, none] [] h2 Q E)))))))) : zP s0 m_J41_balanceDeletion (d + 1) 142 [some (zr (x0)), some (zr (x1)), some (zr (x2)), none, some (zr (x4)), some (zr (x5)), some (zr (x6))] [] h Q E := by
  refine z_aload (M := m_J41_balanceDeletion) (i := 5) rfl dJ41_balanceDeletion_142 ?_
  refine z_ifnull (M := m_J41_balanceDeletion) 155 rfl dJ41_balanceDeletion_144 (fun hc => ?_) (fun hc => ?_)
  · have H := H.1 hc
    refine z_aload (M := m_J41_balanceDeletion) (i := 4) rfl dJ41_balanceDeletion_155 ?_
    refine z_iconst (M := m_J41_balanceDeletion) (v := 1) (by decide) dJ41_balanceDeletion_157 ?_
    obtain ⟨g, H⟩ := H
    refine zz_put (M := m_J41_balanceDeletion) f_J41_93 dJ41_balanceDeletion_158 rfl (fn_63_10) g (ft_63_10 (Or.inr rfl)) (fun h1 e => ?_)
    have H := H h1 e
    refine z_aload_n (M := m_J41_balanceDeletion) (k := 2) rfl dJ41_balanceDeletion_161 ?_
    refine z_astore_n (M := m_J41_balanceDeletion) (k := 1) 1 rfl (zlt rfl) (zr_cat _) dJ41_balanceDeletion_162 ?_
    show zP s0 m_J41_balanceDeletion (d + 1) _ [some (zr (x0)), some (zr (x2)), some (zr (x2)), none, some (zr (x4)), some (zr (x5)), some (zr (x6))] _ _ _ _
    refine z_goto (M := m_J41_balanceDeletion) 278 rfl dJ41_balanceDeletion_163 ?_
    refine z_goto (M := m_J41_balanceDeletion) 0 rfl dJ41_balanceDeletion_278 ?_
    exact zP.weak (ls' := [some (zr (x0)), some (zr (x2)), none, none, none, none, none]) (zle rfl) (zsub_so (zsub_so (zsub_no (zsub_no (zsub_no (zsub_no (zsub_no zsub_nil))))))) H
  · have H := H.2 hc
    refine z_aload (M := m_J41_balanceDeletion) (i := 5) rfl dJ41_balanceDeletion_147 ?_
    obtain ⟨g, H⟩ := H
    refine z_get (M := m_J41_balanceDeletion) f_J41_93 dJ41_balanceDeletion_149 g ?_
    refine z_ifne (M := m_J41_balanceDeletion) 166 rfl dJ41_balanceDeletion_152 (fun hc => ?_) (fun hc => ?_)
    · have H := H.1 hc
      exact H
    · have H := H.2 hc
      refine z_aload (M := m_J41_balanceDeletion) (i := 4) rfl dJ41_balanceDeletion_155 ?_
      refine z_iconst (M := m_J41_balanceDeletion) (v := 1) (by decide) dJ41_balanceDeletion_157 ?_
      obtain ⟨g, H⟩ := H
      refine zz_put (M := m_J41_balanceDeletion) f_J41_93 dJ41_balanceDeletion_158 rfl (fn_63_10) g (ft_63_10 (Or.inr rfl)) (fun h2 e => ?_)
      have H := H h2 e
      refine z_aload_n (M := m_J41_balanceDeletion) (k := 2) rfl dJ41_balanceDeletion_161 ?_
      refine z_astore_n (M := m_J41_balanceDeletion) (k := 1) 1 rfl (zlt rfl) (zr_cat _) dJ41_balanceDeletion_162 ?_
      show zP s0 m_J41_balanceDeletion (d + 1) _ [some (zr (x0)), some (zr (x2)), some (zr (x2)), none, some (zr (x4)), some (zr (x5)), some (zr (x6))] _ _ _ _
      refine z_goto (M := m_J41_balanceDeletion) 278 rfl dJ41_balanceDeletion_163 ?_
      refine z_goto (M := m_J41_balanceDeletion) 0 rfl dJ41_balanceDeletion_278 ?_
      exact zP.weak (ls' := [some (zr (x0)), some (zr (x2)), none, none, none, none, none]) (zle rfl) (zsub_so (zsub_so (zsub_no (zsub_no (zsub_no (zsub_no (zsub_no zsub_nil))))))) H
theorem b_J41_balanceDeletion_166 {s0 : zE} {d : Nat} {x0 : Nat} {x1 : Nat} {x2 : Nat} {x4 : Nat} {x5 : Nat} {x6 : Nat} {h : zH} {Q : Value → zH → Prop} {E : Nat → zH → Prop} (H : (x6 = 0 → (zP s0 m_J41_balanceDeletion (d + 1) 179 [some (zr (x0)), some (zr (x1)), none, none, some (zr (x4)), some (zr (x5)), none] [] h Q E)) ∧ (¬ x6 = 0 → ((fI h x6 [63] 10) ∧ ((¬ gI h x6 10 = 0 → (zP s0 m_J41_balanceDeletion (d + 1) 222 [some (zr (x0)), none, some (zr (x2)), none, some (zr (x4)), none, none] [] h Q E)) ∧ (gI h x6 10 = 0 → (zP s0 m_J41_balanceDeletion (d + 1) 179 [some (zr (x0)), some (zr (x1)), none, none, some (zr (x4)), some (zr (x5)), none] [] h Q E)))))) : zP s0 m_J41_balanceDeletion (d + 1) 166 [some (zr (x0)), some (zr (x1)), some (zr (x2)), none, some (zr (x4)), some (zr (x5)), some (zr (x6))] [] h Q E := by
  refine z_aload (M := m_J41_balanceDeletion) (i := 6) rfl dJ41_balanceDeletion_166 ?_
  refine z_ifnull (M := m_J41_balanceDeletion) 179 rfl dJ41_balanceDeletion_168 (fun hc => ?_) (fun hc => ?_)
  · have H := H.1 hc
    exact zP.weak (ls' := [some (zr (x0)), some (zr (x1)), none, none, some (zr (x4)), some (zr (x5)), none]) (zle rfl) (zsub_so (zsub_so (zsub_no (zsub_no (zsub_so (zsub_so (zsub_no zsub_nil))))))) H
  · have H := H.2 hc
    refine z_aload (M := m_J41_balanceDeletion) (i := 6) rfl dJ41_balanceDeletion_171 ?_
    obtain ⟨g, H⟩ := H
    refine z_get (M := m_J41_balanceDeletion) f_J41_93 dJ41_balanceDeletion_173 g ?_
    refine z_ifne (M := m_J41_balanceDeletion) 222 rfl dJ41_balanceDeletion_176 (fun hc => ?_) (fun hc => ?_)
    · have H := H.1 hc
      exact zP.weak (ls' := [some (zr (x0)), none, some (zr (x2)), none, some (zr (x4)), none, none]) (zle rfl) (zsub_so (zsub_no (zsub_so (zsub_no (zsub_so (zsub_no (zsub_no zsub_nil))))))) H
    · have H := H.2 hc
      exact zP.weak (ls' := [some (zr (x0)), some (zr (x1)), none, none, some (zr (x4)), some (zr (x5)), none]) (zle rfl) (zsub_so (zsub_so (zsub_no (zsub_no (zsub_so (zsub_so (zsub_no zsub_nil))))))) H
theorem b_J41_balanceDeletion_179 {s0 : zE} {d : Nat} {x0 : Nat} {x1 : Nat} {x4 : Nat} {x5 : Nat} {h : zH} {Q : Value → zH → Prop} {E : Nat → zH → Prop} (H : (x5 = 0 → (zP s0 m_J41_balanceDeletion (d + 1) 190 [some (zr (x0)), some (zr (x1)), none, none, some (zr (x4)), none, none] [] h Q E)) ∧ (¬ x5 = 0 → ((fC h x5 63) ∧ (∀ h1, h1 = zput h x5 10 (.int (0)) → (zP s0 m_J41_balanceDeletion (d + 1) 190 [some (zr (x0)), some (zr (x1)), none, none, some (zr (x4)), none, none] [] h1 Q E))))) : zP s0 m_J41_balanceDeletion (d + 1) 179 [some (zr (x0)), some (zr (x1)), none, none, some (zr (x4)), some (zr (x5)), none] [] h Q E := by
  refine z_aload (M := m_J41_balanceDeletion) (i := 5) rfl dJ41_balanceDeletion_179 ?_
  refine z_ifnull (M := m_J41_balanceDeletion) 190 rfl dJ41_balanceDeletion_181 (fun hc => ?_) (fun hc => ?_)
  · have H := H.1 hc
    exact zP.weak (ls' := [some (zr (x0)), some (zr (x1)), none, none, some (zr (x4)), none, none]) (zle rfl) (zsub_so (zsub_so (zsub_no (zsub_no (zsub_so (zsub_no (zsub_no zsub_nil))))))) H
  · have H := H.2 hc
    refine z_aload (M := m_J41_balanceDeletion) (i := 5) rfl dJ41_balanceDeletion_184 ?_
    refine z_iconst (M := m_J41_balanceDeletion) (v := 0) (by decide) dJ41_balanceDeletion_186 ?_
    obtain ⟨g, H⟩ := H
    refine zz_put (M := m_J41_balanceDeletion) f_J41_93 dJ41_balanceDeletion_187 rfl (fn_63_10) g (ft_63_10 (Or.inl rfl)) (fun h1 e => ?_)
    have H := H h1 e
    exact zP.weak (ls' := [some (zr (x0)), some (zr (x1)), none, none, some (zr (x4)), none, none]) (zle rfl) (zsub_so (zsub_so (zsub_no (zsub_no (zsub_so (zsub_no (zsub_no zsub_nil))))))) H
theorem b_J41_balanceDeletion_190 {s0 : zE} {d : Nat} {x0 : Nat} {x1 : Nat} {x4 : Nat} {h : zH} {Q : Value → zH → Prop} {E : Nat → zH → Prop} (H : (fC h x4 63) ∧ (∀ h1, h1 = zput h x4 10 (.int (1)) → (zX s0 m_J41_rotateRight d [zr (x0), zr (x4)] h1 (fun v1 h2 => ∃ n1 : Nat, v1 = zr (n1) ∧ ((fR h2 x1 [63] 6) ∧ ((¬ gR h2 x1 6 = 0 → ((fR h2 (gR h2 x1 6) [63] 8) ∧ (zP s0 m_J41_balanceDeletion (d + 1) 222 [some (zr (n1)), none, some (zr (gR h2 x1 6)), none, some (zr (gR h2 (gR h2 x1 6) 8)), none, none] [] h2 Q E))) ∧ (gR h2 x1 6 = 0 → (zP s0 m_J41_balanceDeletion (d + 1) 222 [some (zr (n1)), none, some (zr (gR h2 x1 6)), none, some (zr (0)), none, none] [] h2 Q E))))) E))) : zP s0 m_J41_balanceDeletion (d + 1) 190 [some (zr (x0)), some (zr (x1)), none, none, some (zr (x4)), none, none] [] h Q E := by
  refine z_aload (M := m_J41_balanceDeletion) (i := 4) rfl dJ41_balanceDeletion_190 ?_
  refine z_iconst (M := m_J41_balanceDeletion) (v := 1) (by decide) dJ41_balanceDeletion_192 ?_
  obtain ⟨g, H⟩ := H
  refine zz_put (M := m_J41_balanceDeletion) f_J41_93 dJ41_balanceDeletion_193 rfl (fn_63_10) g (ft_63_10 (Or.inr rfl)) (fun h1 e => ?_)
  have H := H h1 e
  refine z_aload_n (M := m_J41_balanceDeletion) (k := 0) rfl dJ41_balanceDeletion_196 ?_
  refine z_aload (M := m_J41_balanceDeletion) (i := 4) rfl dJ41_balanceDeletion_197 ?_
  refine z_invS (M := m_J41_balanceDeletion) (a := [zr (x0), zr (x4)]) ok_J41_rotateRight q2264 q2265 dJ41_balanceDeletion_199 (Nat.le_refl _) (Nat.zero_le _) rfl H (fun v1 h2 H => ?_) (fun n9 h9 H => zPx.out rfl H)
  obtain ⟨n1, rfl, H⟩ := H
  show zP s0 m_J41_balanceDeletion (d + 1) _ _ [zr (n1)] _ _ _
  refine z_astore_n (M := m_J41_balanceDeletion) (k := 0) 0 rfl (zlt rfl) trivial dJ41_balanceDeletion_202 ?_
  show zP s0 m_J41_balanceDeletion (d + 1) _ [some (zr (n1)), some (zr (x1)), none, none, some (zr (x4)), none, none] _ _ _ _
  refine z_aload_n (M := m_J41_balanceDeletion) (k := 1) rfl dJ41_balanceDeletion_203 ?_
  obtain ⟨g, H⟩ := H
  refine z_get (M := m_J41_balanceDeletion) f_J41_9 dJ41_balanceDeletion_204 g ?_
  refine z_dup (M := m_J41_balanceDeletion) (zr_cat _) dJ41_balanceDeletion_207 ?_
  refine z_astore_n (M := m_J41_balanceDeletion) (k := 2) 2 rfl (zlt rfl) (zr_cat _) dJ41_balanceDeletion_208 ?_
  show zP s0 m_J41_balanceDeletion (d + 1) _ [some (zr (n1)), some (zr (x1)), some (zr (gR h2 x1 6)), none, some (zr (x4)), none, none] _ _ _ _
  refine z_ifnonnull (M := m_J41_balanceDeletion) 216 rfl dJ41_balanceDeletion_209 (fun hc => ?_) (fun hc => ?_)
  · have H := H.1 hc
    refine z_aload_n (M := m_J41_balanceDeletion) (k := 2) rfl dJ41_balanceDeletion_216 ?_
    obtain ⟨g, H⟩ := H
    refine z_get (M := m_J41_balanceDeletion) f_J41_42 dJ41_balanceDeletion_217 g ?_
    refine z_astore (M := m_J41_balanceDeletion) 4 (zlt rfl) trivial dJ41_balanceDeletion_220 ?_
    show zP s0 m_J41_balanceDeletion (d + 1) _ [some (zr (n1)), some (zr (x1)), some (zr (gR h2 x1 6)), none, some (zr (gR h2 (gR h2 x1 6) 8)), none, none] _ _ _ _
    exact zP.weak (ls' := [some (zr (n1)), none, some (zr (gR h2 x1 6)), none, some (zr (gR h2 (gR h2 x1 6) 8)), none, none]) (zle rfl) (zsub_so (zsub_no (zsub_so (zsub_no (zsub_so (zsub_no (zsub_no zsub_nil))))))) H
  · have H := H.2 hc
    refine z_null (M := m_J41_balanceDeletion) dJ41_balanceDeletion_212 ?_
    refine z_goto (M := m_J41_balanceDeletion) 220 rfl dJ41_balanceDeletion_213 ?_
    refine z_astore (M := m_J41_balanceDeletion) 4 (zlt rfl) trivial dJ41_balanceDeletion_220 ?_
    show zP s0 m_J41_balanceDeletion (d + 1) _ [some (zr (n1)), some (zr (x1)), some (zr (gR h2 x1 6)), none, some (zr (0)), none, none] _ _ _ _
    exact zP.weak (ls' := [some (zr (n1)), none, some (zr (gR h2 x1 6)), none, some (zr (0)), none, none]) (zle rfl) (zsub_so (zsub_no (zsub_so (zsub_no (zsub_so (zsub_no (zsub_no zsub_nil))))))) H
theorem b_J41_balanceDeletion_222 {s0 : zE} {d : Nat} {x0 : Nat} {x2 : Nat} {x4 : Nat} {h : zH} {Q : Value → zH → Prop} {E : Nat → zH → Prop} (H : (x4 = 0 → (zP s0 m_J41_balanceDeletion (d + 1) 261 [some (zr (x0)), none, some (zr (x2)), none, none, none, none] [] h Q E)) ∧ (¬ x4 = 0 → ((¬ x2 = 0 → ((fI h x2 [63] 10) ∧ (zP s0 m_J41_balanceDeletion (d + 1) 241 [some (zr (x0)), none, some (zr (x2)), none, some (zr (x4)), none, none] [.int (gI h x2 10), zr (x4)] h Q E))) ∧ (x2 = 0 → (zP s0 m_J41_balanceDeletion (d + 1) 241 [some (zr (x0)), none, some (zr (x2)), none, some (zr (x4)), none, none] [.int (0), zr (x4)] h Q E))))) : zP s0 m_J41_balanceDeletion (d + 1) 222 [some (zr (x0)), none, some (zr (x2)), none, some (zr (x4)), none, none] [] h Q E := by
  refine z_aload (M := m_J41_balanceDeletion) (i := 4) rfl dJ41_balanceDeletion_222 ?_
  refine z_ifnull (M := m_J41_balanceDeletion) 261 rfl dJ41_balanceDeletion_224 (fun hc => ?_) (fun hc => ?_)
  · have H := H.1 hc
    exact zP.weak (ls' := [some (zr (x0)), none, some (zr (x2)), none, none, none, none]) (zle rfl) (zsub_so (zsub_no (zsub_so (zsub_no (zsub_no (zsub_no (zsub_no zsub_nil))))))) H
  · have H := H.2 hc
    refine z_aload (M := m_J41_balanceDeletion) (i := 4) rfl dJ41_balanceDeletion_227 ?_
    refine z_aload_n (M := m_J41_balanceDeletion) (k := 2) rfl dJ41_balanceDeletion_229 ?_
    refine z_ifnonnull (M := m_J41_balanceDeletion) 237 rfl dJ41_balanceDeletion_230 (fun hc => ?_) (fun hc => ?_)
    · have H := H.1 hc
      refine z_aload_n (M := m_J41_balanceDeletion) (k := 2) rfl dJ41_balanceDeletion_237 ?_
      obtain ⟨g, H⟩ := H
      refine z_get (M := m_J41_balanceDeletion) f_J41_93 dJ41_balanceDeletion_238 g ?_
      exact H
    · have H := H.2 hc
      refine z_iconst (M := m_J41_balanceDeletion) (v := 0) (by decide) dJ41_balanceDeletion_233 ?_
      refine z_goto (M := m_J41_balanceDeletion) 241 rfl dJ41_balanceDeletion_234 ?_
      exact H
theorem b_J41_balanceDeletion_241 {s0 : zE} {d : Nat} {x0 : Nat} {x2 : Nat} {x4 : Nat} {t0 : Nat} {t1 : Int32} {h : zH} {Q : Value → zH → Prop} {E : Nat → zH → Prop} (H : (t1 = 0 ∨ t1 = 1) ∧ ((fC h t0 63) ∧ (∀ h1, h1 = zput h t0 10 (.int (t1)) → ((fR h1 x4 [63] 8) ∧ ((gR h1 x4 8 = 0 → (zP s0 m_J41_balanceDeletion (d + 1) 261 [some (zr (x0)), none, some (zr (x2)), none, none, none, none] [] h1 Q E)) ∧ (¬ gR h1 x4 8 = 0 → ((fC h1 (gR h1 x4 8) 63) ∧ (∀ h2, h2 = zput h1 (gR h1 x4 8) 10 (.int (0)) → (zP s0 m_J41_balanceDeletion (d + 1) 261 [some (zr (x0)), none, some (zr (x2)), none, none, none, none] [] h2 Q E))))))))) : zP s0 m_J41_balanceDeletion (d + 1) 241 [some (zr (x0)), none, some (zr (x2)), none, some (zr (x4)), none, none] [.int (t1), zr (t0)] h Q E := by
  obtain ⟨gz, H⟩ := H
  obtain ⟨g, H⟩ := H
  refine zz_put (M := m_J41_balanceDeletion) f_J41_93 dJ41_balanceDeletion_241 rfl (fn_63_10) g (ft_63_10 gz) (fun h1 e => ?_)
  have H := H h1 e
  refine z_aload (M := m_J41_balanceDeletion) (i := 4) rfl dJ41_balanceDeletion_244 ?_
  obtain ⟨g, H⟩ := H
  refine z_get (M := m_J41_balanceDeletion) f_J41_42 dJ41_balanceDeletion_246 g ?_
  refine z_dup (M := m_J41_balanceDeletion) (zr_cat _) dJ41_balanceDeletion_249 ?_
  refine z_astore (M := m_J41_balanceDeletion) 6 (zlt rfl) trivial dJ41_balanceDeletion_250 ?_
  show zP s0 m_J41_balanceDeletion (d + 1) _ [some (zr (x0)), none, some (zr (x2)), none, some (zr (x4)), none, some (zr (gR h1 x4 8))] _ _ _ _
  refine z_ifnull (M := m_J41_balanceDeletion) 261 rfl dJ41_balanceDeletion_252 (fun hc => ?_) (fun hc => ?_)
  · have H := H.1 hc
    exact zP.weak (ls' := [some (zr (x0)), none, some (zr (x2)), none, none, none, none]) (zle rfl) (zsub_so (zsub_no (zsub_so (zsub_no (zsub_no (zsub_no (zsub_no zsub_nil))))))) H
  · have H := H.2 hc
    refine z_aload (M := m_J41_balanceDeletion) (i := 6) rfl dJ41_balanceDeletion_255 ?_
    refine z_iconst (M := m_J41_balanceDeletion) (v := 0) (by decide) dJ41_balanceDeletion_257 ?_
    obtain ⟨g, H⟩ := H
    refine zz_put (M := m_J41_balanceDeletion) f_J41_93 dJ41_balanceDeletion_258 rfl (fn_63_10) g (ft_63_10 (Or.inl rfl)) (fun h2 e => ?_)
    have H := H h2 e
    exact zP.weak (ls' := [some (zr (x0)), none, some (zr (x2)), none, none, none, none]) (zle rfl) (zsub_so (zsub_no (zsub_so (zsub_no (zsub_no (zsub_no (zsub_no zsub_nil))))))) H
theorem b_J41_balanceDeletion_261 {s0 : zE} {d : Nat} {x0 : Nat} {x2 : Nat} {h : zH} {Q : Value → zH → Prop} {E : Nat → zH → Prop} (H : (x2 = 0 → (zP s0 m_J41_balanceDeletion (d + 1) 0 [some (zr (x0)), some (zr (x0)), none, none, none, none, none] [] h Q E)) ∧ (¬ x2 = 0 → ((fC h x2 63) ∧ (∀ h1, h1 = zput h x2 10 (.int (0)) → (zX s0 m_J41_rotateLeft d [zr (x0), zr (x2)] h1 (fun v1 h2 => ∃ n1 : Nat, v1 = zr (n1) ∧ (zP s0 m_J41_balanceDeletion (d + 1) 0 [some (zr (n1)), some (zr (n1)), none, none, none, none, none] [] h2 Q E)) E))))) : zP s0 m_J41_balanceDeletion (d + 1) 261 [some (zr (x0)), none, some (zr (x2)), none, none, none, none] [] h Q E := by
  refine z_aload_n (M := m_J41_balanceDeletion) (k := 2) rfl dJ41_balanceDeletion_261 ?_
  refine z_ifnull (M := m_J41_balanceDeletion) 276 rfl dJ41_balanceDeletion_262 (fun hc => ?_) (fun hc => ?_)
  · have H := H.1 hc
    refine z_aload_n (M := m_J41_balanceDeletion) (k := 0) rfl dJ41_balanceDeletion_276 ?_
    refine z_astore_n (M := m_J41_balanceDeletion) (k := 1) 1 rfl (zlt rfl) (zr_cat _) dJ41_balanceDeletion_277 ?_
    show zP s0 m_J41_balanceDeletion (d + 1) _ [some (zr (x0)), some (zr (x0)), some (zr (x2)), none, none, none, none] _ _ _ _
    refine z_goto (M := m_J41_balanceDeletion) 0 rfl dJ41_balanceDeletion_278 ?_
    exact zP.weak (ls' := [some (zr (x0)), some (zr (x0)), none, none, none, none, none]) (zle rfl) (zsub_so (zsub_so (zsub_no (zsub_no (zsub_no (zsub_no (zsub_no zsub_nil))))))) H
  · have H := H.2 hc
    refine z_aload_n (M := m_J41_balanceDeletion) (k := 2) rfl dJ41_balanceDeletion_265 ?_
    refine z_iconst (M := m_J41_balanceDeletion) (v := 0) (by decide) dJ41_balanceDeletion_266 ?_
    obtain ⟨g, H⟩ := H
    refine zz_put (M := m_J41_balanceDeletion) f_J41_93 dJ41_balanceDeletion_267 rfl (fn_63_10) g (ft_63_10 (Or.inl rfl)) (fun h1 e => ?_)
    have H := H h1 e
    refine z_aload_n (M := m_J41_balanceDeletion) (k := 0) rfl dJ41_balanceDeletion_270 ?_
    refine z_aload_n (M := m_J41_balanceDeletion) (k := 2) rfl dJ41_balanceDeletion_271 ?_
    refine z_invS (M := m_J41_balanceDeletion) (a := [zr (x0), zr (x2)]) ok_J41_rotateLeft q2261 q2262 dJ41_balanceDeletion_272 (Nat.le_refl _) (Nat.zero_le _) rfl H (fun v1 h2 H => ?_) (fun n9 h9 H => zPx.out rfl H)
    obtain ⟨n1, rfl, H⟩ := H
    show zP s0 m_J41_balanceDeletion (d + 1) _ _ [zr (n1)] _ _ _
    refine z_astore_n (M := m_J41_balanceDeletion) (k := 0) 0 rfl (zlt rfl) trivial dJ41_balanceDeletion_275 ?_
    show zP s0 m_J41_balanceDeletion (d + 1) _ [some (zr (n1)), none, some (zr (x2)), none, none, none, none] _ _ _ _
    refine z_aload_n (M := m_J41_balanceDeletion) (k := 0) rfl dJ41_balanceDeletion_276 ?_
    refine z_astore_n (M := m_J41_balanceDeletion) (k := 1) 1 rfl (zlt rfl) (zr_cat _) dJ41_balanceDeletion_277 ?_
    show zP s0 m_J41_balanceDeletion (d + 1) _ [some (zr (n1)), some (zr (n1)), some (zr (x2)), none, none, none, none] _ _ _ _
    refine z_goto (M := m_J41_balanceDeletion) 0 rfl dJ41_balanceDeletion_278 ?_
    exact zP.weak (ls' := [some (zr (n1)), some (zr (n1)), none, none, none, none, none]) (zle rfl) (zsub_so (zsub_so (zsub_no (zsub_no (zsub_no (zsub_no (zsub_no zsub_nil))))))) H
theorem b_J41_balanceDeletion_326 {s0 : zE} {d : Nat} {x0 : Nat} {x1 : Nat} {x2 : Nat} {x3 : Nat} {h : zH} {Q : Value → zH → Prop} {E : Nat → zH → Prop} (H : (¬ x3 = 0 → ((fR h x3 [63] 7) ∧ ((fR h x3 [63] 8) ∧ ((gR h x3 7 = 0 → (zP s0 m_J41_balanceDeletion (d + 1) 360 [some (zr (x0)), some (zr (x1)), some (zr (x2)), some (zr (x3)), none, some (zr (gR h x3 7)), some (zr (gR h x3 8))] [] h Q E)) ∧ (¬ gR h x3 7 = 0 → ((fI h (gR h x3 7) [63] 10) ∧ ((¬ gI h (gR h x3 7) 10 = 0 → (zP s0 m_J41_balanceDeletion (d + 1) 383 [some (zr (x0)), some (zr (x1)), some (zr (x2)), some (zr (x3)), none, some (zr (gR h x3 7)), some (zr (gR h x3 8))] [] h Q E)) ∧ (gI h (gR h x3 7) 10 = 0 → (zP s0 m_J41_balanceDeletion (d + 1) 360 [some (zr (x0)), some (zr (x1)), some (zr (x2)), some (zr (x3)), none, some (zr (gR h x3 7)), some (zr (gR h x3 8))] [] h Q E))))))))) ∧ (x3 = 0 → (zP s0 m_J41_balanceDeletion (d + 1) 0 [some (zr (x0)), some (zr (x2)), none, none, none, none, none] [] h Q E))) : zP s0 m_J41_balanceDeletion (d + 1) 326 [some (zr (x0)), some (zr (x1)), some (zr (x2)), some (zr (x3)), none, none, none] [] h Q E := by
  refine z_aload_n (M := m_J41_balanceDeletion) (k := 3) rfl dJ41_balanceDeletion_326 ?_
  refine z_ifnonnull (M := m_J41_balanceDeletion) 335 rfl dJ41_balanceDeletion_327 (fun hc => ?_) (fun hc => ?_)
  · have H := H.1 hc
    refine z_aload_n (M := m_J41_balanceDeletion) (k := 3) rfl dJ41_balanceDeletion_335 ?_
    obtain ⟨g, H⟩ := H
    refine z_get (M := m_J41_balanceDeletion) f_J41_39 dJ41_balanceDeletion_336 g ?_
    refine z_astore (M := m_J41_balanceDeletion) 5 (zlt rfl) trivial dJ41_balanceDeletion_339 ?_
    show zP s0 m_J41_balanceDeletion (d + 1) _ [some (zr (x0)), some (zr (x1)), some (zr (x2)), some (zr (x3)), none, some (zr (gR h x3 7)), none] _ _ _ _
    refine z_aload_n (M := m_J41_balanceDeletion) (k := 3) rfl dJ41_balanceDeletion_341 ?_
    obtain ⟨g, H⟩ := H
    refine z_get (M := m_J41_balanceDeletion) f_J41_42 dJ41_balanceDeletion_342 g ?_
    refine z_astore (M := m_J41_balanceDeletion) 6 (zlt rfl) (zr_cat _) dJ41_balanceDeletion_345 ?_
    show zP s0 m_J41_balanceDeletion (d + 1) _ [some (zr (x0)), some (zr (x1)), some (zr (x2)), some (zr (x3)), none, some (zr (gR h x3 7)), some (zr (gR h x3 8))] _ _ _ _
    refine z_aload (M := m_J41_balanceDeletion) (i := 5) rfl dJ41_balanceDeletion_347 ?_
    refine z_ifnull (M := m_J41_balanceDeletion) 360 rfl dJ41_balanceDeletion_349 (fun hc => ?_) (fun hc => ?_)
    · have H := H.1 hc
      exact H
    · have H := H.2 hc
      refine z_aload (M := m_J41_balanceDeletion) (i := 5) rfl dJ41_balanceDeletion_352 ?_
      obtain ⟨g, H⟩ := H
      refine z_get (M := m_J41_balanceDeletion) f_J41_93 dJ41_balanceDeletion_354 g ?_
      refine z_ifne (M := m_J41_balanceDeletion) 383 rfl dJ41_balanceDeletion_357 (fun hc => ?_) (fun hc => ?_)
      · have H := H.1 hc
        exact H
      · have H := H.2 hc
        exact H
  · have H := H.2 hc
    refine z_aload_n (M := m_J41_balanceDeletion) (k := 2) rfl dJ41_balanceDeletion_330 ?_
    refine z_astore_n (M := m_J41_balanceDeletion) (k := 1) 1 rfl (zlt rfl) (zr_cat _) dJ41_balanceDeletion_331 ?_
    show zP s0 m_J41_balanceDeletion (d + 1) _ [some (zr (x0)), some (zr (x2)), some (zr (x2)), some (zr (x3)), none, none, none] _ _ _ _
    refine z_goto (M := m_J41_balanceDeletion) 0 rfl dJ41_balanceDeletion_332 ?_
    exact zP.weak (ls' := [some (zr (x0)), some (zr (x2)), none, none, none, none, none]) (zle rfl) (zsub_so (zsub_so (zsub_no (zsub_no (zsub_no (zsub_no (zsub_no zsub_nil))))))) H
theorem b_J41_balanceDeletion_360 {s0 : zE} {d : Nat} {x0 : Nat} {x1 : Nat} {x2 : Nat} {x3 : Nat} {x5 : Nat} {x6 : Nat} {h : zH} {Q : Value → zH → Prop} {E : Nat → zH → Prop} (H : (x6 = 0 → ((fC h x3 63) ∧ (∀ h1, h1 = zput h x3 10 (.int (1)) → (zP s0 m_J41_balanceDeletion (d + 1) 0 [some (zr (x0)), some (zr (x2)), none, none, none, none, none] [] h1 Q E)))) ∧ (¬ x6 = 0 → ((fI h x6 [63] 10) ∧ ((¬ gI h x6 10 = 0 → (zP s0 m_J41_balanceDeletion (d + 1) 383 [some (zr (x0)), some (zr (x1)), some (zr (x2)), some (zr (x3)), none, some (zr (x5)), some (zr (x6))] [] h Q E)) ∧ (gI h x6 10 = 0 → ((fC h x3 63) ∧ (∀ h2, h2 = zput h x3 10 (.int (1)) → (zP s0 m_J41_balanceDeletion (d + 1) 0 [some (zr (x0)), some (zr (x2)), none, none, none, none, none] [] h2 Q E)))))))) : zP s0 m_J41_balanceDeletion (d + 1) 360 [some (zr (x0)), some (zr (x1)), some (zr (x2)), some (zr (x3)), none, some (zr (x5)), some (zr (x6))] [] h Q E := by
  refine z_aload (M := m_J41_balanceDeletion) (i := 6) rfl dJ41_balanceDeletion_360 ?_
  refine z_ifnull (M := m_J41_balanceDeletion) 373 rfl dJ41_balanceDeletion_362 (fun hc => ?_) (fun hc => ?_)
  · have H := H.1 hc
    refine z_aload_n (M := m_J41_balanceDeletion) (k := 3) rfl dJ41_balanceDeletion_373 ?_
    refine z_iconst (M := m_J41_balanceDeletion) (v := 1) (by decide) dJ41_balanceDeletion_374 ?_
    obtain ⟨g, H⟩ := H
    refine zz_put (M := m_J41_balanceDeletion) f_J41_93 dJ41_balanceDeletion_375 rfl (fn_63_10) g (ft_63_10 (Or.inr rfl)) (fun h1 e => ?_)
    have H := H h1 e
    refine z_aload_n (M := m_J41_balanceDeletion) (k := 2) rfl dJ41_balanceDeletion_378 ?_
    refine z_astore_n (M := m_J41_balanceDeletion) (k := 1) 1 rfl (zlt rfl) (zr_cat _) dJ41_balanceDeletion_379 ?_
    show zP s0 m_J41_balanceDeletion (d + 1) _ [some (zr (x0)), some (zr (x2)), some (zr (x2)), some (zr (x3)), none, some (zr (x5)), some (zr (x6))] _ _ _ _
    refine z_goto (M := m_J41_balanceDeletion) 489 rfl dJ41_balanceDeletion_380 ?_
    refine z_goto (M := m_J41_balanceDeletion) 0 rfl dJ41_balanceDeletion_489 ?_
    exact zP.weak (ls' := [some (zr (x0)), some (zr (x2)), none, none, none, none, none]) (zle rfl) (zsub_so (zsub_so (zsub_no (zsub_no (zsub_no (zsub_no (zsub_no zsub_nil))))))) H
  · have H := H.2 hc
    refine z_aload (M := m_J41_balanceDeletion) (i := 6) rfl dJ41_balanceDeletion_365 ?_
    obtain ⟨g, H⟩ := H
    refine z_get (M := m_J41_balanceDeletion) f_J41_93 dJ41_balanceDeletion_367 g ?_
    refine z_ifne (M := m_J41_balanceDeletion) 383 rfl dJ41_balanceDeletion_370 (fun hc => ?_) (fun hc => ?_)
    · have H := H.1 hc
      exact H
    · have H := H.2 hc
      refine z_aload_n (M := m_J41_balanceDeletion) (k := 3) rfl dJ41_balanceDeletion_373 ?_
      refine z_iconst (M := m_J41_balanceDeletion) (v := 1) (by decide) dJ41_balanceDeletion_374 ?_
      obtain ⟨g, H⟩ := H
      refine zz_put (M := m_J41_balanceDeletion) f_J41_93 dJ41_balanceDeletion_375 rfl (fn_63_10) g (ft_63_10 (Or.inr rfl)) (fun h2 e => ?_)
      have H := H h2 e
      refine z_aload_n (M := m_J41_balanceDeletion) (k := 2) rfl dJ41_balanceDeletion_378 ?_
      refine z_astore_n (M := m_J41_balanceDeletion) (k := 1) 1 rfl (zlt rfl) (zr_cat _) dJ41_balanceDeletion_379 ?_
      show zP s0 m_J41_balanceDeletion (d + 1) _ [some (zr (x0)), some (zr (x2)), some (zr (x2)), some (zr (x3)), none, some (zr (x5)), some (zr (x6))] _ _ _ _
      refine z_goto (M := m_J41_balanceDeletion) 489 rfl dJ41_balanceDeletion_380 ?_
      refine z_goto (M := m_J41_balanceDeletion) 0 rfl dJ41_balanceDeletion_489 ?_
      exact zP.weak (ls' := [some (zr (x0)), some (zr (x2)), none, none, none, none, none]) (zle rfl) (zsub_so (zsub_so (zsub_no (zsub_no (zsub_no (zsub_no (zsub_no zsub_nil))))))) H
theorem b_J41_balanceDeletion_383 {s0 : zE} {d : Nat} {x0 : Nat} {x1 : Nat} {x2 : Nat} {x3 : Nat} {x5 : Nat} {x6 : Nat} {h : zH} {Q : Value → zH → Prop} {E : Nat → zH → Prop} (H : (x5 = 0 → (zP s0 m_J41_balanceDeletion (d + 1) 396 [some (zr (x0)), some (zr (x1)), none, some (zr (x3)), none, none, some (zr (x6))] [] h Q E)) ∧ (¬ x5 = 0 → ((fI h x5 [63] 10) ∧ ((¬ gI h x5 10 = 0 → (zP s0 m_J41_balanceDeletion (d + 1) 436 [some (zr (x0)), none, some (zr (x2)), some (zr (x3)), none, none, none] [] h Q E)) ∧ (gI h x5 10 = 0 → (zP s0 m_J41_balanceDeletion (d + 1) 396 [some (zr (x0)), some (zr (x1)), none, some (zr (x3)), none, none, some (zr (x6))] [] h Q E)))))) : zP s0 m_J41_balanceDeletion (d + 1) 383 [some (zr (x0)), some (zr (x1)), some (zr (x2)), some (zr (x3)), none, some (zr (x5)), some (zr (x6))] [] h Q E := by
  refine z_aload (M := m_J41_balanceDeletion) (i := 5) rfl dJ41_balanceDeletion_383 ?_
  refine z_ifnull (M := m_J41_balanceDeletion) 396 rfl dJ41_balanceDeletion_385 (fun hc => ?_) (fun hc => ?_)
  · have H := H.1 hc
    exact zP.weak (ls' := [some (zr (x0)), some (zr (x1)), none, some (zr (x3)), none, none, some (zr (x6))]) (zle rfl) (zsub_so (zsub_so (zsub_no (zsub_so (zsub_no (zsub_no (zsub_so zsub_nil))))))) H
  · have H := H.2 hc
    refine z_aload (M := m_J41_balanceDeletion) (i := 5) rfl dJ41_balanceDeletion_388 ?_
    obtain ⟨g, H⟩ := H
    refine z_get (M := m_J41_balanceDeletion) f_J41_93 dJ41_balanceDeletion_390 g ?_
    refine z_ifne (M := m_J41_balanceDeletion) 436 rfl dJ41_balanceDeletion_393 (fun hc => ?_) (fun hc => ?_)
    · have H := H.1 hc
      exact zP.weak (ls' := [some (zr (x0)), none, some (zr (x2)), some (zr (x3)), none, none, none]) (zle rfl) (zsub_so (zsub_no (zsub_so (zsub_so (zsub_no (zsub_no (zsub_no zsub_nil))))))) H
    · have H := H.2 hc
      exact zP.weak (ls' := [some (zr (x0)), some (zr (x1)), none, some (zr (x3)), none, none, some (zr (x6))]) (zle rfl) (zsub_so (zsub_so (zsub_no (zsub_so (zsub_no (zsub_no (zsub_so zsub_nil))))))) H
theorem b_J41_balanceDeletion_396 {s0 : zE} {d : Nat} {x0 : Nat} {x1 : Nat} {x3 : Nat} {x6 : Nat} {h : zH} {Q : Value → zH → Prop} {E : Nat → zH → Prop} (H : (x6 = 0 → (zP s0 m_J41_balanceDeletion (d + 1) 407 [some (zr (x0)), some (zr (x1)), none, some (zr (x3)), none, none, none] [] h Q E)) ∧ (¬ x6 = 0 → ((fC h x6 63) ∧ (∀ h1, h1 = zput h x6 10 (.int (0)) → (zP s0 m_J41_balanceDeletion (d + 1) 407 [some (zr (x0)), some (zr (x1)), none, some (zr (x3)), none, none, none] [] h1 Q E))))) : zP s0 m_J41_balanceDeletion (d + 1) 396 [some (zr (x0)), some (zr (x1)), none, some (zr (x3)), none, none, some (zr (x6))] [] h Q E := by
  refine z_aload (M := m_J41_balanceDeletion) (i := 6) rfl dJ41_balanceDeletion_396 ?_
  refine z_ifnull (M := m_J41_balanceDeletion) 407 rfl dJ41_balanceDeletion_398 (fun hc => ?_) (fun hc => ?_)
  · have H := H.1 hc
    exact zP.weak (ls' := [some (zr (x0)), some (zr (x1)), none, some (zr (x3)), none, none, none]) (zle rfl) (zsub_so (zsub_so (zsub_no (zsub_so (zsub_no (zsub_no (zsub_no zsub_nil))))))) H
  · have H := H.2 hc
    refine z_aload (M := m_J41_balanceDeletion) (i := 6) rfl dJ41_balanceDeletion_401 ?_
    refine z_iconst (M := m_J41_balanceDeletion) (v := 0) (by decide) dJ41_balanceDeletion_403 ?_
    obtain ⟨g, H⟩ := H
    refine zz_put (M := m_J41_balanceDeletion) f_J41_93 dJ41_balanceDeletion_404 rfl (fn_63_10) g (ft_63_10 (Or.inl rfl)) (fun h1 e => ?_)
    have H := H h1 e
    exact zP.weak (ls' := [some (zr (x0)), some (zr (x1)), none, some (zr (x3)), none, none, none]) (zle rfl) (zsub_so (zsub_so (zsub_no (zsub_so (zsub_no (zsub_no (zsub_no zsub_nil))))))) H
theorem b_J41_balanceDeletion_407 {s0 : zE} {d : Nat} {x0 : Nat} {x1 : Nat} {x3 : Nat} {h : zH} {Q : Value → zH → Prop} {E : Nat → zH → Prop} (H : (fC h x3 63) ∧ (∀ h1, h1 = zput h x3 10 (.int (1)) → (zX s0 m_J41_rotateLeft d [zr (x0), zr (x3)] h1 (fun v1 h2 => ∃ n1 : Nat, v1 = zr (n1) ∧ ((fR h2 x1 [63] 6) ∧ ((¬ gR h2 x1 6 = 0 → ((fR h2 (gR h2 x1 6) [63] 7) ∧ (zP s0 m_J41_balanceDeletion (d + 1) 436 [some (zr (n1)), none, some (zr (gR h2 x1 6)), some (zr (gR h2 (gR h2 x1 6) 7)), none, none, none] [] h2 Q E))) ∧ (gR h2 x1 6 = 0 → (zP s0 m_J41_balanceDeletion (d + 1) 436 [some (zr (n1)), none, some (zr (gR h2 x1 6)), some (zr (0)), none, none, none] [] h2 Q E))))) E))) : zP s0 m_J41_balanceDeletion (d + 1) 407 [some (zr (x0)), some (zr (x1)), none, some (zr (x3)), none, none, none] [] h Q E := by
  refine z_aload_n (M := m_J41_balanceDeletion) (k := 3) rfl dJ41_balanceDeletion_407 ?_
  refine z_iconst (M := m_J41_balanceDeletion) (v := 1) (by decide) dJ41_balanceDeletion_408 ?_
  obtain ⟨g, H⟩ := H
  refine zz_put (M := m_J41_balanceDeletion) f_J41_93 dJ41_balanceDeletion_409 rfl (fn_63_10) g (ft_63_10 (Or.inr rfl)) (fun h1 e => ?_)
  have H := H h1 e
  refine z_aload_n (M := m_J41_balanceDeletion) (k := 0) rfl dJ41_balanceDeletion_412 ?_
  refine z_aload_n (M := m_J41_balanceDeletion) (k := 3) rfl dJ41_balanceDeletion_413 ?_
  refine z_invS (M := m_J41_balanceDeletion) (a := [zr (x0), zr (x3)]) ok_J41_rotateLeft q2261 q2262 dJ41_balanceDeletion_414 (Nat.le_refl _) (Nat.zero_le _) rfl H (fun v1 h2 H => ?_) (fun n9 h9 H => zPx.out rfl H)
  obtain ⟨n1, rfl, H⟩ := H
  show zP s0 m_J41_balanceDeletion (d + 1) _ _ [zr (n1)] _ _ _
  refine z_astore_n (M := m_J41_balanceDeletion) (k := 0) 0 rfl (zlt rfl) trivial dJ41_balanceDeletion_417 ?_
  show zP s0 m_J41_balanceDeletion (d + 1) _ [some (zr (n1)), some (zr (x1)), none, some (zr (x3)), none, none, none] _ _ _ _
  refine z_aload_n (M := m_J41_balanceDeletion) (k := 1) rfl dJ41_balanceDeletion_418 ?_
  obtain ⟨g, H⟩ := H
  refine z_get (M := m_J41_balanceDeletion) f_J41_9 dJ41_balanceDeletion_419 g ?_
  refine z_dup (M := m_J41_balanceDeletion) (zr_cat _) dJ41_balanceDeletion_422 ?_
  refine z_astore_n (M := m_J41_balanceDeletion) (k := 2) 2 rfl (zlt rfl) (zr_cat _) dJ41_balanceDeletion_423 ?_
  show zP s0 m_J41_balanceDeletion (d + 1) _ [some (zr (n1)), some (zr (x1)), some (zr (gR h2 x1 6)), some (zr (x3)), none, none, none] _ _ _ _
  refine z_ifnonnull (M := m_J41_balanceDeletion) 431 rfl dJ41_balanceDeletion_424 (fun hc => ?_) (fun hc => ?_)
  · have H := H.1 hc
    refine z_aload_n (M := m_J41_balanceDeletion) (k := 2) rfl dJ41_balanceDeletion_431 ?_
    obtain ⟨g, H⟩ := H
    refine z_get (M := m_J41_balanceDeletion) f_J41_39 dJ41_balanceDeletion_432 g ?_
    refine z_astore_n (M := m_J41_balanceDeletion) (k := 3) 3 rfl (zlt rfl) (zr_cat _) dJ41_balanceDeletion_435 ?_
    show zP s0 m_J41_balanceDeletion (d + 1) _ [some (zr (n1)), some (zr (x1)), some (zr (gR h2 x1 6)), some (zr (gR h2 (gR h2 x1 6) 7)), none, none, none] _ _ _ _
    exact zP.weak (ls' := [some (zr (n1)), none, some (zr (gR h2 x1 6)), some (zr (gR h2 (gR h2 x1 6) 7)), none, none, none]) (zle rfl) (zsub_so (zsub_no (zsub_so (zsub_so (zsub_no (zsub_no (zsub_no zsub_nil))))))) H
  · have H := H.2 hc
    refine z_null (M := m_J41_balanceDeletion) dJ41_balanceDeletion_427 ?_
    refine z_goto (M := m_J41_balanceDeletion) 435 rfl dJ41_balanceDeletion_428 ?_
    refine z_astore_n (M := m_J41_balanceDeletion) (k := 3) 3 rfl (zlt rfl) (zr_cat _) dJ41_balanceDeletion_435 ?_
    show zP s0 m_J41_balanceDeletion (d + 1) _ [some (zr (n1)), some (zr (x1)), some (zr (gR h2 x1 6)), some (zr (0)), none, none, none] _ _ _ _
    exact zP.weak (ls' := [some (zr (n1)), none, some (zr (gR h2 x1 6)), some (zr (0)), none, none, none]) (zle rfl) (zsub_so (zsub_no (zsub_so (zsub_so (zsub_no (zsub_no (zsub_no zsub_nil))))))) H
theorem b_J41_balanceDeletion_436 {s0 : zE} {d : Nat} {x0 : Nat} {x2 : Nat} {x3 : Nat} {h : zH} {Q : Value → zH → Prop} {E : Nat → zH → Prop} (H : (x3 = 0 → (zP s0 m_J41_balanceDeletion (d + 1) 472 [some (zr (x0)), none, some (zr (x2)), none, none, none, none] [] h Q E)) ∧ (¬ x3 = 0 → ((¬ x2 = 0 → ((fI h x2 [63] 10) ∧ (zP s0 m_J41_balanceDeletion (d + 1) 453 [some (zr (x0)), none, some (zr (x2)), some (zr (x3)), none, none, none] [.int (gI h x2 10), zr (x3)] h Q E))) ∧ (x2 = 0 → (zP s0 m_J41_balanceDeletion (d + 1) 453 [some (zr (x0)), none, some (zr (x2)), some (zr (x3)), none, none, none] [.int (0), zr (x3)] h Q E))))) : zP s0 m_J41_balanceDeletion (d + 1) 436 [some (zr (x0)), none, some (zr (x2)), some (zr (x3)), none, none, none] [] h Q E := by
  refine z_aload_n (M := m_J41_balanceDeletion) (k := 3) rfl dJ41_balanceDeletion_436 ?_
  refine z_ifnull (M := m_J41_balanceDeletion) 472 rfl dJ41_balanceDeletion_437 (fun hc => ?_) (fun hc => ?_)
  · have H := H.1 hc
    exact zP.weak (ls' := [some (zr (x0)), none, some (zr (x2)), none, none, none, none]) (zle rfl) (zsub_so (zsub_no (zsub_so (zsub_no (zsub_no (zsub_no (zsub_no zsub_nil))))))) H
  · have H := H.2 hc
    refine z_aload_n (M := m_J41_balanceDeletion) (k := 3) rfl dJ41_balanceDeletion_440 ?_
    refine z_aload_n (M := m_J41_balanceDeletion) (k := 2) rfl dJ41_balanceDeletion_441 ?_
    refine z_ifnonnull (M := m_J41_balanceDeletion) 449 rfl dJ41_balanceDeletion_442 (fun hc => ?_) (fun hc => ?_)
    · have H := H.1 hc
      refine z_aload_n (M := m_J41_balanceDeletion) (k := 2) rfl dJ41_balanceDeletion_449 ?_
      obtain ⟨g, H⟩ := H
      refine z_get (M := m_J41_balanceDeletion) f_J41_93 dJ41_balanceDeletion_450 g ?_
      exact H
    · have H := H.2 hc
      refine z_iconst (M := m_J41_balanceDeletion) (v := 0) (by decide) dJ41_balanceDeletion_445 ?_
      refine z_goto (M := m_J41_balanceDeletion) 453 rfl dJ41_balanceDeletion_446 ?_
      exact H
theorem b_J41_balanceDeletion_453 {s0 : zE} {d : Nat} {x0 : Nat} {x2 : Nat} {x3 : Nat} {t0 : Nat} {t1 : Int32} {h : zH} {Q : Value → zH → Prop} {E : Nat → zH → Prop} (H : (t1 = 0 ∨ t1 = 1) ∧ ((fC h t0 63) ∧ (∀ h1, h1 = zput h t0 10 (.int (t1)) → ((fR h1 x3 [63] 7) ∧ ((gR h1 x3 7 = 0 → (zP s0 m_J41_balanceDeletion (d + 1) 472 [some (zr (x0)), none, some (zr (x2)), none, none, none, none] [] h1 Q E)) ∧ (¬ gR h1 x3 7 = 0 → ((fC h1 (gR h1 x3 7) 63) ∧ (∀ h2, h2 = zput h1 (gR h1 x3 7) 10 (.int (0)) → (zP s0 m_J41_balanceDeletion (d + 1) 472 [some (zr (x0)), none, some (zr (x2)), none, none, none, none] [] h2 Q E))))))))) : zP s0 m_J41_balanceDeletion (d + 1) 453 [some (zr (x0)), none, some (zr (x2)), some (zr (x3)), none, none, none] [.int (t1), zr (t0)] h Q E := by
  obtain ⟨gz, H⟩ := H
  obtain ⟨g, H⟩ := H
  refine zz_put (M := m_J41_balanceDeletion) f_J41_93 dJ41_balanceDeletion_453 rfl (fn_63_10) g (ft_63_10 gz) (fun h1 e => ?_)
  have H := H h1 e
  refine z_aload_n (M := m_J41_balanceDeletion) (k := 3) rfl dJ41_balanceDeletion_456 ?_
  obtain ⟨g, H⟩ := H
  refine z_get (M := m_J41_balanceDeletion) f_J41_39 dJ41_balanceDeletion_457 g ?_
  refine z_dup (M := m_J41_balanceDeletion) (zr_cat _) dJ41_balanceDeletion_460 ?_
  refine z_astore (M := m_J41_balanceDeletion) 5 (zlt rfl) trivial dJ41_balanceDeletion_461 ?_
  show zP s0 m_J41_balanceDeletion (d + 1) _ [some (zr (x0)), none, some (zr (x2)), some (zr (x3)), none, some (zr (gR h1 x3 7)), none] _ _ _ _
  refine z_ifnull (M := m_J41_balanceDeletion) 472 rfl dJ41_balanceDeletion_463 (fun hc => ?_) (fun hc => ?_)
  · have H := H.1 hc
    exact zP.weak (ls' := [some (zr (x0)), none, some (zr (x2)), none, none, none, none]) (zle rfl) (zsub_so (zsub_no (zsub_so (zsub_no (zsub_no (zsub_no (zsub_no zsub_nil))))))) H
  · have H := H.2 hc
    refine z_aload (M := m_J41_balanceDeletion) (i := 5) rfl dJ41_balanceDeletion_466 ?_
    refine z_iconst (M := m_J41_balanceDeletion) (v := 0) (by decide) dJ41_balanceDeletion_468 ?_
    obtain ⟨g, H⟩ := H
    refine zz_put (M := m_J41_balanceDeletion) f_J41_93 dJ41_balanceDeletion_469 rfl (fn_63_10) g (ft_63_10 (Or.inl rfl)) (fun h2 e => ?_)
    have H := H h2 e
    exact zP.weak (ls' := [some (zr (x0)), none, some (zr (x2)), none, none, none, none]) (zle rfl) (zsub_so (zsub_no (zsub_so (zsub_no (zsub_no (zsub_no (zsub_no zsub_nil))))))) H
theorem b_J41_balanceDeletion_472 {s0 : zE} {d : Nat} {x0 : Nat} {x2 : Nat} {h : zH} {Q : Value → zH → Prop} {E : Nat → zH → Prop} (H : (x2 = 0 → (zP s0 m_J41_balanceDeletion (d + 1) 0 [some (zr (x0)), some (zr (x0)), none, none, none, none, none] [] h Q E)) ∧ (¬ x2 = 0 → ((fC h x2 63) ∧ (∀ h1, h1 = zput h x2 10 (.int (0)) → (zX s0 m_J41_rotateRight d [zr (x0), zr (x2)] h1 (fun v1 h2 => ∃ n1 : Nat, v1 = zr (n1) ∧ (zP s0 m_J41_balanceDeletion (d + 1) 0 [some (zr (n1)), some (zr (n1)), none, none, none, none, none] [] h2 Q E)) E))))) : zP s0 m_J41_balanceDeletion (d + 1) 472 [some (zr (x0)), none, some (zr (x2)), none, none, none, none] [] h Q E := by
  refine z_aload_n (M := m_J41_balanceDeletion) (k := 2) rfl dJ41_balanceDeletion_472 ?_
  refine z_ifnull (M := m_J41_balanceDeletion) 487 rfl dJ41_balanceDeletion_473 (fun hc => ?_) (fun hc => ?_)
  · have H := H.1 hc
    refine z_aload_n (M := m_J41_balanceDeletion) (k := 0) rfl dJ41_balanceDeletion_487 ?_
    refine z_astore_n (M := m_J41_balanceDeletion) (k := 1) 1 rfl (zlt rfl) (zr_cat _) dJ41_balanceDeletion_488 ?_
    show zP s0 m_J41_balanceDeletion (d + 1) _ [some (zr (x0)), some (zr (x0)), some (zr (x2)), none, none, none, none] _ _ _ _
    refine z_goto (M := m_J41_balanceDeletion) 0 rfl dJ41_balanceDeletion_489 ?_
    exact zP.weak (ls' := [some (zr (x0)), some (zr (x0)), none, none, none, none, none]) (zle rfl) (zsub_so (zsub_so (zsub_no (zsub_no (zsub_no (zsub_no (zsub_no zsub_nil))))))) H
  · have H := H.2 hc
    refine z_aload_n (M := m_J41_balanceDeletion) (k := 2) rfl dJ41_balanceDeletion_476 ?_
    refine z_iconst (M := m_J41_balanceDeletion) (v := 0) (by decide) dJ41_balanceDeletion_477 ?_
    obtain ⟨g, H⟩ := H
    refine zz_put (M := m_J41_balanceDeletion) f_J41_93 dJ41_balanceDeletion_478 rfl (fn_63_10) g (ft_63_10 (Or.inl rfl)) (fun h1 e => ?_)
    have H := H h1 e
    refine z_aload_n (M := m_J41_balanceDeletion) (k := 0) rfl dJ41_balanceDeletion_481 ?_
    refine z_aload_n (M := m_J41_balanceDeletion) (k := 2) rfl dJ41_balanceDeletion_482 ?_
    refine z_invS (M := m_J41_balanceDeletion) (a := [zr (x0), zr (x2)]) ok_J41_rotateRight q2264 q2265 dJ41_balanceDeletion_483 (Nat.le_refl _) (Nat.zero_le _) rfl H (fun v1 h2 H => ?_) (fun n9 h9 H => zPx.out rfl H)
    obtain ⟨n1, rfl, H⟩ := H
    show zP s0 m_J41_balanceDeletion (d + 1) _ _ [zr (n1)] _ _ _
    refine z_astore_n (M := m_J41_balanceDeletion) (k := 0) 0 rfl (zlt rfl) trivial dJ41_balanceDeletion_486 ?_
    show zP s0 m_J41_balanceDeletion (d + 1) _ [some (zr (n1)), none, some (zr (x2)), none, none, none, none] _ _ _ _
    refine z_aload_n (M := m_J41_balanceDeletion) (k := 0) rfl dJ41_balanceDeletion_487 ?_
    refine z_astore_n (M := m_J41_balanceDeletion) (k := 1) 1 rfl (zlt rfl) (zr_cat _) dJ41_balanceDeletion_488 ?_
    show zP s0 m_J41_balanceDeletion (d + 1) _ [some (zr (n1)), some (zr (n1)), some (zr (x2)), none, none, none, none] _ _ _ _
    refine z_goto (M := m_J41_balanceDeletion) 0 rfl dJ41_balanceDeletion_489 ?_
    exact zP.weak (ls' := [some (zr (n1)), some (zr (n1)), none, none, none, none, none]) (zle rfl) (zsub_so (zsub_so (zsub_no (zsub_no (zsub_no (zsub_no (zsub_no zsub_nil))))))) H
theorem b_J41_balanceInsertion_0 {s0 : zE} {d : Nat} {x0 : Nat} {x1 : Nat} {h : zH} {Q : Value → zH → Prop} {E : Nat → zH → Prop} (H : (fC h x1 63) ∧ (∀ h1, h1 = zput h x1 10 (.int (1)) → (zP s0 m_J41_balanceInsertion (d + 1) 5 [some (zr (x0)), some (zr (x1)), none, none, none, none] [] h1 Q E))) : zP s0 m_J41_balanceInsertion (d + 1) 0 [some (zr (x0)), some (zr (x1)), none, none, none, none] [] h Q E := by
  refine z_aload_n (M := m_J41_balanceInsertion) (k := 1) rfl dJ41_balanceInsertion_0 ?_
  refine z_iconst (M := m_J41_balanceInsertion) (v := 1) (by decide) dJ41_balanceInsertion_1 ?_
  obtain ⟨g, H⟩ := H
  refine zz_put (M := m_J41_balanceInsertion) f_J41_93 dJ41_balanceInsertion_2 rfl (fn_63_10) g (ft_63_10 (Or.inr rfl)) (fun h1 e => ?_)
  have H := H h1 e
  exact H
theorem c_J41_balanceInsertion {s0 : zE} {d : Nat} {x0 : Nat} {x1 : Nat} {h : zH} {Q : Value → zH → Prop} {E : Nat → zH → Prop} (H : (fC h x1 63) ∧ (∀ h1, h1 = zput h x1 10 (.int (1)) → (zP s0 m_J41_balanceInsertion (d + 1) 5 [some (zr (x0)), some (zr (x1)), none, none, none, none] [] h1 Q E))) : zX s0 m_J41_balanceInsertion (d + 1) [zr (x0), zr (x1)] h Q E := zX.of2 rfl (by decide +kernel) (zlay_r (zlay_r (zlay_n (znoneS (znoneS (znoneS (znoneS znone0))))))) (zle rfl) (b_J41_balanceInsertion_0 H)
theorem b_J41_balanceInsertion_5 {s0 : zE} {d : Nat} {x0 : Nat} {x1 : Nat} {h : zH} {Q : Value → zH → Prop} {E : Nat → zH → Prop} (H : (fR h x1 [63] 6) ∧ ((¬ gR h x1 6 = 0 → ((fI h (gR h x1 6) [63] 10) ∧ ((gI h (gR h x1 6) 10 = 0 → (Q (zr x0) h)) ∧ (¬ gI h (gR h x1 6) 10 = 0 → ((fR h (gR h x1 6) [63] 6) ∧ ((¬ gR h (gR h x1 6) 6 = 0 → ((fR h (gR h (gR h x1 6) 6) [63] 7) ∧ ((¬ gR h x1 6 = gR h (gR h (gR h x1 6) 6) 7 → ((gR h (gR h (gR h x1 6) 6) 7 = 0 → (zP s0 m_J41_balanceInsertion (d + 1) 184 [some (zr (x0)), some (zr (x1)), some (zr (gR h x1 6)), some (zr (gR h (gR h x1 6) 6)), none, none] [] h Q E)) ∧ (¬ gR h (gR h (gR h x1 6) 6) 7 = 0 → ((fI h (gR h (gR h (gR h x1 6) 6) 7) [63] 10) ∧ ((gI h (gR h (gR h (gR h x1 6) 6) 7) 10 = 0 → (zP s0 m_J41_balanceInsertion (d + 1) 184 [some (zr (x0)), some (zr (x1)), some (zr (gR h x1 6)), some (zr (gR h (gR h x1 6) 6)), none, none] [] h Q E)) ∧ (¬ gI h (gR h (gR h (gR h x1 6) 6) 7) 10 = 0 → ((fC h (gR h (gR h (gR h x1 6) 6) 7) 63) ∧ (∀ h1, h1 = zput h (gR h (gR h (gR h x1 6) 6) 7) 10 (.int (0)) → ((fC h1 (gR h x1 6) 63) ∧ (∀ h2, h2 = zput h1 (gR h x1 6) 10 (.int (0)) → ((fC h2 (gR h (gR h x1 6) 6) 63) ∧ (∀ h3, h3 = zput h2 (gR h (gR h x1 6) 6) 10 (.int (1)) → (zP s0 m_J41_balanceInsertion (d + 1) 5 [some (zr (x0)), some (zr (gR h (gR h x1 6) 6)), none, none, none, none] [] h3 Q E))))))))))))) ∧ (gR h x1 6 = gR h (gR h (gR h x1 6) 6) 7 → ((fR h (gR h (gR h x1 6) 6) [63] 8) ∧ ((gR h (gR h (gR h x1 6) 6) 8 = 0 → (zP s0 m_J41_balanceInsertion (d + 1) 89 [some (zr (x0)), some (zr (x1)), some (zr (gR h x1 6)), some (zr (gR h (gR h x1 6) 6)), none, none] [] h Q E)) ∧ (¬ gR h (gR h (gR h x1 6) 6) 8 = 0 → ((fI h (gR h (gR h (gR h x1 6) 6) 8) [63] 10) ∧ ((gI h (gR h (gR h (gR h x1 6) 6) 8) 10 = 0 → (zP s0 m_J41_balanceInsertion (d + 1) 89 [some (zr (x0)), some (zr (x1)), some (zr (gR h x1 6)), some (zr (gR h (gR h x1 6) 6)), none, none] [] h Q E)) ∧ (¬ gI h (gR h (gR h (gR h x1 6) 6) 8) 10 = 0 → ((fC h (gR h (gR h (gR h x1 6) 6) 8) 63) ∧ (∀ h4, h4 = zput h (gR h (gR h (gR h x1 6) 6) 8) 10 (.int (0)) → ((fC h4 (gR h x1 6) 63) ∧ (∀ h5, h5 = zput h4 (gR h x1 6) 10 (.int (0)) → ((fC h5 (gR h (gR h x1 6) 6) 63) ∧ (∀ h6, h6 = zput h5 (gR h (gR h x1 6) 6) 10 (.int (1)) → (zP s0 m_J41_balanceInsertion (d + 1) 5 [some (zr (x0)), some (zr (gR h (gR h x1 6) 6)), none, none, none, none] [] h6 Q E))))))))))))))))) ∧ (gR h (gR h x1 6) 6 = 0 → (Q (zr x0) h)))))))) ∧ (gR h x1 6 = 0 → ((fC h x1 63) ∧ (∀ h7, h7 = zput h x1 10 (.int (0)) → (Q (zr x1) h7)))))) : zP s0 m_J41_balanceInsertion (d + 1) 5 [some (zr (x0)), some (zr (x1)), none, none, none, none] [] h Q E := by
  refine z_aload_n (M := m_J41_balanceInsertion) (k := 1) rfl dJ41_balanceInsertion_5 ?_
  obtain ⟨g, H⟩ := H
  refine z_get (M := m_J41_balanceInsertion) f_J41_9 dJ41_balanceInsertion_6 g ?_
  refine z_dup (M := m_J41_balanceInsertion) (zr_cat _) dJ41_balanceInsertion_9 ?_
  refine z_astore_n (M := m_J41_balanceInsertion) (k := 2) 2 rfl (zlt rfl) (zr_cat _) dJ41_balanceInsertion_10 ?_
  show zP s0 m_J41_balanceInsertion (d + 1) _ [some (zr (x0)), some (zr (x1)), some (zr (gR h x1 6)), none, none, none] _ _ _ _
  refine z_ifnonnull (M := m_J41_balanceInsertion) 21 rfl dJ41_balanceInsertion_11 (fun hc => ?_) (fun hc => ?_)
  · have H := H.1 hc
    refine z_aload_n (M := m_J41_balanceInsertion) (k := 2) rfl dJ41_balanceInsertion_21 ?_
    obtain ⟨g, H⟩ := H
    refine z_get (M := m_J41_balanceInsertion) f_J41_93 dJ41_balanceInsertion_22 g ?_
    refine z_ifeq (M := m_J41_balanceInsertion) 37 rfl dJ41_balanceInsertion_25 (fun hc => ?_) (fun hc => ?_)
    · have H := H.1 hc
      refine z_aload_n (M := m_J41_balanceInsertion) (k := 0) rfl dJ41_balanceInsertion_37 ?_
      exact z_areturn (M := m_J41_balanceInsertion) rfl (Or.inl ⟨_, rfl⟩) dJ41_balanceInsertion_38 H
    · have H := H.2 hc
      refine z_aload_n (M := m_J41_balanceInsertion) (k := 2) rfl dJ41_balanceInsertion_28 ?_
      obtain ⟨g, H⟩ := H
      refine z_get (M := m_J41_balanceInsertion) f_J41_9 dJ41_balanceInsertion_29 g ?_
      refine z_dup (M := m_J41_balanceInsertion) (zr_cat _) dJ41_balanceInsertion_32 ?_
      refine z_astore_n (M := m_J41_balanceInsertion) (k := 3) 3 rfl (zlt rfl) (zr_cat _) dJ41_balanceInsertion_33 ?_
      show zP s0 m_J41_balanceInsertion (d + 1) _ [some (zr (x0)), some (zr (x1)), some (zr (gR h x1 6)), some (zr (gR h (gR h x1 6) 6)), none, none] _ _ _ _
      refine z_ifnonnull (M := m_J41_balanceInsertion) 39 rfl dJ41_balanceInsertion_34 (fun hc => ?_) (fun hc => ?_)
      · have H := H.1 hc
        refine z_aload_n (M := m_J41_balanceInsertion) (k := 2) rfl dJ41_balanceInsertion_39 ?_
        refine z_aload_n (M := m_J41_balanceInsertion) (k := 3) rfl dJ41_balanceInsertion_40 ?_
        obtain ⟨g, H⟩ := H
        refine z_get (M := m_J41_balanceInsertion) f_J41_39 dJ41_balanceInsertion_41 g ?_
        refine z_dup (M := m_J41_balanceInsertion) (zr_cat _) dJ41_balanceInsertion_44 ?_
        refine z_astore (M := m_J41_balanceInsertion) 4 (zlt rfl) (zr_cat _) dJ41_balanceInsertion_45 ?_
        show zP s0 m_J41_balanceInsertion (d + 1) _ [some (zr (x0)), some (zr (x1)), some (zr (gR h x1 6)), some (zr (gR h (gR h x1 6) 6)), some (zr (gR h (gR h (gR h x1 6) 6) 7)), none] _ _ _ _
        refine z_acmpne (M := m_J41_balanceInsertion) 150 rfl dJ41_balanceInsertion_47 (fun hc => ?_) (fun hc => ?_)
        · have H := H.1 hc
          refine z_aload (M := m_J41_balanceInsertion) (i := 4) rfl dJ41_balanceInsertion_150 ?_
          refine z_ifnull (M := m_J41_balanceInsertion) 184 rfl dJ41_balanceInsertion_152 (fun hc => ?_) (fun hc => ?_)
          · have H := H.1 hc
            exact zP.weak (ls' := [some (zr (x0)), some (zr (x1)), some (zr (gR h x1 6)), some (zr (gR h (gR h x1 6) 6)), none, none]) (zle rfl) (zsub_so (zsub_so (zsub_so (zsub_so (zsub_no (zsub_no zsub_nil)))))) H
          · have H := H.2 hc
            refine z_aload (M := m_J41_balanceInsertion) (i := 4) rfl dJ41_balanceInsertion_155 ?_
            obtain ⟨g, H⟩ := H
            refine z_get (M := m_J41_balanceInsertion) f_J41_93 dJ41_balanceInsertion_157 g ?_
            refine z_ifeq (M := m_J41_balanceInsertion) 184 rfl dJ41_balanceInsertion_160 (fun hc => ?_) (fun hc => ?_)
            · have H := H.1 hc
              exact zP.weak (ls' := [some (zr (x0)), some (zr (x1)), some (zr (gR h x1 6)), some (zr (gR h (gR h x1 6) 6)), none, none]) (zle rfl) (zsub_so (zsub_so (zsub_so (zsub_so (zsub_no (zsub_no zsub_nil)))))) H
            · have H := H.2 hc
              refine z_aload (M := m_J41_balanceInsertion) (i := 4) rfl dJ41_balanceInsertion_163 ?_
              refine z_iconst (M := m_J41_balanceInsertion) (v := 0) (by decide) dJ41_balanceInsertion_165 ?_
              obtain ⟨g, H⟩ := H
              refine zz_put (M := m_J41_balanceInsertion) f_J41_93 dJ41_balanceInsertion_166 rfl (fn_63_10) g (ft_63_10 (Or.inl rfl)) (fun h1 e => ?_)
              have H := H h1 e
              refine z_aload_n (M := m_J41_balanceInsertion) (k := 2) rfl dJ41_balanceInsertion_169 ?_
              refine z_iconst (M := m_J41_balanceInsertion) (v := 0) (by decide) dJ41_balanceInsertion_170 ?_
              obtain ⟨g, H⟩ := H
              refine zz_put (M := m_J41_balanceInsertion) f_J41_93 dJ41_balanceInsertion_171 rfl (fn_63_10) g (ft_63_10 (Or.inl rfl)) (fun h2 e => ?_)
              have H := H h2 e
              refine z_aload_n (M := m_J41_balanceInsertion) (k := 3) rfl dJ41_balanceInsertion_174 ?_
              refine z_iconst (M := m_J41_balanceInsertion) (v := 1) (by decide) dJ41_balanceInsertion_175 ?_
              obtain ⟨g, H⟩ := H
              refine zz_put (M := m_J41_balanceInsertion) f_J41_93 dJ41_balanceInsertion_176 rfl (fn_63_10) g (ft_63_10 (Or.inr rfl)) (fun h3 e => ?_)
              have H := H h3 e
              refine z_aload_n (M := m_J41_balanceInsertion) (k := 3) rfl dJ41_balanceInsertion_179 ?_
              refine z_astore_n (M := m_J41_balanceInsertion) (k := 1) 1 rfl (zlt rfl) (zr_cat _) dJ41_balanceInsertion_180 ?_
              show zP s0 m_J41_balanceInsertion (d + 1) _ [some (zr (x0)), some (zr (gR h (gR h x1 6) 6)), some (zr (gR h x1 6)), some (zr (gR h (gR h x1 6) 6)), some (zr (gR h (gR h (gR h x1 6) 6) 7)), none] _ _ _ _
              refine z_goto (M := m_J41_balanceInsertion) 5 rfl dJ41_balanceInsertion_181 ?_
              exact zP.weak (ls' := [some (zr (x0)), some (zr (gR h (gR h x1 6) 6)), none, none, none, none]) (zle rfl) (zsub_so (zsub_so (zsub_no (zsub_no (zsub_no (zsub_no zsub_nil)))))) H
        · have H := H.2 hc
          refine z_aload_n (M := m_J41_balanceInsertion) (k := 3) rfl dJ41_balanceInsertion_50 ?_
          obtain ⟨g, H⟩ := H
          refine z_get (M := m_J41_balanceInsertion) f_J41_42 dJ41_balanceInsertion_51 g ?_
          refine z_dup (M := m_J41_balanceInsertion) (zr_cat _) dJ41_balanceInsertion_54 ?_
          refine z_astore (M := m_J41_balanceInsertion) 5 (zlt rfl) (zr_cat _) dJ41_balanceInsertion_55 ?_
          show zP s0 m_J41_balanceInsertion (d + 1) _ [some (zr (x0)), some (zr (x1)), some (zr (gR h x1 6)), some (zr (gR h (gR h x1 6) 6)), some (zr (gR h (gR h (gR h x1 6) 6) 7)), some (zr (gR h (gR h (gR h x1 6) 6) 8))] _ _ _ _
          refine z_ifnull (M := m_J41_balanceInsertion) 89 rfl dJ41_balanceInsertion_57 (fun hc => ?_) (fun hc => ?_)
          · have H := H.1 hc
            exact zP.weak (ls' := [some (zr (x0)), some (zr (x1)), some (zr (gR h x1 6)), some (zr (gR h (gR h x1 6) 6)), none, none]) (zle rfl) (zsub_so (zsub_so (zsub_so (zsub_so (zsub_no (zsub_no zsub_nil)))))) H
          · have H := H.2 hc
            refine z_aload (M := m_J41_balanceInsertion) (i := 5) rfl dJ41_balanceInsertion_60 ?_
            obtain ⟨g, H⟩ := H
            refine z_get (M := m_J41_balanceInsertion) f_J41_93 dJ41_balanceInsertion_62 g ?_
            refine z_ifeq (M := m_J41_balanceInsertion) 89 rfl dJ41_balanceInsertion_65 (fun hc => ?_) (fun hc => ?_)
            · have H := H.1 hc
              exact zP.weak (ls' := [some (zr (x0)), some (zr (x1)), some (zr (gR h x1 6)), some (zr (gR h (gR h x1 6) 6)), none, none]) (zle rfl) (zsub_so (zsub_so (zsub_so (zsub_so (zsub_no (zsub_no zsub_nil)))))) H
            · have H := H.2 hc
              refine z_aload (M := m_J41_balanceInsertion) (i := 5) rfl dJ41_balanceInsertion_68 ?_
              refine z_iconst (M := m_J41_balanceInsertion) (v := 0) (by decide) dJ41_balanceInsertion_70 ?_
              obtain ⟨g, H⟩ := H
              refine zz_put (M := m_J41_balanceInsertion) f_J41_93 dJ41_balanceInsertion_71 rfl (fn_63_10) g (ft_63_10 (Or.inl rfl)) (fun h4 e => ?_)
              have H := H h4 e
              refine z_aload_n (M := m_J41_balanceInsertion) (k := 2) rfl dJ41_balanceInsertion_74 ?_
              refine z_iconst (M := m_J41_balanceInsertion) (v := 0) (by decide) dJ41_balanceInsertion_75 ?_
              obtain ⟨g, H⟩ := H
              refine zz_put (M := m_J41_balanceInsertion) f_J41_93 dJ41_balanceInsertion_76 rfl (fn_63_10) g (ft_63_10 (Or.inl rfl)) (fun h5 e => ?_)
              have H := H h5 e
              refine z_aload_n (M := m_J41_balanceInsertion) (k := 3) rfl dJ41_balanceInsertion_79 ?_
              refine z_iconst (M := m_J41_balanceInsertion) (v := 1) (by decide) dJ41_balanceInsertion_80 ?_
              obtain ⟨g, H⟩ := H
              refine zz_put (M := m_J41_balanceInsertion) f_J41_93 dJ41_balanceInsertion_81 rfl (fn_63_10) g (ft_63_10 (Or.inr rfl)) (fun h6 e => ?_)
              have H := H h6 e
              refine z_aload_n (M := m_J41_balanceInsertion) (k := 3) rfl dJ41_balanceInsertion_84 ?_
              refine z_astore_n (M := m_J41_balanceInsertion) (k := 1) 1 rfl (zlt rfl) (zr_cat _) dJ41_balanceInsertion_85 ?_
              show zP s0 m_J41_balanceInsertion (d + 1) _ [some (zr (x0)), some (zr (gR h (gR h x1 6) 6)), some (zr (gR h x1 6)), some (zr (gR h (gR h x1 6) 6)), some (zr (gR h (gR h (gR h x1 6) 6) 7)), some (zr (gR h (gR h (gR h x1 6) 6) 8))] _ _ _ _
              refine z_goto (M := m_J41_balanceInsertion) 5 rfl dJ41_balanceInsertion_86 ?_
              exact zP.weak (ls' := [some (zr (x0)), some (zr (gR h (gR h x1 6) 6)), none, none, none, none]) (zle rfl) (zsub_so (zsub_so (zsub_no (zsub_no (zsub_no (zsub_no zsub_nil)))))) H
      · have H := H.2 hc
        refine z_aload_n (M := m_J41_balanceInsertion) (k := 0) rfl dJ41_balanceInsertion_37 ?_
        exact z_areturn (M := m_J41_balanceInsertion) rfl (Or.inl ⟨_, rfl⟩) dJ41_balanceInsertion_38 H
  · have H := H.2 hc
    refine z_aload_n (M := m_J41_balanceInsertion) (k := 1) rfl dJ41_balanceInsertion_14 ?_
    refine z_iconst (M := m_J41_balanceInsertion) (v := 0) (by decide) dJ41_balanceInsertion_15 ?_
    obtain ⟨g, H⟩ := H
    refine zz_put (M := m_J41_balanceInsertion) f_J41_93 dJ41_balanceInsertion_16 rfl (fn_63_10) g (ft_63_10 (Or.inl rfl)) (fun h7 e => ?_)
    have H := H h7 e
    refine z_aload_n (M := m_J41_balanceInsertion) (k := 1) rfl dJ41_balanceInsertion_19 ?_
    exact z_areturn (M := m_J41_balanceInsertion) rfl (Or.inl ⟨_, rfl⟩) dJ41_balanceInsertion_20 H
theorem b_J41_balanceInsertion_89 {s0 : zE} {d : Nat} {x0 : Nat} {x1 : Nat} {x2 : Nat} {x3 : Nat} {h : zH} {Q : Value → zH → Prop} {E : Nat → zH → Prop} (H : (fR h x2 [63] 8) ∧ ((¬ x1 = gR h x2 8 → (zP s0 m_J41_balanceInsertion (d + 1) 123 [some (zr (x0)), some (zr (x1)), some (zr (x2)), some (zr (x3)), none, none] [] h Q E)) ∧ (x1 = gR h x2 8 → (zX s0 m_J41_rotateLeft d [zr (x0), zr (x2)] h (fun v1 h1 => ∃ n1 : Nat, v1 = zr (n1) ∧ ((fR h1 x2 [63] 6) ∧ ((¬ gR h1 x2 6 = 0 → ((fR h1 (gR h1 x2 6) [63] 6) ∧ (zP s0 m_J41_balanceInsertion (d + 1) 123 [some (zr (n1)), some (zr (x2)), some (zr (gR h1 x2 6)), some (zr (gR h1 (gR h1 x2 6) 6)), none, none] [] h1 Q E))) ∧ (gR h1 x2 6 = 0 → (zP s0 m_J41_balanceInsertion (d + 1) 123 [some (zr (n1)), some (zr (x2)), some (zr (gR h1 x2 6)), some (zr (0)), none, none] [] h1 Q E))))) E)))) : zP s0 m_J41_balanceInsertion (d + 1) 89 [some (zr (x0)), some (zr (x1)), some (zr (x2)), some (zr (x3)), none, none] [] h Q E := by
  refine z_aload_n (M := m_J41_balanceInsertion) (k := 1) rfl dJ41_balanceInsertion_89 ?_
  refine z_aload_n (M := m_J41_balanceInsertion) (k := 2) rfl dJ41_balanceInsertion_90 ?_
  obtain ⟨g, H⟩ := H
  refine z_get (M := m_J41_balanceInsertion) f_J41_42 dJ41_balanceInsertion_91 g ?_
  refine z_acmpne (M := m_J41_balanceInsertion) 123 rfl dJ41_balanceInsertion_94 (fun hc => ?_) (fun hc => ?_)
  · have H := H.1 hc
    exact H
  · have H := H.2 hc
    refine z_aload_n (M := m_J41_balanceInsertion) (k := 0) rfl dJ41_balanceInsertion_97 ?_
    refine z_aload_n (M := m_J41_balanceInsertion) (k := 2) rfl dJ41_balanceInsertion_98 ?_
    refine z_dup (M := m_J41_balanceInsertion) (zr_cat _) dJ41_balanceInsertion_99 ?_
    refine z_astore_n (M := m_J41_balanceInsertion) (k := 1) 1 rfl (zlt rfl) (zr_cat _) dJ41_balanceInsertion_100 ?_
    show zP s0 m_J41_balanceInsertion (d + 1) _ [some (zr (x0)), some (zr (x2)), some (zr (x2)), some (zr (x3)), none, none] _ _ _ _
    refine z_invS (M := m_J41_balanceInsertion) (a := [zr (x0), zr (x2)]) ok_J41_rotateLeft q2261 q2262 dJ41_balanceInsertion_101 (Nat.le_refl _) (Nat.zero_le _) rfl H (fun v1 h1 H => ?_) (fun n9 h9 H => zPx.out rfl H)
    obtain ⟨n1, rfl, H⟩ := H
    show zP s0 m_J41_balanceInsertion (d + 1) _ _ [zr (n1)] _ _ _
    refine z_astore_n (M := m_J41_balanceInsertion) (k := 0) 0 rfl (zlt rfl) trivial dJ41_balanceInsertion_104 ?_
    show zP s0 m_J41_balanceInsertion (d + 1) _ [some (zr (n1)), some (zr (x2)), some (zr (x2)), some (zr (x3)), none, none] _ _ _ _
    refine z_aload_n (M := m_J41_balanceInsertion) (k := 1) rfl dJ41_balanceInsertion_105 ?_
    obtain ⟨g, H⟩ := H
    refine z_get (M := m_J41_balanceInsertion) f_J41_9 dJ41_balanceInsertion_106 g ?_
    refine z_dup (M := m_J41_balanceInsertion) (zr_cat _) dJ41_balanceInsertion_109 ?_
    refine z_astore_n (M := m_J41_balanceInsertion) (k := 2) 2 rfl (zlt rfl) (zr_cat _) dJ41_balanceInsertion_110 ?_
    show zP s0 m_J41_balanceInsertion (d + 1) _ [some (zr (n1)), some (zr (x2)), some (zr (gR h1 x2 6)), some (zr (x3)), none, none] _ _ _ _
    refine z_ifnonnull (M := m_J41_balanceInsertion) 118 rfl dJ41_balanceInsertion_111 (fun hc => ?_) (fun hc => ?_)
    · have H := H.1 hc
      refine z_aload_n (M := m_J41_balanceInsertion) (k := 2) rfl dJ41_balanceInsertion_118 ?_
      obtain ⟨g, H⟩ := H
      refine z_get (M := m_J41_balanceInsertion) f_J41_9 dJ41_balanceInsertion_119 g ?_
      refine z_astore_n (M := m_J41_balanceInsertion) (k := 3) 3 rfl (zlt rfl) (zr_cat _) dJ41_balanceInsertion_122 ?_
      show zP s0 m_J41_balanceInsertion (d + 1) _ [some (zr (n1)), some (zr (x2)), some (zr (gR h1 x2 6)), some (zr (gR h1 (gR h1 x2 6) 6)), none, none] _ _ _ _
      exact H
    · have H := H.2 hc
      refine z_null (M := m_J41_balanceInsertion) dJ41_balanceInsertion_114 ?_
      refine z_goto (M := m_J41_balanceInsertion) 122 rfl dJ41_balanceInsertion_115 ?_
      refine z_astore_n (M := m_J41_balanceInsertion) (k := 3) 3 rfl (zlt rfl) (zr_cat _) dJ41_balanceInsertion_122 ?_
      show zP s0 m_J41_balanceInsertion (d + 1) _ [some (zr (n1)), some (zr (x2)), some (zr (gR h1 x2 6)), some (zr (0)), none, none] _ _ _ _
      exact H
theorem b_J41_balanceInsertion_123 {s0 : zE} {d : Nat} {x0 : Nat} {x1 : Nat} {x2 : Nat} {x3 : Nat} {h : zH} {Q : Value → zH → Prop} {E : Nat → zH → Prop} (H : (x2 = 0 → (zP s0 m_J41_balanceInsertion (d + 1) 5 [some (zr (x0)), some (zr (x1)), none, none, none, none] [] h Q E)) ∧ (¬ x2 = 0 → ((fC h x2 63) ∧ (∀ h1, h1 = zput h x2 10 (.int (0)) → ((x3 = 0 → (zP s0 m_J41_balanceInsertion (d + 1) 5 [some (zr (x0)), some (zr (x1)), none, none, none, none] [] h1 Q E)) ∧ (¬ x3 = 0 → ((fC h1 x3 63) ∧ (∀ h2, h2 = zput h1 x3 10 (.int (1)) → (zX s0 m_J41_rotateRight d [zr (x0), zr (x3)] h2 (fun v1 h3 => ∃ n1 : Nat, v1 = zr (n1) ∧ (zP s0 m_J41_balanceInsertion (d + 1) 5 [some (zr (n1)), some (zr (x1)), none, none, none, none] [] h3 Q E)) E))))))))) : zP s0 m_J41_balanceInsertion (d + 1) 123 [some (zr (x0)), some (zr (x1)), some (zr (x2)), some (zr (x3)), none, none] [] h Q E := by
  refine z_aload_n (M := m_J41_balanceInsertion) (k := 2) rfl dJ41_balanceInsertion_123 ?_
  refine z_ifnull (M := m_J41_balanceInsertion) 5 rfl dJ41_balanceInsertion_124 (fun hc => ?_) (fun hc => ?_)
  · have H := H.1 hc
    exact zP.weak (ls' := [some (zr (x0)), some (zr (x1)), none, none, none, none]) (zle rfl) (zsub_so (zsub_so (zsub_no (zsub_no (zsub_no (zsub_no zsub_nil)))))) H
  · have H := H.2 hc
    refine z_aload_n (M := m_J41_balanceInsertion) (k := 2) rfl dJ41_balanceInsertion_127 ?_
    refine z_iconst (M := m_J41_balanceInsertion) (v := 0) (by decide) dJ41_balanceInsertion_128 ?_
    obtain ⟨g, H⟩ := H
    refine zz_put (M := m_J41_balanceInsertion) f_J41_93 dJ41_balanceInsertion_129 rfl (fn_63_10) g (ft_63_10 (Or.inl rfl)) (fun h1 e => ?_)
    have H := H h1 e
    refine z_aload_n (M := m_J41_balanceInsertion) (k := 3) rfl dJ41_balanceInsertion_132 ?_
    refine z_ifnull (M := m_J41_balanceInsertion) 5 rfl dJ41_balanceInsertion_133 (fun hc => ?_) (fun hc => ?_)
    · have H := H.1 hc
      exact zP.weak (ls' := [some (zr (x0)), some (zr (x1)), none, none, none, none]) (zle rfl) (zsub_so (zsub_so (zsub_no (zsub_no (zsub_no (zsub_no zsub_nil)))))) H
    · have H := H.2 hc
      refine z_aload_n (M := m_J41_balanceInsertion) (k := 3) rfl dJ41_balanceInsertion_136 ?_
      refine z_iconst (M := m_J41_balanceInsertion) (v := 1) (by decide) dJ41_balanceInsertion_137 ?_
      obtain ⟨g, H⟩ := H
      refine zz_put (M := m_J41_balanceInsertion) f_J41_93 dJ41_balanceInsertion_138 rfl (fn_63_10) g (ft_63_10 (Or.inr rfl)) (fun h2 e => ?_)
      have H := H h2 e
      refine z_aload_n (M := m_J41_balanceInsertion) (k := 0) rfl dJ41_balanceInsertion_141 ?_
      refine z_aload_n (M := m_J41_balanceInsertion) (k := 3) rfl dJ41_balanceInsertion_142 ?_
      refine z_invS (M := m_J41_balanceInsertion) (a := [zr (x0), zr (x3)]) ok_J41_rotateRight q2264 q2265 dJ41_balanceInsertion_143 (Nat.le_refl _) (Nat.zero_le _) rfl H (fun v1 h3 H => ?_) (fun n9 h9 H => zPx.out rfl H)
      obtain ⟨n1, rfl, H⟩ := H
      show zP s0 m_J41_balanceInsertion (d + 1) _ _ [zr (n1)] _ _ _
      refine z_astore_n (M := m_J41_balanceInsertion) (k := 0) 0 rfl (zlt rfl) trivial dJ41_balanceInsertion_146 ?_
      show zP s0 m_J41_balanceInsertion (d + 1) _ [some (zr (n1)), some (zr (x1)), some (zr (x2)), some (zr (x3)), none, none] _ _ _ _
      refine z_goto (M := m_J41_balanceInsertion) 5 rfl dJ41_balanceInsertion_147 ?_
      exact zP.weak (ls' := [some (zr (n1)), some (zr (x1)), none, none, none, none]) (zle rfl) (zsub_so (zsub_so (zsub_no (zsub_no (zsub_no (zsub_no zsub_nil)))))) H
theorem b_J41_balanceInsertion_184 {s0 : zE} {d : Nat} {x0 : Nat} {x1 : Nat} {x2 : Nat} {x3 : Nat} {h : zH} {Q : Value → zH → Prop} {E : Nat → zH → Prop} (H : (fR h x2 [63] 7) ∧ ((¬ x1 = gR h x2 7 → (zP s0 m_J41_balanceInsertion (d + 1) 218 [some (zr (x0)), some (zr (x1)), some (zr (x2)), some (zr (x3)), none, none] [] h Q E)) ∧ (x1 = gR h x2 7 → (zX s0 m_J41_rotateRight d [zr (x0), zr (x2)] h (fun v1 h1 => ∃ n1 : Nat, v1 = zr (n1) ∧ ((fR h1 x2 [63] 6) ∧ ((¬ gR h1 x2 6 = 0 → ((fR h1 (gR h1 x2 6) [63] 6) ∧ (zP s0 m_J41_balanceInsertion (d + 1) 218 [some (zr (n1)), some (zr (x2)), some (zr (gR h1 x2 6)), some (zr (gR h1 (gR h1 x2 6) 6)), none, none] [] h1 Q E))) ∧ (gR h1 x2 6 = 0 → (zP s0 m_J41_balanceInsertion (d + 1) 218 [some (zr (n1)), some (zr (x2)), some (zr (gR h1 x2 6)), some (zr (0)), none, none] [] h1 Q E))))) E)))) : zP s0 m_J41_balanceInsertion (d + 1) 184 [some (zr (x0)), some (zr (x1)), some (zr (x2)), some (zr (x3)), none, none] [] h Q E := by
  refine z_aload_n (M := m_J41_balanceInsertion) (k := 1) rfl dJ41_balanceInsertion_184 ?_
  refine z_aload_n (M := m_J41_balanceInsertion) (k := 2) rfl dJ41_balanceInsertion_185 ?_
  obtain ⟨g, H⟩ := H
  refine z_get (M := m_J41_balanceInsertion) f_J41_39 dJ41_balanceInsertion_186 g ?_
  refine z_acmpne (M := m_J41_balanceInsertion) 218 rfl dJ41_balanceInsertion_189 (fun hc => ?_) (fun hc => ?_)
  · have H := H.1 hc
    exact H
  · have H := H.2 hc
    refine z_aload_n (M := m_J41_balanceInsertion) (k := 0) rfl dJ41_balanceInsertion_192 ?_
    refine z_aload_n (M := m_J41_balanceInsertion) (k := 2) rfl dJ41_balanceInsertion_193 ?_
    refine z_dup (M := m_J41_balanceInsertion) (zr_cat _) dJ41_balanceInsertion_194 ?_
    refine z_astore_n (M := m_J41_balanceInsertion) (k := 1) 1 rfl (zlt rfl) (zr_cat _) dJ41_balanceInsertion_195 ?_
    show zP s0 m_J41_balanceInsertion (d + 1) _ [some (zr (x0)), some (zr (x2)), some (zr (x2)), some (zr (x3)), none, none] _ _ _ _
    refine z_invS (M := m_J41_balanceInsertion) (a := [zr (x0), zr (x2)]) ok_J41_rotateRight q2264 q2265 dJ41_balanceInsertion_196 (Nat.le_refl _) (Nat.zero_le _) rfl H (fun v1 h1 H => ?_) (fun n9 h9 H => zPx.out rfl H)
    obtain ⟨n1, rfl, H⟩ := H
    show zP s0 m_J41_balanceInsertion (d + 1) _ _ [zr (n1)] _ _ _
    refine z_astore_n (M := m_J41_balanceInsertion) (k := 0) 0 rfl (zlt rfl) trivial dJ41_balanceInsertion_199 ?_
    show zP s0 m_J41_balanceInsertion (d + 1) _ [some (zr (n1)), some (zr (x2)), some (zr (x2)), some (zr (x3)), none, none] _ _ _ _
    refine z_aload_n (M := m_J41_balanceInsertion) (k := 1) rfl dJ41_balanceInsertion_200 ?_
    obtain ⟨g, H⟩ := H
    refine z_get (M := m_J41_balanceInsertion) f_J41_9 dJ41_balanceInsertion_201 g ?_
    refine z_dup (M := m_J41_balanceInsertion) (zr_cat _) dJ41_balanceInsertion_204 ?_
    refine z_astore_n (M := m_J41_balanceInsertion) (k := 2) 2 rfl (zlt rfl) (zr_cat _) dJ41_balanceInsertion_205 ?_
    show zP s0 m_J41_balanceInsertion (d + 1) _ [some (zr (n1)), some (zr (x2)), some (zr (gR h1 x2 6)), some (zr (x3)), none, none] _ _ _ _
    refine z_ifnonnull (M := m_J41_balanceInsertion) 213 rfl dJ41_balanceInsertion_206 (fun hc => ?_) (fun hc => ?_)
    · have H := H.1 hc
      refine z_aload_n (M := m_J41_balanceInsertion) (k := 2) rfl dJ41_balanceInsertion_213 ?_
      obtain ⟨g, H⟩ := H
      refine z_get (M := m_J41_balanceInsertion) f_J41_9 dJ41_balanceInsertion_214 g ?_
      refine z_astore_n (M := m_J41_balanceInsertion) (k := 3) 3 rfl (zlt rfl) (zr_cat _) dJ41_balanceInsertion_217 ?_
      show zP s0 m_J41_balanceInsertion (d + 1) _ [some (zr (n1)), some (zr (x2)), some (zr (gR h1 x2 6)), some (zr (gR h1 (gR h1 x2 6) 6)), none, none] _ _ _ _
      exact H
    · have H := H.2 hc
      refine z_null (M := m_J41_balanceInsertion) dJ41_balanceInsertion_209 ?_
      refine z_goto (M := m_J41_balanceInsertion) 217 rfl dJ41_balanceInsertion_210 ?_
      refine z_astore_n (M := m_J41_balanceInsertion) (k := 3) 3 rfl (zlt rfl) (zr_cat _) dJ41_balanceInsertion_217 ?_
      show zP s0 m_J41_balanceInsertion (d + 1) _ [some (zr (n1)), some (zr (x2)), some (zr (gR h1 x2 6)), some (zr (0)), none, none] _ _ _ _
      exact H
theorem b_J41_balanceInsertion_218 {s0 : zE} {d : Nat} {x0 : Nat} {x1 : Nat} {x2 : Nat} {x3 : Nat} {h : zH} {Q : Value → zH → Prop} {E : Nat → zH → Prop} (H : (x2 = 0 → (zP s0 m_J41_balanceInsertion (d + 1) 5 [some (zr (x0)), some (zr (x1)), none, none, none, none] [] h Q E)) ∧ (¬ x2 = 0 → ((fC h x2 63) ∧ (∀ h1, h1 = zput h x2 10 (.int (0)) → ((x3 = 0 → (zP s0 m_J41_balanceInsertion (d + 1) 5 [some (zr (x0)), some (zr (x1)), none, none, none, none] [] h1 Q E)) ∧ (¬ x3 = 0 → ((fC h1 x3 63) ∧ (∀ h2, h2 = zput h1 x3 10 (.int (1)) → (zX s0 m_J41_rotateLeft d [zr (x0), zr (x3)] h2 (fun v1 h3 => ∃ n1 : Nat, v1 = zr (n1) ∧ (zP s0 m_J41_balanceInsertion (d + 1) 5 [some (zr (n1)), some (zr (x1)), none, none, none, none] [] h3 Q E)) E))))))))) : zP s0 m_J41_balanceInsertion (d + 1) 218 [some (zr (x0)), some (zr (x1)), some (zr (x2)), some (zr (x3)), none, none] [] h Q E := by
  refine z_aload_n (M := m_J41_balanceInsertion) (k := 2) rfl dJ41_balanceInsertion_218 ?_
  refine z_ifnull (M := m_J41_balanceInsertion) 5 rfl dJ41_balanceInsertion_219 (fun hc => ?_) (fun hc => ?_)
  · have H := H.1 hc
    exact zP.weak (ls' := [some (zr (x0)), some (zr (x1)), none, none, none, none]) (zle rfl) (zsub_so (zsub_so (zsub_no (zsub_no (zsub_no (zsub_no zsub_nil)))))) H
  · have H := H.2 hc
    refine z_aload_n (M := m_J41_balanceInsertion) (k := 2) rfl dJ41_balanceInsertion_222 ?_
    refine z_iconst (M := m_J41_balanceInsertion) (v := 0) (by decide) dJ41_balanceInsertion_223 ?_
    obtain ⟨g, H⟩ := H
    refine zz_put (M := m_J41_balanceInsertion) f_J41_93 dJ41_balanceInsertion_224 rfl (fn_63_10) g (ft_63_10 (Or.inl rfl)) (fun h1 e => ?_)
    have H := H h1 e
    refine z_aload_n (M := m_J41_balanceInsertion) (k := 3) rfl dJ41_balanceInsertion_227 ?_
    refine z_ifnull (M := m_J41_balanceInsertion) 5 rfl dJ41_balanceInsertion_228 (fun hc => ?_) (fun hc => ?_)
    · have H := H.1 hc
      exact zP.weak (ls' := [some (zr (x0)), some (zr (x1)), none, none, none, none]) (zle rfl) (zsub_so (zsub_so (zsub_no (zsub_no (zsub_no (zsub_no zsub_nil)))))) H
    · have H := H.2 hc
      refine z_aload_n (M := m_J41_balanceInsertion) (k := 3) rfl dJ41_balanceInsertion_231 ?_
      refine z_iconst (M := m_J41_balanceInsertion) (v := 1) (by decide) dJ41_balanceInsertion_232 ?_
      obtain ⟨g, H⟩ := H
      refine zz_put (M := m_J41_balanceInsertion) f_J41_93 dJ41_balanceInsertion_233 rfl (fn_63_10) g (ft_63_10 (Or.inr rfl)) (fun h2 e => ?_)
      have H := H h2 e
      refine z_aload_n (M := m_J41_balanceInsertion) (k := 0) rfl dJ41_balanceInsertion_236 ?_
      refine z_aload_n (M := m_J41_balanceInsertion) (k := 3) rfl dJ41_balanceInsertion_237 ?_
      refine z_invS (M := m_J41_balanceInsertion) (a := [zr (x0), zr (x3)]) ok_J41_rotateLeft q2261 q2262 dJ41_balanceInsertion_238 (Nat.le_refl _) (Nat.zero_le _) rfl H (fun v1 h3 H => ?_) (fun n9 h9 H => zPx.out rfl H)
      obtain ⟨n1, rfl, H⟩ := H
      show zP s0 m_J41_balanceInsertion (d + 1) _ _ [zr (n1)] _ _ _
      refine z_astore_n (M := m_J41_balanceInsertion) (k := 0) 0 rfl (zlt rfl) trivial dJ41_balanceInsertion_241 ?_
      show zP s0 m_J41_balanceInsertion (d + 1) _ [some (zr (n1)), some (zr (x1)), some (zr (x2)), some (zr (x3)), none, none] _ _ _ _
      refine z_goto (M := m_J41_balanceInsertion) 5 rfl dJ41_balanceInsertion_242 ?_
      exact zP.weak (ls' := [some (zr (n1)), some (zr (x1)), none, none, none, none]) (zle rfl) (zsub_so (zsub_so (zsub_no (zsub_no (zsub_no (zsub_no zsub_nil)))))) H
theorem b_J41_getTreeNode_0 {s0 : zE} {d : Nat} {x0 : Nat} {x1 : Int32} {x2 : Nat} {h : zH} {Q : Value → zH → Prop} {E : Nat → zH → Prop} (H : (fR h x0 [63] 6) ∧ ((gR h x0 6 = 0 → ((fC h x0 63 ∧ zX s0 m_J41_find d [zr x0, .int (x1), zr (x2), zr (0)] h (fun v1 h1 => ∃ n1 : Nat, v1 = zr (n1) ∧ (Q (zr n1) h1)) E))) ∧ (¬ gR h x0 6 = 0 → ((fC h x0 63 ∧ zX s0 m_J41_root d [zr x0] h (fun v2 h2 => ∃ n2 : Nat, v2 = zr (n2) ∧ ((fC h2 n2 63 ∧ zX s0 m_J41_find d [zr n2, .int (x1), zr (x2), zr (0)] h2 (fun v3 h3 => ∃ n3 : Nat, v3 = zr (n3) ∧ (Q (zr n3) h3)) E))) E))))) : zP s0 m_J41_getTreeNode (d + 1) 0 [some (zr (x0)), some (.int (x1)), some (zr (x2))] [] h Q E := by
  refine z_aload_n (M := m_J41_getTreeNode) (k := 0) rfl dJ41_getTreeNode_0 ?_
  obtain ⟨g, H⟩ := H
  refine z_get (M := m_J41_getTreeNode) f_J41_9 dJ41_getTreeNode_1 g ?_
  refine z_ifnull (M := m_J41_getTreeNode) 14 rfl dJ41_getTreeNode_4 (fun hc => ?_) (fun hc => ?_)
  · have H := H.1 hc
    refine z_aload_n (M := m_J41_getTreeNode) (k := 0) rfl dJ41_getTreeNode_14 ?_
    refine z_iload_n (M := m_J41_getTreeNode) (k := 1) rfl dJ41_getTreeNode_15 ?_
    refine z_aload_n (M := m_J41_getTreeNode) (k := 2) rfl dJ41_getTreeNode_16 ?_
    refine z_null (M := m_J41_getTreeNode) dJ41_getTreeNode_17 ?_
    obtain ⟨⟨fs9, g⟩, H⟩ := H
    refine z_invV (M := m_J41_getTreeNode) (cn := 63) (a := [.int (x1), zr (x2), zr (0)]) ok_J41_find q1932 q1933 q1934 rfl dJ41_getTreeNode_18 g (Nat.le_refl _) (Nat.zero_le _) rfl H (fun v1 h1 H => ?_) (fun n9 h9 H => zPx.out rfl H)
    obtain ⟨n1, rfl, H⟩ := H
    show zP s0 m_J41_getTreeNode (d + 1) _ _ [zr (n1)] _ _ _
    exact z_areturn (M := m_J41_getTreeNode) rfl (Or.inl ⟨_, rfl⟩) dJ41_getTreeNode_21 H
  · have H := H.2 hc
    refine z_aload_n (M := m_J41_getTreeNode) (k := 0) rfl dJ41_getTreeNode_7 ?_
    obtain ⟨⟨fs9, g⟩, H⟩ := H
    refine z_invV (M := m_J41_getTreeNode) (cn := 63) (a := []) ok_J41_root q1928 q1929 q1930 rfl dJ41_getTreeNode_8 g (Nat.le_refl _) (Nat.zero_le _) rfl H (fun v2 h2 H => ?_) (fun n9 h9 H => zPx.out rfl H)
    obtain ⟨n2, rfl, H⟩ := H
    show zP s0 m_J41_getTreeNode (d + 1) _ _ [zr (n2)] _ _ _
    refine z_goto (M := m_J41_getTreeNode) 15 rfl dJ41_getTreeNode_11 ?_
    refine z_iload_n (M := m_J41_getTreeNode) (k := 1) rfl dJ41_getTreeNode_15 ?_
    refine z_aload_n (M := m_J41_getTreeNode) (k := 2) rfl dJ41_getTreeNode_16 ?_
    refine z_null (M := m_J41_getTreeNode) dJ41_getTreeNode_17 ?_
    obtain ⟨⟨fs9, g⟩, H⟩ := H
    refine z_invV (M := m_J41_getTreeNode) (cn := 63) (a := [.int (x1), zr (x2), zr (0)]) ok_J41_find q1932 q1933 q1934 rfl dJ41_getTreeNode_18 g (Nat.le_refl _) (Nat.zero_le _) rfl H (fun v3 h3 H => ?_) (fun n9 h9 H => zPx.out rfl H)
    obtain ⟨n3, rfl, H⟩ := H
    show zP s0 m_J41_getTreeNode (d + 1) _ _ [zr (n3)] _ _ _
    exact z_areturn (M := m_J41_getTreeNode) rfl (Or.inl ⟨_, rfl⟩) dJ41_getTreeNode_21 H
theorem c_J41_getTreeNode {s0 : zE} {d : Nat} {x0 : Nat} {x1 : Int32} {x2 : Nat} {h : zH} {Q : Value → zH → Prop} {E : Nat → zH → Prop} (H : (fR h x0 [63] 6) ∧ ((gR h x0 6 = 0 → ((fC h x0 63 ∧ zX s0 m_J41_find d [zr x0, .int (x1), zr (x2), zr (0)] h (fun v1 h1 => ∃ n1 : Nat, v1 = zr (n1) ∧ (Q (zr n1) h1)) E))) ∧ (¬ gR h x0 6 = 0 → ((fC h x0 63 ∧ zX s0 m_J41_root d [zr x0] h (fun v2 h2 => ∃ n2 : Nat, v2 = zr (n2) ∧ ((fC h2 n2 63 ∧ zX s0 m_J41_find d [zr n2, .int (x1), zr (x2), zr (0)] h2 (fun v3 h3 => ∃ n3 : Nat, v3 = zr (n3) ∧ (Q (zr n3) h3)) E))) E))))) : zX s0 m_J41_getTreeNode (d + 1) [zr (x0), .int (x1), zr (x2)] h Q E := zX.of2 rfl (by decide +kernel) (zlay_r (zlay_i (zlay_r (zlay_n znone0)))) (zle rfl) (b_J41_getTreeNode_0 H)
theorem b_J41_init_0 {s0 : zE} {d : Nat} {x0 : Nat} {x1 : Int32} {x2 : Nat} {x3 : Nat} {x4 : Nat} {h : zH} {Q : Value → zH → Prop} {E : Nat → zH → Prop} (H : (∃ c, fC h x0 c) ∧ (zX s0 m_J40_init d [zr x0, .int (x1), zr (x2), zr (x3), zr (x4)] h (fun _ h1 => (Q .null h1)) E)) : zP s0 m_J41_init (d + 1) 0 [some (zr (x0)), some (.int (x1)), some (zr (x2)), some (zr (x3)), some (zr (x4))] [] h Q E := by
  refine z_aload_n (M := m_J41_init) (k := 0) rfl dJ41_init_0 ?_
  refine z_iload_n (M := m_J41_init) (k := 1) rfl dJ41_init_1 ?_
  refine z_aload_n (M := m_J41_init) (k := 2) rfl dJ41_init_2 ?_
  refine z_aload_n (M := m_J41_init) (k := 3) rfl dJ41_init_3 ?_
  refine z_aload (M := m_J41_init) (i := 4) rfl dJ41_init_4 ?_
  obtain ⟨⟨c9, g⟩, H⟩ := H
  refine zz_invI (M := m_J41_init) (a := [.int (x1), zr (x2), zr (x3), zr (x4)]) ok_J40_init rfl rfl q3090 q2204 dJ41_init_6 g (Nat.zero_le _) rfl H (fun v1 h1 H => ?_) (fun n9 h9 H => zPx.out rfl H)
  exact z_return (M := m_J41_init) rfl dJ41_init_9 H
theorem c_J41_init {s0 : zE} {d : Nat} {x0 : Nat} {x1 : Int32} {x2 : Nat} {x3 : Nat} {x4 : Nat} {h : zH} {Q : Value → zH → Prop} {E : Nat → zH → Prop} (H : (∃ c, fC h x0 c) ∧ (zX s0 m_J40_init d [zr x0, .int (x1), zr (x2), zr (x3), zr (x4)] h (fun _ h1 => (Q .null h1)) E)) : zX s0 m_J41_init (d + 1) [zr (x0), .int (x1), zr (x2), zr (x3), zr (x4)] h Q E := zX.of2 rfl (by decide +kernel) (zlay_r (zlay_i (zlay_r (zlay_r (zlay_r (zlay_n znone0)))))) (zle rfl) (b_J41_init_0 H)
theorem b_J41_moveRootToFront_0 {s0 : zE} {d : Nat} {x0 : Nat} {x1 : Nat} {h : zH} {Q : Value → zH → Prop} {E : Nat → zH → Prop} (H : (x1 = 0 → (Q .null h)) ∧ (¬ x1 = 0 → ((x0 = 0 → (Q .null h)) ∧ (¬ x0 = 0 → ((fC h x0 1009) ∧ ((Int32.ofNat (gA h x0).length ≤ 0 → (Q .null h)) ∧ (¬ Int32.ofNat (gA h x0).length ≤ 0 → ((fI h x1 [62, 63] 0) ∧ ((fE h x0 9 (((Int32.ofNat (gA h x0).length) - 1) &&& (gI h x1 0)) (zr (eR h x0 (((Int32.ofNat (gA h x0).length) - 1) &&& (gI h x1 0))))) ∧ ((eR h x0 (((Int32.ofNat (gA h x0).length) - 1) &&& (gI h x1 0)) = 0 ∨ zCast h (eR h x0 (((Int32.ofNat (gA h x0).length) - 1) &&& (gI h x1 0))) "java/util/HashMap$TreeNode") ∧ ((x1 = eR h x0 (((Int32.ofNat (gA h x0).length) - 1) &&& (gI h x1 0)) → (zP s0 m_J41_moveRootToFront (d + 1) 102 [none, some (zr (x1)), none, none, none, none, none] [] h Q E)) ∧ (¬ x1 = eR h x0 (((Int32.ofNat (gA h x0).length) - 1) &&& (gI h x1 0)) → ((fS s0 h x0 9 (((Int32.ofNat (gA h x0).length) - 1) &&& (gI h x1 0))) ∧ ((x1 = 0 ∨ zAsg h x1 (.object "java/util/HashMap$Node")) ∧ (∀ h1, h1 = zput h x0 ((((Int32.ofNat (gA h x0).length) - 1) &&& (gI h x1 0))).toNatClampNeg (zr x1) → ((fR h1 x1 [63] 9) ∧ ((fR h1 x1 [62, 63] 3) ∧ ((gR h1 x1 3 = 0 → (zP s0 m_J41_moveRootToFront (d + 1) 68 [none, some (zr (x1)), none, none, some (zr (eR h x0 (((Int32.ofNat (gA h x0).length) - 1) &&& (gI h x1 0)))), some (zr (gR h1 x1 3)), some (zr (gR h1 x1 9))] [] h1 Q E)) ∧ (¬ gR h1 x1 3 = 0 → ((gR h1 x1 3 = 0 ∨ zCast h1 (gR h1 x1 3) "java/util/HashMap$TreeNode") ∧ ((fC h1 (gR h1 x1 3) 63) ∧ (∀ h2, h2 = zput h1 (gR h1 x1 3) 9 (zr (gR h1 x1 9)) → (zP s0 m_J41_moveRootToFront (d + 1) 68 [none, some (zr (x1)), none, none, some (zr (eR h x0 (((Int32.ofNat (gA h x0).length) - 1) &&& (gI h x1 0)))), some (zr (gR h1 x1 3)), some (zr (gR h1 x1 9))] [] h2 Q E))))))))))))))))))))))) : zP s0 m_J41_moveRootToFront (d + 1) 0 [some (zr (x0)), some (zr (x1)), none, none, none, none, none] [] h Q E := by
  refine z_aload_n (M := m_J41_moveRootToFront) (k := 1) rfl dJ41_moveRootToFront_0 ?_
  refine z_ifnull (M := m_J41_moveRootToFront) 123 rfl dJ41_moveRootToFront_1 (fun hc => ?_) (fun hc => ?_)
  · have H := H.1 hc
    exact z_return (M := m_J41_moveRootToFront) rfl dJ41_moveRootToFront_123 H
  · have H := H.2 hc
    refine z_aload_n (M := m_J41_moveRootToFront) (k := 0) rfl dJ41_moveRootToFront_4 ?_
    refine z_ifnull (M := m_J41_moveRootToFront) 123 rfl dJ41_moveRootToFront_5 (fun hc => ?_) (fun hc => ?_)
    · have H := H.1 hc
      exact z_return (M := m_J41_moveRootToFront) rfl dJ41_moveRootToFront_123 H
    · have H := H.2 hc
      refine z_aload_n (M := m_J41_moveRootToFront) (k := 0) rfl dJ41_moveRootToFront_8 ?_
      obtain ⟨g, H⟩ := H
      refine z_len (M := m_J41_moveRootToFront) (t := 9) rfl dJ41_moveRootToFront_9 g ?_
      refine z_dup (M := m_J41_moveRootToFront) rfl dJ41_moveRootToFront_10 ?_
      refine z_istore_n (M := m_J41_moveRootToFront) (k := 2) 2 rfl (zlt rfl) (zr_cat _) dJ41_moveRootToFront_11 ?_
      show zP s0 m_J41_moveRootToFront (d + 1) _ [some (zr (x0)), some (zr (x1)), some (.int (Int32.ofNat (gA h x0).length)), none, none, none, none] _ _ _ _
      refine z_ifle (M := m_J41_moveRootToFront) 123 rfl dJ41_moveRootToFront_12 (fun hc => ?_) (fun hc => ?_)
      · have H := H.1 hc
        exact z_return (M := m_J41_moveRootToFront) rfl dJ41_moveRootToFront_123 H
      · have H := H.2 hc
        refine z_iload_n (M := m_J41_moveRootToFront) (k := 2) rfl dJ41_moveRootToFront_15 ?_
        refine z_iconst (M := m_J41_moveRootToFront) (v := 1) (by decide) dJ41_moveRootToFront_16 ?_
        refine z_isub (M := m_J41_moveRootToFront) dJ41_moveRootToFront_17 ?_
        refine z_aload_n (M := m_J41_moveRootToFront) (k := 1) rfl dJ41_moveRootToFront_18 ?_
        obtain ⟨g, H⟩ := H
        refine z_get (M := m_J41_moveRootToFront) f_J41_15 dJ41_moveRootToFront_19 g ?_
        refine z_iand (M := m_J41_moveRootToFront) dJ41_moveRootToFront_22 ?_
        refine z_istore_n (M := m_J41_moveRootToFront) (k := 3) 3 rfl (zlt rfl) rfl dJ41_moveRootToFront_23 ?_
        show zP s0 m_J41_moveRootToFront (d + 1) _ [some (zr (x0)), some (zr (x1)), some (.int (Int32.ofNat (gA h x0).length)), some (.int (((Int32.ofNat (gA h x0).length) - 1) &&& (gI h x1 0))), none, none, none] _ _ _ _
        refine z_aload_n (M := m_J41_moveRootToFront) (k := 0) rfl dJ41_moveRootToFront_24 ?_
        refine z_iload_n (M := m_J41_moveRootToFront) (k := 3) rfl dJ41_moveRootToFront_25 ?_
        obtain ⟨g, H⟩ := H
        refine z_ildA (M := m_J41_moveRootToFront) (t := 9) rfl rfl dJ41_moveRootToFront_26 g ?_
        obtain ⟨g, H⟩ := H
        refine z_checkcast (M := m_J41_moveRootToFront) q2190 dJ41_moveRootToFront_27 g ?_
        refine z_astore (M := m_J41_moveRootToFront) 4 (zlt rfl) rfl dJ41_moveRootToFront_30 ?_
        show zP s0 m_J41_moveRootToFront (d + 1) _ [some (zr (x0)), some (zr (x1)), some (.int (Int32.ofNat (gA h x0).length)), some (.int (((Int32.ofNat (gA h x0).length) - 1) &&& (gI h x1 0))), some (zr (eR h x0 (((Int32.ofNat (gA h x0).length) - 1) &&& (gI h x1 0)))), none, none] _ _ _ _
        refine z_aload_n (M := m_J41_moveRootToFront) (k := 1) rfl dJ41_moveRootToFront_32 ?_
        refine z_aload (M := m_J41_moveRootToFront) (i := 4) rfl dJ41_moveRootToFront_33 ?_
        refine z_acmpeq (M := m_J41_moveRootToFront) 102 rfl dJ41_moveRootToFront_35 (fun hc => ?_) (fun hc => ?_)
        · have H := H.1 hc
          exact zP.weak (ls' := [none, some (zr (x1)), none, none, none, none, none]) (zle rfl) (zsub_no (zsub_so (zsub_no (zsub_no (zsub_no (zsub_no (zsub_no zsub_nil))))))) H
        · have H := H.2 hc
          refine z_aload_n (M := m_J41_moveRootToFront) (k := 0) rfl dJ41_moveRootToFront_38 ?_
          refine z_iload_n (M := m_J41_moveRootToFront) (k := 3) rfl dJ41_moveRootToFront_39 ?_
          refine z_aload_n (M := m_J41_moveRootToFront) (k := 1) rfl dJ41_moveRootToFront_40 ?_
          obtain ⟨g, gm, H⟩ := H
          refine zz_istA (M := m_J41_moveRootToFront) (t := 9) rfl dJ41_moveRootToFront_41 g gm (fun h1 e => ?_)
          have H := H h1 e
          refine z_aload_n (M := m_J41_moveRootToFront) (k := 1) rfl dJ41_moveRootToFront_42 ?_
          obtain ⟨g, H⟩ := H
          refine z_get (M := m_J41_moveRootToFront) f_J41_19 dJ41_moveRootToFront_43 g ?_
          refine z_astore (M := m_J41_moveRootToFront) 6 (zlt rfl) trivial dJ41_moveRootToFront_46 ?_
          show zP s0 m_J41_moveRootToFront (d + 1) _ [some (zr (x0)), some (zr (x1)), some (.int (Int32.ofNat (gA h x0).length)), some (.int (((Int32.ofNat (gA h x0).length) - 1) &&& (gI h x1 0))), some (zr (eR h x0 (((Int32.ofNat (gA h x0).length) - 1) &&& (gI h x1 0)))), none, some (zr (gR h1 x1 9))] _ _ _ _
          refine z_aload_n (M := m_J41_moveRootToFront) (k := 1) rfl dJ41_moveRootToFront_48 ?_
          obtain ⟨g, H⟩ := H
          refine z_get (M := m_J41_moveRootToFront) f_J41_22 dJ41_moveRootToFront_49 g ?_
          refine z_dup (M := m_J41_moveRootToFront) (zr_cat _) dJ41_moveRootToFront_52 ?_
          refine z_astore (M := m_J41_moveRootToFront) 5 (zlt rfl) (zr_cat _) dJ41_moveRootToFront_53 ?_
          show zP s0 m_J41_moveRootToFront (d + 1) _ [some (zr (x0)), some (zr (x1)), some (.int (Int32.ofNat (gA h x0).length)), some (.int (((Int32.ofNat (gA h x0).length) - 1) &&& (gI h x1 0))), some (zr (eR h x0 (((Int32.ofNat (gA h x0).length) - 1) &&& (gI h x1 0)))), some (zr (gR h1 x1 3)), some (zr (gR h1 x1 9))] _ _ _ _
          refine z_ifnull (M := m_J41_moveRootToFront) 68 rfl dJ41_moveRootToFront_55 (fun hc => ?_) (fun hc => ?_)
          · have H := H.1 hc
            exact zP.weak (ls' := [none, some (zr (x1)), none, none, some (zr (eR h x0 (((Int32.ofNat (gA h x0).length) - 1) &&& (gI h x1 0)))), some (zr (gR h1 x1 3)), some (zr (gR h1 x1 9))]) (zle rfl) (zsub_no (zsub_so (zsub_no (zsub_no (zsub_so (zsub_so (zsub_so zsub_nil))))))) H
          · have H := H.2 hc
            refine z_aload (M := m_J41_moveRootToFront) (i := 5) rfl dJ41_moveRootToFront_58 ?_
            obtain ⟨g, H⟩ := H
            refine z_checkcast (M := m_J41_moveRootToFront) q2190 dJ41_moveRootToFront_60 g ?_
            refine z_aload (M := m_J41_moveRootToFront) (i := 6) rfl dJ41_moveRootToFront_63 ?_
            obtain ⟨g, H⟩ := H
            refine zz_put (M := m_J41_moveRootToFront) f_J41_19 dJ41_moveRootToFront_65 rfl (fn_63_9) g (ft_63_9) (fun h2 e => ?_)
            have H := H h2 e
            exact zP.weak (ls' := [none, some (zr (x1)), none, none, some (zr (eR h x0 (((Int32.ofNat (gA h x0).length) - 1) &&& (gI h x1 0)))), some (zr (gR h1 x1 3)), some (zr (gR h1 x1 9))]) (zle rfl) (zsub_no (zsub_so (zsub_no (zsub_no (zsub_so (zsub_so (zsub_so zsub_nil))))))) H
theorem c_J41_moveRootToFront {s0 : zE} {d : Nat} {x0 : Nat} {x1 : Nat} {h : zH} {Q : Value → zH → Prop} {E : Nat → zH → Prop} (H : (x1 = 0 → (Q .null h)) ∧ (¬ x1 = 0 → ((x0 = 0 → (Q .null h)) ∧ (¬ x0 = 0 → ((fC h x0 1009) ∧ ((Int32.ofNat (gA h x0).length ≤ 0 → (Q .null h)) ∧ (¬ Int32.ofNat (gA h x0).length ≤ 0 → ((fI h x1 [62, 63] 0) ∧ ((fE h x0 9 (((Int32.ofNat (gA h x0).length) - 1) &&& (gI h x1 0)) (zr (eR h x0 (((Int32.ofNat (gA h x0).length) - 1) &&& (gI h x1 0))))) ∧ ((eR h x0 (((Int32.ofNat (gA h x0).length) - 1) &&& (gI h x1 0)) = 0 ∨ zCast h (eR h x0 (((Int32.ofNat (gA h x0).length) - 1) &&& (gI h x1 0))) "java/util/HashMap$TreeNode") ∧ ((x1 = eR h x0 (((Int32.ofNat (gA h x0).length) - 1) &&& (gI h x1 0)) → (zP s0 m_J41_moveRootToFront (d + 1) 102 [none, some (zr (x1)), none, none, none, none, none] [] h Q E)) ∧ (¬ x1 = eR h x0 (((Int32.ofNat (gA h x0).length) - 1) &&& (gI h x1 0)) → ((fS s0 h x0 9 (((Int32.ofNat (gA h x0).length) - 1) &&& (gI h x1 0))) ∧ ((x1 = 0 ∨ zAsg h x1 (.object "java/util/HashMap$Node")) ∧ (∀ h1, h1 = zput h x0 ((((Int32.ofNat (gA h x0).length) - 1) &&& (gI h x1 0))).toNatClampNeg (zr x1) → ((fR h1 x1 [63] 9) ∧ ((fR h1 x1 [62, 63] 3) ∧ ((gR h1 x1 3 = 0 → (zP s0 m_J41_moveRootToFront (d + 1) 68 [none, some (zr (x1)), none, none, some (zr (eR h x0 (((Int32.ofNat (gA h x0).length) - 1) &&& (gI h x1 0)))), some (zr (gR h1 x1 3)), some (zr (gR h1 x1 9))] [] h1 Q E)) ∧ (¬ gR h1 x1 3 = 0 → ((gR h1 x1 3 = 0 ∨ zCast h1 (gR h1 x1 3) "java/util/HashMap$TreeNode") ∧ ((fC h1 (gR h1 x1 3) 63) ∧ (∀ h2, h2 = zput h1 (gR h1 x1 3) 9 (zr (gR h1 x1 9)) → (zP s0 m_J41_moveRootToFront (d + 1) 68 [none, some (zr (x1)), none, none, some (zr (eR h x0 (((Int32.ofNat (gA h x0).length) - 1) &&& (gI h x1 0)))), some (zr (gR h1 x1 3)), some (zr (gR h1 x1 9))] [] h2 Q E))))))))))))))))))))))) : zX s0 m_J41_moveRootToFront (d + 1) [zr (x0), zr (x1)] h Q E := zX.of2 rfl (by decide +kernel) (zlay_r (zlay_r (zlay_n (znoneS (znoneS (znoneS (znoneS (znoneS znone0)))))))) (zle rfl) (b_J41_moveRootToFront_0 H)
theorem b_J41_moveRootToFront_68 {s0 : zE} {d : Nat} {x1 : Nat} {x4 : Nat} {x5 : Nat} {x6 : Nat} {h : zH} {Q : Value → zH → Prop} {E : Nat → zH → Prop} (H : (x6 = 0 → (zP s0 m_J41_moveRootToFront (d + 1) 80 [none, some (zr (x1)), none, none, some (zr (x4)), none, none] [] h Q E)) ∧ (¬ x6 = 0 → ((∃ c ∈ ([62, 63] : List Nat), fC h x6 c) ∧ (∀ h1, h1 = zput h x6 3 (zr (x5)) → (zP s0 m_J41_moveRootToFront (d + 1) 80 [none, some (zr (x1)), none, none, some (zr (x4)), none, none] [] h1 Q E))))) : zP s0 m_J41_moveRootToFront (d + 1) 68 [none, some (zr (x1)), none, none, some (zr (x4)), some (zr (x5)), some (zr (x6))] [] h Q E := by
  refine z_aload (M := m_J41_moveRootToFront) (i := 6) rfl dJ41_moveRootToFront_68 ?_
  refine z_ifnull (M := m_J41_moveRootToFront) 80 rfl dJ41_moveRootToFront_70 (fun hc => ?_) (fun hc => ?_)
  · have H := H.1 hc
    exact zP.weak (ls' := [none, some (zr (x1)), none, none, some (zr (x4)), none, none]) (zle rfl) (zsub_no (zsub_so (zsub_no (zsub_no (zsub_so (zsub_no (zsub_no zsub_nil))))))) H
  · have H := H.2 hc
    refine z_aload (M := m_J41_moveRootToFront) (i := 6) rfl dJ41_moveRootToFront_73 ?_
    refine z_aload (M := m_J41_moveRootToFront) (i := 5) rfl dJ41_moveRootToFront_75 ?_
    obtain ⟨g, H⟩ := H
    refine zz_putM (M := m_J41_moveRootToFront) f_J41_22 dJ41_moveRootToFront_77 (fun c hc => by simp only [List.mem_cons, List.not_mem_nil, or_false] at hc; rcases hc with rfl | rfl <;> exact rfl) (fun c hc => by simp only [List.mem_cons, List.not_mem_nil, or_false] at hc; rcases hc with rfl | rfl <;> exact ⟨_, rfl, Or.inl rfl⟩) g (fun c hc => by simp only [List.mem_cons, List.not_mem_nil, or_false] at hc; rcases hc with rfl | rfl <;> exact (zfit_r rfl rfl rfl)) (fun h1 e => ?_)
    have H := H h1 e
    exact zP.weak (ls' := [none, some (zr (x1)), none, none, some (zr (x4)), none, none]) (zle rfl) (zsub_no (zsub_so (zsub_no (zsub_no (zsub_so (zsub_no (zsub_no zsub_nil))))))) H
theorem b_J41_moveRootToFront_80 {s0 : zE} {d : Nat} {x1 : Nat} {x4 : Nat} {h : zH} {Q : Value → zH → Prop} {E : Nat → zH → Prop} (H : (x4 = 0 → ((∃ c ∈ ([62, 63] : List Nat), fC h x1 c) ∧ (∀ h1, h1 = zput h x1 3 (zr (x4)) → ((fC h1 x1 63) ∧ (∀ h2, h2 = zput h1 x1 9 (zr (0)) → (zP s0 m_J41_moveRootToFront (d + 1) 102 [none, some (zr (x1)), none, none, none, none, none] [] h2 Q E)))))) ∧ (¬ x4 = 0 → ((fC h x4 63) ∧ (∀ h3, h3 = zput h x4 9 (zr (x1)) → ((∃ c ∈ ([62, 63] : List Nat), fC h3 x1 c) ∧ (∀ h4, h4 = zput h3 x1 3 (zr (x4)) → ((fC h4 x1 63) ∧ (∀ h5, h5 = zput h4 x1 9 (zr (0)) → (zP s0 m_J41_moveRootToFront (d + 1) 102 [none, some (zr (x1)), none, none, none, none, none] [] h5 Q E))))))))) : zP s0 m_J41_moveRootToFront (d + 1) 80 [none, some (zr (x1)), none, none, some (zr (x4)), none, none] [] h Q E := by
  refine z_aload (M := m_J41_moveRootToFront) (i := 4) rfl dJ41_moveRootToFront_80 ?_
  refine z_ifnull (M := m_J41_moveRootToFront) 91 rfl dJ41_moveRootToFront_82 (fun hc => ?_) (fun hc => ?_)
  · have H := H.1 hc
    refine z_aload_n (M := m_J41_moveRootToFront) (k := 1) rfl dJ41_moveRootToFront_91 ?_
    refine z_aload (M := m_J41_moveRootToFront) (i := 4) rfl dJ41_moveRootToFront_92 ?_
    obtain ⟨g, H⟩ := H
    refine zz_putM (M := m_J41_moveRootToFront) f_J41_22 dJ41_moveRootToFront_94 (fun c hc => by simp only [List.mem_cons, List.not_mem_nil, or_false] at hc; rcases hc with rfl | rfl <;> exact rfl) (fun c hc => by simp only [List.mem_cons, List.not_mem_nil, or_false] at hc; rcases hc with rfl | rfl <;> exact ⟨_, rfl, Or.inl rfl⟩) g (fun c hc => by simp only [List.mem_cons, List.not_mem_nil, or_false] at hc; rcases hc with rfl | rfl <;> exact (zfit_r rfl rfl rfl)) (fun h1 e => ?_)
    have H := H h1 e
    refine z_aload_n (M := m_J41_moveRootToFront) (k := 1) rfl dJ41_moveRootToFront_97 ?_
    refine z_null (M := m_J41_moveRootToFront) dJ41_moveRootToFront_98 ?_
    obtain ⟨g, H⟩ := H
    refine zz_put (M := m_J41_moveRootToFront) f_J41_19 dJ41_moveRootToFront_99 rfl (fn_63_9) g (ft_63_9) (fun h2 e => ?_)
    have H := H h2 e
    exact zP.weak (ls' := [none, some (zr (x1)), none, none, none, none, none]) (zle rfl) (zsub_no (zsub_so (zsub_no (zsub_no (zsub_no (zsub_no (zsub_no zsub_nil))))))) H
  · have H := H.2 hc
    refine z_aload (M := m_J41_moveRootToFront) (i := 4) rfl dJ41_moveRootToFront_85 ?_
    refine z_aload_n (M := m_J41_moveRootToFront) (k := 1) rfl dJ41_moveRootToFront_87 ?_
    obtain ⟨g, H⟩ := H
    refine zz_put (M := m_J41_moveRootToFront) f_J41_19 dJ41_moveRootToFront_88 rfl (fn_63_9) g (ft_63_9) (fun h3 e => ?_)
    have H := H h3 e
    refine z_aload_n (M := m_J41_moveRootToFront) (k := 1) rfl dJ41_moveRootToFront_91 ?_
    refine z_aload (M := m_J41_moveRootToFront) (i := 4) rfl dJ41_moveRootToFront_92 ?_
    obtain ⟨g, H⟩ := H
    refine zz_putM (M := m_J41_moveRootToFront) f_J41_22 dJ41_moveRootToFront_94 (fun c hc => by simp only [List.mem_cons, List.not_mem_nil, or_false] at hc; rcases hc with rfl | rfl <;> exact rfl) (fun c hc => by simp only [List.mem_cons, List.not_mem_nil, or_false] at hc; rcases hc with rfl | rfl <;> exact ⟨_, rfl, Or.inl rfl⟩) g (fun c hc => by simp only [List.mem_cons, List.not_mem_nil, or_false] at hc; rcases hc with rfl | rfl <;> exact (zfit_r rfl rfl rfl)) (fun h4 e => ?_)
    have H := H h4 e
    refine z_aload_n (M := m_J41_moveRootToFront) (k := 1) rfl dJ41_moveRootToFront_97 ?_
    refine z_null (M := m_J41_moveRootToFront) dJ41_moveRootToFront_98 ?_
    obtain ⟨g, H⟩ := H
    refine zz_put (M := m_J41_moveRootToFront) f_J41_19 dJ41_moveRootToFront_99 rfl (fn_63_9) g (ft_63_9) (fun h5 e => ?_)
    have H := H h5 e
    exact zP.weak (ls' := [none, some (zr (x1)), none, none, none, none, none]) (zle rfl) (zsub_no (zsub_so (zsub_no (zsub_no (zsub_no (zsub_no (zsub_no zsub_nil))))))) H
theorem b_J41_moveRootToFront_102 {s0 : zE} {d : Nat} {x1 : Nat} {h : zH} {Q : Value → zH → Prop} {E : Nat → zH → Prop} (H : Q .null h) : zP s0 m_J41_moveRootToFront (d + 1) 102 [none, some (zr (x1)), none, none, none, none, none] [] h Q E := by
  refine z_gets (M := m_J41_moveRootToFront) (k_HashMap_TreeNode__assertionsDisabled (s0 := s0)) q2270 dJ41_moveRootToFront_102 ?_
  refine z_ifne (M := m_J41_moveRootToFront) 123 rfl dJ41_moveRootToFront_105 (fun hc => ?_) (fun hc => (by revert hc; decide : False).elim)
  exact z_return (M := m_J41_moveRootToFront) rfl dJ41_moveRootToFront_123 H
theorem b_J41_removeTreeNode_0 {s0 : zE} {d : Nat} {x0 : Nat} {x1 : Nat} {x2 : Nat} {x3 : Int32} {h : zH} {Q : Value → zH → Prop} {E : Nat → zH → Prop} (H : (x2 = 0 → (Q .null h)) ∧ (¬ x2 = 0 → ((fC h x2 1009) ∧ ((¬ Int32.ofNat (gA h x2).length = 0 → ((fI h x0 [62, 63] 0) ∧ ((fE h x2 9 (((Int32.ofNat (gA h x2).length) - 1) &&& (gI h x0 0)) (zr (eR h x2 (((Int32.ofNat (gA h x2).length) - 1) &&& (gI h x0 0))))) ∧ ((eR h x2 (((Int32.ofNat (gA h x2).length) - 1) &&& (gI h x0 0)) = 0 ∨ zCast h (eR h x2 (((Int32.ofNat (gA h x2).length) - 1) &&& (gI h x0 0))) "java/util/HashMap$TreeNode") ∧ ((fR h x0 [62, 63] 3) ∧ ((gR h x0 3 = 0 ∨ zCast h (gR h x0 3) "java/util/HashMap$TreeNode") ∧ ((fR h x0 [63] 9) ∧ ((¬ gR h x0 9 = 0 → ((∃ c ∈ ([62, 63] : List Nat), fC h (gR h x0 9) c) ∧ (∀ h1, h1 = zput h (gR h x0 9) 3 (zr (gR h x0 3)) → (zP s0 m_J41_removeTreeNode (d + 1) 76 [some (zr (x0)), some (zr (x1)), some (zr (x2)), some (.int (x3)), none, some (.int (((Int32.ofNat (gA h x2).length) - 1) &&& (gI h x0 0))), some (zr (eR h x2 (((Int32.ofNat (gA h x2).length) - 1) &&& (gI h x0 0)))), some (zr (eR h x2 (((Int32.ofNat (gA h x2).length) - 1) &&& (gI h x0 0)))), none, some (zr (gR h x0 3)), some (zr (gR h x0 9)), none, none, none, none, none, none, none, none, none, none] [] h1 Q E)))) ∧ (gR h x0 9 = 0 → ((fS s0 h x2 9 (((Int32.ofNat (gA h x2).length) - 1) &&& (gI h x0 0))) ∧ ((gR h x0 3 = 0 ∨ zAsg h (gR h x0 3) (.object "java/util/HashMap$Node")) ∧ (∀ h2, h2 = zput h x2 ((((Int32.ofNat (gA h x2).length) - 1) &&& (gI h x0 0))).toNatClampNeg (zr (gR h x0 3)) → (zP s0 m_J41_removeTreeNode (d + 1) 76 [some (zr (x0)), some (zr (x1)), some (zr (x2)), some (.int (x3)), none, some (.int (((Int32.ofNat (gA h x2).length) - 1) &&& (gI h x0 0))), some (zr (gR h x0 3)), some (zr (eR h x2 (((Int32.ofNat (gA h x2).length) - 1) &&& (gI h x0 0)))), none, some (zr (gR h x0 3)), some (zr (gR h x0 9)), none, none, none, none, none, none, none, none, none, none] [] h2 Q E))))))))))))) ∧ (Int32.ofNat (gA h x2).length = 0 → (Q .null h)))))) : zP s0 m_J41_removeTreeNode (d + 1) 0 [some (zr (x0)), some (zr (x1)), some (zr (x2)), some (.int (x3)), none, none, none, none, none, none, none, none, none, none, none, none, none, none, none, none, none] [] h Q E := by
  refine z_aload_n (M := m_J41_removeTreeNode) (k := 2) rfl dJ41_removeTreeNode_0 ?_
  refine z_ifnull (M := m_J41_removeTreeNode) 12 rfl dJ41_removeTreeNode_1 (fun hc => ?_) (fun hc => ?_)
  · have H := H.1 hc
    exact z_return (M := m_J41_removeTreeNode) rfl dJ41_removeTreeNode_12 H
  · have H := H.2 hc
    refine z_aload_n (M := m_J41_removeTreeNode) (k := 2) rfl dJ41_removeTreeNode_4 ?_
    obtain ⟨g, H⟩ := H
    refine z_len (M := m_J41_removeTreeNode) (t := 9) rfl dJ41_removeTreeNode_5 g ?_
    refine z_dup (M := m_J41_removeTreeNode) rfl dJ41_removeTreeNode_6 ?_
    refine z_istore (M := m_J41_removeTreeNode) 4 (zlt rfl) rfl dJ41_removeTreeNode_7 ?_
    show zP s0 m_J41_removeTreeNode (d + 1) _ [some (zr (x0)), some (zr (x1)), some (zr (x2)), some (.int (x3)), some (.int (Int32.ofNat (gA h x2).length)), none, none, none, none, none, none, none, none, none, none, none, none, none, none, none, none] _ _ _ _
    refine z_ifne (M := m_J41_removeTreeNode) 13 rfl dJ41_removeTreeNode_9 (fun hc => ?_) (fun hc => ?_)
    · have H := H.1 hc
      refine z_iload (M := m_J41_removeTreeNode) (i := 4) rfl dJ41_removeTreeNode_13 ?_
      refine z_iconst (M := m_J41_removeTreeNode) (v := 1) (by decide) dJ41_removeTreeNode_15 ?_
      refine z_isub (M := m_J41_removeTreeNode) dJ41_removeTreeNode_16 ?_
      refine z_aload_n (M := m_J41_removeTreeNode) (k := 0) rfl dJ41_removeTreeNode_17 ?_
      obtain ⟨g, H⟩ := H
      refine z_get (M := m_J41_removeTreeNode) f_J41_15 dJ41_removeTreeNode_18 g ?_
      refine z_iand (M := m_J41_removeTreeNode) dJ41_removeTreeNode_21 ?_
      refine z_istore (M := m_J41_removeTreeNode) 5 (zlt rfl) rfl dJ41_removeTreeNode_22 ?_
      show zP s0 m_J41_removeTreeNode (d + 1) _ [some (zr (x0)), some (zr (x1)), some (zr (x2)), some (.int (x3)), some (.int (Int32.ofNat (gA h x2).length)), some (.int (((Int32.ofNat (gA h x2).length) - 1) &&& (gI h x0 0))), none, none, none, none, none, none, none, none, none, none, none, none, none, none, none] _ _ _ _
      refine z_aload_n (M := m_J41_removeTreeNode) (k := 2) rfl dJ41_removeTreeNode_24 ?_
      refine z_iload (M := m_J41_removeTreeNode) (i := 5) rfl dJ41_removeTreeNode_25 ?_
      obtain ⟨g, H⟩ := H
      refine z_ildA (M := m_J41_removeTreeNode) (t := 9) rfl rfl dJ41_removeTreeNode_27 g ?_
      obtain ⟨g, H⟩ := H
      refine z_checkcast (M := m_J41_removeTreeNode) q2190 dJ41_removeTreeNode_28 g ?_
      refine z_astore (M := m_J41_removeTreeNode) 6 (zlt rfl) rfl dJ41_removeTreeNode_31 ?_
      show zP s0 m_J41_removeTreeNode (d + 1) _ [some (zr (x0)), some (zr (x1)), some (zr (x2)), some (.int (x3)), some (.int (Int32.ofNat (gA h x2).length)), some (.int (((Int32.ofNat (gA h x2).length) - 1) &&& (gI h x0 0))), some (zr (eR h x2 (((Int32.ofNat (gA h x2).length) - 1) &&& (gI h x0 0)))), none, none, none, none, none, none, none, none, none, none, none, none, none, none] _ _ _ _
      refine z_aload (M := m_J41_removeTreeNode) (i := 6) rfl dJ41_removeTreeNode_33 ?_
      refine z_astore (M := m_J41_removeTreeNode) 7 (zlt rfl) (zr_cat _) dJ41_removeTreeNode_35 ?_
      show zP s0 m_J41_removeTreeNode (d + 1) _ [some (zr (x0)), some (zr (x1)), some (zr (x2)), some (.int (x3)), some (.int (Int32.ofNat (gA h x2).length)), some (.int (((Int32.ofNat (gA h x2).length) - 1) &&& (gI h x0 0))), some (zr (eR h x2 (((Int32.ofNat (gA h x2).length) - 1) &&& (gI h x0 0)))), some (zr (eR h x2 (((Int32.ofNat (gA h x2).length) - 1) &&& (gI h x0 0)))), none, none, none, none, none, none, none, none, none, none, none, none, none] _ _ _ _
      refine z_aload_n (M := m_J41_removeTreeNode) (k := 0) rfl dJ41_removeTreeNode_37 ?_
      obtain ⟨g, H⟩ := H
      refine z_get (M := m_J41_removeTreeNode) f_J41_22 dJ41_removeTreeNode_38 g ?_
      obtain ⟨g, H⟩ := H
      refine z_checkcast (M := m_J41_removeTreeNode) q2190 dJ41_removeTreeNode_41 g ?_
      refine z_astore (M := m_J41_removeTreeNode) 9 (zlt rfl) trivial dJ41_removeTreeNode_44 ?_
      show zP s0 m_J41_removeTreeNode (d + 1) _ [some (zr (x0)), some (zr (x1)), some (zr (x2)), some (.int (x3)), some (.int (Int32.ofNat (gA h x2).length)), some (.int (((Int32.ofNat (gA h x2).length) - 1) &&& (gI h x0 0))), some (zr (eR h x2 (((Int32.ofNat (gA h x2).length) - 1) &&& (gI h x0 0)))), some (zr (eR h x2 (((Int32.ofNat (gA h x2).length) - 1) &&& (gI h x0 0)))), none, some (zr (gR h x0 3)), none, none, none, none, none, none, none, none, none, none, none] _ _ _ _
      refine z_aload_n (M := m_J41_removeTreeNode) (k := 0) rfl dJ41_removeTreeNode_46 ?_
      obtain ⟨g, H⟩ := H
      refine z_get (M := m_J41_removeTreeNode) f_J41_19 dJ41_removeTreeNode_47 g ?_
      refine z_astore (M := m_J41_removeTreeNode) 10 (zlt rfl) (zr_cat _) dJ41_removeTreeNode_50 ?_
      show zP s0 m_J41_removeTreeNode (d + 1) _ [some (zr (x0)), some (zr (x1)), some (zr (x2)), some (.int (x3)), some (.int (Int32.ofNat (gA h x2).length)), some (.int (((Int32.ofNat (gA h x2).length) - 1) &&& (gI h x0 0))), some (zr (eR h x2 (((Int32.ofNat (gA h x2).length) - 1) &&& (gI h x0 0)))), some (zr (eR h x2 (((Int32.ofNat (gA h x2).length) - 1) &&& (gI h x0 0)))), none, some (zr (gR h x0 3)), some (zr (gR h x0 9)), none, none, none, none, none, none, none, none, none, none] _ _ _ _
      refine z_aload (M := m_J41_removeTreeNode) (i := 10) rfl dJ41_removeTreeNode_52 ?_
      refine z_ifnonnull (M := m_J41_removeTreeNode) 69 rfl dJ41_removeTreeNode_54 (fun hc => ?_) (fun hc => ?_)
      · have H := H.1 hc
        refine z_aload (M := m_J41_removeTreeNode) (i := 10) rfl dJ41_removeTreeNode_69 ?_
        refine z_aload (M := m_J41_removeTreeNode) (i := 9) rfl dJ41_removeTreeNode_71 ?_
        obtain ⟨g, H⟩ := H
        refine zz_putM (M := m_J41_removeTreeNode) f_J41_22 dJ41_removeTreeNode_73 (fun c hc => by simp only [List.mem_cons, List.not_mem_nil, or_false] at hc; rcases hc with rfl | rfl <;> exact rfl) (fun c hc => by simp only [List.mem_cons, List.not_mem_nil, or_false] at hc; rcases hc with rfl | rfl <;> exact ⟨_, rfl, Or.inl rfl⟩) g (fun c hc => by simp only [List.mem_cons, List.not_mem_nil, or_false] at hc; rcases hc with rfl | rfl <;> exact (zfit_r rfl rfl rfl)) (fun h1 e => ?_)
        have H := H h1 e
        exact zP.weak (ls' := [some (zr (x0)), some (zr (x1)), some (zr (x2)), some (.int (x3)), none, some (.int (((Int32.ofNat (gA h x2).length) - 1) &&& (gI h x0 0))), some (zr (eR h x2 (((Int32.ofNat (gA h x2).length) - 1) &&& (gI h x0 0)))), some (zr (eR h x2 (((Int32.ofNat (gA h x2).length) - 1) &&& (gI h x0 0)))), none, some (zr (gR h x0 3)), some (zr (gR h x0 9)), none, none, none, none, none, none, none, none, none, none]) (zle rfl) (zsub_so (zsub_so (zsub_so (zsub_so (zsub_no (zsub_so (zsub_so (zsub_so (zsub_no (zsub_so (zsub_so (zsub_no (zsub_no (zsub_no (zsub_no (zsub_no (zsub_no (zsub_no (zsub_no (zsub_no (zsub_no zsub_nil))))))))))))))))))))) H
      · have H := H.2 hc
        refine z_aload_n (M := m_J41_removeTreeNode) (k := 2) rfl dJ41_removeTreeNode_57 ?_
        refine z_iload (M := m_J41_removeTreeNode) (i := 5) rfl dJ41_removeTreeNode_58 ?_
        refine z_aload (M := m_J41_removeTreeNode) (i := 9) rfl dJ41_removeTreeNode_60 ?_
        refine z_dup (M := m_J41_removeTreeNode) (zr_cat _) dJ41_removeTreeNode_62 ?_
        refine z_astore (M := m_J41_removeTreeNode) 6 (zlt rfl) rfl dJ41_removeTreeNode_63 ?_
        show zP s0 m_J41_removeTreeNode (d + 1) _ [some (zr (x0)), some (zr (x1)), some (zr (x2)), some (.int (x3)), some (.int (Int32.ofNat (gA h x2).length)), some (.int (((Int32.ofNat (gA h x2).length) - 1) &&& (gI h x0 0))), some (zr (gR h x0 3)), some (zr (eR h x2 (((Int32.ofNat (gA h x2).length) - 1) &&& (gI h x0 0)))), none, some (zr (gR h x0 3)), some (zr (gR h x0 9)), none, none, none, none, none, none, none, none, none, none] _ _ _ _
        obtain ⟨g, gm, H⟩ := H
        refine zz_istA (M := m_J41_removeTreeNode) (t := 9) rfl dJ41_removeTreeNode_65 g gm (fun h2 e => ?_)
        have H := H h2 e
        refine z_goto (M := m_J41_removeTreeNode) 76 rfl dJ41_removeTreeNode_66 ?_
        exact zP.weak (ls' := [some (zr (x0)), some (zr (x1)), some (zr (x2)), some (.int (x3)), none, some (.int (((Int32.ofNat (gA h x2).length) - 1) &&& (gI h x0 0))), some (zr (gR h x0 3)), some (zr (eR h x2 (((Int32.ofNat (gA h x2).length) - 1) &&& (gI h x0 0)))), none, some (zr (gR h x0 3)), some (zr (gR h x0 9)), none, none, none, none, none, none, none, none, none, none]) (zle rfl) (zsub_so (zsub_so (zsub_so (zsub_so (zsub_no (zsub_so (zsub_so (zsub_so (zsub_no (zsub_so (zsub_so (zsub_no (zsub_no (zsub_no (zsub_no (zsub_no (zsub_no (zsub_no (zsub_no (zsub_no (zsub_no zsub_nil))))))))))))))))))))) H
    · have H := H.2 hc
      exact z_return (M := m_J41_removeTreeNode) rfl dJ41_removeTreeNode_12 H
theorem c_J41_removeTreeNode {s0 : zE} {d : Nat} {x0 : Nat} {x1 : Nat} {x2 : Nat} {x3 : Int32} {h : zH} {Q : Value → zH → Prop} {E : Nat → zH → Prop} (H : (x2 = 0 → (Q .null h)) ∧ (¬ x2 = 0 → ((fC h x2 1009) ∧ ((¬ Int32.ofNat (gA h x2).length = 0 → ((fI h x0 [62, 63] 0) ∧ ((fE h x2 9 (((Int32.ofNat (gA h x2).length) - 1) &&& (gI h x0 0)) (zr (eR h x2 (((Int32.ofNat (gA h x2).length) - 1) &&& (gI h x0 0))))) ∧ ((eR h x2 (((Int32.ofNat (gA h x2).length) - 1) &&& (gI h x0 0)) = 0 ∨ zCast h (eR h x2 (((Int32.ofNat (gA h x2).length) - 1) &&& (gI h x0 0))) "java/util/HashMap$TreeNode") ∧ ((fR h x0 [62, 63] 3) ∧ ((gR h x0 3 = 0 ∨ zCast h (gR h x0 3) "java/util/HashMap$TreeNode") ∧ ((fR h x0 [63] 9) ∧ ((¬ gR h x0 9 = 0 → ((∃ c ∈ ([62, 63] : List Nat), fC h (gR h x0 9) c) ∧ (∀ h1, h1 = zput h (gR h x0 9) 3 (zr (gR h x0 3)) → (zP s0 m_J41_removeTreeNode (d + 1) 76 [some (zr (x0)), some (zr (x1)), some (zr (x2)), some (.int (x3)), none, some (.int (((Int32.ofNat (gA h x2).length) - 1) &&& (gI h x0 0))), some (zr (eR h x2 (((Int32.ofNat (gA h x2).length) - 1) &&& (gI h x0 0)))), some (zr (eR h x2 (((Int32.ofNat (gA h x2).length) - 1) &&& (gI h x0 0)))), none, some (zr (gR h x0 3)), some (zr (gR h x0 9)), none, none, none, none, none, none, none, none, none, none] [] h1 Q E)))) ∧ (gR h x0 9 = 0 → ((fS s0 h x2 9 (((Int32.ofNat (gA h x2).length) - 1) &&& (gI h x0 0))) ∧ ((gR h x0 3 = 0 ∨ zAsg h (gR h x0 3) (.object "java/util/HashMap$Node")) ∧ (∀ h2, h2 = zput h x2 ((((Int32.ofNat (gA h x2).length) - 1) &&& (gI h x0 0))).toNatClampNeg (zr (gR h x0 3)) → (zP s0 m_J41_removeTreeNode (d + 1) 76 [some (zr (x0)), some (zr (x1)), some (zr (x2)), some (.int (x3)), none, some (.int (((Int32.ofNat (gA h x2).length) - 1) &&& (gI h x0 0))), some (zr (gR h x0 3)), some (zr (eR h x2 (((Int32.ofNat (gA h x2).length) - 1) &&& (gI h x0 0)))), none, some (zr (gR h x0 3)), some (zr (gR h x0 9)), none, none, none, none, none, none, none, none, none, none] [] h2 Q E))))))))))))) ∧ (Int32.ofNat (gA h x2).length = 0 → (Q .null h)))))) : zX s0 m_J41_removeTreeNode (d + 1) [zr (x0), zr (x1), zr (x2), .int (x3)] h Q E := zX.of2 rfl (by decide +kernel) (zlay_r (zlay_r (zlay_r (zlay_i (zlay_n (znoneS (znoneS (znoneS (znoneS (znoneS (znoneS (znoneS (znoneS (znoneS (znoneS (znoneS (znoneS (znoneS (znoneS (znoneS (znoneS (znoneS znone0)))))))))))))))))))))) (zle rfl) (b_J41_removeTreeNode_0 H)
theorem b_J41_removeTreeNode_76 {s0 : zE} {d : Nat} {x0 : Nat} {x1 : Nat} {x2 : Nat} {x3 : Int32} {x5 : Int32} {x6 : Nat} {x7 : Nat} {x9 : Nat} {x10 : Nat} {h : zH} {Q : Value → zH → Prop} {E : Nat → zH → Prop} (H : (x9 = 0 → (zP s0 m_J41_removeTreeNode (d + 1) 88 [some (zr (x0)), some (zr (x1)), some (zr (x2)), some (.int (x3)), none, some (.int (x5)), some (zr (x6)), some (zr (x7)), none, none, none, none, none, none, none, none, none, none, none, none, none] [] h Q E)) ∧ (¬ x9 = 0 → ((fC h x9 63) ∧ (∀ h1, h1 = zput h x9 9 (zr (x10)) → (zP s0 m_J41_removeTreeNode (d + 1) 88 [some (zr (x0)), some (zr (x1)), some (zr (x2)), some (.int (x3)), none, some (.int (x5)), some (zr (x6)), some (zr (x7)), none, none, none, none, none, none, none, none, none, none, none, none, none] [] h1 Q E))))) : zP s0 m_J41_removeTreeNode (d + 1) 76 [some (zr (x0)), some (zr (x1)), some (zr (x2)), some (.int (x3)), none, some (.int (x5)), some (zr (x6)), some (zr (x7)), none, some (zr (x9)), some (zr (x10)), none, none, none, none, none, none, none, none, none, none] [] h Q E := by
  refine z_aload (M := m_J41_removeTreeNode) (i := 9) rfl dJ41_removeTreeNode_76 ?_
  refine z_ifnull (M := m_J41_removeTreeNode) 88 rfl dJ41_removeTreeNode_78 (fun hc => ?_) (fun hc => ?_)
  · have H := H.1 hc
    exact zP.weak (ls' := [some (zr (x0)), some (zr (x1)), some (zr (x2)), some (.int (x3)), none, some (.int (x5)), some (zr (x6)), some (zr (x7)), none, none, none, none, none, none, none, none, none, none, none, none, none]) (zle rfl) (zsub_so (zsub_so (zsub_so (zsub_so (zsub_no (zsub_so (zsub_so (zsub_so (zsub_no (zsub_no (zsub_no (zsub_no (zsub_no (zsub_no (zsub_no (zsub_no (zsub_no (zsub_no (zsub_no (zsub_no (zsub_no zsub_nil))))))))))))))))))))) H
  · have H := H.2 hc
    refine z_aload (M := m_J41_removeTreeNode) (i := 9) rfl dJ41_removeTreeNode_81 ?_
    refine z_aload (M := m_J41_removeTreeNode) (i := 10) rfl dJ41_removeTreeNode_83 ?_
    obtain ⟨g, H⟩ := H
    refine zz_put (M := m_J41_removeTreeNode) f_J41_19 dJ41_removeTreeNode_85 rfl (fn_63_9) g (ft_63_9) (fun h1 e => ?_)
    have H := H h1 e
    exact zP.weak (ls' := [some (zr (x0)), some (zr (x1)), some (zr (x2)), some (.int (x3)), none, some (.int (x5)), some (zr (x6)), some (zr (x7)), none, none, none, none, none, none, none, none, none, none, none, none, none]) (zle rfl) (zsub_so (zsub_so (zsub_so (zsub_so (zsub_no (zsub_so (zsub_so (zsub_so (zsub_no (zsub_no (zsub_no (zsub_no (zsub_no (zsub_no (zsub_no (zsub_no (zsub_no (zsub_no (zsub_no (zsub_no (zsub_no zsub_nil))))))))))))))))))))) H
theorem b_J41_removeTreeNode_88 {s0 : zE} {d : Nat} {x0 : Nat} {x1 : Nat} {x2 : Nat} {x3 : Int32} {x5 : Int32} {x6 : Nat} {x7 : Nat} {h : zH} {Q : Value → zH → Prop} {E : Nat → zH → Prop} (H : (¬ x6 = 0 → ((fR h x7 [63] 6) ∧ ((gR h x7 6 = 0 → (zP s0 m_J41_removeTreeNode (d + 1) 109 [some (zr (x0)), some (zr (x1)), some (zr (x2)), some (.int (x3)), none, some (.int (x5)), some (zr (x6)), some (zr (x7)), none, none, none, none, none, none, none, none, none, none, none, none, none] [] h Q E)) ∧ (¬ gR h x7 6 = 0 → ((fC h x7 63 ∧ zX s0 m_J41_root d [zr x7] h (fun v1 h1 => ∃ n1 : Nat, v1 = zr (n1) ∧ (zP s0 m_J41_removeTreeNode (d + 1) 109 [some (zr (x0)), some (zr (x1)), some (zr (x2)), some (.int (x3)), none, some (.int (x5)), some (zr (x6)), some (zr (n1)), none, none, none, none, none, none, none, none, none, none, none, none, none] [] h1 Q E)) E)))))) ∧ (x6 = 0 → (Q .null h))) : zP s0 m_J41_removeTreeNode (d + 1) 88 [some (zr (x0)), some (zr (x1)), some (zr (x2)), some (.int (x3)), none, some (.int (x5)), some (zr (x6)), some (zr (x7)), none, none, none, none, none, none, none, none, none, none, none, none, none] [] h Q E := by
  refine z_aload (M := m_J41_removeTreeNode) (i := 6) rfl dJ41_removeTreeNode_88 ?_
  refine z_ifnonnull (M := m_J41_removeTreeNode) 94 rfl dJ41_removeTreeNode_90 (fun hc => ?_) (fun hc => ?_)
  · have H := H.1 hc
    refine z_aload (M := m_J41_removeTreeNode) (i := 7) rfl dJ41_removeTreeNode_94 ?_
    obtain ⟨g, H⟩ := H
    refine z_get (M := m_J41_removeTreeNode) f_J41_9 dJ41_removeTreeNode_96 g ?_
    refine z_ifnull (M := m_J41_removeTreeNode) 109 rfl dJ41_removeTreeNode_99 (fun hc => ?_) (fun hc => ?_)
    · have H := H.1 hc
      exact H
    · have H := H.2 hc
      refine z_aload (M := m_J41_removeTreeNode) (i := 7) rfl dJ41_removeTreeNode_102 ?_
      obtain ⟨⟨fs9, g⟩, H⟩ := H
      refine z_invV (M := m_J41_removeTreeNode) (cn := 63) (a := []) ok_J41_root q1928 q1929 q1930 rfl dJ41_removeTreeNode_104 g (Nat.le_refl _) (Nat.zero_le _) rfl H (fun v1 h1 H => ?_) (fun n9 h9 H => zPx.out rfl H)
      obtain ⟨n1, rfl, H⟩ := H
      show zP s0 m_J41_removeTreeNode (d + 1) _ _ [zr (n1)] _ _ _
      refine z_astore (M := m_J41_removeTreeNode) 7 (zlt rfl) (zr_cat _) dJ41_removeTreeNode_107 ?_
      show zP s0 m_J41_removeTreeNode (d + 1) _ [some (zr (x0)), some (zr (x1)), some (zr (x2)), some (.int (x3)), none, some (.int (x5)), some (zr (x6)), some (zr (n1)), none, none, none, none, none, none, none, none, none, none, none, none, none] _ _ _ _
      exact H
  · have H := H.2 hc
    exact z_return (M := m_J41_removeTreeNode) rfl dJ41_removeTreeNode_93 H
theorem b_J41_removeTreeNode_109 {s0 : zE} {d : Nat} {x0 : Nat} {x1 : Nat} {x2 : Nat} {x3 : Int32} {x5 : Int32} {x6 : Nat} {x7 : Nat} {h : zH} {Q : Value → zH → Prop} {E : Nat → zH → Prop} (H : (x7 = 0 → ((fC h x6 63 ∧ zX s0 m_J41_untreeify d [zr x6, zr (x1)] h (fun v1 h1 => ∃ n1 : Nat, v1 = zr (n1) ∧ ((fS s0 h1 x2 9 x5) ∧ ((n1 = 0 ∨ zAsg h1 n1 (.object "java/util/HashMap$Node")) ∧ (∀ h2, h2 = zput h1 x2 (x5).toNatClampNeg (zr n1) → (Q .null h2))))) E))) ∧ (¬ x7 = 0 → ((x3 = 0 → (zP s0 m_J41_removeTreeNode (d + 1) 156 [some (zr (x0)), none, some (zr (x2)), some (.int (x3)), none, none, none, some (zr (x7)), none, none, none, none, none, none, none, none, none, none, none, none, none] [] h Q E)) ∧ (¬ x3 = 0 → ((fR h x7 [63] 8) ∧ ((gR h x7 8 = 0 → ((fC h x6 63 ∧ zX s0 m_J41_untreeify d [zr x6, zr (x1)] h (fun v2 h3 => ∃ n2 : Nat, v2 = zr (n2) ∧ ((fS s0 h3 x2 9 x5) ∧ ((n2 = 0 ∨ zAsg h3 n2 (.object "java/util/HashMap$Node")) ∧ (∀ h4, h4 = zput h3 x2 (x5).toNatClampNeg (zr n2) → (Q .null h4))))) E))) ∧ (¬ gR h x7 8 = 0 → ((fR h x7 [63] 7) ∧ ((gR h x7 7 = 0 → ((fC h x6 63 ∧ zX s0 m_J41_untreeify d [zr x6, zr (x1)] h (fun v3 h5 => ∃ n3 : Nat, v3 = zr (n3) ∧ ((fS s0 h5 x2 9 x5) ∧ ((n3 = 0 ∨ zAsg h5 n3 (.object "java/util/HashMap$Node")) ∧ (∀ h6, h6 = zput h5 x2 (x5).toNatClampNeg (zr n3) → (Q .null h6))))) E))) ∧ (¬ gR h x7 7 = 0 → ((fR h (gR h x7 7) [63] 7) ∧ ((¬ gR h (gR h x7 7) 7 = 0 → (zP s0 m_J41_removeTreeNode (d + 1) 156 [some (zr (x0)), none, some (zr (x2)), some (.int (x3)), none, none, none, some (zr (x7)), none, none, none, none, none, none, none, none, none, none, none, none, none] [] h Q E)) ∧ (gR h (gR h x7 7) 7 = 0 → ((fC h x6 63 ∧ zX s0 m_J41_untreeify d [zr x6, zr (x1)] h (fun v4 h7 => ∃ n4 : Nat, v4 = zr (n4) ∧ ((fS s0 h7 x2 9 x5) ∧ ((n4 = 0 ∨ zAsg h7 n4 (.object "java/util/HashMap$Node")) ∧ (∀ h8, h8 = zput h7 x2 (x5).toNatClampNeg (zr n4) → (Q .null h8))))) E))))))))))))))) : zP s0 m_J41_removeTreeNode (d + 1) 109 [some (zr (x0)), some (zr (x1)), some (zr (x2)), some (.int (x3)), none, some (.int (x5)), some (zr (x6)), some (zr (x7)), none, none, none, none, none, none, none, none, none, none, none, none, none] [] h Q E := by
  refine z_aload (M := m_J41_removeTreeNode) (i := 7) rfl dJ41_removeTreeNode_109 ?_
  refine z_ifnull (M := m_J41_removeTreeNode) 145 rfl dJ41_removeTreeNode_111 (fun hc => ?_) (fun hc => ?_)
  · have H := H.1 hc
    refine z_aload_n (M := m_J41_removeTreeNode) (k := 2) rfl dJ41_removeTreeNode_145 ?_
    refine z_iload (M := m_J41_removeTreeNode) (i := 5) rfl dJ41_removeTreeNode_146 ?_
    refine z_aload (M := m_J41_removeTreeNode) (i := 6) rfl dJ41_removeTreeNode_148 ?_
    refine z_aload_n (M := m_J41_removeTreeNode) (k := 1) rfl dJ41_removeTreeNode_150 ?_
    obtain ⟨⟨fs9, g⟩, H⟩ := H
    refine z_invV (M := m_J41_removeTreeNode) (cn := 63) (a := [zr (x1)]) ok_J41_untreeify q2191 q2192 q2193 rfl dJ41_removeTreeNode_151 g (Nat.le_refl _) (Nat.le_trans (zcati (zcatr zcat0)) (zle rfl)) rfl H (fun v1 h1 H => ?_) (fun n9 h9 H => zPx.out rfl H)
    obtain ⟨n1, rfl, H⟩ := H
    show zP s0 m_J41_removeTreeNode (d + 1) _ _ [zr (n1), .int (x5), zr (x2)] _ _ _
    obtain ⟨g, gm, H⟩ := H
    refine zz_istA (M := m_J41_removeTreeNode) (t := 9) rfl dJ41_removeTreeNode_154 g gm (fun h2 e => ?_)
    have H := H h2 e
    exact z_return (M := m_J41_removeTreeNode) rfl dJ41_removeTreeNode_155 H
  · have H := H.2 hc
    refine z_iload_n (M := m_J41_removeTreeNode) (k := 3) rfl dJ41_removeTreeNode_114 ?_
    refine z_ifeq (M := m_J41_removeTreeNode) 156 rfl dJ41_removeTreeNode_115 (fun hc => ?_) (fun hc => ?_)
    · have H := H.1 hc
      exact zP.weak (ls' := [some (zr (x0)), none, some (zr (x2)), some (.int (x3)), none, none, none, some (zr (x7)), none, none, none, none, none, none, none, none, none, none, none, none, none]) (zle rfl) (zsub_so (zsub_no (zsub_so (zsub_so (zsub_no (zsub_no (zsub_no (zsub_so (zsub_no (zsub_no (zsub_no (zsub_no (zsub_no (zsub_no (zsub_no (zsub_no (zsub_no (zsub_no (zsub_no (zsub_no (zsub_no zsub_nil))))))))))))))))))))) H
    · have H := H.2 hc
      refine z_aload (M := m_J41_removeTreeNode) (i := 7) rfl dJ41_removeTreeNode_118 ?_
      obtain ⟨g, H⟩ := H
      refine z_get (M := m_J41_removeTreeNode) f_J41_42 dJ41_removeTreeNode_120 g ?_
      refine z_ifnull (M := m_J41_removeTreeNode) 145 rfl dJ41_removeTreeNode_123 (fun hc => ?_) (fun hc => ?_)
      · have H := H.1 hc
        refine z_aload_n (M := m_J41_removeTreeNode) (k := 2) rfl dJ41_removeTreeNode_145 ?_
        refine z_iload (M := m_J41_removeTreeNode) (i := 5) rfl dJ41_removeTreeNode_146 ?_
        refine z_aload (M := m_J41_removeTreeNode) (i := 6) rfl dJ41_removeTreeNode_148 ?_
        refine z_aload_n (M := m_J41_removeTreeNode) (k := 1) rfl dJ41_removeTreeNode_150 ?_
        obtain ⟨⟨fs9, g⟩, H⟩ := H
        refine z_invV (M := m_J41_removeTreeNode) (cn := 63) (a := [zr (x1)]) ok_J41_untreeify q2191 q2192 q2193 rfl dJ41_removeTreeNode_151 g (Nat.le_refl _) (Nat.le_trans (zcati (zcatr zcat0)) (zle rfl)) rfl H (fun v2 h3 H => ?_) (fun n9 h9 H => zPx.out rfl H)
        obtain ⟨n2, rfl, H⟩ := H
        show zP s0 m_J41_removeTreeNode (d + 1) _ _ [zr (n2), .int (x5), zr (x2)] _ _ _
        obtain ⟨g, gm, H⟩ := H
        refine zz_istA (M := m_J41_removeTreeNode) (t := 9) rfl dJ41_removeTreeNode_154 g gm (fun h4 e => ?_)
        have H := H h4 e
        exact z_return (M := m_J41_removeTreeNode) rfl dJ41_removeTreeNode_155 H
      · have H := H.2 hc
        refine z_aload (M := m_J41_removeTreeNode) (i := 7) rfl dJ41_removeTreeNode_126 ?_
        obtain ⟨g, H⟩ := H
        refine z_get (M := m_J41_removeTreeNode) f_J41_39 dJ41_removeTreeNode_128 g ?_
        refine z_dup (M := m_J41_removeTreeNode) (zr_cat _) dJ41_removeTreeNode_131 ?_
        refine z_astore (M := m_J41_removeTreeNode) 8 (zlt rfl) (zr_cat _) dJ41_removeTreeNode_132 ?_
        show zP s0 m_J41_removeTreeNode (d + 1) _ [some (zr (x0)), some (zr (x1)), some (zr (x2)), some (.int (x3)), none, some (.int (x5)), some (zr (x6)), some (zr (x7)), some (zr (gR h x7 7)), none, none, none, none, none, none, none, none, none, none, none, none] _ _ _ _
        refine z_ifnull (M := m_J41_removeTreeNode) 145 rfl dJ41_removeTreeNode_134 (fun hc => ?_) (fun hc => ?_)
        · have H := H.1 hc
          refine z_aload_n (M := m_J41_removeTreeNode) (k := 2) rfl dJ41_removeTreeNode_145 ?_
          refine z_iload (M := m_J41_removeTreeNode) (i := 5) rfl dJ41_removeTreeNode_146 ?_
          refine z_aload (M := m_J41_removeTreeNode) (i := 6) rfl dJ41_removeTreeNode_148 ?_
          refine z_aload_n (M := m_J41_removeTreeNode) (k := 1) rfl dJ41_removeTreeNode_150 ?_
          obtain ⟨⟨fs9, g⟩, H⟩ := H
          refine z_invV (M := m_J41_removeTreeNode) (cn := 63) (a := [zr (x1)]) ok_J41_untreeify q2191 q2192 q2193 rfl dJ41_removeTreeNode_151 g (Nat.le_refl _) (Nat.le_trans (zcati (zcatr zcat0)) (zle rfl)) rfl H (fun v3 h5 H => ?_) (fun n9 h9 H => zPx.out rfl H)
          obtain ⟨n3, rfl, H⟩ := H
          show zP s0 m_J41_removeTreeNode (d + 1) _ _ [zr (n3), .int (x5), zr (x2)] _ _ _
          obtain ⟨g, gm, H⟩ := H
          refine zz_istA (M := m_J41_removeTreeNode) (t := 9) rfl dJ41_removeTreeNode_154 g gm (fun h6 e => ?_)
          have H := H h6 e
          exact z_return (M := m_J41_removeTreeNode) rfl dJ41_removeTreeNode_155 H
        · have H := H.2 hc
          refine z_aload (M := m_J41_removeTreeNode) (i := 8) rfl dJ41_removeTreeNode_137 ?_
          obtain ⟨g, H⟩ := H
          refine z_get (M := m_J41_removeTreeNode) f_J41_39 dJ41_removeTreeNode_139 g ?_
          refine z_ifnonnull (M := m_J41_removeTreeNode) 156 rfl dJ41_removeTreeNode_142 (fun hc => ?_) (fun hc => ?_)
          · have H := H.1 hc
            exact zP.weak (ls' := [some (zr (x0)), none, some (zr (x2)), some (.int (x3)), none, none, none, some (zr (x7)), none, none, none, none, none, none, none, none, none, none, none, none, none]) (zle rfl) (zsub_so (zsub_no (zsub_so (zsub_so (zsub_no (zsub_no (zsub_no (zsub_so (zsub_no (zsub_no (zsub_no (zsub_no (zsub_no (zsub_no (zsub_no (zsub_no (zsub_no (zsub_no (zsub_no (zsub_no (zsub_no zsub_nil))))))))))))))))))))) H
          · have H := H.2 hc
            refine z_aload_n (M := m_J41_removeTreeNode) (k := 2) rfl dJ41_removeTreeNode_145 ?_
            refine z_iload (M := m_J41_removeTreeNode) (i := 5) rfl dJ41_removeTreeNode_146 ?_
            refine z_aload (M := m_J41_removeTreeNode) (i := 6) rfl dJ41_removeTreeNode_148 ?_
            refine z_aload_n (M := m_J41_removeTreeNode) (k := 1) rfl dJ41_removeTreeNode_150 ?_
            obtain ⟨⟨fs9, g⟩, H⟩ := H
            refine z_invV (M := m_J41_removeTreeNode) (cn := 63) (a := [zr (x1)]) ok_J41_untreeify q2191 q2192 q2193 rfl dJ41_removeTreeNode_151 g (Nat.le_refl _) (Nat.le_trans (zcati (zcatr zcat0)) (zle rfl)) rfl H (fun v4 h7 H => ?_) (fun n9 h9 H => zPx.out rfl H)
            obtain ⟨n4, rfl, H⟩ := H
            show zP s0 m_J41_removeTreeNode (d + 1) _ _ [zr (n4), .int (x5), zr (x2)] _ _ _
            obtain ⟨g, gm, H⟩ := H
            refine zz_istA (M := m_J41_removeTreeNode) (t := 9) rfl dJ41_removeTreeNode_154 g gm (fun h8 e => ?_)
            have H := H h8 e
            exact z_return (M := m_J41_removeTreeNode) rfl dJ41_removeTreeNode_155 H
theorem b_J41_removeTreeNode_156 {s0 : zE} {d : Nat} {x0 : Nat} {x2 : Nat} {x3 : Int32} {x7 : Nat} {h : zH} {Q : Value → zH → Prop} {E : Nat → zH → Prop} (H : (fR h x0 [63] 7) ∧ ((fR h x0 [63] 8) ∧ ((gR h x0 7 = 0 → (zP s0 m_J41_removeTreeNode (d + 1) 434 [none, none, some (zr (x2)), some (.int (x3)), none, none, none, some (zr (x7)), none, none, none, some (zr (x0)), some (zr (gR h x0 7)), some (zr (gR h x0 8)), none, none, none, none, none, none, none] [] h Q E)) ∧ (¬ gR h x0 7 = 0 → ((gR h x0 8 = 0 → (zP s0 m_J41_removeTreeNode (d + 1) 434 [none, none, some (zr (x2)), some (.int (x3)), none, none, none, some (zr (x7)), none, none, none, some (zr (x0)), some (zr (gR h x0 7)), some (zr (gR h x0 8)), none, none, none, none, none, none, none] [] h Q E)) ∧ (¬ gR h x0 8 = 0 → (zP s0 m_J41_removeTreeNode (d + 1) 185 [none, none, some (zr (x2)), some (.int (x3)), none, none, none, some (zr (x7)), none, none, none, some (zr (x0)), some (zr (gR h x0 7)), some (zr (gR h x0 8)), none, some (zr (gR h x0 8)), none, none, none, none, none] [] h Q E))))))) : zP s0 m_J41_removeTreeNode (d + 1) 156 [some (zr (x0)), none, some (zr (x2)), some (.int (x3)), none, none, none, some (zr (x7)), none, none, none, none, none, none, none, none, none, none, none, none, none] [] h Q E := by
  refine z_aload_n (M := m_J41_removeTreeNode) (k := 0) rfl dJ41_removeTreeNode_156 ?_
  refine z_astore (M := m_J41_removeTreeNode) 11 (zlt rfl) trivial dJ41_removeTreeNode_157 ?_
  show zP s0 m_J41_removeTreeNode (d + 1) _ [some (zr (x0)), none, some (zr (x2)), some (.int (x3)), none, none, none, some (zr (x7)), none, none, none, some (zr (x0)), none, none, none, none, none, none, none, none, none] _ _ _ _
  refine z_aload_n (M := m_J41_removeTreeNode) (k := 0) rfl dJ41_removeTreeNode_159 ?_
  obtain ⟨g, H⟩ := H
  refine z_get (M := m_J41_removeTreeNode) f_J41_39 dJ41_removeTreeNode_160 g ?_
  refine z_astore (M := m_J41_removeTreeNode) 12 (zlt rfl) (zr_cat _) dJ41_removeTreeNode_163 ?_
  show zP s0 m_J41_removeTreeNode (d + 1) _ [some (zr (x0)), none, some (zr (x2)), some (.int (x3)), none, none, none, some (zr (x7)), none, none, none, some (zr (x0)), some (zr (gR h x0 7)), none, none, none, none, none, none, none, none] _ _ _ _
  refine z_aload_n (M := m_J41_removeTreeNode) (k := 0) rfl dJ41_removeTreeNode_165 ?_
  obtain ⟨g, H⟩ := H
  refine z_get (M := m_J41_removeTreeNode) f_J41_42 dJ41_removeTreeNode_166 g ?_
  refine z_astore (M := m_J41_removeTreeNode) 13 (zlt rfl) (zr_cat _) dJ41_removeTreeNode_169 ?_
  show zP s0 m_J41_removeTreeNode (d + 1) _ [some (zr (x0)), none, some (zr (x2)), some (.int (x3)), none, none, none, some (zr (x7)), none, none, none, some (zr (x0)), some (zr (gR h x0 7)), some (zr (gR h x0 8)), none, none, none, none, none, none, none] _ _ _ _
  refine z_aload (M := m_J41_removeTreeNode) (i := 12) rfl dJ41_removeTreeNode_171 ?_
  refine z_ifnull (M := m_J41_removeTreeNode) 434 rfl dJ41_removeTreeNode_173 (fun hc => ?_) (fun hc => ?_)
  · have H := H.1 hc
    exact zP.weak (ls' := [none, none, some (zr (x2)), some (.int (x3)), none, none, none, some (zr (x7)), none, none, none, some (zr (x0)), some (zr (gR h x0 7)), some (zr (gR h x0 8)), none, none, none, none, none, none, none]) (zle rfl) (zsub_no (zsub_no (zsub_so (zsub_so (zsub_no (zsub_no (zsub_no (zsub_so (zsub_no (zsub_no (zsub_no (zsub_so (zsub_so (zsub_so (zsub_no (zsub_no (zsub_no (zsub_no (zsub_no (zsub_no (zsub_no zsub_nil))))))))))))))))))))) H
  · have H := H.2 hc
    refine z_aload (M := m_J41_removeTreeNode) (i := 13) rfl dJ41_removeTreeNode_176 ?_
    refine z_ifnull (M := m_J41_removeTreeNode) 434 rfl dJ41_removeTreeNode_178 (fun hc => ?_) (fun hc => ?_)
    · have H := H.1 hc
      exact zP.weak (ls' := [none, none, some (zr (x2)), some (.int (x3)), none, none, none, some (zr (x7)), none, none, none, some (zr (x0)), some (zr (gR h x0 7)), some (zr (gR h x0 8)), none, none, none, none, none, none, none]) (zle rfl) (zsub_no (zsub_no (zsub_so (zsub_so (zsub_no (zsub_no (zsub_no (zsub_so (zsub_no (zsub_no (zsub_no (zsub_so (zsub_so (zsub_so (zsub_no (zsub_no (zsub_no (zsub_no (zsub_no (zsub_no (zsub_no zsub_nil))))))))))))))))))))) H
    · have H := H.2 hc
      refine z_aload (M := m_J41_removeTreeNode) (i := 13) rfl dJ41_removeTreeNode_181 ?_
      refine z_astore (M := m_J41_removeTreeNode) 15 (zlt rfl) trivial dJ41_removeTreeNode_183 ?_
      show zP s0 m_J41_removeTreeNode (d + 1) _ [some (zr (x0)), none, some (zr (x2)), some (.int (x3)), none, none, none, some (zr (x7)), none, none, none, some (zr (x0)), some (zr (gR h x0 7)), some (zr (gR h x0 8)), none, some (zr (gR h x0 8)), none, none, none, none, none] _ _ _ _
      exact zP.weak (ls' := [none, none, some (zr (x2)), some (.int (x3)), none, none, none, some (zr (x7)), none, none, none, some (zr (x0)), some (zr (gR h x0 7)), some (zr (gR h x0 8)), none, some (zr (gR h x0 8)), none, none, none, none, none]) (zle rfl) (zsub_no (zsub_no (zsub_so (zsub_so (zsub_no (zsub_no (zsub_no (zsub_so (zsub_no (zsub_no (zsub_no (zsub_so (zsub_so (zsub_so (zsub_no (zsub_so (zsub_no (zsub_no (zsub_no (zsub_no (zsub_no zsub_nil))))))))))))))))))))) H
theorem b_J41_removeTreeNode_185 {s0 : zE} {d : Nat} {x2 : Nat} {x3 : Int32} {x7 : Nat} {x11 : Nat} {x12 : Nat} {x13 : Nat} {x15 : Nat} {h : zH} {Q : Value → zH → Prop} {E : Nat → zH → Prop} (H : (fR h x15 [63] 7) ∧ ((gR h x15 7 = 0 → ((fI h x15 [63] 10) ∧ ((fI h x11 [63] 10) ∧ ((gI h x11 10 = 0 ∨ gI h x11 10 = 1) ∧ ((fC h x15 63) ∧ (∀ h1, h1 = zput h x15 10 (.int (gI h x11 10)) → ((gI h x15 10 = 0 ∨ gI h x15 10 = 1) ∧ ((fC h1 x11 63) ∧ (∀ h2, h2 = zput h1 x11 10 (.int (gI h x15 10)) → ((fR h2 x15 [63] 8) ∧ ((fR h2 x11 [63] 6) ∧ ((¬ x15 = x13 → ((fR h2 x15 [63] 6) ∧ ((fC h2 x11 63) ∧ (∀ h3, h3 = zput h2 x11 6 (zr (gR h2 x15 6)) → ((gR h2 x15 6 = 0 → (zP s0 m_J41_removeTreeNode (d + 1) 310 [none, none, some (zr (x2)), some (.int (x3)), none, none, none, some (zr (x7)), none, none, none, some (zr (x11)), some (zr (x12)), some (zr (x13)), none, some (zr (x15)), none, none, some (zr (gR h2 x15 8)), some (zr (gR h2 x11 6)), none] [] h3 Q E)) ∧ (¬ gR h2 x15 6 = 0 → ((fR h3 (gR h2 x15 6) [63] 7) ∧ ((¬ x15 = gR h3 (gR h2 x15 6) 7 → ((fC h3 (gR h2 x15 6) 63) ∧ (∀ h4, h4 = zput h3 (gR h2 x15 6) 8 (zr (x11)) → (zP s0 m_J41_removeTreeNode (d + 1) 310 [none, none, some (zr (x2)), some (.int (x3)), none, none, none, some (zr (x7)), none, none, none, some (zr (x11)), some (zr (x12)), some (zr (x13)), none, some (zr (x15)), none, none, some (zr (gR h2 x15 8)), some (zr (gR h2 x11 6)), none] [] h4 Q E)))) ∧ (x15 = gR h3 (gR h2 x15 6) 7 → ((fC h3 (gR h2 x15 6) 63) ∧ (∀ h5, h5 = zput h3 (gR h2 x15 6) 7 (zr (x11)) → (zP s0 m_J41_removeTreeNode (d + 1) 310 [none, none, some (zr (x2)), some (.int (x3)), none, none, none, some (zr (x7)), none, none, none, some (zr (x11)), some (zr (x12)), some (zr (x13)), none, some (zr (x15)), none, none, some (zr (gR h2 x15 8)), some (zr (gR h2 x11 6)), none] [] h5 Q E)))))))))))) ∧ (x15 = x13 → ((fC h2 x11 63) ∧ (∀ h6, h6 = zput h2 x11 6 (zr (x15)) → ((fC h6 x15 63) ∧ (∀ h7, h7 = zput h6 x15 8 (zr (x11)) → (zP s0 m_J41_removeTreeNode (d + 1) 328 [none, none, some (zr (x2)), some (.int (x3)), none, none, none, some (zr (x7)), none, none, none, some (zr (x11)), some (zr (x12)), none, none, some (zr (x15)), none, none, some (zr (gR h2 x15 8)), some (zr (gR h2 x11 6)), none] [] h7 Q E)))))))))))))))))) ∧ (¬ gR h x15 7 = 0 → (zP s0 m_J41_removeTreeNode (d + 1) 185 [none, none, some (zr (x2)), some (.int (x3)), none, none, none, some (zr (x7)), none, none, none, some (zr (x11)), some (zr (x12)), some (zr (x13)), none, some (zr (gR h x15 7)), none, none, none, none, none] [] h Q E)))) : zP s0 m_J41_removeTreeNode (d + 1) 185 [none, none, some (zr (x2)), some (.int (x3)), none, none, none, some (zr (x7)), none, none, none, some (zr (x11)), some (zr (x12)), some (zr (x13)), none, some (zr (x15)), none, none, none, none, none] [] h Q E := by
  refine z_aload (M := m_J41_removeTreeNode) (i := 15) rfl dJ41_removeTreeNode_185 ?_
  obtain ⟨g, H⟩ := H
  refine z_get (M := m_J41_removeTreeNode) f_J41_39 dJ41_removeTreeNode_187 g ?_
  refine z_dup (M := m_J41_removeTreeNode) (zr_cat _) dJ41_removeTreeNode_190 ?_
  refine z_astore (M := m_J41_removeTreeNode) 16 (zlt rfl) (zr_cat _) dJ41_removeTreeNode_191 ?_
  show zP s0 m_J41_removeTreeNode (d + 1) _ [none, none, some (zr (x2)), some (.int (x3)), none, none, none, some (zr (x7)), none, none, none, some (zr (x11)), some (zr (x12)), some (zr (x13)), none, some (zr (x15)), some (zr (gR h x15 7)), none, none, none, none] _ _ _ _
  refine z_ifnull (M := m_J41_removeTreeNode) 203 rfl dJ41_removeTreeNode_193 (fun hc => ?_) (fun hc => ?_)
  · have H := H.1 hc
    refine z_aload (M := m_J41_removeTreeNode) (i := 15) rfl dJ41_removeTreeNode_203 ?_
    obtain ⟨g, H⟩ := H
    refine z_get (M := m_J41_removeTreeNode) f_J41_93 dJ41_removeTreeNode_205 g ?_
    refine z_istore (M := m_J41_removeTreeNode) 17 (zlt rfl) (zr_cat _) dJ41_removeTreeNode_208 ?_
    show zP s0 m_J41_removeTreeNode (d + 1) _ [none, none, some (zr (x2)), some (.int (x3)), none, none, none, some (zr (x7)), none, none, none, some (zr (x11)), some (zr (x12)), some (zr (x13)), none, some (zr (x15)), some (zr (gR h x15 7)), some (.int (gI h x15 10)), none, none, none] _ _ _ _
    refine z_aload (M := m_J41_removeTreeNode) (i := 15) rfl dJ41_removeTreeNode_210 ?_
    refine z_aload (M := m_J41_removeTreeNode) (i := 11) rfl dJ41_removeTreeNode_212 ?_
    obtain ⟨g, H⟩ := H
    refine z_get (M := m_J41_removeTreeNode) f_J41_93 dJ41_removeTreeNode_214 g ?_
    obtain ⟨gz, H⟩ := H
    obtain ⟨g, H⟩ := H
    refine zz_put (M := m_J41_removeTreeNode) f_J41_93 dJ41_removeTreeNode_217 rfl (fn_63_10) g (ft_63_10 gz) (fun h1 e => ?_)
    have H := H h1 e
    refine z_aload (M := m_J41_removeTreeNode) (i := 11) rfl dJ41_removeTreeNode_220 ?_
    refine z_iload (M := m_J41_removeTreeNode) (i := 17) rfl dJ41_removeTreeNode_222 ?_
    obtain ⟨gz, H⟩ := H
    obtain ⟨g, H⟩ := H
    refine zz_put (M := m_J41_removeTreeNode) f_J41_93 dJ41_removeTreeNode_224 rfl (fn_63_10) g (ft_63_10 gz) (fun h2 e => ?_)
    have H := H h2 e
    refine z_aload (M := m_J41_removeTreeNode) (i := 15) rfl dJ41_removeTreeNode_227 ?_
    obtain ⟨g, H⟩ := H
    refine z_get (M := m_J41_removeTreeNode) f_J41_42 dJ41_removeTreeNode_229 g ?_
    refine z_astore (M := m_J41_removeTreeNode) 18 (zlt rfl) rfl dJ41_removeTreeNode_232 ?_
    show zP s0 m_J41_removeTreeNode (d + 1) _ [none, none, some (zr (x2)), some (.int (x3)), none, none, none, some (zr (x7)), none, none, none, some (zr (x11)), some (zr (x12)), some (zr (x13)), none, some (zr (x15)), some (zr (gR h x15 7)), some (.int (gI h x15 10)), some (zr (gR h2 x15 8)), none, none] _ _ _ _
    refine z_aload (M := m_J41_removeTreeNode) (i := 11) rfl dJ41_removeTreeNode_234 ?_
    obtain ⟨g, H⟩ := H
    refine z_get (M := m_J41_removeTreeNode) f_J41_9 dJ41_removeTreeNode_236 g ?_
    refine z_astore (M := m_J41_removeTreeNode) 19 (zlt rfl) (zr_cat _) dJ41_removeTreeNode_239 ?_
    show zP s0 m_J41_removeTreeNode (d + 1) _ [none, none, some (zr (x2)), some (.int (x3)), none, none, none, some (zr (x7)), none, none, none, some (zr (x11)), some (zr (x12)), some (zr (x13)), none, some (zr (x15)), some (zr (gR h x15 7)), some (.int (gI h x15 10)), some (zr (gR h2 x15 8)), some (zr (gR h2 x11 6)), none] _ _ _ _
    refine z_aload (M := m_J41_removeTreeNode) (i := 15) rfl dJ41_removeTreeNode_241 ?_
    refine z_aload (M := m_J41_removeTreeNode) (i := 13) rfl dJ41_removeTreeNode_243 ?_
    refine z_acmpne (M := m_J41_removeTreeNode) 265 rfl dJ41_removeTreeNode_245 (fun hc => ?_) (fun hc => ?_)
    · have H := H.1 hc
      refine z_aload (M := m_J41_removeTreeNode) (i := 15) rfl dJ41_removeTreeNode_265 ?_
      obtain ⟨g, H⟩ := H
      refine z_get (M := m_J41_removeTreeNode) f_J41_9 dJ41_removeTreeNode_267 g ?_
      refine z_astore (M := m_J41_removeTreeNode) 20 (zlt rfl) (zr_cat _) dJ41_removeTreeNode_270 ?_
      show zP s0 m_J41_removeTreeNode (d + 1) _ [none, none, some (zr (x2)), some (.int (x3)), none, none, none, some (zr (x7)), none, none, none, some (zr (x11)), some (zr (x12)), some (zr (x13)), none, some (zr (x15)), some (zr (gR h x15 7)), some (.int (gI h x15 10)), some (zr (gR h2 x15 8)), some (zr (gR h2 x11 6)), some (zr (gR h2 x15 6))] _ _ _ _
      refine z_aload (M := m_J41_removeTreeNode) (i := 11) rfl dJ41_removeTreeNode_272 ?_
      refine z_aload (M := m_J41_removeTreeNode) (i := 20) rfl dJ41_removeTreeNode_274 ?_
      refine z_dup_x1 (M := m_J41_removeTreeNode) (zr_cat _) (zr_cat _) dJ41_removeTreeNode_276 ?_
      obtain ⟨g, H⟩ := H
      refine zz_put (M := m_J41_removeTreeNode) f_J41_9 dJ41_removeTreeNode_277 rfl (fn_63_6) g (ft_63_6) (fun h3 e => ?_)
      have H := H h3 e
      refine z_ifnull (M := m_J41_removeTreeNode) 310 rfl dJ41_removeTreeNode_280 (fun hc => ?_) (fun hc => ?_)
      · have H := H.1 hc
        exact zP.weak (ls' := [none, none, some (zr (x2)), some (.int (x3)), none, none, none, some (zr (x7)), none, none, none, some (zr (x11)), some (zr (x12)), some (zr (x13)), none, some (zr (x15)), none, none, some (zr (gR h2 x15 8)), some (zr (gR h2 x11 6)), none]) (zle rfl) (zsub_no (zsub_no (zsub_so (zsub_so (zsub_no (zsub_no (zsub_no (zsub_so (zsub_no (zsub_no (zsub_no (zsub_so (zsub_so (zsub_so (zsub_no (zsub_so (zsub_no (zsub_no (zsub_so (zsub_so (zsub_no zsub_nil))))))))))))))))))))) H
      · have H := H.2 hc
        refine z_aload (M := m_J41_removeTreeNode) (i := 15) rfl dJ41_removeTreeNode_283 ?_
        refine z_aload (M := m_J41_removeTreeNode) (i := 20) rfl dJ41_removeTreeNode_285 ?_
        obtain ⟨g, H⟩ := H
        refine z_get (M := m_J41_removeTreeNode) f_J41_39 dJ41_removeTreeNode_287 g ?_
        refine z_acmpne (M := m_J41_removeTreeNode) 303 rfl dJ41_removeTreeNode_290 (fun hc => ?_) (fun hc => ?_)
        · have H := H.1 hc
          refine z_aload (M := m_J41_removeTreeNode) (i := 20) rfl dJ41_removeTreeNode_303 ?_
          refine z_aload (M := m_J41_removeTreeNode) (i := 11) rfl dJ41_removeTreeNode_305 ?_
          obtain ⟨g, H⟩ := H
          refine zz_put (M := m_J41_removeTreeNode) f_J41_42 dJ41_removeTreeNode_307 rfl (fn_63_8) g (ft_63_8) (fun h4 e => ?_)
          have H := H h4 e
          exact zP.weak (ls' := [none, none, some (zr (x2)), some (.int (x3)), none, none, none, some (zr (x7)), none, none, none, some (zr (x11)), some (zr (x12)), some (zr (x13)), none, some (zr (x15)), none, none, some (zr (gR h2 x15 8)), some (zr (gR h2 x11 6)), none]) (zle rfl) (zsub_no (zsub_no (zsub_so (zsub_so (zsub_no (zsub_no (zsub_no (zsub_so (zsub_no (zsub_no (zsub_no (zsub_so (zsub_so (zsub_so (zsub_no (zsub_so (zsub_no (zsub_no (zsub_so (zsub_so (zsub_no zsub_nil))))))))))))))))))))) H
        · have H := H.2 hc
          refine z_aload (M := m_J41_removeTreeNode) (i := 20) rfl dJ41_removeTreeNode_293 ?_
          refine z_aload (M := m_J41_removeTreeNode) (i := 11) rfl dJ41_removeTreeNode_295 ?_
          obtain ⟨g, H⟩ := H
          refine zz_put (M := m_J41_removeTreeNode) f_J41_39 dJ41_removeTreeNode_297 rfl (fn_63_7) g (ft_63_7) (fun h5 e => ?_)
          have H := H h5 e
          refine z_goto (M := m_J41_removeTreeNode) 310 rfl dJ41_removeTreeNode_300 ?_
          exact zP.weak (ls' := [none, none, some (zr (x2)), some (.int (x3)), none, none, none, some (zr (x7)), none, none, none, some (zr (x11)), some (zr (x12)), some (zr (x13)), none, some (zr (x15)), none, none, some (zr (gR h2 x15 8)), some (zr (gR h2 x11 6)), none]) (zle rfl) (zsub_no (zsub_no (zsub_so (zsub_so (zsub_no (zsub_no (zsub_no (zsub_so (zsub_no (zsub_no (zsub_no (zsub_so (zsub_so (zsub_so (zsub_no (zsub_so (zsub_no (zsub_no (zsub_so (zsub_so (zsub_no zsub_nil))))))))))))))))))))) H
    · have H := H.2 hc
      refine z_aload (M := m_J41_removeTreeNode) (i := 11) rfl dJ41_removeTreeNode_248 ?_
      refine z_aload (M := m_J41_removeTreeNode) (i := 15) rfl dJ41_removeTreeNode_250 ?_
      obtain ⟨g, H⟩ := H
      refine zz_put (M := m_J41_removeTreeNode) f_J41_9 dJ41_removeTreeNode_252 rfl (fn_63_6) g (ft_63_6) (fun h6 e => ?_)
      have H := H h6 e
      refine z_aload (M := m_J41_removeTreeNode) (i := 15) rfl dJ41_removeTreeNode_255 ?_
      refine z_aload (M := m_J41_removeTreeNode) (i := 11) rfl dJ41_removeTreeNode_257 ?_
      obtain ⟨g, H⟩ := H
      refine zz_put (M := m_J41_removeTreeNode) f_J41_42 dJ41_removeTreeNode_259 rfl (fn_63_8) g (ft_63_8) (fun h7 e => ?_)
      have H := H h7 e
      refine z_goto (M := m_J41_removeTreeNode) 328 rfl dJ41_removeTreeNode_262 ?_
      exact zP.weak (ls' := [none, none, some (zr (x2)), some (.int (x3)), none, none, none, some (zr (x7)), none, none, none, some (zr (x11)), some (zr (x12)), none, none, some (zr (x15)), none, none, some (zr (gR h2 x15 8)), some (zr (gR h2 x11 6)), none]) (zle rfl) (zsub_no (zsub_no (zsub_so (zsub_so (zsub_no (zsub_no (zsub_no (zsub_so (zsub_no (zsub_no (zsub_no (zsub_so (zsub_so (zsub_no (zsub_no (zsub_so (zsub_no (zsub_no (zsub_so (zsub_so (zsub_no zsub_nil))))))))))))))))))))) H
  · have H := H.2 hc
    refine z_aload (M := m_J41_removeTreeNode) (i := 16) rfl dJ41_removeTreeNode_196 ?_
    refine z_astore (M := m_J41_removeTreeNode) 15 (zlt rfl) trivial dJ41_removeTreeNode_198 ?_
    show zP s0 m_J41_removeTreeNode (d + 1) _ [none, none, some (zr (x2)), some (.int (x3)), none, none, none, some (zr (x7)), none, none, none, some (zr (x11)), some (zr (x12)), some (zr (x13)), none, some (zr (gR h x15 7)), some (zr (gR h x15 7)), none, none, none, none] _ _ _ _
    refine z_goto (M := m_J41_removeTreeNode) 185 rfl dJ41_removeTreeNode_200 ?_
    exact zP.weak (ls' := [none, none, some (zr (x2)), some (.int (x3)), none, none, none, some (zr (x7)), none, none, none, some (zr (x11)), some (zr (x12)), some (zr (x13)), none, some (zr (gR h x15 7)), none, none, none, none, none]) (zle rfl) (zsub_no (zsub_no (zsub_so (zsub_so (zsub_no (zsub_no (zsub_no (zsub_so (zsub_no (zsub_no (zsub_no (zsub_so (zsub_so (zsub_so (zsub_no (zsub_so (zsub_no (zsub_no (zsub_no (zsub_no (zsub_no zsub_nil))))))))))))))))))))) H
theorem b_J41_removeTreeNode_310 {s0 : zE} {d : Nat} {x2 : Nat} {x3 : Int32} {x7 : Nat} {x11 : Nat} {x12 : Nat} {x13 : Nat} {x15 : Nat} {x18 : Nat} {x19 : Nat} {h : zH} {Q : Value → zH → Prop} {E : Nat → zH → Prop} (H : (fC h x15 63) ∧ (∀ h1, h1 = zput h x15 8 (zr (x13)) → ((x13 = 0 → (zP s0 m_J41_removeTreeNode (d + 1) 328 [none, none, some (zr (x2)), some (.int (x3)), none, none, none, some (zr (x7)), none, none, none, some (zr (x11)), some (zr (x12)), none, none, some (zr (x15)), none, none, some (zr (x18)), some (zr (x19)), none] [] h1 Q E)) ∧ (¬ x13 = 0 → ((fC h1 x13 63) ∧ (∀ h2, h2 = zput h1 x13 6 (zr (x15)) → (zP s0 m_J41_removeTreeNode (d + 1) 328 [none, none, some (zr (x2)), some (.int (x3)), none, none, none, some (zr (x7)), none, none, none, some (zr (x11)), some (zr (x12)), none, none, some (zr (x15)), none, none, some (zr (x18)), some (zr (x19)), none] [] h2 Q E))))))) : zP s0 m_J41_removeTreeNode (d + 1) 310 [none, none, some (zr (x2)), some (.int (x3)), none, none, none, some (zr (x7)), none, none, none, some (zr (x11)), some (zr (x12)), some (zr (x13)), none, some (zr (x15)), none, none, some (zr (x18)), some (zr (x19)), none] [] h Q E := by
  refine z_aload (M := m_J41_removeTreeNode) (i := 15) rfl dJ41_removeTreeNode_310 ?_
  refine z_aload (M := m_J41_removeTreeNode) (i := 13) rfl dJ41_removeTreeNode_312 ?_
  refine z_dup_x1 (M := m_J41_removeTreeNode) (zr_cat _) (zr_cat _) dJ41_removeTreeNode_314 ?_
  obtain ⟨g, H⟩ := H
  refine zz_put (M := m_J41_removeTreeNode) f_J41_42 dJ41_removeTreeNode_315 rfl (fn_63_8) g (ft_63_8) (fun h1 e => ?_)
  have H := H h1 e
  refine z_ifnull (M := m_J41_removeTreeNode) 328 rfl dJ41_removeTreeNode_318 (fun hc => ?_) (fun hc => ?_)
  · have H := H.1 hc
    exact zP.weak (ls' := [none, none, some (zr (x2)), some (.int (x3)), none, none, none, some (zr (x7)), none, none, none, some (zr (x11)), some (zr (x12)), none, none, some (zr (x15)), none, none, some (zr (x18)), some (zr (x19)), none]) (zle rfl) (zsub_no (zsub_no (zsub_so (zsub_so (zsub_no (zsub_no (zsub_no (zsub_so (zsub_no (zsub_no (zsub_no (zsub_so (zsub_so (zsub_no (zsub_no (zsub_so (zsub_no (zsub_no (zsub_so (zsub_so (zsub_no zsub_nil))))))))))))))))))))) H
  · have H := H.2 hc
    refine z_aload (M := m_J41_removeTreeNode) (i := 13) rfl dJ41_removeTreeNode_321 ?_
    refine z_aload (M := m_J41_removeTreeNode) (i := 15) rfl dJ41_removeTreeNode_323 ?_
    obtain ⟨g, H⟩ := H
    refine zz_put (M := m_J41_removeTreeNode) f_J41_9 dJ41_removeTreeNode_325 rfl (fn_63_6) g (ft_63_6) (fun h2 e => ?_)
    have H := H h2 e
    exact zP.weak (ls' := [none, none, some (zr (x2)), some (.int (x3)), none, none, none, some (zr (x7)), none, none, none, some (zr (x11)), some (zr (x12)), none, none, some (zr (x15)), none, none, some (zr (x18)), some (zr (x19)), none]) (zle rfl) (zsub_no (zsub_no (zsub_so (zsub_so (zsub_no (zsub_no (zsub_no (zsub_so (zsub_no (zsub_no (zsub_no (zsub_so (zsub_so (zsub_no (zsub_no (zsub_so (zsub_no (zsub_no (zsub_so (zsub_so (zsub_no zsub_nil))))))))))))))))))))) H
theorem b_J41_removeTreeNode_328 {s0 : zE} {d : Nat} {x2 : Nat} {x3 : Int32} {x7 : Nat} {x11 : Nat} {x12 : Nat} {x15 : Nat} {x18 : Nat} {x19 : Nat} {h : zH} {Q : Value → zH → Prop} {E : Nat → zH → Prop} (H : (fC h x11 63) ∧ (∀ h1, h1 = zput h x11 7 (zr (0)) → ((fC h1 x11 63) ∧ (∀ h2, h2 = zput h1 x11 8 (zr (x18)) → ((x18 = 0 → (zP s0 m_J41_removeTreeNode (d + 1) 352 [none, none, some (zr (x2)), some (.int (x3)), none, none, none, some (zr (x7)), none, none, none, some (zr (x11)), some (zr (x12)), none, none, some (zr (x15)), none, none, some (zr (x18)), some (zr (x19)), none] [] h2 Q E)) ∧ (¬ x18 = 0 → ((fC h2 x18 63) ∧ (∀ h3, h3 = zput h2 x18 6 (zr (x11)) → (zP s0 m_J41_removeTreeNode (d + 1) 352 [none, none, some (zr (x2)), some (.int (x3)), none, none, none, some (zr (x7)), none, none, none, some (zr (x11)), some (zr (x12)), none, none, some (zr (x15)), none, none, some (zr (x18)), some (zr (x19)), none] [] h3 Q E))))))))) : zP s0 m_J41_removeTreeNode (d + 1) 328 [none, none, some (zr (x2)), some (.int (x3)), none, none, none, some (zr (x7)), none, none, none, some (zr (x11)), some (zr (x12)), none, none, some (zr (x15)), none, none, some (zr (x18)), some (zr (x19)), none] [] h Q E := by
  refine z_aload (M := m_J41_removeTreeNode) (i := 11) rfl dJ41_removeTreeNode_328 ?_
  refine z_null (M := m_J41_removeTreeNode) dJ41_removeTreeNode_330 ?_
  obtain ⟨g, H⟩ := H
  refine zz_put (M := m_J41_removeTreeNode) f_J41_39 dJ41_removeTreeNode_331 rfl (fn_63_7) g (ft_63_7) (fun h1 e => ?_)
  have H := H h1 e
  refine z_aload (M := m_J41_removeTreeNode) (i := 11) rfl dJ41_removeTreeNode_334 ?_
  refine z_aload (M := m_J41_removeTreeNode) (i := 18) rfl dJ41_removeTreeNode_336 ?_
  refine z_dup_x1 (M := m_J41_removeTreeNode) (zr_cat _) (zr_cat _) dJ41_removeTreeNode_338 ?_
  obtain ⟨g, H⟩ := H
  refine zz_put (M := m_J41_removeTreeNode) f_J41_42 dJ41_removeTreeNode_339 rfl (fn_63_8) g (ft_63_8) (fun h2 e => ?_)
  have H := H h2 e
  refine z_ifnull (M := m_J41_removeTreeNode) 352 rfl dJ41_removeTreeNode_342 (fun hc => ?_) (fun hc => ?_)
  · have H := H.1 hc
    exact H
  · have H := H.2 hc
    refine z_aload (M := m_J41_removeTreeNode) (i := 18) rfl dJ41_removeTreeNode_345 ?_
    refine z_aload (M := m_J41_removeTreeNode) (i := 11) rfl dJ41_removeTreeNode_347 ?_
    obtain ⟨g, H⟩ := H
    refine zz_put (M := m_J41_removeTreeNode) f_J41_9 dJ41_removeTreeNode_349 rfl (fn_63_6) g (ft_63_6) (fun h3 e => ?_)
    have H := H h3 e
    exact H
theorem b_J41_removeTreeNode_352 {s0 : zE} {d : Nat} {x2 : Nat} {x3 : Int32} {x7 : Nat} {x11 : Nat} {x12 : Nat} {x15 : Nat} {x18 : Nat} {x19 : Nat} {h : zH} {Q : Value → zH → Prop} {E : Nat → zH → Prop} (H : (fC h x15 63) ∧ (∀ h1, h1 = zput h x15 7 (zr (x12)) → ((x12 = 0 → (zP s0 m_J41_removeTreeNode (d + 1) 370 [none, none, some (zr (x2)), some (.int (x3)), none, none, none, some (zr (x7)), none, none, none, some (zr (x11)), none, none, none, some (zr (x15)), none, none, some (zr (x18)), some (zr (x19)), none] [] h1 Q E)) ∧ (¬ x12 = 0 → ((fC h1 x12 63) ∧ (∀ h2, h2 = zput h1 x12 6 (zr (x15)) → (zP s0 m_J41_removeTreeNode (d + 1) 370 [none, none, some (zr (x2)), some (.int (x3)), none, none, none, some (zr (x7)), none, none, none, some (zr (x11)), none, none, none, some (zr (x15)), none, none, some (zr (x18)), some (zr (x19)), none] [] h2 Q E))))))) : zP s0 m_J41_removeTreeNode (d + 1) 352 [none, none, some (zr (x2)), some (.int (x3)), none, none, none, some (zr (x7)), none, none, none, some (zr (x11)), some (zr (x12)), none, none, some (zr (x15)), none, none, some (zr (x18)), some (zr (x19)), none] [] h Q E := by
  refine z_aload (M := m_J41_removeTreeNode) (i := 15) rfl dJ41_removeTreeNode_352 ?_
  refine z_aload (M := m_J41_removeTreeNode) (i := 12) rfl dJ41_removeTreeNode_354 ?_
  refine z_dup_x1 (M := m_J41_removeTreeNode) (zr_cat _) (zr_cat _) dJ41_removeTreeNode_356 ?_
  obtain ⟨g, H⟩ := H
  refine zz_put (M := m_J41_removeTreeNode) f_J41_39 dJ41_removeTreeNode_357 rfl (fn_63_7) g (ft_63_7) (fun h1 e => ?_)
  have H := H h1 e
  refine z_ifnull (M := m_J41_removeTreeNode) 370 rfl dJ41_removeTreeNode_360 (fun hc => ?_) (fun hc => ?_)
  · have H := H.1 hc
    exact zP.weak (ls' := [none, none, some (zr (x2)), some (.int (x3)), none, none, none, some (zr (x7)), none, none, none, some (zr (x11)), none, none, none, some (zr (x15)), none, none, some (zr (x18)), some (zr (x19)), none]) (zle rfl) (zsub_no (zsub_no (zsub_so (zsub_so (zsub_no (zsub_no (zsub_no (zsub_so (zsub_no (zsub_no (zsub_no (zsub_so (zsub_no (zsub_no (zsub_no (zsub_so (zsub_no (zsub_no (zsub_so (zsub_so (zsub_no zsub_nil))))))))))))))))))))) H
  · have H := H.2 hc
    refine z_aload (M := m_J41_removeTreeNode) (i := 12) rfl dJ41_removeTreeNode_363 ?_
    refine z_aload (M := m_J41_removeTreeNode) (i := 15) rfl dJ41_removeTreeNode_365 ?_
    obtain ⟨g, H⟩ := H
    refine zz_put (M := m_J41_removeTreeNode) f_J41_9 dJ41_removeTreeNode_367 rfl (fn_63_6) g (ft_63_6) (fun h2 e => ?_)
    have H := H h2 e
    exact zP.weak (ls' := [none, none, some (zr (x2)), some (.int (x3)), none, none, none, some (zr (x7)), none, none, none, some (zr (x11)), none, none, none, some (zr (x15)), none, none, some (zr (x18)), some (zr (x19)), none]) (zle rfl) (zsub_no (zsub_no (zsub_so (zsub_so (zsub_no (zsub_no (zsub_no (zsub_so (zsub_no (zsub_no (zsub_no (zsub_so (zsub_no (zsub_no (zsub_no (zsub_so (zsub_no (zsub_no (zsub_so (zsub_so (zsub_no zsub_nil))))))))))))))))))))) H
theorem b_J41_removeTreeNode_370 {s0 : zE} {d : Nat} {x2 : Nat} {x3 : Int32} {x7 : Nat} {x11 : Nat} {x15 : Nat} {x18 : Nat} {x19 : Nat} {h : zH} {Q : Value → zH → Prop} {E : Nat → zH → Prop} (H : (fC h x15 63) ∧ (∀ h1, h1 = zput h x15 6 (zr (x19)) → ((¬ x19 = 0 → ((fR h1 x19 [63] 7) ∧ ((¬ x11 = gR h1 x19 7 → ((fC h1 x19 63) ∧ (∀ h2, h2 = zput h1 x19 8 (zr (x15)) → (zP s0 m_J41_removeTreeNode (d + 1) 415 [none, none, some (zr (x2)), some (.int (x3)), none, none, none, some (zr (x7)), none, none, none, some (zr (x11)), none, none, none, none, none, none, some (zr (x18)), none, none] [] h2 Q E)))) ∧ (x11 = gR h1 x19 7 → ((fC h1 x19 63) ∧ (∀ h3, h3 = zput h1 x19 7 (zr (x15)) → (zP s0 m_J41_removeTreeNode (d + 1) 415 [none, none, some (zr (x2)), some (.int (x3)), none, none, none, some (zr (x7)), none, none, none, some (zr (x11)), none, none, none, none, none, none, some (zr (x18)), none, none] [] h3 Q E))))))) ∧ (x19 = 0 → (zP s0 m_J41_removeTreeNode (d + 1) 415 [none, none, some (zr (x2)), some (.int (x3)), none, none, none, some (zr (x15)), none, none, none, some (zr (x11)), none, none, none, none, none, none, some (zr (x18)), none, none] [] h1 Q E))))) : zP s0 m_J41_removeTreeNode (d + 1) 370 [none, none, some (zr (x2)), some (.int (x3)), none, none, none, some (zr (x7)), none, none, none, some (zr (x11)), none, none, none, some (zr (x15)), none, none, some (zr (x18)), some (zr (x19)), none] [] h Q E := by
  refine z_aload (M := m_J41_removeTreeNode) (i := 15) rfl dJ41_removeTreeNode_370 ?_
  refine z_aload (M := m_J41_removeTreeNode) (i := 19) rfl dJ41_removeTreeNode_372 ?_
  refine z_dup_x1 (M := m_J41_removeTreeNode) (zr_cat _) (zr_cat _) dJ41_removeTreeNode_374 ?_
  obtain ⟨g, H⟩ := H
  refine zz_put (M := m_J41_removeTreeNode) f_J41_9 dJ41_removeTreeNode_375 rfl (fn_63_6) g (ft_63_6) (fun h1 e => ?_)
  have H := H h1 e
  refine z_ifnonnull (M := m_J41_removeTreeNode) 388 rfl dJ41_removeTreeNode_378 (fun hc => ?_) (fun hc => ?_)
  · have H := H.1 hc
    refine z_aload (M := m_J41_removeTreeNode) (i := 11) rfl dJ41_removeTreeNode_388 ?_
    refine z_aload (M := m_J41_removeTreeNode) (i := 19) rfl dJ41_removeTreeNode_390 ?_
    obtain ⟨g, H⟩ := H
    refine z_get (M := m_J41_removeTreeNode) f_J41_39 dJ41_removeTreeNode_392 g ?_
    refine z_acmpne (M := m_J41_removeTreeNode) 408 rfl dJ41_removeTreeNode_395 (fun hc => ?_) (fun hc => ?_)
    · have H := H.1 hc
      refine z_aload (M := m_J41_removeTreeNode) (i := 19) rfl dJ41_removeTreeNode_408 ?_
      refine z_aload (M := m_J41_removeTreeNode) (i := 15) rfl dJ41_removeTreeNode_410 ?_
      obtain ⟨g, H⟩ := H
      refine zz_put (M := m_J41_removeTreeNode) f_J41_42 dJ41_removeTreeNode_412 rfl (fn_63_8) g (ft_63_8) (fun h2 e => ?_)
      have H := H h2 e
      exact zP.weak (ls' := [none, none, some (zr (x2)), some (.int (x3)), none, none, none, some (zr (x7)), none, none, none, some (zr (x11)), none, none, none, none, none, none, some (zr (x18)), none, none]) (zle rfl) (zsub_no (zsub_no (zsub_so (zsub_so (zsub_no (zsub_no (zsub_no (zsub_so (zsub_no (zsub_no (zsub_no (zsub_so (zsub_no (zsub_no (zsub_no (zsub_no (zsub_no (zsub_no (zsub_so (zsub_no (zsub_no zsub_nil))))))))))))))))))))) H
    · have H := H.2 hc
      refine z_aload (M := m_J41_removeTreeNode) (i := 19) rfl dJ41_removeTreeNode_398 ?_
      refine z_aload (M := m_J41_removeTreeNode) (i := 15) rfl dJ41_removeTreeNode_400 ?_
      obtain ⟨g, H⟩ := H
      refine zz_put (M := m_J41_removeTreeNode) f_J41_39 dJ41_removeTreeNode_402 rfl (fn_63_7) g (ft_63_7) (fun h3 e => ?_)
      have H := H h3 e
      refine z_goto (M := m_J41_removeTreeNode) 415 rfl dJ41_removeTreeNode_405 ?_
      exact zP.weak (ls' := [none, none, some (zr (x2)), some (.int (x3)), none, none, none, some (zr (x7)), none, none, none, some (zr (x11)), none, none, none, none, none, none, some (zr (x18)), none, none]) (zle rfl) (zsub_no (zsub_no (zsub_so (zsub_so (zsub_no (zsub_no (zsub_no (zsub_so (zsub_no (zsub_no (zsub_no (zsub_so (zsub_no (zsub_no (zsub_no (zsub_no (zsub_no (zsub_no (zsub_so (zsub_no (zsub_no zsub_nil))))))))))))))))))))) H
  · have H := H.2 hc
    refine z_aload (M := m_J41_removeTreeNode) (i := 15) rfl dJ41_removeTreeNode_381 ?_
    refine z_astore (M := m_J41_removeTreeNode) 7 (zlt rfl) trivial dJ41_removeTreeNode_383 ?_
    show zP s0 m_J41_removeTreeNode (d + 1) _ [none, none, some (zr (x2)), some (.int (x3)), none, none, none, some (zr (x15)), none, none, none, some (zr (x11)), none, none, none, some (zr (x15)), none, none, some (zr (x18)), some (zr (x19)), none] _ _ _ _
    refine z_goto (M := m_J41_removeTreeNode) 415 rfl dJ41_removeTreeNode_385 ?_
    exact zP.weak (ls' := [none, none, some (zr (x2)), some (.int (x3)), none, none, none, some (zr (x15)), none, none, none, some (zr (x11)), none, none, none, none, none, none, some (zr (x18)), none, none]) (zle rfl) (zsub_no (zsub_no (zsub_so (zsub_so (zsub_no (zsub_no (zsub_no (zsub_so (zsub_no (zsub_no (zsub_no (zsub_so (zsub_no (zsub_no (zsub_no (zsub_no (zsub_no (zsub_no (zsub_so (zsub_no (zsub_no zsub_nil))))))))))))))))))))) H
theorem b_J41_removeTreeNode_415 {s0 : zE} {d : Nat} {x2 : Nat} {x3 : Int32} {x7 : Nat} {x11 : Nat} {x18 : Nat} {h : zH} {Q : Value → zH → Prop} {E : Nat → zH → Prop} (H : (x18 = 0 → (zP s0 m_J41_removeTreeNode (d + 1) 431 [none, none, some (zr (x2)), some (.int (x3)), none, none, none, some (zr (x7)), none, none, none, some (zr (x11)), none, none, some (zr (x11)), none, none, none, none, none, none] [] h Q E)) ∧ (¬ x18 = 0 → (zP s0 m_J41_removeTreeNode (d + 1) 431 [none, none, some (zr (x2)), some (.int (x3)), none, none, none, some (zr (x7)), none, none, none, some (zr (x11)), none, none, some (zr (x18)), none, none, none, none, none, none] [] h Q E))) : zP s0 m_J41_removeTreeNode (d + 1) 415 [none, none, some (zr (x2)), some (.int (x3)), none, none, none, some (zr (x7)), none, none, none, some (zr (x11)), none, none, none, none, none, none, some (zr (x18)), none, none] [] h Q E := by
  refine z_aload (M := m_J41_removeTreeNode) (i := 18) rfl dJ41_removeTreeNode_415 ?_
  refine z_ifnull (M := m_J41_removeTreeNode) 427 rfl dJ41_removeTreeNode_417 (fun hc => ?_) (fun hc => ?_)
  · have H := H.1 hc
    refine z_aload (M := m_J41_removeTreeNode) (i := 11) rfl dJ41_removeTreeNode_427 ?_
    refine z_astore (M := m_J41_removeTreeNode) 14 (zlt rfl) trivial dJ41_removeTreeNode_429 ?_
    show zP s0 m_J41_removeTreeNode (d + 1) _ [none, none, some (zr (x2)), some (.int (x3)), none, none, none, some (zr (x7)), none, none, none, some (zr (x11)), none, none, some (zr (x11)), none, none, none, some (zr (x18)), none, none] _ _ _ _
    exact zP.weak (ls' := [none, none, some (zr (x2)), some (.int (x3)), none, none, none, some (zr (x7)), none, none, none, some (zr (x11)), none, none, some (zr (x11)), none, none, none, none, none, none]) (zle rfl) (zsub_no (zsub_no (zsub_so (zsub_so (zsub_no (zsub_no (zsub_no (zsub_so (zsub_no (zsub_no (zsub_no (zsub_so (zsub_no (zsub_no (zsub_so (zsub_no (zsub_no (zsub_no (zsub_no (zsub_no (zsub_no zsub_nil))))))))))))))))))))) H
  · have H := H.2 hc
    refine z_aload (M := m_J41_removeTreeNode) (i := 18) rfl dJ41_removeTreeNode_420 ?_
    refine z_astore (M := m_J41_removeTreeNode) 14 (zlt rfl) trivial dJ41_removeTreeNode_422 ?_
    show zP s0 m_J41_removeTreeNode (d + 1) _ [none, none, some (zr (x2)), some (.int (x3)), none, none, none, some (zr (x7)), none, none, none, some (zr (x11)), none, none, some (zr (x18)), none, none, none, some (zr (x18)), none, none] _ _ _ _
    refine z_goto (M := m_J41_removeTreeNode) 431 rfl dJ41_removeTreeNode_424 ?_
    exact zP.weak (ls' := [none, none, some (zr (x2)), some (.int (x3)), none, none, none, some (zr (x7)), none, none, none, some (zr (x11)), none, none, some (zr (x18)), none, none, none, none, none, none]) (zle rfl) (zsub_no (zsub_no (zsub_so (zsub_so (zsub_no (zsub_no (zsub_no (zsub_so (zsub_no (zsub_no (zsub_no (zsub_so (zsub_no (zsub_no (zsub_so (zsub_no (zsub_no (zsub_no (zsub_no (zsub_no (zsub_no zsub_nil))))))))))))))))))))) H
theorem b_J41_removeTreeNode_431 {s0 : zE} {d : Nat} {x2 : Nat} {x3 : Int32} {x7 : Nat} {x11 : Nat} {x14 : Nat} {h : zH} {Q : Value → zH → Prop} {E : Nat → zH → Prop} (H : zP s0 m_J41_removeTreeNode (d + 1) 462 [none, none, some (zr (x2)), some (.int (x3)), none, none, none, some (zr (x7)), none, none, none, some (zr (x11)), none, none, some (zr (x14)), none, none, none, none, none, none] [] h Q E) : zP s0 m_J41_removeTreeNode (d + 1) 431 [none, none, some (zr (x2)), some (.int (x3)), none, none, none, some (zr (x7)), none, none, none, some (zr (x11)), none, none, some (zr (x14)), none, none, none, none, none, none] [] h Q E := by
  refine z_goto (M := m_J41_removeTreeNode) 462 rfl dJ41_removeTreeNode_431 ?_
  exact H
theorem b_J41_removeTreeNode_434 {s0 : zE} {d : Nat} {x2 : Nat} {x3 : Int32} {x7 : Nat} {x11 : Nat} {x12 : Nat} {x13 : Nat} {h : zH} {Q : Value → zH → Prop} {E : Nat → zH → Prop} (H : (x12 = 0 → ((x13 = 0 → (zP s0 m_J41_removeTreeNode (d + 1) 462 [none, none, some (zr (x2)), some (.int (x3)), none, none, none, some (zr (x7)), none, none, none, some (zr (x11)), none, none, some (zr (x11)), none, none, none, none, none, none] [] h Q E)) ∧ (¬ x13 = 0 → (zP s0 m_J41_removeTreeNode (d + 1) 462 [none, none, some (zr (x2)), some (.int (x3)), none, none, none, some (zr (x7)), none, none, none, some (zr (x11)), none, none, some (zr (x13)), none, none, none, none, none, none] [] h Q E)))) ∧ (¬ x12 = 0 → (zP s0 m_J41_removeTreeNode (d + 1) 462 [none, none, some (zr (x2)), some (.int (x3)), none, none, none, some (zr (x7)), none, none, none, some (zr (x11)), none, none, some (zr (x12)), none, none, none, none, none, none] [] h Q E))) : zP s0 m_J41_removeTreeNode (d + 1) 434 [none, none, some (zr (x2)), some (.int (x3)), none, none, none, some (zr (x7)), none, none, none, some (zr (x11)), some (zr (x12)), some (zr (x13)), none, none, none, none, none, none, none] [] h Q E := by
  refine z_aload (M := m_J41_removeTreeNode) (i := 12) rfl dJ41_removeTreeNode_434 ?_
  refine z_ifnull (M := m_J41_removeTreeNode) 446 rfl dJ41_removeTreeNode_436 (fun hc => ?_) (fun hc => ?_)
  · have H := H.1 hc
    refine z_aload (M := m_J41_removeTreeNode) (i := 13) rfl dJ41_removeTreeNode_446 ?_
    refine z_ifnull (M := m_J41_removeTreeNode) 458 rfl dJ41_removeTreeNode_448 (fun hc => ?_) (fun hc => ?_)
    · have H := H.1 hc
      refine z_aload (M := m_J41_removeTreeNode) (i := 11) rfl dJ41_removeTreeNode_458 ?_
      refine z_astore (M := m_J41_removeTreeNode) 14 (zlt rfl) (zr_cat _) dJ41_removeTreeNode_460 ?_
      show zP s0 m_J41_removeTreeNode (d + 1) _ [none, none, some (zr (x2)), some (.int (x3)), none, none, none, some (zr (x7)), none, none, none, some (zr (x11)), some (zr (x12)), some (zr (x13)), some (zr (x11)), none, none, none, none, none, none] _ _ _ _
      exact zP.weak (ls' := [none, none, some (zr (x2)), some (.int (x3)), none, none, none, some (zr (x7)), none, none, none, some (zr (x11)), none, none, some (zr (x11)), none, none, none, none, none, none]) (zle rfl) (zsub_no (zsub_no (zsub_so (zsub_so (zsub_no (zsub_no (zsub_no (zsub_so (zsub_no (zsub_no (zsub_no (zsub_so (zsub_no (zsub_no (zsub_so (zsub_no (zsub_no (zsub_no (zsub_no (zsub_no (zsub_no zsub_nil))))))))))))))))))))) H
    · have H := H.2 hc
      refine z_aload (M := m_J41_removeTreeNode) (i := 13) rfl dJ41_removeTreeNode_451 ?_
      refine z_astore (M := m_J41_removeTreeNode) 14 (zlt rfl) (zr_cat _) dJ41_removeTreeNode_453 ?_
      show zP s0 m_J41_removeTreeNode (d + 1) _ [none, none, some (zr (x2)), some (.int (x3)), none, none, none, some (zr (x7)), none, none, none, some (zr (x11)), some (zr (x12)), some (zr (x13)), some (zr (x13)), none, none, none, none, none, none] _ _ _ _
      refine z_goto (M := m_J41_removeTreeNode) 462 rfl dJ41_removeTreeNode_455 ?_
      exact zP.weak (ls' := [none, none, some (zr (x2)), some (.int (x3)), none, none, none, some (zr (x7)), none, none, none, some (zr (x11)), none, none, some (zr (x13)), none, none, none, none, none, none]) (zle rfl) (zsub_no (zsub_no (zsub_so (zsub_so (zsub_no (zsub_no (zsub_no (zsub_so (zsub_no (zsub_no (zsub_no (zsub_so (zsub_no (zsub_no (zsub_so (zsub_no (zsub_no (zsub_no (zsub_no (zsub_no (zsub_no zsub_nil))))))))))))))))))))) H
  · have H := H.2 hc
    refine z_aload (M := m_J41_removeTreeNode) (i := 12) rfl dJ41_removeTreeNode_439 ?_
    refine z_astore (M := m_J41_removeTreeNode) 14 (zlt rfl) (zr_cat _) dJ41_removeTreeNode_441 ?_
    show zP s0 m_J41_removeTreeNode (d + 1) _ [none, none, some (zr (x2)), some (.int (x3)), none, none, none, some (zr (x7)), none, none, none, some (zr (x11)), some (zr (x12)), some (zr (x13)), some (zr (x12)), none, none, none, none, none, none] _ _ _ _
    refine z_goto (M := m_J41_removeTreeNode) 462 rfl dJ41_removeTreeNode_443 ?_
    exact zP.weak (ls' := [none, none, some (zr (x2)), some (.int (x3)), none, none, none, some (zr (x7)), none, none, none, some (zr (x11)), none, none, some (zr (x12)), none, none, none, none, none, none]) (zle rfl) (zsub_no (zsub_no (zsub_so (zsub_so (zsub_no (zsub_no (zsub_no (zsub_so (zsub_no (zsub_no (zsub_no (zsub_so (zsub_no (zsub_no (zsub_so (zsub_no (zsub_no (zsub_no (zsub_no (zsub_no (zsub_no zsub_nil))))))))))))))))))))) H
theorem b_J41_removeTreeNode_462 {s0 : zE} {d : Nat} {x2 : Nat} {x3 : Int32} {x7 : Nat} {x11 : Nat} {x14 : Nat} {h : zH} {Q : Value → zH → Prop} {E : Nat → zH → Prop} (H : (x14 = x11 → (zP s0 m_J41_removeTreeNode (d + 1) 544 [none, none, some (zr (x2)), some (.int (x3)), none, none, none, some (zr (x7)), none, none, none, some (zr (x11)), none, none, some (zr (x14)), none, none, none, none, none, none] [] h Q E)) ∧ (¬ x14 = x11 → ((fR h x11 [63] 6) ∧ ((fC h x14 63) ∧ (∀ h1, h1 = zput h x14 6 (zr (gR h x11 6)) → ((¬ gR h x11 6 = 0 → ((fR h1 (gR h x11 6) [63] 7) ∧ ((¬ x11 = gR h1 (gR h x11 6) 7 → ((fC h1 (gR h x11 6) 63) ∧ (∀ h2, h2 = zput h1 (gR h x11 6) 8 (zr (x14)) → (zP s0 m_J41_removeTreeNode (d + 1) 526 [none, none, some (zr (x2)), some (.int (x3)), none, none, none, some (zr (x7)), none, none, none, some (zr (x11)), none, none, some (zr (x14)), none, none, none, none, none, none] [] h2 Q E)))) ∧ (x11 = gR h1 (gR h x11 6) 7 → ((fC h1 (gR h x11 6) 63) ∧ (∀ h3, h3 = zput h1 (gR h x11 6) 7 (zr (x14)) → (zP s0 m_J41_removeTreeNode (d + 1) 526 [none, none, some (zr (x2)), some (.int (x3)), none, none, none, some (zr (x7)), none, none, none, some (zr (x11)), none, none, some (zr (x14)), none, none, none, none, none, none] [] h3 Q E))))))) ∧ (gR h x11 6 = 0 → ((fC h1 x14 63) ∧ (∀ h4, h4 = zput h1 x14 10 (.int (0)) → (zP s0 m_J41_removeTreeNode (d + 1) 526 [none, none, some (zr (x2)), some (.int (x3)), none, none, none, some (zr (x14)), none, none, none, some (zr (x11)), none, none, some (zr (x14)), none, none, none, none, none, none] [] h4 Q E)))))))))) : zP s0 m_J41_removeTreeNode (d + 1) 462 [none, none, some (zr (x2)), some (.int (x3)), none, none, none, some (zr (x7)), none, none, none, some (zr (x11)), none, none, some (zr (x14)), none, none, none, none, none, none] [] h Q E := by
  refine z_aload (M := m_J41_removeTreeNode) (i := 14) rfl dJ41_removeTreeNode_462 ?_
  refine z_aload (M := m_J41_removeTreeNode) (i := 11) rfl dJ41_removeTreeNode_464 ?_
  refine z_acmpeq (M := m_J41_removeTreeNode) 544 rfl dJ41_removeTreeNode_466 (fun hc => ?_) (fun hc => ?_)
  · have H := H.1 hc
    exact H
  · have H := H.2 hc
    refine z_aload (M := m_J41_removeTreeNode) (i := 14) rfl dJ41_removeTreeNode_469 ?_
    refine z_aload (M := m_J41_removeTreeNode) (i := 11) rfl dJ41_removeTreeNode_471 ?_
    obtain ⟨g, H⟩ := H
    refine z_get (M := m_J41_removeTreeNode) f_J41_9 dJ41_removeTreeNode_473 g ?_
    refine z_dup_x1 (M := m_J41_removeTreeNode) (zr_cat _) (zr_cat _) dJ41_removeTreeNode_476 ?_
    obtain ⟨g, H⟩ := H
    refine zz_put (M := m_J41_removeTreeNode) f_J41_9 dJ41_removeTreeNode_477 rfl (fn_63_6) g (ft_63_6) (fun h1 e => ?_)
    have H := H h1 e
    refine z_astore (M := m_J41_removeTreeNode) 15 (zlt rfl) (zr_cat _) dJ41_removeTreeNode_480 ?_
    show zP s0 m_J41_removeTreeNode (d + 1) _ [none, none, some (zr (x2)), some (.int (x3)), none, none, none, some (zr (x7)), none, none, none, some (zr (x11)), none, none, some (zr (x14)), some (zr (gR h x11 6)), none, none, none, none, none] _ _ _ _
    refine z_aload (M := m_J41_removeTreeNode) (i := 15) rfl dJ41_removeTreeNode_482 ?_
    refine z_ifnonnull (M := m_J41_removeTreeNode) 499 rfl dJ41_removeTreeNode_484 (fun hc => ?_) (fun hc => ?_)
    · have H := H.1 hc
      refine z_aload (M := m_J41_removeTreeNode) (i := 11) rfl dJ41_removeTreeNode_499 ?_
      refine z_aload (M := m_J41_removeTreeNode) (i := 15) rfl dJ41_removeTreeNode_501 ?_
      obtain ⟨g, H⟩ := H
      refine z_get (M := m_J41_removeTreeNode) f_J41_39 dJ41_removeTreeNode_503 g ?_
      refine z_acmpne (M := m_J41_removeTreeNode) 519 rfl dJ41_removeTreeNode_506 (fun hc => ?_) (fun hc => ?_)
      · have H := H.1 hc
        refine z_aload (M := m_J41_removeTreeNode) (i := 15) rfl dJ41_removeTreeNode_519 ?_
        refine z_aload (M := m_J41_removeTreeNode) (i := 14) rfl dJ41_removeTreeNode_521 ?_
        obtain ⟨g, H⟩ := H
        refine zz_put (M := m_J41_removeTreeNode) f_J41_42 dJ41_removeTreeNode_523 rfl (fn_63_8) g (ft_63_8) (fun h2 e => ?_)
        have H := H h2 e
        exact zP.weak (ls' := [none, none, some (zr (x2)), some (.int (x3)), none, none, none, some (zr (x7)), none, none, none, some (zr (x11)), none, none, some (zr (x14)), none, none, none, none, none, none]) (zle rfl) (zsub_no (zsub_no (zsub_so (zsub_so (zsub_no (zsub_no (zsub_no (zsub_so (zsub_no (zsub_no (zsub_no (zsub_so (zsub_no (zsub_no (zsub_so (zsub_no (zsub_no (zsub_no (zsub_no (zsub_no (zsub_no zsub_nil))))))))))))))))))))) H
      · have H := H.2 hc
        refine z_aload (M := m_J41_removeTreeNode) (i := 15) rfl dJ41_removeTreeNode_509 ?_
        refine z_aload (M := m_J41_removeTreeNode) (i := 14) rfl dJ41_removeTreeNode_511 ?_
        obtain ⟨g, H⟩ := H
        refine zz_put (M := m_J41_removeTreeNode) f_J41_39 dJ41_removeTreeNode_513 rfl (fn_63_7) g (ft_63_7) (fun h3 e => ?_)
        have H := H h3 e
        refine z_goto (M := m_J41_removeTreeNode) 526 rfl dJ41_removeTreeNode_516 ?_
        exact zP.weak (ls' := [none, none, some (zr (x2)), some (.int (x3)), none, none, none, some (zr (x7)), none, none, none, some (zr (x11)), none, none, some (zr (x14)), none, none, none, none, none, none]) (zle rfl) (zsub_no (zsub_no (zsub_so (zsub_so (zsub_no (zsub_no (zsub_no (zsub_so (zsub_no (zsub_no (zsub_no (zsub_so (zsub_no (zsub_no (zsub_so (zsub_no (zsub_no (zsub_no (zsub_no (zsub_no (zsub_no zsub_nil))))))))))))))))))))) H
    · have H := H.2 hc
      refine z_aload (M := m_J41_removeTreeNode) (i := 14) rfl dJ41_removeTreeNode_487 ?_
      refine z_dup (M := m_J41_removeTreeNode) (zr_cat _) dJ41_removeTreeNode_489 ?_
      refine z_astore (M := m_J41_removeTreeNode) 7 (zlt rfl) trivial dJ41_removeTreeNode_490 ?_
      show zP s0 m_J41_removeTreeNode (d + 1) _ [none, none, some (zr (x2)), some (.int (x3)), none, none, none, some (zr (x14)), none, none, none, some (zr (x11)), none, none, some (zr (x14)), some (zr (gR h x11 6)), none, none, none, none, none] _ _ _ _
      refine z_iconst (M := m_J41_removeTreeNode) (v := 0) (by decide) dJ41_removeTreeNode_492 ?_
      obtain ⟨g, H⟩ := H
      refine zz_put (M := m_J41_removeTreeNode) f_J41_93 dJ41_removeTreeNode_493 rfl (fn_63_10) g (ft_63_10 (Or.inl rfl)) (fun h4 e => ?_)
      have H := H h4 e
      refine z_goto (M := m_J41_removeTreeNode) 526 rfl dJ41_removeTreeNode_496 ?_
      exact zP.weak (ls' := [none, none, some (zr (x2)), some (.int (x3)), none, none, none, some (zr (x14)), none, none, none, some (zr (x11)), none, none, some (zr (x14)), none, none, none, none, none, none]) (zle rfl) (zsub_no (zsub_no (zsub_so (zsub_so (zsub_no (zsub_no (zsub_no (zsub_so (zsub_no (zsub_no (zsub_no (zsub_so (zsub_no (zsub_no (zsub_so (zsub_no (zsub_no (zsub_no (zsub_no (zsub_no (zsub_no zsub_nil))))))))))))))))))))) H
theorem b_J41_removeTreeNode_526 {s0 : zE} {d : Nat} {x2 : Nat} {x3 : Int32} {x7 : Nat} {x11 : Nat} {x14 : Nat} {h : zH} {Q : Value → zH → Prop} {E : Nat → zH → Prop} (H : (fC h x11 63) ∧ (∀ h1, h1 = zput h x11 6 (zr (0)) → ((fC h1 x11 63) ∧ (∀ h2, h2 = zput h1 x11 8 (zr (0)) → ((fC h2 x11 63) ∧ (∀ h3, h3 = zput h2 x11 7 (zr (0)) → (zP s0 m_J41_removeTreeNode (d + 1) 544 [none, none, some (zr (x2)), some (.int (x3)), none, none, none, some (zr (x7)), none, none, none, some (zr (x11)), none, none, some (zr (x14)), none, none, none, none, none, none] [] h3 Q E))))))) : zP s0 m_J41_removeTreeNode (d + 1) 526 [none, none, some (zr (x2)), some (.int (x3)), none, none, none, some (zr (x7)), none, none, none, some (zr (x11)), none, none, some (zr (x14)), none, none, none, none, none, none] [] h Q E := by
  refine z_aload (M := m_J41_removeTreeNode) (i := 11) rfl dJ41_removeTreeNode_526 ?_
  refine z_aload (M := m_J41_removeTreeNode) (i := 11) rfl dJ41_removeTreeNode_528 ?_
  refine z_aload (M := m_J41_removeTreeNode) (i := 11) rfl dJ41_removeTreeNode_530 ?_
  refine z_null (M := m_J41_removeTreeNode) dJ41_removeTreeNode_532 ?_
  refine z_dup_x1 (M := m_J41_removeTreeNode) (zr_cat _) (zr_cat _) dJ41_removeTreeNode_533 ?_
  obtain ⟨g, H⟩ := H
  refine zz_put (M := m_J41_removeTreeNode) f_J41_9 dJ41_removeTreeNode_534 rfl (fn_63_6) g (ft_63_6) (fun h1 e => ?_)
  have H := H h1 e
  refine z_dup_x1 (M := m_J41_removeTreeNode) (zr_cat _) (zr_cat _) dJ41_removeTreeNode_537 ?_
  obtain ⟨g, H⟩ := H
  refine zz_put (M := m_J41_removeTreeNode) f_J41_42 dJ41_removeTreeNode_538 rfl (fn_63_8) g (ft_63_8) (fun h2 e => ?_)
  have H := H h2 e
  obtain ⟨g, H⟩ := H
  refine zz_put (M := m_J41_removeTreeNode) f_J41_39 dJ41_removeTreeNode_541 rfl (fn_63_7) g (ft_63_7) (fun h3 e => ?_)
  have H := H h3 e
  exact H
theorem b_J41_removeTreeNode_544 {s0 : zE} {d : Nat} {x2 : Nat} {x3 : Int32} {x7 : Nat} {x11 : Nat} {x14 : Nat} {h : zH} {Q : Value → zH → Prop} {E : Nat → zH → Prop} (H : (fI h x11 [63] 10) ∧ ((gI h x11 10 = 0 → (zX s0 m_J41_balanceDeletion d [zr (x7), zr (x14)] h (fun v1 h1 => ∃ n1 : Nat, v1 = zr (n1) ∧ (zP s0 m_J41_removeTreeNode (d + 1) 564 [none, none, some (zr (x2)), some (.int (x3)), none, none, none, none, none, none, none, some (zr (x11)), none, none, some (zr (x14)), none, none, none, none, none, none] [zr (n1)] h1 Q E)) E)) ∧ (¬ gI h x11 10 = 0 → (zP s0 m_J41_removeTreeNode (d + 1) 564 [none, none, some (zr (x2)), some (.int (x3)), none, none, none, none, none, none, none, some (zr (x11)), none, none, some (zr (x14)), none, none, none, none, none, none] [zr (x7)] h Q E)))) : zP s0 m_J41_removeTreeNode (d + 1) 544 [none, none, some (zr (x2)), some (.int (x3)), none, none, none, some (zr (x7)), none, none, none, some (zr (x11)), none, none, some (zr (x14)), none, none, none, none, none, none] [] h Q E := by
  refine z_aload (M := m_J41_removeTreeNode) (i := 11) rfl dJ41_removeTreeNode_544 ?_
  obtain ⟨g, H⟩ := H
  refine z_get (M := m_J41_removeTreeNode) f_J41_93 dJ41_removeTreeNode_546 g ?_
  refine z_ifeq (M := m_J41_removeTreeNode) 557 rfl dJ41_removeTreeNode_549 (fun hc => ?_) (fun hc => ?_)
  · have H := H.1 hc
    refine z_aload (M := m_J41_removeTreeNode) (i := 7) rfl dJ41_removeTreeNode_557 ?_
    refine z_aload (M := m_J41_removeTreeNode) (i := 14) rfl dJ41_removeTreeNode_559 ?_
    refine z_invS (M := m_J41_removeTreeNode) (a := [zr (x7), zr (x14)]) ok_J41_balanceDeletion q2258 q2259 dJ41_removeTreeNode_561 (Nat.le_refl _) (Nat.zero_le _) rfl H (fun v1 h1 H => ?_) (fun n9 h9 H => zPx.out rfl H)
    obtain ⟨n1, rfl, H⟩ := H
    show zP s0 m_J41_removeTreeNode (d + 1) _ _ [zr (n1)] _ _ _
    exact zP.weak (ls' := [none, none, some (zr (x2)), some (.int (x3)), none, none, none, none, none, none, none, some (zr (x11)), none, none, some (zr (x14)), none, none, none, none, none, none]) (zle rfl) (zsub_no (zsub_no (zsub_so (zsub_so (zsub_no (zsub_no (zsub_no (zsub_no (zsub_no (zsub_no (zsub_no (zsub_so (zsub_no (zsub_no (zsub_so (zsub_no (zsub_no (zsub_no (zsub_no (zsub_no (zsub_no zsub_nil))))))))))))))))))))) H
  · have H := H.2 hc
    refine z_aload (M := m_J41_removeTreeNode) (i := 7) rfl dJ41_removeTreeNode_552 ?_
    refine z_goto (M := m_J41_removeTreeNode) 564 rfl dJ41_removeTreeNode_554 ?_
    exact zP.weak (ls' := [none, none, some (zr (x2)), some (.int (x3)), none, none, none, none, none, none, none, some (zr (x11)), none, none, some (zr (x14)), none, none, none, none, none, none]) (zle rfl) (zsub_no (zsub_no (zsub_so (zsub_so (zsub_no (zsub_no (zsub_no (zsub_no (zsub_no (zsub_no (zsub_no (zsub_so (zsub_no (zsub_no (zsub_so (zsub_no (zsub_no (zsub_no (zsub_no (zsub_no (zsub_no zsub_nil))))))))))))))))))))) H
theorem b_J41_removeTreeNode_564 {s0 : zE} {d : Nat} {x2 : Nat} {x3 : Int32} {x11 : Nat} {x14 : Nat} {t0 : Nat} {h : zH} {Q : Value → zH → Prop} {E : Nat → zH → Prop} (H : (¬ x14 = x11 → (zP s0 m_J41_removeTreeNode (d + 1) 626 [none, none, some (zr (x2)), some (.int (x3)), none, none, none, none, none, none, none, none, none, none, none, some (zr (t0)), none, none, none, none, none] [] h Q E)) ∧ (x14 = x11 → ((fR h x11 [63] 6) ∧ ((fC h x11 63) ∧ (∀ h1, h1 = zput h x11 6 (zr (0)) → ((gR h x11 6 = 0 → (zP s0 m_J41_removeTreeNode (d + 1) 626 [none, none, some (zr (x2)), some (.int (x3)), none, none, none, none, none, none, none, none, none, none, none, some (zr (t0)), none, none, none, none, none] [] h1 Q E)) ∧ (¬ gR h x11 6 = 0 → ((fR h1 (gR h x11 6) [63] 7) ∧ ((¬ x11 = gR h1 (gR h x11 6) 7 → ((fR h1 (gR h x11 6) [63] 8) ∧ ((¬ x11 = gR h1 (gR h x11 6) 8 → (zP s0 m_J41_removeTreeNode (d + 1) 626 [none, none, some (zr (x2)), some (.int (x3)), none, none, none, none, none, none, none, none, none, none, none, some (zr (t0)), none, none, none, none, none] [] h1 Q E)) ∧ (x11 = gR h1 (gR h x11 6) 8 → ((fC h1 (gR h x11 6) 63) ∧ (∀ h2, h2 = zput h1 (gR h x11 6) 8 (zr (0)) → (zP s0 m_J41_removeTreeNode (d + 1) 626 [none, none, some (zr (x2)), some (.int (x3)), none, none, none, none, none, none, none, none, none, none, none, some (zr (t0)), none, none, none, none, none] [] h2 Q E))))))) ∧ (x11 = gR h1 (gR h x11 6) 7 → ((fC h1 (gR h x11 6) 63) ∧ (∀ h3, h3 = zput h1 (gR h x11 6) 7 (zr (0)) → (zP s0 m_J41_removeTreeNode (d + 1) 626 [none, none, some (zr (x2)), some (.int (x3)), none, none, none, none, none, none, none, none, none, none, none, some (zr (t0)), none, none, none, none, none] [] h3 Q E))))))))))))) : zP s0 m_J41_removeTreeNode (d + 1) 564 [none, none, some (zr (x2)), some (.int (x3)), none, none, none, none, none, none, none, some (zr (x11)), none, none, some (zr (x14)), none, none, none, none, none, none] [zr (t0)] h Q E := by
  refine z_astore (M := m_J41_removeTreeNode) 15 (zlt rfl) (zr_cat _) dJ41_removeTreeNode_564 ?_
  show zP s0 m_J41_removeTreeNode (d + 1) _ [none, none, some (zr (x2)), some (.int (x3)), none, none, none, none, none, none, none, some (zr (x11)), none, none, some (zr (x14)), some (zr (t0)), none, none, none, none, none] _ _ _ _
  refine z_aload (M := m_J41_removeTreeNode) (i := 14) rfl dJ41_removeTreeNode_566 ?_
  refine z_aload (M := m_J41_removeTreeNode) (i := 11) rfl dJ41_removeTreeNode_568 ?_
  refine z_acmpne (M := m_J41_removeTreeNode) 626 rfl dJ41_removeTreeNode_570 (fun hc => ?_) (fun hc => ?_)
  · have H := H.1 hc
    exact zP.weak (ls' := [none, none, some (zr (x2)), some (.int (x3)), none, none, none, none, none, none, none, none, none, none, none, some (zr (t0)), none, none, none, none, none]) (zle rfl) (zsub_no (zsub_no (zsub_so (zsub_so (zsub_no (zsub_no (zsub_no (zsub_no (zsub_no (zsub_no (zsub_no (zsub_no (zsub_no (zsub_no (zsub_no (zsub_so (zsub_no (zsub_no (zsub_no (zsub_no (zsub_no zsub_nil))))))))))))))))))))) H
  · have H := H.2 hc
    refine z_aload (M := m_J41_removeTreeNode) (i := 11) rfl dJ41_removeTreeNode_573 ?_
    obtain ⟨g, H⟩ := H
    refine z_get (M := m_J41_removeTreeNode) f_J41_9 dJ41_removeTreeNode_575 g ?_
    refine z_astore (M := m_J41_removeTreeNode) 16 (zlt rfl) (zr_cat _) dJ41_removeTreeNode_578 ?_
    show zP s0 m_J41_removeTreeNode (d + 1) _ [none, none, some (zr (x2)), some (.int (x3)), none, none, none, none, none, none, none, some (zr (x11)), none, none, some (zr (x14)), some (zr (t0)), some (zr (gR h x11 6)), none, none, none, none] _ _ _ _
    refine z_aload (M := m_J41_removeTreeNode) (i := 11) rfl dJ41_removeTreeNode_580 ?_
    refine z_null (M := m_J41_removeTreeNode) dJ41_removeTreeNode_582 ?_
    obtain ⟨g, H⟩ := H
    refine zz_put (M := m_J41_removeTreeNode) f_J41_9 dJ41_removeTreeNode_583 rfl (fn_63_6) g (ft_63_6) (fun h1 e => ?_)
    have H := H h1 e
    refine z_aload (M := m_J41_removeTreeNode) (i := 16) rfl dJ41_removeTreeNode_586 ?_
    refine z_ifnull (M := m_J41_removeTreeNode) 626 rfl dJ41_removeTreeNode_588 (fun hc => ?_) (fun hc => ?_)
    · have H := H.1 hc
      exact zP.weak (ls' := [none, none, some (zr (x2)), some (.int (x3)), none, none, none, none, none, none, none, none, none, none, none, some (zr (t0)), none, none, none, none, none]) (zle rfl) (zsub_no (zsub_no (zsub_so (zsub_so (zsub_no (zsub_no (zsub_no (zsub_no (zsub_no (zsub_no (zsub_no (zsub_no (zsub_no (zsub_no (zsub_no (zsub_so (zsub_no (zsub_no (zsub_no (zsub_no (zsub_no zsub_nil))))))))))))))))))))) H
    · have H := H.2 hc
      refine z_aload (M := m_J41_removeTreeNode) (i := 11) rfl dJ41_removeTreeNode_591 ?_
      refine z_aload (M := m_J41_removeTreeNode) (i := 16) rfl dJ41_removeTreeNode_593 ?_
      obtain ⟨g, H⟩ := H
      refine z_get (M := m_J41_removeTreeNode) f_J41_39 dJ41_removeTreeNode_595 g ?_
      refine z_acmpne (M := m_J41_removeTreeNode) 610 rfl dJ41_removeTreeNode_598 (fun hc => ?_) (fun hc => ?_)
      · have H := H.1 hc
        refine z_aload (M := m_J41_removeTreeNode) (i := 11) rfl dJ41_removeTreeNode_610 ?_
        refine z_aload (M := m_J41_removeTreeNode) (i := 16) rfl dJ41_removeTreeNode_612 ?_
        obtain ⟨g, H⟩ := H
        refine z_get (M := m_J41_removeTreeNode) f_J41_42 dJ41_removeTreeNode_614 g ?_
        refine z_acmpne (M := m_J41_removeTreeNode) 626 rfl dJ41_removeTreeNode_617 (fun hc => ?_) (fun hc => ?_)
        · have H := H.1 hc
          exact zP.weak (ls' := [none, none, some (zr (x2)), some (.int (x3)), none, none, none, none, none, none, none, none, none, none, none, some (zr (t0)), none, none, none, none, none]) (zle rfl) (zsub_no (zsub_no (zsub_so (zsub_so (zsub_no (zsub_no (zsub_no (zsub_no (zsub_no (zsub_no (zsub_no (zsub_no (zsub_no (zsub_no (zsub_no (zsub_so (zsub_no (zsub_no (zsub_no (zsub_no (zsub_no zsub_nil))))))))))))))))))))) H
        · have H := H.2 hc
          refine z_aload (M := m_J41_removeTreeNode) (i := 16) rfl dJ41_removeTreeNode_620 ?_
          refine z_null (M := m_J41_removeTreeNode) dJ41_removeTreeNode_622 ?_
          obtain ⟨g, H⟩ := H
          refine zz_put (M := m_J41_removeTreeNode) f_J41_42 dJ41_removeTreeNode_623 rfl (fn_63_8) g (ft_63_8) (fun h2 e => ?_)
          have H := H h2 e
          exact zP.weak (ls' := [none, none, some (zr (x2)), some (.int (x3)), none, none, none, none, none, none, none, none, none, none, none, some (zr (t0)), none, none, none, none, none]) (zle rfl) (zsub_no (zsub_no (zsub_so (zsub_so (zsub_no (zsub_no (zsub_no (zsub_no (zsub_no (zsub_no (zsub_no (zsub_no (zsub_no (zsub_no (zsub_no (zsub_so (zsub_no (zsub_no (zsub_no (zsub_no (zsub_no zsub_nil))))))))))))))))))))) H
      · have H := H.2 hc
        refine z_aload (M := m_J41_removeTreeNode) (i := 16) rfl dJ41_removeTreeNode_601 ?_
        refine z_null (M := m_J41_removeTreeNode) dJ41_removeTreeNode_603 ?_
        obtain ⟨g, H⟩ := H
        refine zz_put (M := m_J41_removeTreeNode) f_J41_39 dJ41_removeTreeNode_604 rfl (fn_63_7) g (ft_63_7) (fun h3 e => ?_)
        have H := H h3 e
        refine z_goto (M := m_J41_removeTreeNode) 626 rfl dJ41_removeTreeNode_607 ?_
        exact zP.weak (ls' := [none, none, some (zr (x2)), some (.int (x3)), none, none, none, none, none, none, none, none, none, none, none, some (zr (t0)), none, none, none, none, none]) (zle rfl) (zsub_no (zsub_no (zsub_so (zsub_so (zsub_no (zsub_no (zsub_no (zsub_no (zsub_no (zsub_no (zsub_no (zsub_no (zsub_no (zsub_no (zsub_no (zsub_so (zsub_no (zsub_no (zsub_no (zsub_no (zsub_no zsub_nil))))))))))))))))))))) H
theorem b_J41_removeTreeNode_626 {s0 : zE} {d : Nat} {x2 : Nat} {x3 : Int32} {x15 : Nat} {h : zH} {Q : Value → zH → Prop} {E : Nat → zH → Prop} (H : (x3 = 0 → (Q .null h)) ∧ (¬ x3 = 0 → (zX s0 m_J41_moveRootToFront d [zr (x2), zr (x15)] h (fun _ h1 => (Q .null h1)) E))) : zP s0 m_J41_removeTreeNode (d + 1) 626 [none, none, some (zr (x2)), some (.int (x3)), none, none, none, none, none, none, none, none, none, none, none, some (zr (x15)), none, none, none, none, none] [] h Q E := by
  refine z_iload_n (M := m_J41_removeTreeNode) (k := 3) rfl dJ41_removeTreeNode_626 ?_
  refine z_ifeq (M := m_J41_removeTreeNode) 636 rfl dJ41_removeTreeNode_627 (fun hc => ?_) (fun hc => ?_)
  · have H := H.1 hc
    exact z_return (M := m_J41_removeTreeNode) rfl dJ41_removeTreeNode_636 H
  · have H := H.2 hc
    refine z_aload_n (M := m_J41_removeTreeNode) (k := 2) rfl dJ41_removeTreeNode_630 ?_
    refine z_aload (M := m_J41_removeTreeNode) (i := 15) rfl dJ41_removeTreeNode_631 ?_
    refine z_invS (M := m_J41_removeTreeNode) (a := [zr (x2), zr (x15)]) ok_J41_moveRootToFront q2267 q2268 dJ41_removeTreeNode_633 (Nat.le_refl _) (Nat.zero_le _) rfl H (fun v1 h1 H => ?_) (fun n9 h9 H => zPx.out rfl H)
    show zP s0 m_J41_removeTreeNode (d + 1) _ _ [] _ _ _
    exact z_return (M := m_J41_removeTreeNode) rfl dJ41_removeTreeNode_636 H
theorem b_J41_root_0 {s0 : zE} {d : Nat} {x0 : Nat} {h : zH} {Q : Value → zH → Prop} {E : Nat → zH → Prop} (H : zP s0 m_J41_root d 2 [none, some (zr (x0)), none] [] h Q E) : zP s0 m_J41_root d 0 [some (zr (x0)), none, none] [] h Q E := by
  refine z_aload_n (M := m_J41_root) (k := 0) rfl dJ41_root_0 ?_
  refine z_astore_n (M := m_J41_root) (k := 1) 1 rfl (zlt rfl) (zr_cat _) dJ41_root_1 ?_
  show zP s0 m_J41_root d _ [some (zr (x0)), some (zr (x0)), none] _ _ _ _
  exact zP.weak (ls' := [none, some (zr (x0)), none]) (zle rfl) (zsub_no (zsub_so (zsub_no zsub_nil))) H
theorem c_J41_root {s0 : zE} {d : Nat} {x0 : Nat} {h : zH} {Q : Value → zH → Prop} {E : Nat → zH → Prop} (H : zP s0 m_J41_root d 2 [none, some (zr (x0)), none] [] h Q E) : zX s0 m_J41_root d [zr (x0)] h Q E := zX.of2 rfl (by decide +kernel) (zlay_r (zlay_n (znoneS (znoneS znone0)))) (zle rfl) (b_J41_root_0 H)
theorem b_J41_root_2 {s0 : zE} {d : Nat} {x1 : Nat} {h : zH} {Q : Value → zH → Prop} {E : Nat → zH → Prop} (H : (fR h x1 [63] 6) ∧ ((¬ gR h x1 6 = 0 → (zP s0 m_J41_root d 2 [none, some (zr (gR h x1 6)), none] [] h Q E)) ∧ (gR h x1 6 = 0 → (Q (zr x1) h)))) : zP s0 m_J41_root d 2 [none, some (zr (x1)), none] [] h Q E := by
  refine z_aload_n (M := m_J41_root) (k := 1) rfl dJ41_root_2 ?_
  obtain ⟨g, H⟩ := H
  refine z_get (M := m_J41_root) f_J41_9 dJ41_root_3 g ?_
  refine z_dup (M := m_J41_root) (zr_cat _) dJ41_root_6 ?_
  refine z_astore_n (M := m_J41_root) (k := 2) 2 rfl (zlt rfl) (zr_cat _) dJ41_root_7 ?_
  show zP s0 m_J41_root d _ [none, some (zr (x1)), some (zr (gR h x1 6))] _ _ _ _
  refine z_ifnonnull (M := m_J41_root) 13 rfl dJ41_root_8 (fun hc => ?_) (fun hc => ?_)
  · have H := H.1 hc
    refine z_aload_n (M := m_J41_root) (k := 2) rfl dJ41_root_13 ?_
    refine z_astore_n (M := m_J41_root) (k := 1) 1 rfl (zlt rfl) trivial dJ41_root_14 ?_
    show zP s0 m_J41_root d _ [none, some (zr (gR h x1 6)), some (zr (gR h x1 6))] _ _ _ _
    refine z_goto (M := m_J41_root) 2 rfl dJ41_root_15 ?_
    exact zP.weak (ls' := [none, some (zr (gR h x1 6)), none]) (zle rfl) (zsub_no (zsub_so (zsub_no zsub_nil))) H
  · have H := H.2 hc
    refine z_aload_n (M := m_J41_root) (k := 1) rfl dJ41_root_11 ?_
    exact z_areturn (M := m_J41_root) rfl (Or.inl ⟨_, rfl⟩) dJ41_root_12 H
theorem b_J41_rotateLeft_0 {s0 : zE} {d : Nat} {x0 : Nat} {x1 : Nat} {h : zH} {Q : Value → zH → Prop} {E : Nat → zH → Prop} (H : (x1 = 0 → (Q (zr x0) h)) ∧ (¬ x1 = 0 → ((fR h x1 [63] 8) ∧ ((gR h x1 8 = 0 → (Q (zr x0) h)) ∧ (¬ gR h x1 8 = 0 → ((fR h (gR h x1 8) [63] 7) ∧ ((fC h x1 63) ∧ (∀ h1, h1 = zput h x1 8 (zr (gR h (gR h x1 8) 7)) → ((gR h (gR h x1 8) 7 = 0 → (zP s0 m_J41_rotateLeft d 34 [some (zr (x0)), some (zr (x1)), some (zr (gR h x1 8)), none, none] [] h1 Q E)) ∧ (¬ gR h (gR h x1 8) 7 = 0 → ((fC h1 (gR h (gR h x1 8) 7) 63) ∧ (∀ h2, h2 = zput h1 (gR h (gR h x1 8) 7) 6 (zr (x1)) → (zP s0 m_J41_rotateLeft d 34 [some (zr (x0)), some (zr (x1)), some (zr (gR h x1 8)), none, none] [] h2 Q E))))))))))))) : zP s0 m_J41_rotateLeft d 0 [some (zr (x0)), some (zr (x1)), none, none, none] [] h Q E := by
  refine z_aload_n (M := m_J41_rotateLeft) (k := 1) rfl dJ41_rotateLeft_0 ?_
  refine z_ifnull (M := m_J41_rotateLeft) 89 rfl dJ41_rotateLeft_1 (fun hc => ?_) (fun hc => ?_)
  · have H := H.1 hc
    refine z_aload_n (M := m_J41_rotateLeft) (k := 0) rfl dJ41_rotateLeft_89 ?_
    exact z_areturn (M := m_J41_rotateLeft) rfl (Or.inl ⟨_, rfl⟩) dJ41_rotateLeft_90 H
  · have H := H.2 hc
    refine z_aload_n (M := m_J41_rotateLeft) (k := 1) rfl dJ41_rotateLeft_4 ?_
    obtain ⟨g, H⟩ := H
    refine z_get (M := m_J41_rotateLeft) f_J41_42 dJ41_rotateLeft_5 g ?_
    refine z_dup (M := m_J41_rotateLeft) (zr_cat _) dJ41_rotateLeft_8 ?_
    refine z_astore_n (M := m_J41_rotateLeft) (k := 2) 2 rfl (zlt rfl) (zr_cat _) dJ41_rotateLeft_9 ?_
    show zP s0 m_J41_rotateLeft d _ [some (zr (x0)), some (zr (x1)), some (zr (gR h x1 8)), none, none] _ _ _ _
    refine z_ifnull (M := m_J41_rotateLeft) 89 rfl dJ41_rotateLeft_10 (fun hc => ?_) (fun hc => ?_)
    · have H := H.1 hc
      refine z_aload_n (M := m_J41_rotateLeft) (k := 0) rfl dJ41_rotateLeft_89 ?_
      exact z_areturn (M := m_J41_rotateLeft) rfl (Or.inl ⟨_, rfl⟩) dJ41_rotateLeft_90 H
    · have H := H.2 hc
      refine z_aload_n (M := m_J41_rotateLeft) (k := 1) rfl dJ41_rotateLeft_13 ?_
      refine z_aload_n (M := m_J41_rotateLeft) (k := 2) rfl dJ41_rotateLeft_14 ?_
      obtain ⟨g, H⟩ := H
      refine z_get (M := m_J41_rotateLeft) f_J41_39 dJ41_rotateLeft_15 g ?_
      refine z_dup_x1 (M := m_J41_rotateLeft) (zr_cat _) (zr_cat _) dJ41_rotateLeft_18 ?_
      obtain ⟨g, H⟩ := H
      refine zz_put (M := m_J41_rotateLeft) f_J41_42 dJ41_rotateLeft_19 rfl (fn_63_8) g (ft_63_8) (fun h1 e => ?_)
      have H := H h1 e
      refine z_dup (M := m_J41_rotateLeft) (zr_cat _) dJ41_rotateLeft_22 ?_
      refine z_astore (M := m_J41_rotateLeft) 4 (zlt rfl) trivial dJ41_rotateLeft_23 ?_
      show zP s0 m_J41_rotateLeft d _ [some (zr (x0)), some (zr (x1)), some (zr (gR h x1 8)), none, some (zr (gR h (gR h x1 8) 7))] _ _ _ _
      refine z_ifnull (M := m_J41_rotateLeft) 34 rfl dJ41_rotateLeft_25 (fun hc => ?_) (fun hc => ?_)
      · have H := H.1 hc
        exact zP.weak (ls' := [some (zr (x0)), some (zr (x1)), some (zr (gR h x1 8)), none, none]) (zle rfl) (zsub_so (zsub_so (zsub_so (zsub_no (zsub_no zsub_nil))))) H
      · have H := H.2 hc
        refine z_aload (M := m_J41_rotateLeft) (i := 4) rfl dJ41_rotateLeft_28 ?_
        refine z_aload_n (M := m_J41_rotateLeft) (k := 1) rfl dJ41_rotateLeft_30 ?_
        obtain ⟨g, H⟩ := H
        refine zz_put (M := m_J41_rotateLeft) f_J41_9 dJ41_rotateLeft_31 rfl (fn_63_6) g (ft_63_6) (fun h2 e => ?_)
        have H := H h2 e
        exact zP.weak (ls' := [some (zr (x0)), some (zr (x1)), some (zr (gR h x1 8)), none, none]) (zle rfl) (zsub_so (zsub_so (zsub_so (zsub_no (zsub_no zsub_nil))))) H
theorem c_J41_rotateLeft {s0 : zE} {d : Nat} {x0 : Nat} {x1 : Nat} {h : zH} {Q : Value → zH → Prop} {E : Nat → zH → Prop} (H : (x1 = 0 → (Q (zr x0) h)) ∧ (¬ x1 = 0 → ((fR h x1 [63] 8) ∧ ((gR h x1 8 = 0 → (Q (zr x0) h)) ∧ (¬ gR h x1 8 = 0 → ((fR h (gR h x1 8) [63] 7) ∧ ((fC h x1 63) ∧ (∀ h1, h1 = zput h x1 8 (zr (gR h (gR h x1 8) 7)) → ((gR h (gR h x1 8) 7 = 0 → (zP s0 m_J41_rotateLeft d 34 [some (zr (x0)), some (zr (x1)), some (zr (gR h x1 8)), none, none] [] h1 Q E)) ∧ (¬ gR h (gR h x1 8) 7 = 0 → ((fC h1 (gR h (gR h x1 8) 7) 63) ∧ (∀ h2, h2 = zput h1 (gR h (gR h x1 8) 7) 6 (zr (x1)) → (zP s0 m_J41_rotateLeft d 34 [some (zr (x0)), some (zr (x1)), some (zr (gR h x1 8)), none, none] [] h2 Q E))))))))))))) : zX s0 m_J41_rotateLeft d [zr (x0), zr (x1)] h Q E := zX.of2 rfl (by decide +kernel) (zlay_r (zlay_r (zlay_n (znoneS (znoneS (znoneS znone0)))))) (zle rfl) (b_J41_rotateLeft_0 H)
theorem b_J41_rotateLeft_34 {s0 : zE} {d : Nat} {x0 : Nat} {x1 : Nat} {x2 : Nat} {h : zH} {Q : Value → zH → Prop} {E : Nat → zH → Prop} (H : (fR h x1 [63] 6) ∧ ((fC h x2 63) ∧ (∀ h1, h1 = zput h x2 6 (zr (gR h x1 6)) → ((¬ gR h x1 6 = 0 → ((fR h1 (gR h x1 6) [63] 7) ∧ ((¬ gR h1 (gR h x1 6) 7 = x1 → ((fC h1 (gR h x1 6) 63) ∧ (∀ h2, h2 = zput h1 (gR h x1 6) 8 (zr (x2)) → (zP s0 m_J41_rotateLeft d 79 [some (zr (x0)), some (zr (x1)), some (zr (x2)), none, none] [] h2 Q E)))) ∧ (gR h1 (gR h x1 6) 7 = x1 → ((fC h1 (gR h x1 6) 63) ∧ (∀ h3, h3 = zput h1 (gR h x1 6) 7 (zr (x2)) → (zP s0 m_J41_rotateLeft d 79 [some (zr (x0)), some (zr (x1)), some (zr (x2)), none, none] [] h3 Q E))))))) ∧ (gR h x1 6 = 0 → ((fC h1 x2 63) ∧ (∀ h4, h4 = zput h1 x2 10 (.int (0)) → (zP s0 m_J41_rotateLeft d 79 [some (zr (x2)), some (zr (x1)), some (zr (x2)), none, none] [] h4 Q E)))))))) : zP s0 m_J41_rotateLeft d 34 [some (zr (x0)), some (zr (x1)), some (zr (x2)), none, none] [] h Q E := by
  refine z_aload_n (M := m_J41_rotateLeft) (k := 2) rfl dJ41_rotateLeft_34 ?_
  refine z_aload_n (M := m_J41_rotateLeft) (k := 1) rfl dJ41_rotateLeft_35 ?_
  obtain ⟨g, H⟩ := H
  refine z_get (M := m_J41_rotateLeft) f_J41_9 dJ41_rotateLeft_36 g ?_
  refine z_dup_x1 (M := m_J41_rotateLeft) (zr_cat _) (zr_cat _) dJ41_rotateLeft_39 ?_
  obtain ⟨g, H⟩ := H
  refine zz_put (M := m_J41_rotateLeft) f_J41_9 dJ41_rotateLeft_40 rfl (fn_63_6) g (ft_63_6) (fun h1 e => ?_)
  have H := H h1 e
  refine z_dup (M := m_J41_rotateLeft) (zr_cat _) dJ41_rotateLeft_43 ?_
  refine z_astore_n (M := m_J41_rotateLeft) (k := 3) 3 rfl (zlt rfl) (zr_cat _) dJ41_rotateLeft_44 ?_
  show zP s0 m_J41_rotateLeft d _ [some (zr (x0)), some (zr (x1)), some (zr (x2)), some (zr (gR h x1 6)), none] _ _ _ _
  refine z_ifnonnull (M := m_J41_rotateLeft) 58 rfl dJ41_rotateLeft_45 (fun hc => ?_) (fun hc => ?_)
  · have H := H.1 hc
    refine z_aload_n (M := m_J41_rotateLeft) (k := 3) rfl dJ41_rotateLeft_58 ?_
    obtain ⟨g, H⟩ := H
    refine z_get (M := m_J41_rotateLeft) f_J41_39 dJ41_rotateLeft_59 g ?_
    refine z_aload_n (M := m_J41_rotateLeft) (k := 1) rfl dJ41_rotateLeft_62 ?_
    refine z_acmpne (M := m_J41_rotateLeft) 74 rfl dJ41_rotateLeft_63 (fun hc => ?_) (fun hc => ?_)
    · have H := H.1 hc
      refine z_aload_n (M := m_J41_rotateLeft) (k := 3) rfl dJ41_rotateLeft_74 ?_
      refine z_aload_n (M := m_J41_rotateLeft) (k := 2) rfl dJ41_rotateLeft_75 ?_
      obtain ⟨g, H⟩ := H
      refine zz_put (M := m_J41_rotateLeft) f_J41_42 dJ41_rotateLeft_76 rfl (fn_63_8) g (ft_63_8) (fun h2 e => ?_)
      have H := H h2 e
      exact zP.weak (ls' := [some (zr (x0)), some (zr (x1)), some (zr (x2)), none, none]) (zle rfl) (zsub_so (zsub_so (zsub_so (zsub_no (zsub_no zsub_nil))))) H
    · have H := H.2 hc
      refine z_aload_n (M := m_J41_rotateLeft) (k := 3) rfl dJ41_rotateLeft_66 ?_
      refine z_aload_n (M := m_J41_rotateLeft) (k := 2) rfl dJ41_rotateLeft_67 ?_
      obtain ⟨g, H⟩ := H
      refine zz_put (M := m_J41_rotateLeft) f_J41_39 dJ41_rotateLeft_68 rfl (fn_63_7) g (ft_63_7) (fun h3 e => ?_)
      have H := H h3 e
      refine z_goto (M := m_J41_rotateLeft) 79 rfl dJ41_rotateLeft_71 ?_
      exact zP.weak (ls' := [some (zr (x0)), some (zr (x1)), some (zr (x2)), none, none]) (zle rfl) (zsub_so (zsub_so (zsub_so (zsub_no (zsub_no zsub_nil))))) H
  · have H := H.2 hc
    refine z_aload_n (M := m_J41_rotateLeft) (k := 2) rfl dJ41_rotateLeft_48 ?_
    refine z_dup (M := m_J41_rotateLeft) (zr_cat _) dJ41_rotateLeft_49 ?_
    refine z_astore_n (M := m_J41_rotateLeft) (k := 0) 0 rfl (zlt rfl) trivial dJ41_rotateLeft_50 ?_
    show zP s0 m_J41_rotateLeft d _ [some (zr (x2)), some (zr (x1)), some (zr (x2)), some (zr (gR h x1 6)), none] _ _ _ _
    refine z_iconst (M := m_J41_rotateLeft) (v := 0) (by decide) dJ41_rotateLeft_51 ?_
    obtain ⟨g, H⟩ := H
    refine zz_put (M := m_J41_rotateLeft) f_J41_93 dJ41_rotateLeft_52 rfl (fn_63_10) g (ft_63_10 (Or.inl rfl)) (fun h4 e => ?_)
    have H := H h4 e
    refine z_goto (M := m_J41_rotateLeft) 79 rfl dJ41_rotateLeft_55 ?_
    exact zP.weak (ls' := [some (zr (x2)), some (zr (x1)), some (zr (x2)), none, none]) (zle rfl) (zsub_so (zsub_so (zsub_so (zsub_no (zsub_no zsub_nil))))) H
theorem b_J41_rotateLeft_79 {s0 : zE} {d : Nat} {x0 : Nat} {x1 : Nat} {x2 : Nat} {h : zH} {Q : Value → zH → Prop} {E : Nat → zH → Prop} (H : (fC h x2 63) ∧ (∀ h1, h1 = zput h x2 7 (zr (x1)) → ((fC h1 x1 63) ∧ (∀ h2, h2 = zput h1 x1 6 (zr (x2)) → (Q (zr x0) h2))))) : zP s0 m_J41_rotateLeft d 79 [some (zr (x0)), some (zr (x1)), some (zr (x2)), none, none] [] h Q E := by
  refine z_aload_n (M := m_J41_rotateLeft) (k := 2) rfl dJ41_rotateLeft_79 ?_
  refine z_aload_n (M := m_J41_rotateLeft) (k := 1) rfl dJ41_rotateLeft_80 ?_
  obtain ⟨g, H⟩ := H
  refine zz_put (M := m_J41_rotateLeft) f_J41_39 dJ41_rotateLeft_81 rfl (fn_63_7) g (ft_63_7) (fun h1 e => ?_)
  have H := H h1 e
  refine z_aload_n (M := m_J41_rotateLeft) (k := 1) rfl dJ41_rotateLeft_84 ?_
  refine z_aload_n (M := m_J41_rotateLeft) (k := 2) rfl dJ41_rotateLeft_85 ?_
  obtain ⟨g, H⟩ := H
  refine zz_put (M := m_J41_rotateLeft) f_J41_9 dJ41_rotateLeft_86 rfl (fn_63_6) g (ft_63_6) (fun h2 e => ?_)
  have H := H h2 e
  refine z_aload_n (M := m_J41_rotateLeft) (k := 0) rfl dJ41_rotateLeft_89 ?_
  exact z_areturn (M := m_J41_rotateLeft) rfl (Or.inl ⟨_, rfl⟩) dJ41_rotateLeft_90 H
theorem b_J41_rotateRight_0 {s0 : zE} {d : Nat} {x0 : Nat} {x1 : Nat} {h : zH} {Q : Value → zH → Prop} {E : Nat → zH → Prop} (H : (x1 = 0 → (Q (zr x0) h)) ∧ (¬ x1 = 0 → ((fR h x1 [63] 7) ∧ ((gR h x1 7 = 0 → (Q (zr x0) h)) ∧ (¬ gR h x1 7 = 0 → ((fR h (gR h x1 7) [63] 8) ∧ ((fC h x1 63) ∧ (∀ h1, h1 = zput h x1 7 (zr (gR h (gR h x1 7) 8)) → ((gR h (gR h x1 7) 8 = 0 → (zP s0 m_J41_rotateRight d 34 [some (zr (x0)), some (zr (x1)), some (zr (gR h x1 7)), none, none] [] h1 Q E)) ∧ (¬ gR h (gR h x1 7) 8 = 0 → ((fC h1 (gR h (gR h x1 7) 8) 63) ∧ (∀ h2, h2 = zput h1 (gR h (gR h x1 7) 8) 6 (zr (x1)) → (zP s0 m_J41_rotateRight d 34 [some (zr (x0)), some (zr (x1)), some (zr (gR h x1 7)), none, none] [] h2 Q E))))))))))))) : zP s0 m_J41_rotateRight d 0 [some (zr (x0)), some (zr (x1)), none, none, none] [] h Q E := by
  refine z_aload_n (M := m_J41_rotateRight) (k := 1) rfl dJ41_rotateRight_0 ?_
  refine z_ifnull (M := m_J41_rotateRight) 89 rfl dJ41_rotateRight_1 (fun hc => ?_) (fun hc => ?_)
  · have H := H.1 hc
    refine z_aload_n (M := m_J41_rotateRight) (k := 0) rfl dJ41_rotateRight_89 ?_
    exact z_areturn (M := m_J41_rotateRight) rfl (Or.inl ⟨_, rfl⟩) dJ41_rotateRight_90 H
  · have H := H.2 hc
    refine z_aload_n (M := m_J41_rotateRight) (k := 1) rfl dJ41_rotateRight_4 ?_
    obtain ⟨g, H⟩ := H
    refine z_get (M := m_J41_rotateRight) f_J41_39 dJ41_rotateRight_5 g ?_
    refine z_dup (M := m_J41_rotateRight) (zr_cat _) dJ41_rotateRight_8 ?_
    refine z_astore_n (M := m_J41_rotateRight) (k := 2) 2 rfl (zlt rfl) (zr_cat _) dJ41_rotateRight_9 ?_
    show zP s0 m_J41_rotateRight d _ [some (zr (x0)), some (zr (x1)), some (zr (gR h x1 7)), none, none] _ _ _ _
    refine z_ifnull (M := m_J41_rotateRight) 89 rfl dJ41_rotateRight_10 (fun hc => ?_) (fun hc => ?_)
    · have H := H.1 hc
      refine z_aload_n (M := m_J41_rotateRight) (k := 0) rfl dJ41_rotateRight_89 ?_
      exact z_areturn (M := m_J41_rotateRight) rfl (Or.inl ⟨_, rfl⟩) dJ41_rotateRight_90 H
    · have H := H.2 hc
      refine z_aload_n (M := m_J41_rotateRight) (k := 1) rfl dJ41_rotateRight_13 ?_
      refine z_aload_n (M := m_J41_rotateRight) (k := 2) rfl dJ41_rotateRight_14 ?_
      obtain ⟨g, H⟩ := H
      refine z_get (M := m_J41_rotateRight) f_J41_42 dJ41_rotateRight_15 g ?_
      refine z_dup_x1 (M := m_J41_rotateRight) (zr_cat _) (zr_cat _) dJ41_rotateRight_18 ?_
      obtain ⟨g, H⟩ := H
      refine zz_put (M := m_J41_rotateRight) f_J41_39 dJ41_rotateRight_19 rfl (fn_63_7) g (ft_63_7) (fun h1 e => ?_)
      have H := H h1 e
      refine z_dup (M := m_J41_rotateRight) (zr_cat _) dJ41_rotateRight_22 ?_
      refine z_astore (M := m_J41_rotateRight) 4 (zlt rfl) trivial dJ41_rotateRight_23 ?_
      show zP s0 m_J41_rotateRight d _ [some (zr (x0)), some (zr (x1)), some (zr (gR h x1 7)), none, some (zr (gR h (gR h x1 7) 8))] _ _ _ _
      refine z_ifnull (M := m_J41_rotateRight) 34 rfl dJ41_rotateRight_25 (fun hc => ?_) (fun hc => ?_)
      · have H := H.1 hc
        exact zP.weak (ls' := [some (zr (x0)), some (zr (x1)), some (zr (gR h x1 7)), none, none]) (zle rfl) (zsub_so (zsub_so (zsub_so (zsub_no (zsub_no zsub_nil))))) H
      · have H := H.2 hc
        refine z_aload (M := m_J41_rotateRight) (i := 4) rfl dJ41_rotateRight_28 ?_
        refine z_aload_n (M := m_J41_rotateRight) (k := 1) rfl dJ41_rotateRight_30 ?_
        obtain ⟨g, H⟩ := H
        refine zz_put (M := m_J41_rotateRight) f_J41_9 dJ41_rotateRight_31 rfl (fn_63_6) g (ft_63_6) (fun h2 e => ?_)
        have H := H h2 e
        exact zP.weak (ls' := [some (zr (x0)), some (zr (x1)), some (zr (gR h x1 7)), none, none]) (zle rfl) (zsub_so (zsub_so (zsub_so (zsub_no (zsub_no zsub_nil))))) H
theorem c_J41_rotateRight {s0 : zE} {d : Nat} {x0 : Nat} {x1 : Nat} {h : zH} {Q : Value → zH → Prop} {E : Nat → zH → Prop} (H : (x1 = 0 → (Q (zr x0) h)) ∧ (¬ x1 = 0 → ((fR h x1 [63] 7) ∧ ((gR h x1 7 = 0 → (Q (zr x0) h)) ∧ (¬ gR h x1 7 = 0 → ((fR h (gR h x1 7) [63] 8) ∧ ((fC h x1 63) ∧ (∀ h1, h1 = zput h x1 7 (zr (gR h (gR h x1 7) 8)) → ((gR h (gR h x1 7) 8 = 0 → (zP s0 m_J41_rotateRight d 34 [some (zr (x0)), some (zr (x1)), some (zr (gR h x1 7)), none, none] [] h1 Q E)) ∧ (¬ gR h (gR h x1 7) 8 = 0 → ((fC h1 (gR h (gR h x1 7) 8) 63) ∧ (∀ h2, h2 = zput h1 (gR h (gR h x1 7) 8) 6 (zr (x1)) → (zP s0 m_J41_rotateRight d 34 [some (zr (x0)), some (zr (x1)), some (zr (gR h x1 7)), none, none] [] h2 Q E))))))))))))) : zX s0 m_J41_rotateRight d [zr (x0), zr (x1)] h Q E := zX.of2 rfl (by decide +kernel) (zlay_r (zlay_r (zlay_n (znoneS (znoneS (znoneS znone0)))))) (zle rfl) (b_J41_rotateRight_0 H)
theorem b_J41_rotateRight_34 {s0 : zE} {d : Nat} {x0 : Nat} {x1 : Nat} {x2 : Nat} {h : zH} {Q : Value → zH → Prop} {E : Nat → zH → Prop} (H : (fR h x1 [63] 6) ∧ ((fC h x2 63) ∧ (∀ h1, h1 = zput h x2 6 (zr (gR h x1 6)) → ((¬ gR h x1 6 = 0 → ((fR h1 (gR h x1 6) [63] 8) ∧ ((¬ gR h1 (gR h x1 6) 8 = x1 → ((fC h1 (gR h x1 6) 63) ∧ (∀ h2, h2 = zput h1 (gR h x1 6) 7 (zr (x2)) → (zP s0 m_J41_rotateRight d 79 [some (zr (x0)), some (zr (x1)), some (zr (x2)), none, none] [] h2 Q E)))) ∧ (gR h1 (gR h x1 6) 8 = x1 → ((fC h1 (gR h x1 6) 63) ∧ (∀ h3, h3 = zput h1 (gR h x1 6) 8 (zr (x2)) → (zP s0 m_J41_rotateRight d 79 [some (zr (x0)), some (zr (x1)), some (zr (x2)), none, none] [] h3 Q E))))))) ∧ (gR h x1 6 = 0 → ((fC h1 x2 63) ∧ (∀ h4, h4 = zput h1 x2 10 (.int (0)) → (zP s0 m_J41_rotateRight d 79 [some (zr (x2)), some (zr (x1)), some (zr (x2)), none, none] [] h4 Q E)))))))) : zP s0 m_J41_rotateRight d 34 [some (zr (x0)), some (zr (x1)), some (zr (x2)), none, none] [] h Q E := by
  refine z_aload_n (M := m_J41_rotateRight) (k := 2) rfl dJ41_rotateRight_34 ?_
  refine z_aload_n (M := m_J41_rotateRight) (k := 1) rfl dJ41_rotateRight_35 ?_
  obtain ⟨g, H⟩ := H
  refine z_get (M := m_J41_rotateRight) f_J41_9 dJ41_rotateRight_36 g ?_
  refine z_dup_x1 (M := m_J41_rotateRight) (zr_cat _) (zr_cat _) dJ41_rotateRight_39 ?_
  obtain ⟨g, H⟩ := H
  refine zz_put (M := m_J41_rotateRight) f_J41_9 dJ41_rotateRight_40 rfl (fn_63_6) g (ft_63_6) (fun h1 e => ?_)
  have H := H h1 e
  refine z_dup (M := m_J41_rotateRight) (zr_cat _) dJ41_rotateRight_43 ?_
  refine z_astore_n (M := m_J41_rotateRight) (k := 3) 3 rfl (zlt rfl) (zr_cat _) dJ41_rotateRight_44 ?_
  show zP s0 m_J41_rotateRight d _ [some (zr (x0)), some (zr (x1)), some (zr (x2)), some (zr (gR h x1 6)), none] _ _ _ _
  refine z_ifnonnull (M := m_J41_rotateRight) 58 rfl dJ41_rotateRight_45 (fun hc => ?_) (fun hc => ?_)
  · have H := H.1 hc
    refine z_aload_n (M := m_J41_rotateRight) (k := 3) rfl dJ41_rotateRight_58 ?_
    obtain ⟨g, H⟩ := H
    refine z_get (M := m_J41_rotateRight) f_J41_42 dJ41_rotateRight_59 g ?_
    refine z_aload_n (M := m_J41_rotateRight) (k := 1) rfl dJ41_rotateRight_62 ?_
    refine z_acmpne (M := m_J41_rotateRight) 74 rfl dJ41_rotateRight_63 (fun hc => ?_) (fun hc => ?_)
    · have H := H.1 hc
      refine z_aload_n (M := m_J41_rotateRight) (k := 3) rfl dJ41_rotateRight_74 ?_
      refine z_aload_n (M := m_J41_rotateRight) (k := 2) rfl dJ41_rotateRight_75 ?_
      obtain ⟨g, H⟩ := H
      refine zz_put (M := m_J41_rotateRight) f_J41_39 dJ41_rotateRight_76 rfl (fn_63_7) g (ft_63_7) (fun h2 e => ?_)
      have H := H h2 e
      exact zP.weak (ls' := [some (zr (x0)), some (zr (x1)), some (zr (x2)), none, none]) (zle rfl) (zsub_so (zsub_so (zsub_so (zsub_no (zsub_no zsub_nil))))) H
    · have H := H.2 hc
      refine z_aload_n (M := m_J41_rotateRight) (k := 3) rfl dJ41_rotateRight_66 ?_
      refine z_aload_n (M := m_J41_rotateRight) (k := 2) rfl dJ41_rotateRight_67 ?_
      obtain ⟨g, H⟩ := H
      refine zz_put (M := m_J41_rotateRight) f_J41_42 dJ41_rotateRight_68 rfl (fn_63_8) g (ft_63_8) (fun h3 e => ?_)
      have H := H h3 e
      refine z_goto (M := m_J41_rotateRight) 79 rfl dJ41_rotateRight_71 ?_
      exact zP.weak (ls' := [some (zr (x0)), some (zr (x1)), some (zr (x2)), none, none]) (zle rfl) (zsub_so (zsub_so (zsub_so (zsub_no (zsub_no zsub_nil))))) H
  · have H := H.2 hc
    refine z_aload_n (M := m_J41_rotateRight) (k := 2) rfl dJ41_rotateRight_48 ?_
    refine z_dup (M := m_J41_rotateRight) (zr_cat _) dJ41_rotateRight_49 ?_
    refine z_astore_n (M := m_J41_rotateRight) (k := 0) 0 rfl (zlt rfl) trivial dJ41_rotateRight_50 ?_
    show zP s0 m_J41_rotateRight d _ [some (zr (x2)), some (zr (x1)), some (zr (x2)), some (zr (gR h x1 6)), none] _ _ _ _
    refine z_iconst (M := m_J41_rotateRight) (v := 0) (by decide) dJ41_rotateRight_51 ?_
    obtain ⟨g, H⟩ := H
    refine zz_put (M := m_J41_rotateRight) f_J41_93 dJ41_rotateRight_52 rfl (fn_63_10) g (ft_63_10 (Or.inl rfl)) (fun h4 e => ?_)
    have H := H h4 e
    refine z_goto (M := m_J41_rotateRight) 79 rfl dJ41_rotateRight_55 ?_
    exact zP.weak (ls' := [some (zr (x2)), some (zr (x1)), some (zr (x2)), none, none]) (zle rfl) (zsub_so (zsub_so (zsub_so (zsub_no (zsub_no zsub_nil))))) H
theorem b_J41_rotateRight_79 {s0 : zE} {d : Nat} {x0 : Nat} {x1 : Nat} {x2 : Nat} {h : zH} {Q : Value → zH → Prop} {E : Nat → zH → Prop} (H : (fC h x2 63) ∧ (∀ h1, h1 = zput h x2 8 (zr (x1)) → ((fC h1 x1 63) ∧ (∀ h2, h2 = zput h1 x1 6 (zr (x2)) → (Q (zr x0) h2))))) : zP s0 m_J41_rotateRight d 79 [some (zr (x0)), some (zr (x1)), some (zr (x2)), none, none] [] h Q E := by
  refine z_aload_n (M := m_J41_rotateRight) (k := 2) rfl dJ41_rotateRight_79 ?_
  refine z_aload_n (M := m_J41_rotateRight) (k := 1) rfl dJ41_rotateRight_80 ?_
  obtain ⟨g, H⟩ := H
  refine zz_put (M := m_J41_rotateRight) f_J41_42 dJ41_rotateRight_81 rfl (fn_63_8) g (ft_63_8) (fun h1 e => ?_)
  have H := H h1 e
  refine z_aload_n (M := m_J41_rotateRight) (k := 1) rfl dJ41_rotateRight_84 ?_
  refine z_aload_n (M := m_J41_rotateRight) (k := 2) rfl dJ41_rotateRight_85 ?_
  obtain ⟨g, H⟩ := H
  refine zz_put (M := m_J41_rotateRight) f_J41_9 dJ41_rotateRight_86 rfl (fn_63_6) g (ft_63_6) (fun h2 e => ?_)
  have H := H h2 e
  refine z_aload_n (M := m_J41_rotateRight) (k := 0) rfl dJ41_rotateRight_89 ?_
  exact z_areturn (M := m_J41_rotateRight) rfl (Or.inl ⟨_, rfl⟩) dJ41_rotateRight_90 H
theorem b_J41_split_0 {s0 : zE} {d : Nat} {x0 : Nat} {x1 : Nat} {x2 : Nat} {x3 : Int32} {x4 : Int32} {h : zH} {Q : Value → zH → Prop} {E : Nat → zH → Prop} (H : zP s0 m_J41_split (d + 1) 25 [none, some (zr (x1)), some (zr (x2)), some (.int (x3)), some (.int (x4)), none, some (zr (0)), some (zr (0)), some (zr (0)), some (zr (0)), some (.int (0)), some (.int (0)), some (zr (x0)), none] [] h Q E) : zP s0 m_J41_split (d + 1) 0 [some (zr (x0)), some (zr (x1)), some (zr (x2)), some (.int (x3)), some (.int (x4)), none, none, none, none, none, none, none, none, none] [] h Q E := by
  refine z_aload_n (M := m_J41_split) (k := 0) rfl dJ41_split_0 ?_
  refine z_astore (M := m_J41_split) 5 (zlt rfl) rfl dJ41_split_1 ?_
  show zP s0 m_J41_split (d + 1) _ [some (zr (x0)), some (zr (x1)), some (zr (x2)), some (.int (x3)), some (.int (x4)), some (zr (x0)), none, none, none, none, none, none, none, none] _ _ _ _
  refine z_null (M := m_J41_split) dJ41_split_3 ?_
  refine z_astore (M := m_J41_split) 6 (zlt rfl) (zr_cat _) dJ41_split_4 ?_
  show zP s0 m_J41_split (d + 1) _ [some (zr (x0)), some (zr (x1)), some (zr (x2)), some (.int (x3)), some (.int (x4)), some (zr (x0)), some (zr (0)), none, none, none, none, none, none, none] _ _ _ _
  refine z_null (M := m_J41_split) dJ41_split_6 ?_
  refine z_astore (M := m_J41_split) 7 (zlt rfl) (zr_cat _) dJ41_split_7 ?_
  show zP s0 m_J41_split (d + 1) _ [some (zr (x0)), some (zr (x1)), some (zr (x2)), some (.int (x3)), some (.int (x4)), some (zr (x0)), some (zr (0)), some (zr (0)), none, none, none, none, none, none] _ _ _ _
  refine z_null (M := m_J41_split) dJ41_split_9 ?_
  refine z_astore (M := m_J41_split) 8 (zlt rfl) (zr_cat _) dJ41_split_10 ?_
  show zP s0 m_J41_split (d + 1) _ [some (zr (x0)), some (zr (x1)), some (zr (x2)), some (.int (x3)), some (.int (x4)), some (zr (x0)), some (zr (0)), some (zr (0)), some (zr (0)), none, none, none, none, none] _ _ _ _
  refine z_null (M := m_J41_split) dJ41_split_12 ?_
  refine z_astore (M := m_J41_split) 9 (zlt rfl) (zr_cat _) dJ41_split_13 ?_
  show zP s0 m_J41_split (d + 1) _ [some (zr (x0)), some (zr (x1)), some (zr (x2)), some (.int (x3)), some (.int (x4)), some (zr (x0)), some (zr (0)), some (zr (0)), some (zr (0)), some (zr (0)), none, none, none, none] _ _ _ _
  refine z_iconst (M := m_J41_split) (v := 0) (by decide) dJ41_split_15 ?_
  refine z_istore (M := m_J41_split) 10 (zlt rfl) (zr_cat _) dJ41_split_16 ?_
  show zP s0 m_J41_split (d + 1) _ [some (zr (x0)), some (zr (x1)), some (zr (x2)), some (.int (x3)), some (.int (x4)), some (zr (x0)), some (zr (0)), some (zr (0)), some (zr (0)), some (zr (0)), some (.int (0)), none, none, none] _ _ _ _
  refine z_iconst (M := m_J41_split) (v := 0) (by decide) dJ41_split_18 ?_
  refine z_istore (M := m_J41_split) 11 (zlt rfl) rfl dJ41_split_19 ?_
  show zP s0 m_J41_split (d + 1) _ [some (zr (x0)), some (zr (x1)), some (zr (x2)), some (.int (x3)), some (.int (x4)), some (zr (x0)), some (zr (0)), some (zr (0)), some (zr (0)), some (zr (0)), some (.int (0)), some (.int (0)), none, none] _ _ _ _
  refine z_aload (M := m_J41_split) (i := 5) rfl dJ41_split_21 ?_
  refine z_astore (M := m_J41_split) 12 (zlt rfl) rfl dJ41_split_23 ?_
  show zP s0 m_J41_split (d + 1) _ [some (zr (x0)), some (zr (x1)), some (zr (x2)), some (.int (x3)), some (.int (x4)), some (zr (x0)), some (zr (0)), some (zr (0)), some (zr (0)), some (zr (0)), some (.int (0)), some (.int (0)), some (zr (x0)), none] _ _ _ _
  exact zP.weak (ls' := [none, some (zr (x1)), some (zr (x2)), some (.int (x3)), some (.int (x4)), none, some (zr (0)), some (zr (0)), some (zr (0)), some (zr (0)), some (.int (0)), some (.int (0)), some (zr (x0)), none]) (zle rfl) (zsub_no (zsub_so (zsub_so (zsub_so (zsub_so (zsub_no (zsub_so (zsub_so (zsub_so (zsub_so (zsub_so (zsub_so (zsub_so (zsub_no zsub_nil)))))))))))))) H
theorem c_J41_split {s0 : zE} {d : Nat} {x0 : Nat} {x1 : Nat} {x2 : Nat} {x3 : Int32} {x4 : Int32} {h : zH} {Q : Value → zH → Prop} {E : Nat → zH → Prop} (H : zP s0 m_J41_split (d + 1) 25 [none, some (zr (x1)), some (zr (x2)), some (.int (x3)), some (.int (x4)), none, some (zr (0)), some (zr (0)), some (zr (0)), some (zr (0)), some (.int (0)), some (.int (0)), some (zr (x0)), none] [] h Q E) : zX s0 m_J41_split (d + 1) [zr (x0), zr (x1), zr (x2), .int (x3), .int (x4)] h Q E := zX.of2 rfl (by decide +kernel) (zlay_r (zlay_r (zlay_r (zlay_i (zlay_i (zlay_n (znoneS (znoneS (znoneS (znoneS (znoneS (znoneS (znoneS (znoneS (znoneS znone0))))))))))))))) (zle rfl) (b_J41_split_0 H)
theorem b_J41_split_25 {s0 : zE} {d : Nat} {x1 : Nat} {x2 : Nat} {x3 : Int32} {x4 : Int32} {x6 : Nat} {x7 : Nat} {x8 : Nat} {x9 : Nat} {x10 : Int32} {x11 : Int32} {x12 : Nat} {h : zH} {Q : Value → zH → Prop} {E : Nat → zH → Prop} (H : (x12 = 0 → ((x6 = 0 → (zP s0 m_J41_split (d + 1) 171 [none, some (zr (x1)), some (zr (x2)), some (.int (x3)), some (.int (x4)), none, some (zr (x6)), none, some (zr (x8)), none, none, some (.int (x11)), none, none] [] h Q E)) ∧ (¬ x6 = 0 → ((6 < x10 → ((fS s0 h x2 9 x3) ∧ ((x6 = 0 ∨ zAsg h x6 (.object "java/util/HashMap$Node")) ∧ (∀ h1, h1 = zput h x2 (x3).toNatClampNeg (zr x6) → ((x8 = 0 → (zP s0 m_J41_split (d + 1) 171 [none, some (zr (x1)), some (zr (x2)), some (.int (x3)), some (.int (x4)), none, some (zr (x6)), none, some (zr (x8)), none, none, some (.int (x11)), none, none] [] h1 Q E)) ∧ (¬ x8 = 0 → ((fC h1 x6 63 ∧ zX s0 m_J41_treeify d [zr x6, zr (x2)] h1 (fun _ h2 => (zP s0 m_J41_split (d + 1) 171 [none, some (zr (x1)), some (zr (x2)), some (.int (x3)), some (.int (x4)), none, some (zr (x6)), none, some (zr (x8)), none, none, some (.int (x11)), none, none] [] h2 Q E)) E)))))))) ∧ (¬ 6 < x10 → ((fC h x6 63 ∧ zX s0 m_J41_untreeify d [zr x6, zr (x1)] h (fun v2 h3 => ∃ n1 : Nat, v2 = zr (n1) ∧ ((fS s0 h3 x2 9 x3) ∧ ((n1 = 0 ∨ zAsg h3 n1 (.object "java/util/HashMap$Node")) ∧ (∀ h4, h4 = zput h3 x2 (x3).toNatClampNeg (zr n1) → (zP s0 m_J41_split (d + 1) 171 [none, some (zr (x1)), some (zr (x2)), some (.int (x3)), some (.int (x4)), none, some (zr (x6)), none, some (zr (x8)), none, none, some (.int (x11)), none, none] [] h4 Q E))))) E))))))) ∧ (¬ x12 = 0 → ((fR h x12 [62, 63] 3) ∧ ((gR h x12 3 = 0 ∨ zCast h (gR h x12 3) "java/util/HashMap$TreeNode") ∧ ((∃ c ∈ ([62, 63] : List Nat), fC h x12 c) ∧ (∀ h5, h5 = zput h x12 3 (zr (0)) → ((fI h5 x12 [62, 63] 0) ∧ ((¬ (gI h5 x12 0) &&& x4 = 0 → ((fC h5 x12 63) ∧ (∀ h6, h6 = zput h5 x12 9 (zr (x9)) → ((¬ x9 = 0 → ((∃ c ∈ ([62, 63] : List Nat), fC h6 x9 c) ∧ (∀ h7, h7 = zput h6 x9 3 (zr (x12)) → (zP s0 m_J41_split (d + 1) 25 [none, some (zr (x1)), some (zr (x2)), some (.int (x3)), some (.int (x4)), none, some (zr (x6)), some (zr (x7)), some (zr (x8)), some (zr (x12)), some (.int (x10)), some (.int (x11 + 1)), some (zr (gR h x12 3)), none] [] h7 Q E)))) ∧ (x9 = 0 → (zP s0 m_J41_split (d + 1) 25 [none, some (zr (x1)), some (zr (x2)), some (.int (x3)), some (.int (x4)), none, some (zr (x6)), some (zr (x7)), some (zr (x12)), some (zr (x12)), some (.int (x10)), some (.int (x11 + 1)), some (zr (gR h x12 3)), none] [] h6 Q E)))))) ∧ ((gI h5 x12 0) &&& x4 = 0 → ((fC h5 x12 63) ∧ (∀ h8, h8 = zput h5 x12 9 (zr (x7)) → ((¬ x7 = 0 → ((∃ c ∈ ([62, 63] : List Nat), fC h8 x7 c) ∧ (∀ h9, h9 = zput h8 x7 3 (zr (x12)) → (zP s0 m_J41_split (d + 1) 25 [none, some (zr (x1)), some (zr (x2)), some (.int (x3)), some (.int (x4)), none, some (zr (x6)), some (zr (x12)), some (zr (x8)), some (zr (x9)), some (.int (x10 + 1)), some (.int (x11)), some (zr (gR h x12 3)), none] [] h9 Q E)))) ∧ (x7 = 0 → (zP s0 m_J41_split (d + 1) 25 [none, some (zr (x1)), some (zr (x2)), some (.int (x3)), some (.int (x4)), none, some (zr (x12)), some (zr (x12)), some (zr (x8)), some (zr (x9)), some (.int (x10 + 1)), some (.int (x11)), some (zr (gR h x12 3)), none] [] h8 Q E)))))))))))))) : zP s0 m_J41_split (d + 1) 25 [none, some (zr (x1)), some (zr (x2)), some (.int (x3)), some (.int (x4)), none, some (zr (x6)), some (zr (x7)), some (zr (x8)), some (zr (x9)), some (.int (x10)), some (.int (x11)), some (zr (x12)), none] [] h Q E := by
  refine z_aload (M := m_J41_split) (i := 12) rfl dJ41_split_25 ?_
  refine z_ifnull (M := m_J41_split) 131 rfl dJ41_split_27 (fun hc => ?_) (fun hc => ?_)
  · have H := H.1 hc
    refine z_aload (M := m_J41_split) (i := 6) rfl dJ41_split_131 ?_
    refine z_ifnull (M := m_J41_split) 171 rfl dJ41_split_133 (fun hc => ?_) (fun hc => ?_)
    · have H := H.1 hc
      exact zP.weak (ls' := [none, some (zr (x1)), some (zr (x2)), some (.int (x3)), some (.int (x4)), none, some (zr (x6)), none, some (zr (x8)), none, none, some (.int (x11)), none, none]) (zle rfl) (zsub_no (zsub_so (zsub_so (zsub_so (zsub_so (zsub_no (zsub_so (zsub_no (zsub_so (zsub_no (zsub_no (zsub_so (zsub_no (zsub_no zsub_nil)))))))))))))) H
    · have H := H.2 hc
      refine z_iload (M := m_J41_split) (i := 10) rfl dJ41_split_136 ?_
      refine z_bipush (M := m_J41_split) (v := 6) (by decide) dJ41_split_138 ?_
      refine z_icmpgt (M := m_J41_split) 155 rfl dJ41_split_140 (fun hc => ?_) (fun hc => ?_)
      · have H := H.1 hc
        refine z_aload_n (M := m_J41_split) (k := 2) rfl dJ41_split_155 ?_
        refine z_iload_n (M := m_J41_split) (k := 3) rfl dJ41_split_156 ?_
        refine z_aload (M := m_J41_split) (i := 6) rfl dJ41_split_157 ?_
        obtain ⟨g, gm, H⟩ := H
        refine zz_istA (M := m_J41_split) (t := 9) rfl dJ41_split_159 g gm (fun h1 e => ?_)
        have H := H h1 e
        refine z_aload (M := m_J41_split) (i := 8) rfl dJ41_split_160 ?_
        refine z_ifnull (M := m_J41_split) 171 rfl dJ41_split_162 (fun hc => ?_) (fun hc => ?_)
        · have H := H.1 hc
          exact zP.weak (ls' := [none, some (zr (x1)), some (zr (x2)), some (.int (x3)), some (.int (x4)), none, some (zr (x6)), none, some (zr (x8)), none, none, some (.int (x11)), none, none]) (zle rfl) (zsub_no (zsub_so (zsub_so (zsub_so (zsub_so (zsub_no (zsub_so (zsub_no (zsub_so (zsub_no (zsub_no (zsub_so (zsub_no (zsub_no zsub_nil)))))))))))))) H
        · have H := H.2 hc
          refine z_aload (M := m_J41_split) (i := 6) rfl dJ41_split_165 ?_
          refine z_aload_n (M := m_J41_split) (k := 2) rfl dJ41_split_167 ?_
          obtain ⟨⟨fs9, g⟩, H⟩ := H
          refine z_invV (M := m_J41_split) (cn := 63) (a := [zr (x2)]) ok_J41_treeify q3057 q3058 q3059 rfl dJ41_split_168 g (Nat.le_refl _) (Nat.zero_le _) rfl H (fun v1 h2 H => ?_) (fun n9 h9 H => zPx.out rfl H)
          show zP s0 m_J41_split (d + 1) _ _ [] _ _ _
          exact zP.weak (ls' := [none, some (zr (x1)), some (zr (x2)), some (.int (x3)), some (.int (x4)), none, some (zr (x6)), none, some (zr (x8)), none, none, some (.int (x11)), none, none]) (zle rfl) (zsub_no (zsub_so (zsub_so (zsub_so (zsub_so (zsub_no (zsub_so (zsub_no (zsub_so (zsub_no (zsub_no (zsub_so (zsub_no (zsub_no zsub_nil)))))))))))))) H
      · have H := H.2 hc
        refine z_aload_n (M := m_J41_split) (k := 2) rfl dJ41_split_143 ?_
        refine z_iload_n (M := m_J41_split) (k := 3) rfl dJ41_split_144 ?_
        refine z_aload (M := m_J41_split) (i := 6) rfl dJ41_split_145 ?_
        refine z_aload_n (M := m_J41_split) (k := 1) rfl dJ41_split_147 ?_
        obtain ⟨⟨fs9, g⟩, H⟩ := H
        refine z_invV (M := m_J41_split) (cn := 63) (a := [zr (x1)]) ok_J41_untreeify q2191 q2192 q2193 rfl dJ41_split_148 g (Nat.le_refl _) (Nat.le_trans (zcati (zcatr zcat0)) (zle rfl)) rfl H (fun v2 h3 H => ?_) (fun n9 h9 H => zPx.out rfl H)
        obtain ⟨n1, rfl, H⟩ := H
        show zP s0 m_J41_split (d + 1) _ _ [zr (n1), .int (x3), zr (x2)] _ _ _
        obtain ⟨g, gm, H⟩ := H
        refine zz_istA (M := m_J41_split) (t := 9) rfl dJ41_split_151 g gm (fun h4 e => ?_)
        have H := H h4 e
        refine z_goto (M := m_J41_split) 171 rfl dJ41_split_152 ?_
        exact zP.weak (ls' := [none, some (zr (x1)), some (zr (x2)), some (.int (x3)), some (.int (x4)), none, some (zr (x6)), none, some (zr (x8)), none, none, some (.int (x11)), none, none]) (zle rfl) (zsub_no (zsub_so (zsub_so (zsub_so (zsub_so (zsub_no (zsub_so (zsub_no (zsub_so (zsub_no (zsub_no (zsub_so (zsub_no (zsub_no zsub_nil)))))))))))))) H
  · have H := H.2 hc
    refine z_aload (M := m_J41_split) (i := 12) rfl dJ41_split_30 ?_
    obtain ⟨g, H⟩ := H
    refine z_get (M := m_J41_split) f_J41_22 dJ41_split_32 g ?_
    obtain ⟨g, H⟩ := H
    refine z_checkcast (M := m_J41_split) q2190 dJ41_split_35 g ?_
    refine z_astore (M := m_J41_split) 13 (zlt rfl) (zr_cat _) dJ41_split_38 ?_
    show zP s0 m_J41_split (d + 1) _ [none, some (zr (x1)), some (zr (x2)), some (.int (x3)), some (.int (x4)), none, some (zr (x6)), some (zr (x7)), some (zr (x8)), some (zr (x9)), some (.int (x10)), some (.int (x11)), some (zr (x12)), some (zr (gR h x12 3))] _ _ _ _
    refine z_aload (M := m_J41_split) (i := 12) rfl dJ41_split_40 ?_
    refine z_null (M := m_J41_split) dJ41_split_42 ?_
    obtain ⟨g, H⟩ := H
    refine zz_putM (M := m_J41_split) f_J41_22 dJ41_split_43 (fun c hc => by simp only [List.mem_cons, List.not_mem_nil, or_false] at hc; rcases hc with rfl | rfl <;> exact rfl) (fun c hc => by simp only [List.mem_cons, List.not_mem_nil, or_false] at hc; rcases hc with rfl | rfl <;> exact ⟨_, rfl, Or.inl rfl⟩) g (fun c hc => by simp only [List.mem_cons, List.not_mem_nil, or_false] at hc; rcases hc with rfl | rfl <;> exact (zfit_r rfl rfl rfl)) (fun h5 e => ?_)
    have H := H h5 e
    refine z_aload (M := m_J41_split) (i := 12) rfl dJ41_split_46 ?_
    obtain ⟨g, H⟩ := H
    refine z_get (M := m_J41_split) f_J41_15 dJ41_split_48 g ?_
    refine z_iload (M := m_J41_split) (i := 4) rfl dJ41_split_51 ?_
    refine z_iand (M := m_J41_split) dJ41_split_53 ?_
    refine z_ifne (M := m_J41_split) 92 rfl dJ41_split_54 (fun hc => ?_) (fun hc => ?_)
    · have H := H.1 hc
      refine z_aload (M := m_J41_split) (i := 12) rfl dJ41_split_92 ?_
      refine z_aload (M := m_J41_split) (i := 9) rfl dJ41_split_94 ?_
      refine z_dup_x1 (M := m_J41_split) (zr_cat _) (zr_cat _) dJ41_split_96 ?_
      obtain ⟨g, H⟩ := H
      refine zz_put (M := m_J41_split) f_J41_19 dJ41_split_97 rfl (fn_63_9) g (ft_63_9) (fun h6 e => ?_)
      have H := H h6 e
      refine z_ifnonnull (M := m_J41_split) 110 rfl dJ41_split_100 (fun hc => ?_) (fun hc => ?_)
      · have H := H.1 hc
        refine z_aload (M := m_J41_split) (i := 9) rfl dJ41_split_110 ?_
        refine z_aload (M := m_J41_split) (i := 12) rfl dJ41_split_112 ?_
        obtain ⟨g, H⟩ := H
        refine zz_putM (M := m_J41_split) f_J41_22 dJ41_split_114 (fun c hc => by simp only [List.mem_cons, List.not_mem_nil, or_false] at hc; rcases hc with rfl | rfl <;> exact rfl) (fun c hc => by simp only [List.mem_cons, List.not_mem_nil, or_false] at hc; rcases hc with rfl | rfl <;> exact ⟨_, rfl, Or.inl rfl⟩) g (fun c hc => by simp only [List.mem_cons, List.not_mem_nil, or_false] at hc; rcases hc with rfl | rfl <;> exact (zfit_r rfl rfl rfl)) (fun h7 e => ?_)
        have H := H h7 e
        refine z_aload (M := m_J41_split) (i := 12) rfl dJ41_split_117 ?_
        refine z_astore (M := m_J41_split) 9 (zlt rfl) (zr_cat _) dJ41_split_119 ?_
        show zP s0 m_J41_split (d + 1) _ [none, some (zr (x1)), some (zr (x2)), some (.int (x3)), some (.int (x4)), none, some (zr (x6)), some (zr (x7)), some (zr (x8)), some (zr (x12)), some (.int (x10)), some (.int (x11)), some (zr (x12)), some (zr (gR h x12 3))] _ _ _ _
        refine z_inc (M := m_J41_split) 11 (x11 + 1) 1 (by decide) rfl rfl rfl dJ41_split_121 ?_
        show zP s0 m_J41_split (d + 1) _ [none, some (zr (x1)), some (zr (x2)), some (.int (x3)), some (.int (x4)), none, some (zr (x6)), some (zr (x7)), some (zr (x8)), some (zr (x12)), some (.int (x10)), some (.int (x11 + 1)), some (zr (x12)), some (zr (gR h x12 3))] _ _ _ _
        refine z_aload (M := m_J41_split) (i := 13) rfl dJ41_split_124 ?_
        refine z_astore (M := m_J41_split) 12 (zlt rfl) rfl dJ41_split_126 ?_
        show zP s0 m_J41_split (d + 1) _ [none, some (zr (x1)), some (zr (x2)), some (.int (x3)), some (.int (x4)), none, some (zr (x6)), some (zr (x7)), some (zr (x8)), some (zr (x12)), some (.int (x10)), some (.int (x11 + 1)), some (zr (gR h x12 3)), some (zr (gR h x12 3))] _ _ _ _
        refine z_goto (M := m_J41_split) 25 rfl dJ41_split_128 ?_
        exact zP.weak (ls' := [none, some (zr (x1)), some (zr (x2)), some (.int (x3)), some (.int (x4)), none, some (zr (x6)), some (zr (x7)), some (zr (x8)), some (zr (x12)), some (.int (x10)), some (.int (x11 + 1)), some (zr (gR h x12 3)), none]) (zle rfl) (zsub_no (zsub_so (zsub_so (zsub_so (zsub_so (zsub_no (zsub_so (zsub_so (zsub_so (zsub_so (zsub_so (zsub_so (zsub_so (zsub_no zsub_nil)))))))))))))) H
      · have H := H.2 hc
        refine z_aload (M := m_J41_split) (i := 12) rfl dJ41_split_103 ?_
        refine z_astore (M := m_J41_split) 8 (zlt rfl) (zr_cat _) dJ41_split_105 ?_
        show zP s0 m_J41_split (d + 1) _ [none, some (zr (x1)), some (zr (x2)), some (.int (x3)), some (.int (x4)), none, some (zr (x6)), some (zr (x7)), some (zr (x12)), some (zr (x9)), some (.int (x10)), some (.int (x11)), some (zr (x12)), some (zr (gR h x12 3))] _ _ _ _
        refine z_goto (M := m_J41_split) 117 rfl dJ41_split_107 ?_
        refine z_aload (M := m_J41_split) (i := 12) rfl dJ41_split_117 ?_
        refine z_astore (M := m_J41_split) 9 (zlt rfl) (zr_cat _) dJ41_split_119 ?_
        show zP s0 m_J41_split (d + 1) _ [none, some (zr (x1)), some (zr (x2)), some (.int (x3)), some (.int (x4)), none, some (zr (x6)), some (zr (x7)), some (zr (x12)), some (zr (x12)), some (.int (x10)), some (.int (x11)), some (zr (x12)), some (zr (gR h x12 3))] _ _ _ _
        refine z_inc (M := m_J41_split) 11 (x11 + 1) 1 (by decide) rfl rfl rfl dJ41_split_121 ?_
        show zP s0 m_J41_split (d + 1) _ [none, some (zr (x1)), some (zr (x2)), some (.int (x3)), some (.int (x4)), none, some (zr (x6)), some (zr (x7)), some (zr (x12)), some (zr (x12)), some (.int (x10)), some (.int (x11 + 1)), some (zr (x12)), some (zr (gR h x12 3))] _ _ _ _
        refine z_aload (M := m_J41_split) (i := 13) rfl dJ41_split_124 ?_
        refine z_astore (M := m_J41_split) 12 (zlt rfl) rfl dJ41_split_126 ?_
        show zP s0 m_J41_split (d + 1) _ [none, some (zr (x1)), some (zr (x2)), some (.int (x3)), some (.int (x4)), none, some (zr (x6)), some (zr (x7)), some (zr (x12)), some (zr (x12)), some (.int (x10)), some (.int (x11 + 1)), some (zr (gR h x12 3)), some (zr (gR h x12 3))] _ _ _ _
        refine z_goto (M := m_J41_split) 25 rfl dJ41_split_128 ?_
        exact zP.weak (ls' := [none, some (zr (x1)), some (zr (x2)), some (.int (x3)), some (.int (x4)), none, some (zr (x6)), some (zr (x7)), some (zr (x12)), some (zr (x12)), some (.int (x10)), some (.int (x11 + 1)), some (zr (gR h x12 3)), none]) (zle rfl) (zsub_no (zsub_so (zsub_so (zsub_so (zsub_so (zsub_no (zsub_so (zsub_so (zsub_so (zsub_so (zsub_so (zsub_so (zsub_so (zsub_no zsub_nil)))))))))))))) H
    · have H := H.2 hc
      refine z_aload (M := m_J41_split) (i := 12) rfl dJ41_split_57 ?_
      refine z_aload (M := m_J41_split) (i := 7) rfl dJ41_split_59 ?_
      refine z_dup_x1 (M := m_J41_split) (zr_cat _) (zr_cat _) dJ41_split_61 ?_
      obtain ⟨g, H⟩ := H
      refine zz_put (M := m_J41_split) f_J41_19 dJ41_split_62 rfl (fn_63_9) g (ft_63_9) (fun h8 e => ?_)
      have H := H h8 e
      refine z_ifnonnull (M := m_J41_split) 75 rfl dJ41_split_65 (fun hc => ?_) (fun hc => ?_)
      · have H := H.1 hc
        refine z_aload (M := m_J41_split) (i := 7) rfl dJ41_split_75 ?_
        refine z_aload (M := m_J41_split) (i := 12) rfl dJ41_split_77 ?_
        obtain ⟨g, H⟩ := H
        refine zz_putM (M := m_J41_split) f_J41_22 dJ41_split_79 (fun c hc => by simp only [List.mem_cons, List.not_mem_nil, or_false] at hc; rcases hc with rfl | rfl <;> exact rfl) (fun c hc => by simp only [List.mem_cons, List.not_mem_nil, or_false] at hc; rcases hc with rfl | rfl <;> exact ⟨_, rfl, Or.inl rfl⟩) g (fun c hc => by simp only [List.mem_cons, List.not_mem_nil, or_false] at hc; rcases hc with rfl | rfl <;> exact (zfit_r rfl rfl rfl)) (fun h9 e => ?_)
        have H := H h9 e
        refine z_aload (M := m_J41_split) (i := 12) rfl dJ41_split_82 ?_
        refine z_astore (M := m_J41_split) 7 (zlt rfl) (zr_cat _) dJ41_split_84 ?_
        show zP s0 m_J41_split (d + 1) _ [none, some (zr (x1)), some (zr (x2)), some (.int (x3)), some (.int (x4)), none, some (zr (x6)), some (zr (x12)), some (zr (x8)), some (zr (x9)), some (.int (x10)), some (.int (x11)), some (zr (x12)), some (zr (gR h x12 3))] _ _ _ _
        refine z_inc (M := m_J41_split) 10 (x10 + 1) 1 (by decide) rfl rfl (zr_cat _) dJ41_split_86 ?_
        show zP s0 m_J41_split (d + 1) _ [none, some (zr (x1)), some (zr (x2)), some (.int (x3)), some (.int (x4)), none, some (zr (x6)), some (zr (x12)), some (zr (x8)), some (zr (x9)), some (.int (x10 + 1)), some (.int (x11)), some (zr (x12)), some (zr (gR h x12 3))] _ _ _ _
        refine z_goto (M := m_J41_split) 124 rfl dJ41_split_89 ?_
        refine z_aload (M := m_J41_split) (i := 13) rfl dJ41_split_124 ?_
        refine z_astore (M := m_J41_split) 12 (zlt rfl) rfl dJ41_split_126 ?_
        show zP s0 m_J41_split (d + 1) _ [none, some (zr (x1)), some (zr (x2)), some (.int (x3)), some (.int (x4)), none, some (zr (x6)), some (zr (x12)), some (zr (x8)), some (zr (x9)), some (.int (x10 + 1)), some (.int (x11)), some (zr (gR h x12 3)), some (zr (gR h x12 3))] _ _ _ _
        refine z_goto (M := m_J41_split) 25 rfl dJ41_split_128 ?_
        exact zP.weak (ls' := [none, some (zr (x1)), some (zr (x2)), some (.int (x3)), some (.int (x4)), none, some (zr (x6)), some (zr (x12)), some (zr (x8)), some (zr (x9)), some (.int (x10 + 1)), some (.int (x11)), some (zr (gR h x12 3)), none]) (zle rfl) (zsub_no (zsub_so (zsub_so (zsub_so (zsub_so (zsub_no (zsub_so (zsub_so (zsub_so (zsub_so (zsub_so (zsub_so (zsub_so (zsub_no zsub_nil)))))))))))))) H
      · have H := H.2 hc
        refine z_aload (M := m_J41_split) (i := 12) rfl dJ41_split_68 ?_
        refine z_astore (M := m_J41_split) 6 (zlt rfl) trivial dJ41_split_70 ?_
        show zP s0 m_J41_split (d + 1) _ [none, some (zr (x1)), some (zr (x2)), some (.int (x3)), some (.int (x4)), none, some (zr (x12)), some (zr (x7)), some (zr (x8)), some (zr (x9)), some (.int (x10)), some (.int (x11)), some (zr (x12)), some (zr (gR h x12 3))] _ _ _ _
        refine z_goto (M := m_J41_split) 82 rfl dJ41_split_72 ?_
        refine z_aload (M := m_J41_split) (i := 12) rfl dJ41_split_82 ?_
        refine z_astore (M := m_J41_split) 7 (zlt rfl) (zr_cat _) dJ41_split_84 ?_
        show zP s0 m_J41_split (d + 1) _ [none, some (zr (x1)), some (zr (x2)), some (.int (x3)), some (.int (x4)), none, some (zr (x12)), some (zr (x12)), some (zr (x8)), some (zr (x9)), some (.int (x10)), some (.int (x11)), some (zr (x12)), some (zr (gR h x12 3))] _ _ _ _
        refine z_inc (M := m_J41_split) 10 (x10 + 1) 1 (by decide) rfl rfl (zr_cat _) dJ41_split_86 ?_
        show zP s0 m_J41_split (d + 1) _ [none, some (zr (x1)), some (zr (x2)), some (.int (x3)), some (.int (x4)), none, some (zr (x12)), some (zr (x12)), some (zr (x8)), some (zr (x9)), some (.int (x10 + 1)), some (.int (x11)), some (zr (x12)), some (zr (gR h x12 3))] _ _ _ _
        refine z_goto (M := m_J41_split) 124 rfl dJ41_split_89 ?_
        refine z_aload (M := m_J41_split) (i := 13) rfl dJ41_split_124 ?_
        refine z_astore (M := m_J41_split) 12 (zlt rfl) rfl dJ41_split_126 ?_
        show zP s0 m_J41_split (d + 1) _ [none, some (zr (x1)), some (zr (x2)), some (.int (x3)), some (.int (x4)), none, some (zr (x12)), some (zr (x12)), some (zr (x8)), some (zr (x9)), some (.int (x10 + 1)), some (.int (x11)), some (zr (gR h x12 3)), some (zr (gR h x12 3))] _ _ _ _
        refine z_goto (M := m_J41_split) 25 rfl dJ41_split_128 ?_
        exact zP.weak (ls' := [none, some (zr (x1)), some (zr (x2)), some (.int (x3)), some (.int (x4)), none, some (zr (x12)), some (zr (x12)), some (zr (x8)), some (zr (x9)), some (.int (x10 + 1)), some (.int (x11)), some (zr (gR h x12 3)), none]) (zle rfl) (zsub_no (zsub_so (zsub_so (zsub_so (zsub_so (zsub_no (zsub_so (zsub_so (zsub_so (zsub_so (zsub_so (zsub_so (zsub_so (zsub_no zsub_nil)))))))))))))) H
theorem b_J41_split_171 {s0 : zE} {d : Nat} {x1 : Nat} {x2 : Nat} {x3 : Int32} {x4 : Int32} {x6 : Nat} {x8 : Nat} {x11 : Int32} {h : zH} {Q : Value → zH → Prop} {E : Nat → zH → Prop} (H : (x8 = 0 → (Q .null h)) ∧ (¬ x8 = 0 → ((6 < x11 → ((fS s0 h x2 9 (x3 + x4)) ∧ ((x8 = 0 ∨ zAsg h x8 (.object "java/util/HashMap$Node")) ∧ (∀ h1, h1 = zput h x2 ((x3 + x4)).toNatClampNeg (zr x8) → ((x6 = 0 → (Q .null h1)) ∧ (¬ x6 = 0 → ((fC h1 x8 63 ∧ zX s0 m_J41_treeify d [zr x8, zr (x2)] h1 (fun _ h2 => (Q .null h2)) E)))))))) ∧ (¬ 6 < x11 → ((fC h x8 63 ∧ zX s0 m_J41_untreeify d [zr x8, zr (x1)] h (fun v2 h3 => ∃ n1 : Nat, v2 = zr (n1) ∧ ((fS s0 h3 x2 9 (x3 + x4)) ∧ ((n1 = 0 ∨ zAsg h3 n1 (.object "java/util/HashMap$Node")) ∧ (∀ h4, h4 = zput h3 x2 ((x3 + x4)).toNatClampNeg (zr n1) → (Q .null h4))))) E)))))) : zP s0 m_J41_split (d + 1) 171 [none, some (zr (x1)), some (zr (x2)), some (.int (x3)), some (.int (x4)), none, some (zr (x6)), none, some (zr (x8)), none, none, some (.int (x11)), none, none] [] h Q E := by
  refine z_aload (M := m_J41_split) (i := 8) rfl dJ41_split_171 ?_
  refine z_ifnull (M := m_J41_split) 217 rfl dJ41_split_173 (fun hc => ?_) (fun hc => ?_)
  · have H := H.1 hc
    exact z_return (M := m_J41_split) rfl dJ41_split_217 H
  · have H := H.2 hc
    refine z_iload (M := m_J41_split) (i := 11) rfl dJ41_split_176 ?_
    refine z_bipush (M := m_J41_split) (v := 6) (by decide) dJ41_split_178 ?_
    refine z_icmpgt (M := m_J41_split) 198 rfl dJ41_split_180 (fun hc => ?_) (fun hc => ?_)
    · have H := H.1 hc
      refine z_aload_n (M := m_J41_split) (k := 2) rfl dJ41_split_198 ?_
      refine z_iload_n (M := m_J41_split) (k := 3) rfl dJ41_split_199 ?_
      refine z_iload (M := m_J41_split) (i := 4) rfl dJ41_split_200 ?_
      refine z_iadd (M := m_J41_split) dJ41_split_202 ?_
      refine z_aload (M := m_J41_split) (i := 8) rfl dJ41_split_203 ?_
      obtain ⟨g, gm, H⟩ := H
      refine zz_istA (M := m_J41_split) (t := 9) rfl dJ41_split_205 g gm (fun h1 e => ?_)
      have H := H h1 e
      refine z_aload (M := m_J41_split) (i := 6) rfl dJ41_split_206 ?_
      refine z_ifnull (M := m_J41_split) 217 rfl dJ41_split_208 (fun hc => ?_) (fun hc => ?_)
      · have H := H.1 hc
        exact z_return (M := m_J41_split) rfl dJ41_split_217 H
      · have H := H.2 hc
        refine z_aload (M := m_J41_split) (i := 8) rfl dJ41_split_211 ?_
        refine z_aload_n (M := m_J41_split) (k := 2) rfl dJ41_split_213 ?_
        obtain ⟨⟨fs9, g⟩, H⟩ := H
        refine z_invV (M := m_J41_split) (cn := 63) (a := [zr (x2)]) ok_J41_treeify q3057 q3058 q3059 rfl dJ41_split_214 g (Nat.le_refl _) (Nat.zero_le _) rfl H (fun v1 h2 H => ?_) (fun n9 h9 H => zPx.out rfl H)
        show zP s0 m_J41_split (d + 1) _ _ [] _ _ _
        exact z_return (M := m_J41_split) rfl dJ41_split_217 H
    · have H := H.2 hc
      refine z_aload_n (M := m_J41_split) (k := 2) rfl dJ41_split_183 ?_
      refine z_iload_n (M := m_J41_split) (k := 3) rfl dJ41_split_184 ?_
      refine z_iload (M := m_J41_split) (i := 4) rfl dJ41_split_185 ?_
      refine z_iadd (M := m_J41_split) dJ41_split_187 ?_
      refine z_aload (M := m_J41_split) (i := 8) rfl dJ41_split_188 ?_
      refine z_aload_n (M := m_J41_split) (k := 1) rfl dJ41_split_190 ?_
      obtain ⟨⟨fs9, g⟩, H⟩ := H
      refine z_invV (M := m_J41_split) (cn := 63) (a := [zr (x1)]) ok_J41_untreeify q2191 q2192 q2193 rfl dJ41_split_191 g (Nat.le_refl _) (Nat.le_trans (zcati (zcatr zcat0)) (zle rfl)) rfl H (fun v2 h3 H => ?_) (fun n9 h9 H => zPx.out rfl H)
      obtain ⟨n1, rfl, H⟩ := H
      show zP s0 m_J41_split (d + 1) _ _ [zr (n1), .int (x3 + x4), zr (x2)] _ _ _
      obtain ⟨g, gm, H⟩ := H
      refine zz_istA (M := m_J41_split) (t := 9) rfl dJ41_split_194 g gm (fun h4 e => ?_)
      have H := H h4 e
      refine z_goto (M := m_J41_split) 217 rfl dJ41_split_195 ?_
      exact z_return (M := m_J41_split) rfl dJ41_split_217 H
theorem b_J41_treeify_0 {s0 : zE} {d : Nat} {x0 : Nat} {x1 : Nat} {h : zH} {Q : Value → zH → Prop} {E : Nat → zH → Prop} (H : zP s0 m_J41_treeify (d + 1) 4 [none, some (zr (x1)), some (zr (0)), some (zr (x0)), none, none, none, none, none, none, none, none, none] [] h Q E) : zP s0 m_J41_treeify (d + 1) 0 [some (zr (x0)), some (zr (x1)), none, none, none, none, none, none, none, none, none, none, none] [] h Q E := by
  refine z_null (M := m_J41_treeify) dJ41_treeify_0 ?_
  refine z_astore_n (M := m_J41_treeify) (k := 2) 2 rfl (zlt rfl) (zr_cat _) dJ41_treeify_1 ?_
  show zP s0 m_J41_treeify (d + 1) _ [some (zr (x0)), some (zr (x1)), some (zr (0)), none, none, none, none, none, none, none, none, none, none] _ _ _ _
  refine z_aload_n (M := m_J41_treeify) (k := 0) rfl dJ41_treeify_2 ?_
  refine z_astore_n (M := m_J41_treeify) (k := 3) 3 rfl (zlt rfl) (zr_cat _) dJ41_treeify_3 ?_
  show zP s0 m_J41_treeify (d + 1) _ [some (zr (x0)), some (zr (x1)), some (zr (0)), some (zr (x0)), none, none, none, none, none, none, none, none, none] _ _ _ _
  exact zP.weak (ls' := [none, some (zr (x1)), some (zr (0)), some (zr (x0)), none, none, none, none, none, none, none, none, none]) (zle rfl) (zsub_no (zsub_so (zsub_so (zsub_so (zsub_no (zsub_no (zsub_no (zsub_no (zsub_no (zsub_no (zsub_no (zsub_no (zsub_no zsub_nil))))))))))))) H
theorem c_J41_treeify {s0 : zE} {d : Nat} {x0 : Nat} {x1 : Nat} {h : zH} {Q : Value → zH → Prop} {E : Nat → zH → Prop} (H : zP s0 m_J41_treeify (d + 1) 4 [none, some (zr (x1)), some (zr (0)), some (zr (x0)), none, none, none, none, none, none, none, none, none] [] h Q E) : zX s0 m_J41_treeify (d + 1) [zr (x0), zr (x1)] h Q E := zX.of2 rfl (by decide +kernel) (zlay_r (zlay_r (zlay_n (znoneS (znoneS (znoneS (znoneS (znoneS (znoneS (znoneS (znoneS (znoneS (znoneS (znoneS znone0)))))))))))))) (zle rfl) (b_J41_treeify_0 H)
theorem b_J41_treeify_4 {s0 : zE} {d : Nat} {x1 : Nat} {x2 : Nat} {x3 : Nat} {h : zH} {Q : Value → zH → Prop} {E : Nat → zH → Prop} (H : (x3 = 0 → (zX s0 m_J41_moveRootToFront d [zr (x1), zr (x2)] h (fun _ h1 => (Q .null h1)) E)) ∧ (¬ x3 = 0 → ((fR h x3 [62, 63] 3) ∧ ((gR h x3 3 = 0 ∨ zCast h (gR h x3 3) "java/util/HashMap$TreeNode") ∧ ((fC h x3 63) ∧ (∀ h2, h2 = zput h x3 8 (zr (0)) → ((fC h2 x3 63) ∧ (∀ h3, h3 = zput h2 x3 7 (zr (0)) → ((¬ x2 = 0 → ((fR h3 x3 [62, 63] 1) ∧ ((fI h3 x3 [62, 63] 0) ∧ (zP s0 m_J41_treeify (d + 1) 64 [none, some (zr (x1)), some (zr (x2)), some (zr (x3)), some (zr (gR h x3 3)), some (zr (gR h3 x3 1)), some (.int (gI h3 x3 0)), some (zr (0)), some (zr (x2)), none, none, none, none] [] h3 Q E)))) ∧ (x2 = 0 → ((fC h3 x3 63) ∧ (∀ h4, h4 = zput h3 x3 6 (zr (0)) → ((fC h4 x3 63) ∧ (∀ h5, h5 = zput h4 x3 10 (.int (0)) → (zP s0 m_J41_treeify (d + 1) 4 [none, some (zr (x1)), some (zr (x3)), some (zr (gR h x3 3)), none, none, none, none, none, none, none, none, none] [] h5 Q E))))))))))))))) : zP s0 m_J41_treeify (d + 1) 4 [none, some (zr (x1)), some (zr (x2)), some (zr (x3)), none, none, none, none, none, none, none, none, none] [] h Q E := by
  refine z_aload_n (M := m_J41_treeify) (k := 3) rfl dJ41_treeify_4 ?_
  refine z_ifnull (M := m_J41_treeify) 215 rfl dJ41_treeify_5 (fun hc => ?_) (fun hc => ?_)
  · have H := H.1 hc
    refine z_aload_n (M := m_J41_treeify) (k := 1) rfl dJ41_treeify_215 ?_
    refine z_aload_n (M := m_J41_treeify) (k := 2) rfl dJ41_treeify_216 ?_
    refine z_invS (M := m_J41_treeify) (a := [zr (x1), zr (x2)]) ok_J41_moveRootToFront q2267 q2268 dJ41_treeify_217 (Nat.le_refl _) (Nat.zero_le _) rfl H (fun v1 h1 H => ?_) (fun n9 h9 H => zPx.out rfl H)
    show zP s0 m_J41_treeify (d + 1) _ _ [] _ _ _
    exact z_return (M := m_J41_treeify) rfl dJ41_treeify_220 H
  · have H := H.2 hc
    refine z_aload_n (M := m_J41_treeify) (k := 3) rfl dJ41_treeify_8 ?_
    obtain ⟨g, H⟩ := H
    refine z_get (M := m_J41_treeify) f_J41_22 dJ41_treeify_9 g ?_
    obtain ⟨g, H⟩ := H
    refine z_checkcast (M := m_J41_treeify) q2190 dJ41_treeify_12 g ?_
    refine z_astore (M := m_J41_treeify) 4 (zlt rfl) (zr_cat _) dJ41_treeify_15 ?_
    show zP s0 m_J41_treeify (d + 1) _ [none, some (zr (x1)), some (zr (x2)), some (zr (x3)), some (zr (gR h x3 3)), none, none, none, none, none, none, none, none] _ _ _ _
    refine z_aload_n (M := m_J41_treeify) (k := 3) rfl dJ41_treeify_17 ?_
    refine z_aload_n (M := m_J41_treeify) (k := 3) rfl dJ41_treeify_18 ?_
    refine z_null (M := m_J41_treeify) dJ41_treeify_19 ?_
    refine z_dup_x1 (M := m_J41_treeify) (zr_cat _) (zr_cat _) dJ41_treeify_20 ?_
    obtain ⟨g, H⟩ := H
    refine zz_put (M := m_J41_treeify) f_J41_42 dJ41_treeify_21 rfl (fn_63_8) g (ft_63_8) (fun h2 e => ?_)
    have H := H h2 e
    obtain ⟨g, H⟩ := H
    refine zz_put (M := m_J41_treeify) f_J41_39 dJ41_treeify_24 rfl (fn_63_7) g (ft_63_7) (fun h3 e => ?_)
    have H := H h3 e
    refine z_aload_n (M := m_J41_treeify) (k := 2) rfl dJ41_treeify_27 ?_
    refine z_ifnonnull (M := m_J41_treeify) 46 rfl dJ41_treeify_28 (fun hc => ?_) (fun hc => ?_)
    · have H := H.1 hc
      refine z_aload_n (M := m_J41_treeify) (k := 3) rfl dJ41_treeify_46 ?_
      obtain ⟨g, H⟩ := H
      refine z_get (M := m_J41_treeify) f_J41_45 dJ41_treeify_47 g ?_
      refine z_astore (M := m_J41_treeify) 5 (zlt rfl) (zr_cat _) dJ41_treeify_50 ?_
      show zP s0 m_J41_treeify (d + 1) _ [none, some (zr (x1)), some (zr (x2)), some (zr (x3)), some (zr (gR h x3 3)), some (zr (gR h3 x3 1)), none, none, none, none, none, none, none] _ _ _ _
      refine z_aload_n (M := m_J41_treeify) (k := 3) rfl dJ41_treeify_52 ?_
      obtain ⟨g, H⟩ := H
      refine z_get (M := m_J41_treeify) f_J41_15 dJ41_treeify_53 g ?_
      refine z_istore (M := m_J41_treeify) 6 (zlt rfl) (zr_cat _) dJ41_treeify_56 ?_
      show zP s0 m_J41_treeify (d + 1) _ [none, some (zr (x1)), some (zr (x2)), some (zr (x3)), some (zr (gR h x3 3)), some (zr (gR h3 x3 1)), some (.int (gI h3 x3 0)), none, none, none, none, none, none] _ _ _ _
      refine z_null (M := m_J41_treeify) dJ41_treeify_58 ?_
      refine z_astore (M := m_J41_treeify) 7 (zlt rfl) rfl dJ41_treeify_59 ?_
      show zP s0 m_J41_treeify (d + 1) _ [none, some (zr (x1)), some (zr (x2)), some (zr (x3)), some (zr (gR h x3 3)), some (zr (gR h3 x3 1)), some (.int (gI h3 x3 0)), some (zr (0)), none, none, none, none, none] _ _ _ _
      refine z_aload_n (M := m_J41_treeify) (k := 2) rfl dJ41_treeify_61 ?_
      refine z_astore (M := m_J41_treeify) 8 (zlt rfl) (zr_cat _) dJ41_treeify_62 ?_
      show zP s0 m_J41_treeify (d + 1) _ [none, some (zr (x1)), some (zr (x2)), some (zr (x3)), some (zr (gR h x3 3)), some (zr (gR h3 x3 1)), some (.int (gI h3 x3 0)), some (zr (0)), some (zr (x2)), none, none, none, none] _ _ _ _
      exact H
    · have H := H.2 hc
      refine z_aload_n (M := m_J41_treeify) (k := 3) rfl dJ41_treeify_31 ?_
      refine z_null (M := m_J41_treeify) dJ41_treeify_32 ?_
      obtain ⟨g, H⟩ := H
      refine zz_put (M := m_J41_treeify) f_J41_9 dJ41_treeify_33 rfl (fn_63_6) g (ft_63_6) (fun h4 e => ?_)
      have H := H h4 e
      refine z_aload_n (M := m_J41_treeify) (k := 3) rfl dJ41_treeify_36 ?_
      refine z_iconst (M := m_J41_treeify) (v := 0) (by decide) dJ41_treeify_37 ?_
      obtain ⟨g, H⟩ := H
      refine zz_put (M := m_J41_treeify) f_J41_93 dJ41_treeify_38 rfl (fn_63_10) g (ft_63_10 (Or.inl rfl)) (fun h5 e => ?_)
      have H := H h5 e
      refine z_aload_n (M := m_J41_treeify) (k := 3) rfl dJ41_treeify_41 ?_
      refine z_astore_n (M := m_J41_treeify) (k := 2) 2 rfl (zlt rfl) (zr_cat _) dJ41_treeify_42 ?_
      show zP s0 m_J41_treeify (d + 1) _ [none, some (zr (x1)), some (zr (x3)), some (zr (x3)), some (zr (gR h x3 3)), none, none, none, none, none, none, none, none] _ _ _ _
      refine z_goto (M := m_J41_treeify) 209 rfl dJ41_treeify_43 ?_
      refine z_aload (M := m_J41_treeify) (i := 4) rfl dJ41_treeify_209 ?_
      refine z_astore_n (M := m_J41_treeify) (k := 3) 3 rfl (zlt rfl) (zr_cat _) dJ41_treeify_211 ?_
      show zP s0 m_J41_treeify (d + 1) _ [none, some (zr (x1)), some (zr (x3)), some (zr (gR h x3 3)), some (zr (gR h x3 3)), none, none, none, none, none, none, none, none] _ _ _ _
      refine z_goto (M := m_J41_treeify) 4 rfl dJ41_treeify_212 ?_
      exact zP.weak (ls' := [none, some (zr (x1)), some (zr (x3)), some (zr (gR h x3 3)), none, none, none, none, none, none, none, none, none]) (zle rfl) (zsub_no (zsub_so (zsub_so (zsub_so (zsub_no (zsub_no (zsub_no (zsub_no (zsub_no (zsub_no (zsub_no (zsub_no (zsub_no zsub_nil))))))))))))) H
theorem b_J41_treeify_64 {s0 : zE} {d : Nat} {x1 : Nat} {x2 : Nat} {x3 : Nat} {x4 : Nat} {x5 : Nat} {x6 : Int32} {x7 : Nat} {x8 : Nat} {h : zH} {Q : Value → zH → Prop} {E : Nat → zH → Prop} (H : (fR h x8 [62, 63] 1) ∧ ((fI h x8 [62, 63] 0) ∧ ((gI h x8 0 ≤ x6 → ((x6 ≤ gI h x8 0 → ((¬ x7 = 0 → (zP s0 m_J41_treeify (d + 1) 119 [none, some (zr (x1)), some (zr (x2)), some (zr (x3)), some (zr (x4)), some (zr (x5)), some (.int (x6)), some (zr (x7)), some (zr (x8)), none, none, some (zr (gR h x8 1)), none] [] h Q E)) ∧ (x7 = 0 → (zX s0 m_J1_comparableClassFor d [zr (x5)] h (fun v1 h1 => ∃ n1 : Nat, v1 = zr (n1) ∧ ((n1 = 0 → (False)) ∧ (¬ n1 = 0 → (zP s0 m_J41_treeify (d + 1) 119 [none, some (zr (x1)), some (zr (x2)), some (zr (x3)), some (zr (x4)), some (zr (x5)), some (.int (x6)), some (zr (n1)), some (zr (x8)), none, none, some (zr (gR h x8 1)), none] [] h1 Q E)))) E)))) ∧ (¬ x6 ≤ gI h x8 0 → (zP s0 m_J41_treeify (d + 1) 143 [none, some (zr (x1)), some (zr (x2)), some (zr (x3)), some (zr (x4)), some (zr (x5)), some (.int (x6)), some (zr (x7)), some (zr (x8)), some (.int (1)), none, none, none] [] h Q E)))) ∧ (¬ gI h x8 0 ≤ x6 → (zP s0 m_J41_treeify (d + 1) 143 [none, some (zr (x1)), some (zr (x2)), some (zr (x3)), some (zr (x4)), some (zr (x5)), some (.int (x6)), some (zr (x7)), some (zr (x8)), some (.int ((-1))), none, none, none] [] h Q E))))) : zP s0 m_J41_treeify (d + 1) 64 [none, some (zr (x1)), some (zr (x2)), some (zr (x3)), some (zr (x4)), some (zr (x5)), some (.int (x6)), some (zr (x7)), some (zr (x8)), none, none, none, none] [] h Q E := by
  refine z_aload (M := m_J41_treeify) (i := 8) rfl dJ41_treeify_64 ?_
  obtain ⟨g, H⟩ := H
  refine z_get (M := m_J41_treeify) f_J41_45 dJ41_treeify_66 g ?_
  refine z_astore (M := m_J41_treeify) 11 (zlt rfl) trivial dJ41_treeify_69 ?_
  show zP s0 m_J41_treeify (d + 1) _ [none, some (zr (x1)), some (zr (x2)), some (zr (x3)), some (zr (x4)), some (zr (x5)), some (.int (x6)), some (zr (x7)), some (zr (x8)), none, none, some (zr (gR h x8 1)), none] _ _ _ _
  refine z_aload (M := m_J41_treeify) (i := 8) rfl dJ41_treeify_71 ?_
  obtain ⟨g, H⟩ := H
  refine z_get (M := m_J41_treeify) f_J41_15 dJ41_treeify_73 g ?_
  refine z_dup (M := m_J41_treeify) rfl dJ41_treeify_76 ?_
  refine z_istore (M := m_J41_treeify) 10 (zlt rfl) trivial dJ41_treeify_77 ?_
  show zP s0 m_J41_treeify (d + 1) _ [none, some (zr (x1)), some (zr (x2)), some (zr (x3)), some (zr (x4)), some (zr (x5)), some (.int (x6)), some (zr (x7)), some (zr (x8)), none, some (.int (gI h x8 0)), some (zr (gR h x8 1)), none] _ _ _ _
  refine z_iload (M := m_J41_treeify) (i := 6) rfl dJ41_treeify_79 ?_
  refine z_icmple (M := m_J41_treeify) 90 rfl dJ41_treeify_81 (fun hc => ?_) (fun hc => ?_)
  · have H := H.1 hc
    refine z_iload (M := m_J41_treeify) (i := 10) rfl dJ41_treeify_90 ?_
    refine z_iload (M := m_J41_treeify) (i := 6) rfl dJ41_treeify_92 ?_
    refine z_icmpge (M := m_J41_treeify) 103 rfl dJ41_treeify_94 (fun hc => ?_) (fun hc => ?_)
    · have H := H.1 hc
      refine z_aload (M := m_J41_treeify) (i := 7) rfl dJ41_treeify_103 ?_
      refine z_ifnonnull (M := m_J41_treeify) 119 rfl dJ41_treeify_105 (fun hc => ?_) (fun hc => ?_)
      · have H := H.1 hc
        exact zP.weak (ls' := [none, some (zr (x1)), some (zr (x2)), some (zr (x3)), some (zr (x4)), some (zr (x5)), some (.int (x6)), some (zr (x7)), some (zr (x8)), none, none, some (zr (gR h x8 1)), none]) (zle rfl) (zsub_no (zsub_so (zsub_so (zsub_so (zsub_so (zsub_so (zsub_so (zsub_so (zsub_so (zsub_no (zsub_no (zsub_so (zsub_no zsub_nil))))))))))))) H
      · have H := H.2 hc
        refine z_aload (M := m_J41_treeify) (i := 5) rfl dJ41_treeify_108 ?_
        refine z_invS (M := m_J41_treeify) (a := [zr (x5)]) ok_J1_comparableClassFor q1937 q1938 dJ41_treeify_110 (Nat.le_refl _) (Nat.zero_le _) rfl H (fun v1 h1 H => ?_) (fun n9 h9 H => zPx.out rfl H)
        obtain ⟨n1, rfl, H⟩ := H
        show zP s0 m_J41_treeify (d + 1) _ _ [zr (n1)] _ _ _
        refine z_dup (M := m_J41_treeify) (zr_cat _) dJ41_treeify_113 ?_
        refine z_astore (M := m_J41_treeify) 7 (zlt rfl) rfl dJ41_treeify_114 ?_
        show zP s0 m_J41_treeify (d + 1) _ [none, some (zr (x1)), some (zr (x2)), some (zr (x3)), some (zr (x4)), some (zr (x5)), some (.int (x6)), some (zr (n1)), some (zr (x8)), none, some (.int (gI h x8 0)), some (zr (gR h x8 1)), none] _ _ _ _
        refine z_ifnull (M := m_J41_treeify) 134 rfl dJ41_treeify_116 (fun hc => ?_) (fun hc => ?_)
        · have H := H.1 hc
          refine z_aload (M := m_J41_treeify) (i := 5) rfl dJ41_treeify_134 ?_
          refine z_aload (M := m_J41_treeify) (i := 11) rfl dJ41_treeify_136 ?_
          exact H.elim
        · have H := H.2 hc
          exact zP.weak (ls' := [none, some (zr (x1)), some (zr (x2)), some (zr (x3)), some (zr (x4)), some (zr (x5)), some (.int (x6)), some (zr (n1)), some (zr (x8)), none, none, some (zr (gR h x8 1)), none]) (zle rfl) (zsub_no (zsub_so (zsub_so (zsub_so (zsub_so (zsub_so (zsub_so (zsub_so (zsub_so (zsub_no (zsub_no (zsub_so (zsub_no zsub_nil))))))))))))) H
    · have H := H.2 hc
      refine z_iconst (M := m_J41_treeify) (v := 1) (by decide) dJ41_treeify_97 ?_
      refine z_istore (M := m_J41_treeify) 9 (zlt rfl) (zr_cat _) dJ41_treeify_98 ?_
      show zP s0 m_J41_treeify (d + 1) _ [none, some (zr (x1)), some (zr (x2)), some (zr (x3)), some (zr (x4)), some (zr (x5)), some (.int (x6)), some (zr (x7)), some (zr (x8)), some (.int (1)), some (.int (gI h x8 0)), some (zr (gR h x8 1)), none] _ _ _ _
      refine z_goto (M := m_J41_treeify) 143 rfl dJ41_treeify_100 ?_
      exact zP.weak (ls' := [none, some (zr (x1)), some (zr (x2)), some (zr (x3)), some (zr (x4)), some (zr (x5)), some (.int (x6)), some (zr (x7)), some (zr (x8)), some (.int (1)), none, none, none]) (zle rfl) (zsub_no (zsub_so (zsub_so (zsub_so (zsub_so (zsub_so (zsub_so (zsub_so (zsub_so (zsub_so (zsub_no (zsub_no (zsub_no zsub_nil))))))))))))) H
  · have H := H.2 hc
    refine z_iconst (M := m_J41_treeify) (v := (-1)) (by decide) dJ41_treeify_84 ?_
    refine z_istore (M := m_J41_treeify) 9 (zlt rfl) (zr_cat _) dJ41_treeify_85 ?_
    show zP s0 m_J41_treeify (d + 1) _ [none, some (zr (x1)), some (zr (x2)), some (zr (x3)), some (zr (x4)), some (zr (x5)), some (.int (x6)), some (zr (x7)), some (zr (x8)), some (.int ((-1))), some (.int (gI h x8 0)), some (zr (gR h x8 1)), none] _ _ _ _
    refine z_goto (M := m_J41_treeify) 143 rfl dJ41_treeify_87 ?_
    exact zP.weak (ls' := [none, some (zr (x1)), some (zr (x2)), some (zr (x3)), some (zr (x4)), some (zr (x5)), some (.int (x6)), some (zr (x7)), some (zr (x8)), some (.int ((-1))), none, none, none]) (zle rfl) (zsub_no (zsub_so (zsub_so (zsub_so (zsub_so (zsub_so (zsub_so (zsub_so (zsub_so (zsub_so (zsub_no (zsub_no (zsub_no zsub_nil))))))))))))) H
theorem b_J41_treeify_119 {s0 : zE} {d : Nat} {x1 : Nat} {x2 : Nat} {x3 : Nat} {x4 : Nat} {x5 : Nat} {x6 : Int32} {x7 : Nat} {x8 : Nat} {x11 : Nat} {h : zH} {Q : Value → zH → Prop} {E : Nat → zH → Prop} (H : zX s0 m_J1_compareComparables d [zr (x7), zr (x5), zr (x11)] h (fun v1 h1 => ∃ r1 : Int32, v1 = .int (r1) ∧ ((¬ r1 = 0 → (zP s0 m_J41_treeify (d + 1) 143 [none, some (zr (x1)), some (zr (x2)), some (zr (x3)), some (zr (x4)), some (zr (x5)), some (.int (x6)), some (zr (x7)), some (zr (x8)), some (.int (r1)), none, none, none] [] h1 Q E)) ∧ (r1 = 0 → (False)))) E) : zP s0 m_J41_treeify (d + 1) 119 [none, some (zr (x1)), some (zr (x2)), some (zr (x3)), some (zr (x4)), some (zr (x5)), some (.int (x6)), some (zr (x7)), some (zr (x8)), none, none, some (zr (x11)), none] [] h Q E := by
  refine z_aload (M := m_J41_treeify) (i := 7) rfl dJ41_treeify_119 ?_
  refine z_aload (M := m_J41_treeify) (i := 5) rfl dJ41_treeify_121 ?_
  refine z_aload (M := m_J41_treeify) (i := 11) rfl dJ41_treeify_123 ?_
  refine z_invS (M := m_J41_treeify) (a := [zr (x7), zr (x5), zr (x11)]) ok_J1_compareComparables q1943 q1944 dJ41_treeify_125 (Nat.le_refl _) (Nat.zero_le _) rfl H (fun v1 h1 H => ?_) (fun n9 h9 H => zPx.out rfl H)
  obtain ⟨r1, rfl, H⟩ := H
  show zP s0 m_J41_treeify (d + 1) _ _ [.int (r1)] _ _ _
  refine z_dup (M := m_J41_treeify) rfl dJ41_treeify_128 ?_
  refine z_istore (M := m_J41_treeify) 9 (zlt rfl) (zr_cat _) dJ41_treeify_129 ?_
  show zP s0 m_J41_treeify (d + 1) _ [none, some (zr (x1)), some (zr (x2)), some (zr (x3)), some (zr (x4)), some (zr (x5)), some (.int (x6)), some (zr (x7)), some (zr (x8)), some (.int (r1)), none, some (zr (x11)), none] _ _ _ _
  refine z_ifne (M := m_J41_treeify) 143 rfl dJ41_treeify_131 (fun hc => ?_) (fun hc => ?_)
  · have H := H.1 hc
    exact zP.weak (ls' := [none, some (zr (x1)), some (zr (x2)), some (zr (x3)), some (zr (x4)), some (zr (x5)), some (.int (x6)), some (zr (x7)), some (zr (x8)), some (.int (r1)), none, none, none]) (zle rfl) (zsub_no (zsub_so (zsub_so (zsub_so (zsub_so (zsub_so (zsub_so (zsub_so (zsub_so (zsub_so (zsub_no (zsub_no (zsub_no zsub_nil))))))))))))) H
  · have H := H.2 hc
    refine z_aload (M := m_J41_treeify) (i := 5) rfl dJ41_treeify_134 ?_
    refine z_aload (M := m_J41_treeify) (i := 11) rfl dJ41_treeify_136 ?_
    exact H.elim
theorem b_J41_treeify_143 {s0 : zE} {d : Nat} {x1 : Nat} {x2 : Nat} {x3 : Nat} {x4 : Nat} {x5 : Nat} {x6 : Int32} {x7 : Nat} {x8 : Nat} {x9 : Int32} {h : zH} {Q : Value → zH → Prop} {E : Nat → zH → Prop} (H : (0 < x9 → ((fR h x8 [63] 8) ∧ (zP s0 m_J41_treeify (d + 1) 165 [none, some (zr (x1)), some (zr (x2)), some (zr (x3)), some (zr (x4)), some (zr (x5)), some (.int (x6)), some (zr (x7)), none, some (.int (x9)), none, none, some (zr (x8))] [zr (gR h x8 8)] h Q E))) ∧ (¬ 0 < x9 → ((fR h x8 [63] 7) ∧ (zP s0 m_J41_treeify (d + 1) 165 [none, some (zr (x1)), some (zr (x2)), some (zr (x3)), some (zr (x4)), some (zr (x5)), some (.int (x6)), some (zr (x7)), none, some (.int (x9)), none, none, some (zr (x8))] [zr (gR h x8 7)] h Q E)))) : zP s0 m_J41_treeify (d + 1) 143 [none, some (zr (x1)), some (zr (x2)), some (zr (x3)), some (zr (x4)), some (zr (x5)), some (.int (x6)), some (zr (x7)), some (zr (x8)), some (.int (x9)), none, none, none] [] h Q E := by
  refine z_aload (M := m_J41_treeify) (i := 8) rfl dJ41_treeify_143 ?_
  refine z_astore (M := m_J41_treeify) 12 (zlt rfl) trivial dJ41_treeify_145 ?_
  show zP s0 m_J41_treeify (d + 1) _ [none, some (zr (x1)), some (zr (x2)), some (zr (x3)), some (zr (x4)), some (zr (x5)), some (.int (x6)), some (zr (x7)), some (zr (x8)), some (.int (x9)), none, none, some (zr (x8))] _ _ _ _
  refine z_iload (M := m_J41_treeify) (i := 9) rfl dJ41_treeify_147 ?_
  refine z_ifgt (M := m_J41_treeify) 160 rfl dJ41_treeify_149 (fun hc => ?_) (fun hc => ?_)
  · have H := H.1 hc
    refine z_aload (M := m_J41_treeify) (i := 8) rfl dJ41_treeify_160 ?_
    obtain ⟨g, H⟩ := H
    refine z_get (M := m_J41_treeify) f_J41_42 dJ41_treeify_162 g ?_
    exact zP.weak (ls' := [none, some (zr (x1)), some (zr (x2)), some (zr (x3)), some (zr (x4)), some (zr (x5)), some (.int (x6)), some (zr (x7)), none, some (.int (x9)), none, none, some (zr (x8))]) (zle rfl) (zsub_no (zsub_so (zsub_so (zsub_so (zsub_so (zsub_so (zsub_so (zsub_so (zsub_no (zsub_so (zsub_no (zsub_no (zsub_so zsub_nil))))))))))))) H
  · have H := H.2 hc
    refine z_aload (M := m_J41_treeify) (i := 8) rfl dJ41_treeify_152 ?_
    obtain ⟨g, H⟩ := H
    refine z_get (M := m_J41_treeify) f_J41_39 dJ41_treeify_154 g ?_
    refine z_goto (M := m_J41_treeify) 165 rfl dJ41_treeify_157 ?_
    exact zP.weak (ls' := [none, some (zr (x1)), some (zr (x2)), some (zr (x3)), some (zr (x4)), some (zr (x5)), some (.int (x6)), some (zr (x7)), none, some (.int (x9)), none, none, some (zr (x8))]) (zle rfl) (zsub_no (zsub_so (zsub_so (zsub_so (zsub_so (zsub_so (zsub_so (zsub_so (zsub_no (zsub_so (zsub_no (zsub_no (zsub_so zsub_nil))))))))))))) H
theorem b_J41_treeify_165 {s0 : zE} {d : Nat} {x1 : Nat} {x2 : Nat} {x3 : Nat} {x4 : Nat} {x5 : Nat} {x6 : Int32} {x7 : Nat} {x9 : Int32} {x12 : Nat} {t0 : Nat} {h : zH} {Q : Value → zH → Prop} {E : Nat → zH → Prop} (H : (¬ t0 = 0 → (zP s0 m_J41_treeify (d + 1) 64 [none, some (zr (x1)), some (zr (x2)), some (zr (x3)), some (zr (x4)), some (zr (x5)), some (.int (x6)), some (zr (x7)), some (zr (t0)), none, none, none, none] [] h Q E)) ∧ (t0 = 0 → ((fC h x3 63) ∧ (∀ h1, h1 = zput h x3 6 (zr (x12)) → ((0 < x9 → ((fC h1 x12 63) ∧ (∀ h2, h2 = zput h1 x12 8 (zr (x3)) → (zP s0 m_J41_treeify (d + 1) 197 [none, some (zr (x1)), some (zr (x2)), some (zr (x3)), some (zr (x4)), none, none, none, none, none, none, none, none] [] h2 Q E)))) ∧ (¬ 0 < x9 → ((fC h1 x12 63) ∧ (∀ h3, h3 = zput h1 x12 7 (zr (x3)) → (zP s0 m_J41_treeify (d + 1) 197 [none, some (zr (x1)), some (zr (x2)), some (zr (x3)), some (zr (x4)), none, none, none, none, none, none, none, none] [] h3 Q E))))))))) : zP s0 m_J41_treeify (d + 1) 165 [none, some (zr (x1)), some (zr (x2)), some (zr (x3)), some (zr (x4)), some (zr (x5)), some (.int (x6)), some (zr (x7)), none, some (.int (x9)), none, none, some (zr (x12))] [zr (t0)] h Q E := by
  refine z_dup (M := m_J41_treeify) (zr_cat _) dJ41_treeify_165 ?_
  refine z_astore (M := m_J41_treeify) 8 (zlt rfl) (zr_cat _) dJ41_treeify_166 ?_
  show zP s0 m_J41_treeify (d + 1) _ [none, some (zr (x1)), some (zr (x2)), some (zr (x3)), some (zr (x4)), some (zr (x5)), some (.int (x6)), some (zr (x7)), some (zr (t0)), some (.int (x9)), none, none, some (zr (x12))] _ _ _ _
  refine z_ifnonnull (M := m_J41_treeify) 206 rfl dJ41_treeify_168 (fun hc => ?_) (fun hc => ?_)
  · have H := H.1 hc
    refine z_goto (M := m_J41_treeify) 64 rfl dJ41_treeify_206 ?_
    exact zP.weak (ls' := [none, some (zr (x1)), some (zr (x2)), some (zr (x3)), some (zr (x4)), some (zr (x5)), some (.int (x6)), some (zr (x7)), some (zr (t0)), none, none, none, none]) (zle rfl) (zsub_no (zsub_so (zsub_so (zsub_so (zsub_so (zsub_so (zsub_so (zsub_so (zsub_so (zsub_no (zsub_no (zsub_no (zsub_no zsub_nil))))))))))))) H
  · have H := H.2 hc
    refine z_aload_n (M := m_J41_treeify) (k := 3) rfl dJ41_treeify_171 ?_
    refine z_aload (M := m_J41_treeify) (i := 12) rfl dJ41_treeify_172 ?_
    obtain ⟨g, H⟩ := H
    refine zz_put (M := m_J41_treeify) f_J41_9 dJ41_treeify_174 rfl (fn_63_6) g (ft_63_6) (fun h1 e => ?_)
    have H := H h1 e
    refine z_iload (M := m_J41_treeify) (i := 9) rfl dJ41_treeify_177 ?_
    refine z_ifgt (M := m_J41_treeify) 191 rfl dJ41_treeify_179 (fun hc => ?_) (fun hc => ?_)
    · have H := H.1 hc
      refine z_aload (M := m_J41_treeify) (i := 12) rfl dJ41_treeify_191 ?_
      refine z_aload_n (M := m_J41_treeify) (k := 3) rfl dJ41_treeify_193 ?_
      obtain ⟨g, H⟩ := H
      refine zz_put (M := m_J41_treeify) f_J41_42 dJ41_treeify_194 rfl (fn_63_8) g (ft_63_8) (fun h2 e => ?_)
      have H := H h2 e
      exact zP.weak (ls' := [none, some (zr (x1)), some (zr (x2)), some (zr (x3)), some (zr (x4)), none, none, none, none, none, none, none, none]) (zle rfl) (zsub_no (zsub_so (zsub_so (zsub_so (zsub_so (zsub_no (zsub_no (zsub_no (zsub_no (zsub_no (zsub_no (zsub_no (zsub_no zsub_nil))))))))))))) H
    · have H := H.2 hc
      refine z_aload (M := m_J41_treeify) (i := 12) rfl dJ41_treeify_182 ?_
      refine z_aload_n (M := m_J41_treeify) (k := 3) rfl dJ41_treeify_184 ?_
      obtain ⟨g, H⟩ := H
      refine zz_put (M := m_J41_treeify) f_J41_39 dJ41_treeify_185 rfl (fn_63_7) g (ft_63_7) (fun h3 e => ?_)
      have H := H h3 e
      refine z_goto (M := m_J41_treeify) 197 rfl dJ41_treeify_188 ?_
      exact zP.weak (ls' := [none, some (zr (x1)), some (zr (x2)), some (zr (x3)), some (zr (x4)), none, none, none, none, none, none, none, none]) (zle rfl) (zsub_no (zsub_so (zsub_so (zsub_so (zsub_so (zsub_no (zsub_no (zsub_no (zsub_no (zsub_no (zsub_no (zsub_no (zsub_no zsub_nil))))))))))))) H
theorem b_J41_treeify_197 {s0 : zE} {d : Nat} {x1 : Nat} {x2 : Nat} {x3 : Nat} {x4 : Nat} {h : zH} {Q : Value → zH → Prop} {E : Nat → zH → Prop} (H : zX s0 m_J41_balanceInsertion d [zr (x2), zr (x3)] h (fun v1 h1 => ∃ n1 : Nat, v1 = zr (n1) ∧ (zP s0 m_J41_treeify (d + 1) 4 [none, some (zr (x1)), some (zr (n1)), some (zr (x4)), none, none, none, none, none, none, none, none, none] [] h1 Q E)) E) : zP s0 m_J41_treeify (d + 1) 197 [none, some (zr (x1)), some (zr (x2)), some (zr (x3)), some (zr (x4)), none, none, none, none, none, none, none, none] [] h Q E := by
  refine z_aload_n (M := m_J41_treeify) (k := 2) rfl dJ41_treeify_197 ?_
  refine z_aload_n (M := m_J41_treeify) (k := 3) rfl dJ41_treeify_198 ?_
  refine z_invS (M := m_J41_treeify) (a := [zr (x2), zr (x3)]) ok_J41_balanceInsertion q3061 q3062 dJ41_treeify_199 (Nat.le_refl _) (Nat.zero_le _) rfl H (fun v1 h1 H => ?_) (fun n9 h9 H => zPx.out rfl H)
  obtain ⟨n1, rfl, H⟩ := H
  show zP s0 m_J41_treeify (d + 1) _ _ [zr (n1)] _ _ _
  refine z_astore_n (M := m_J41_treeify) (k := 2) 2 rfl (zlt rfl) (zr_cat _) dJ41_treeify_202 ?_
  show zP s0 m_J41_treeify (d + 1) _ [none, some (zr (x1)), some (zr (n1)), some (zr (x3)), some (zr (x4)), none, none, none, none, none, none, none, none] _ _ _ _
  refine z_goto (M := m_J41_treeify) 209 rfl dJ41_treeify_203 ?_
  refine z_aload (M := m_J41_treeify) (i := 4) rfl dJ41_treeify_209 ?_
  refine z_astore_n (M := m_J41_treeify) (k := 3) 3 rfl (zlt rfl) (zr_cat _) dJ41_treeify_211 ?_
  show zP s0 m_J41_treeify (d + 1) _ [none, some (zr (x1)), some (zr (n1)), some (zr (x4)), some (zr (x4)), none, none, none, none, none, none, none, none] _ _ _ _
  refine z_goto (M := m_J41_treeify) 4 rfl dJ41_treeify_212 ?_
  exact zP.weak (ls' := [none, some (zr (x1)), some (zr (n1)), some (zr (x4)), none, none, none, none, none, none, none, none, none]) (zle rfl) (zsub_no (zsub_so (zsub_so (zsub_so (zsub_no (zsub_no (zsub_no (zsub_no (zsub_no (zsub_no (zsub_no (zsub_no (zsub_no zsub_nil))))))))))))) H
theorem b_J42_init_0 {s0 : zE} {d : Nat} {x0 : Nat} {h : zH} {Q : Value → zH → Prop} {E : Nat → zH → Prop} (H : (∃ c, fC h x0 c) ∧ (zX s0 m_J3_init d [zr x0] h (fun _ h1 => (Q .null h1)) E)) : zP s0 m_J42_init (d + 1) 0 [some (zr (x0))] [] h Q E := by
  refine z_aload_n (M := m_J42_init) (k := 0) rfl dJ42_init_0 ?_
  obtain ⟨⟨c9, g⟩, H⟩ := H
  refine zz_invI (M := m_J42_init) (a := []) ok_J3_init rfl rfl q3481 q422 dJ42_init_1 g (Nat.zero_le _) rfl H (fun v1 h1 H => ?_) (fun n9 h9 H => zPx.out rfl H)
  exact z_return (M := m_J42_init) rfl dJ42_init_4 H
theorem c_J42_init {s0 : zE} {d : Nat} {x0 : Nat} {h : zH} {Q : Value → zH → Prop} {E : Nat → zH → Prop} (H : (∃ c, fC h x0 c) ∧ (zX s0 m_J3_init d [zr x0] h (fun _ h1 => (Q .null h1)) E)) : zX s0 m_J42_init (d + 1) [zr (x0)] h Q E := zX.of2 rfl (by decide +kernel) (zlay_r (zlay_n znone0)) (zle rfl) (b_J42_init_0 H)
theorem b_J43_init_0 {s0 : zE} {d : Nat} {x0 : Nat} {x1 : Nat} {x2 : Int32} {h : zH} {Q : Value → zH → Prop} {E : Nat → zH → Prop} (H : (fC h x0 64) ∧ (∀ h1, h1 = zput h x0 1 (zr (x1)) → ((∃ c, fC h1 x0 c) ∧ (zX s0 m_J42_init d [zr x0] h1 (fun _ h2 => ((x2 = 0 ∨ x2 = 1) ∧ ((fC h2 x0 64) ∧ (∀ h3, h3 = zput h2 x0 0 (.int (x2)) → (Q .null h3))))) E)))) : zP s0 m_J43_init (d + 1) 0 [some (zr (x0)), some (zr (x1)), some (.int (x2))] [] h Q E := by
  refine z_aload_n (M := m_J43_init) (k := 0) rfl dJ43_init_0 ?_
  refine z_aload_n (M := m_J43_init) (k := 1) rfl dJ43_init_1 ?_
  obtain ⟨g, H⟩ := H
  refine zz_put (M := m_J43_init) f_J43_1 dJ43_init_2 rfl (⟨_, rfl, Or.inr ⟨rfl, rfl, rfl, q3483⟩⟩) g (ft_64_1) (fun h1 e => ?_)
  have H := H h1 e
  refine z_aload_n (M := m_J43_init) (k := 0) rfl dJ43_init_5 ?_
  obtain ⟨⟨c9, g⟩, H⟩ := H
  refine zz_invI (M := m_J43_init) (a := []) ok_J42_init rfl rfl q3478 q3479 dJ43_init_6 g (Nat.zero_le _) rfl H (fun v1 h2 H => ?_) (fun n9 h9 H => zPx.out rfl H)
  refine z_aload_n (M := m_J43_init) (k := 0) rfl dJ43_init_9 ?_
  refine z_iload_n (M := m_J43_init) (k := 2) rfl dJ43_init_10 ?_
  obtain ⟨gz, H⟩ := H
  obtain ⟨g, H⟩ := H
  refine zz_put (M := m_J43_init) f_J43_13 dJ43_init_11 rfl (⟨_, rfl, Or.inr ⟨rfl, rfl, rfl, q3482⟩⟩) g (ft_64_0 gz) (fun h3 e => ?_)
  have H := H h3 e
  exact z_return (M := m_J43_init) rfl dJ43_init_14 H
theorem c_J43_init {s0 : zE} {d : Nat} {x0 : Nat} {x1 : Nat} {x2 : Int32} {h : zH} {Q : Value → zH → Prop} {E : Nat → zH → Prop} (H : (fC h x0 64) ∧ (∀ h1, h1 = zput h x0 1 (zr (x1)) → ((∃ c, fC h1 x0 c) ∧ (zX s0 m_J42_init d [zr x0] h1 (fun _ h2 => ((x2 = 0 ∨ x2 = 1) ∧ ((fC h2 x0 64) ∧ (∀ h3, h3 = zput h2 x0 0 (.int (x2)) → (Q .null h3))))) E)))) : zX s0 m_J43_init (d + 1) [zr (x0), zr (x1), .int (x2)] h Q E := zX.of2 rfl (by decide +kernel) (zlay_r (zlay_r (zlay_i (zlay_n znone0)))) (zle rfl) (b_J43_init_0 H)
theorem b_J43_iterator_0 {s0 : zE} {d : Nat} {x0 : Nat} {h : zH} {Q : Value → zH → Prop} {E : Nat → zH → Prop} (H : (zroom s0 h 5) ∧ (∀ n1, n1 = h.2.1 → (∀ h1, h1 = znew h 55 [zr 0, zr 0, .int 0, .int 0, zr 0] 5 → ((fR h1 x0 [64] 1) ∧ ((fI h1 x0 [64] 0) ∧ ((∃ c, fC h1 n1 c) ∧ (zX s0 m_J29_init d [zr n1, zr (gR h1 x0 1), .int (gI h1 x0 0)] h1 (fun _ h2 => (Q (zr n1) h2)) E))))))) : zP s0 m_J43_iterator (d + 1) 0 [some (zr (x0))] [] h Q E := by
  obtain ⟨g, H⟩ := H
  refine zz_new (M := m_J43_iterator) (fs := [zr 0, zr 0, .int 0, .int 0, zr 0]) (w := 5) (c := 55) rfl q1587 q1588 rfl znf_J29 dJ43_iterator_0 g (fun n1 e1 h1 e2 => ?_)
  have H := H n1 e1 h1 e2
  refine z_dup (M := m_J43_iterator) (zr_cat _) dJ43_iterator_3 ?_
  refine z_aload_n (M := m_J43_iterator) (k := 0) rfl dJ43_iterator_4 ?_
  obtain ⟨g, H⟩ := H
  refine z_get (M := m_J43_iterator) f_J43_1 dJ43_iterator_5 g ?_
  refine z_aload_n (M := m_J43_iterator) (k := 0) rfl dJ43_iterator_8 ?_
  obtain ⟨g, H⟩ := H
  refine z_get (M := m_J43_iterator) f_J43_13 dJ43_iterator_9 g ?_
  obtain ⟨⟨c9, g⟩, H⟩ := H
  refine zz_invI (M := m_J43_iterator) (a := [zr (gR h1 x0 1), .int (gI h1 x0 0)]) ok_J29_init rfl rfl q1589 q1590 dJ43_iterator_12 g (Nat.le_trans (zcatr zcat0) (zle rfl)) rfl H (fun v1 h2 H => ?_) (fun n9 h9 H => zPx.out rfl H)
  exact z_areturn (M := m_J43_iterator) rfl (Or.inl ⟨_, rfl⟩) dJ43_iterator_15 H
theorem c_J43_iterator {s0 : zE} {d : Nat} {x0 : Nat} {h : zH} {Q : Value → zH → Prop} {E : Nat → zH → Prop} (H : (zroom s0 h 5) ∧ (∀ n1, n1 = h.2.1 → (∀ h1, h1 = znew h 55 [zr 0, zr 0, .int 0, .int 0, zr 0] 5 → ((fR h1 x0 [64] 1) ∧ ((fI h1 x0 [64] 0) ∧ ((∃ c, fC h1 n1 c) ∧ (zX s0 m_J29_init d [zr n1, zr (gR h1 x0 1), .int (gI h1 x0 0)] h1 (fun _ h2 => (Q (zr n1) h2)) E))))))) : zX s0 m_J43_iterator (d + 1) [zr (x0)] h Q E := zX.of2 rfl (by decide +kernel) (zlay_r (zlay_n znone0)) (zle rfl) (b_J43_iterator_0 H)
theorem b_J43_size_0 {s0 : zE} {d : Nat} {x0 : Nat} {h : zH} {Q : Value → zH → Prop} {E : Nat → zH → Prop} (H : (fR h x0 [64] 1) ∧ ((fI h (gR h x0 1) [43] 2) ∧ (Q (.int (gI h (gR h x0 1) 2)) h))) : zP s0 m_J43_size d 0 [some (zr (x0))] [] h Q E := by
  refine z_aload_n (M := m_J43_size) (k := 0) rfl dJ43_size_0 ?_
  obtain ⟨g, H⟩ := H
  refine z_get (M := m_J43_size) f_J43_1 dJ43_size_1 g ?_
  obtain ⟨g, H⟩ := H
  refine z_get (M := m_J43_size) f_J43_17 dJ43_size_4 g ?_
  exact z_ireturn (M := m_J43_size) rfl rfl dJ43_size_7 H
theorem c_J43_size {s0 : zE} {d : Nat} {x0 : Nat} {h : zH} {Q : Value → zH → Prop} {E : Nat → zH → Prop} (H : (fR h x0 [64] 1) ∧ ((fI h (gR h x0 1) [43] 2) ∧ (Q (.int (gI h (gR h x0 1) 2)) h))) : zX s0 m_J43_size d [zr (x0)] h Q E := zX.of2 rfl (by decide +kernel) (zlay_r (zlay_n znone0)) (zle rfl) (b_J43_size_0 H)
theorem b_J44_init_0 {s0 : zE} {d : Nat} {x0 : Nat} {x1 : Nat} {h : zH} {Q : Value → zH → Prop} {E : Nat → zH → Prop} (H : (fC h x0 65) ∧ (∀ h1, h1 = zput h x0 0 (zr (x1)) → ((∃ c, fC h1 x0 c) ∧ (zX s0 m_J42_init d [zr x0] h1 (fun _ h2 => (Q .null h2)) E)))) : zP s0 m_J44_init (d + 1) 0 [some (zr (x0)), some (zr (x1))] [] h Q E := by
  refine z_aload_n (M := m_J44_init) (k := 0) rfl dJ44_init_0 ?_
  refine z_aload_n (M := m_J44_init) (k := 1) rfl dJ44_init_1 ?_
  obtain ⟨g, H⟩ := H
  refine zz_put (M := m_J44_init) f_J44_1 dJ44_init_2 rfl (⟨_, rfl, Or.inr ⟨rfl, rfl, rfl, q3499⟩⟩) g (ft_65_0) (fun h1 e => ?_)
  have H := H h1 e
  refine z_aload_n (M := m_J44_init) (k := 0) rfl dJ44_init_5 ?_
  obtain ⟨⟨c9, g⟩, H⟩ := H
  refine zz_invI (M := m_J44_init) (a := []) ok_J42_init rfl rfl q3498 q3479 dJ44_init_6 g (Nat.zero_le _) rfl H (fun v1 h2 H => ?_) (fun n9 h9 H => zPx.out rfl H)
  exact z_return (M := m_J44_init) rfl dJ44_init_9 H
theorem c_J44_init {s0 : zE} {d : Nat} {x0 : Nat} {x1 : Nat} {h : zH} {Q : Value → zH → Prop} {E : Nat → zH → Prop} (H : (fC h x0 65) ∧ (∀ h1, h1 = zput h x0 0 (zr (x1)) → ((∃ c, fC h1 x0 c) ∧ (zX s0 m_J42_init d [zr x0] h1 (fun _ h2 => (Q .null h2)) E)))) : zX s0 m_J44_init (d + 1) [zr (x0), zr (x1)] h Q E := zX.of2 rfl (by decide +kernel) (zlay_r (zlay_r (zlay_n znone0))) (zle rfl) (b_J44_init_0 H)
theorem b_J44_iterator_0 {s0 : zE} {d : Nat} {x0 : Nat} {h : zH} {Q : Value → zH → Prop} {E : Nat → zH → Prop} (H : (zroom s0 h 4) ∧ (∀ n1, n1 = h.2.1 → (∀ h1, h1 = znew h 57 [zr 0, zr 0, .int 0, zr 0] 4 → ((fR h1 x0 [65] 0) ∧ ((fR h1 x0 [65] 0) ∧ ((fC h1 (gR h1 x0 0) 47 ∧ zX s0 m_J9_getFirstEntry d [zr (gR h1 x0 0)] h1 (fun v1 h2 => ∃ n2 : Nat, v1 = zr (n2) ∧ ((∃ c, fC h2 n1 c) ∧ (zX s0 m_J32_init d [zr n1, zr (gR h1 x0 0), zr (n2)] h2 (fun _ h3 => (Q (zr n1) h3)) E))) E))))))) : zP s0 m_J44_iterator (d + 1) 0 [some (zr (x0))] [] h Q E := by
  obtain ⟨g, H⟩ := H
  refine zz_new (M := m_J44_iterator) (fs := [zr 0, zr 0, .int 0, zr 0]) (w := 4) (c := 57) rfl q1630 q1631 rfl znf_J32 dJ44_iterator_0 g (fun n1 e1 h1 e2 => ?_)
  have H := H n1 e1 h1 e2
  refine z_dup (M := m_J44_iterator) (zr_cat _) dJ44_iterator_3 ?_
  refine z_aload_n (M := m_J44_iterator) (k := 0) rfl dJ44_iterator_4 ?_
  obtain ⟨g, H⟩ := H
  refine z_get (M := m_J44_iterator) f_J44_1 dJ44_iterator_5 g ?_
  refine z_aload_n (M := m_J44_iterator) (k := 0) rfl dJ44_iterator_8 ?_
  obtain ⟨g, H⟩ := H
  refine z_get (M := m_J44_iterator) f_J44_1 dJ44_iterator_9 g ?_
  obtain ⟨⟨fs9, g⟩, H⟩ := H
  refine z_invV (M := m_J44_iterator) (cn := 47) (a := []) ok_J9_getFirstEntry q1632 q1633 q1634 rfl dJ44_iterator_12 g (Nat.le_refl _) (Nat.le_trans (zcatr (zcatr (zcatr zcat0))) (zle rfl)) rfl H (fun v1 h2 H => ?_) (fun n9 h9 H => zPx.out rfl H)
  obtain ⟨n2, rfl, H⟩ := H
  show zP s0 m_J44_iterator (d + 1) _ _ [zr (n2), zr (gR h1 x0 0), zr (n1), zr (n1)] _ _ _
  obtain ⟨⟨c9, g⟩, H⟩ := H
  refine zz_invI (M := m_J44_iterator) (a := [zr (gR h1 x0 0), zr (n2)]) ok_J32_init rfl rfl q1636 q1637 dJ44_iterator_15 g (Nat.le_trans (zcatr zcat0) (zle rfl)) rfl H (fun v2 h3 H => ?_) (fun n9 h9 H => zPx.out rfl H)
  exact z_areturn (M := m_J44_iterator) rfl (Or.inl ⟨_, rfl⟩) dJ44_iterator_18 H
theorem c_J44_iterator {s0 : zE} {d : Nat} {x0 : Nat} {h : zH} {Q : Value → zH → Prop} {E : Nat → zH → Prop} (H : (zroom s0 h 4) ∧ (∀ n1, n1 = h.2.1 → (∀ h1, h1 = znew h 57 [zr 0, zr 0, .int 0, zr 0] 4 → ((fR h1 x0 [65] 0) ∧ ((fR h1 x0 [65] 0) ∧ ((fC h1 (gR h1 x0 0) 47 ∧ zX s0 m_J9_getFirstEntry d [zr (gR h1 x0 0)] h1 (fun v1 h2 => ∃ n2 : Nat, v1 = zr (n2) ∧ ((∃ c, fC h2 n1 c) ∧ (zX s0 m_J32_init d [zr n1, zr (gR h1 x0 0), zr (n2)] h2 (fun _ h3 => (Q (zr n1) h3)) E))) E))))))) : zX s0 m_J44_iterator (d + 1) [zr (x0)] h Q E := zX.of2 rfl (by decide +kernel) (zlay_r (zlay_n znone0)) (zle rfl) (b_J44_iterator_0 H)
theorem b_J44_size_0 {s0 : zE} {d : Nat} {x0 : Nat} {h : zH} {Q : Value → zH → Prop} {E : Nat → zH → Prop} (H : (fR h x0 [65] 0) ∧ ((fC h (gR h x0 0) 47 ∧ zX s0 m_J9_size d [zr (gR h x0 0)] h (fun v1 h1 => ∃ r1 : Int32, v1 = .int (r1) ∧ (Q (.int r1) h1)) E))) : zP s0 m_J44_size (d + 1) 0 [some (zr (x0))] [] h Q E := by
  refine z_aload_n (M := m_J44_size) (k := 0) rfl dJ44_size_0 ?_
  obtain ⟨g, H⟩ := H
  refine z_get (M := m_J44_size) f_J44_1 dJ44_size_1 g ?_
  obtain ⟨⟨fs9, g⟩, H⟩ := H
  refine z_invV (M := m_J44_size) (cn := 47) (a := []) ok_J9_size q1530 q1058 q1059 rfl dJ44_size_4 g (Nat.le_refl _) (Nat.zero_le _) rfl H (fun v1 h1 H => ?_) (fun n9 h9 H => zPx.out rfl H)
  obtain ⟨r1, rfl, H⟩ := H
  show zP s0 m_J44_size (d + 1) _ _ [.int (r1)] _ _ _
  exact z_ireturn (M := m_J44_size) rfl rfl dJ44_size_7 H
theorem c_J44_size {s0 : zE} {d : Nat} {x0 : Nat} {h : zH} {Q : Value → zH → Prop} {E : Nat → zH → Prop} (H : (fR h x0 [65] 0) ∧ ((fC h (gR h x0 0) 47 ∧ zX s0 m_J9_size d [zr (gR h x0 0)] h (fun v1 h1 => ∃ r1 : Int32, v1 = .int (r1) ∧ (Q (.int r1) h1)) E))) : zX s0 m_J44_size (d + 1) [zr (x0)] h Q E := zX.of2 rfl (by decide +kernel) (zlay_r (zlay_n znone0)) (zle rfl) (b_J44_size_0 H)
theorem b_J45_getKey_0 {s0 : zE} {d : Nat} {x0 : Nat} {h : zH} {Q : Value → zH → Prop} {E : Nat → zH → Prop} (H : (fR h x0 [66] 0) ∧ (Q (zr (gR h x0 0)) h)) : zP s0 m_J45_getKey d 0 [some (zr (x0))] [] h Q E := by
  refine z_aload_n (M := m_J45_getKey) (k := 0) rfl dJ45_getKey_0 ?_
  obtain ⟨g, H⟩ := H
  refine z_get (M := m_J45_getKey) f_J45_7 dJ45_getKey_1 g ?_
  exact z_areturn (M := m_J45_getKey) rfl (Or.inl ⟨_, rfl⟩) dJ45_getKey_4 H
theorem c_J45_getKey {s0 : zE} {d : Nat} {x0 : Nat} {h : zH} {Q : Value → zH → Prop} {E : Nat → zH → Prop} (H : (fR h x0 [66] 0) ∧ (Q (zr (gR h x0 0)) h)) : zX s0 m_J45_getKey d [zr (x0)] h Q E := zX.of2 rfl (by decide +kernel) (zlay_r (zlay_n znone0)) (zle rfl) (b_J45_getKey_0 H)
theorem b_J45_getValue_0 {s0 : zE} {d : Nat} {x0 : Nat} {h : zH} {Q : Value → zH → Prop} {E : Nat → zH → Prop} (H : (fR h x0 [66] 1) ∧ (Q (zr (gR h x0 1)) h)) : zP s0 m_J45_getValue d 0 [some (zr (x0))] [] h Q E := by
  refine z_aload_n (M := m_J45_getValue) (k := 0) rfl dJ45_getValue_0 ?_
  obtain ⟨g, H⟩ := H
  refine z_get (M := m_J45_getValue) f_J45_13 dJ45_getValue_1 g ?_
  exact z_areturn (M := m_J45_getValue) rfl (Or.inl ⟨_, rfl⟩) dJ45_getValue_4 H
theorem c_J45_getValue {s0 : zE} {d : Nat} {x0 : Nat} {h : zH} {Q : Value → zH → Prop} {E : Nat → zH → Prop} (H : (fR h x0 [66] 1) ∧ (Q (zr (gR h x0 1)) h)) : zX s0 m_J45_getValue d [zr (x0)] h Q E := zX.of2 rfl (by decide +kernel) (zlay_r (zlay_n znone0)) (zle rfl) (b_J45_getValue_0 H)
theorem b_J46_getKey_0 {s0 : zE} {d : Nat} {x0 : Nat} {h : zH} {Q : Value → zH → Prop} {E : Nat → zH → Prop} (H : (fR h x0 [67] 0) ∧ (Q (zr (gR h x0 0)) h)) : zP s0 m_J46_getKey d 0 [some (zr (x0))] [] h Q E := by
  refine z_aload_n (M := m_J46_getKey) (k := 0) rfl dJ46_getKey_0 ?_
  obtain ⟨g, H⟩ := H
  refine z_get (M := m_J46_getKey) f_J46_15 dJ46_getKey_1 g ?_
  exact z_areturn (M := m_J46_getKey) rfl (Or.inl ⟨_, rfl⟩) dJ46_getKey_4 H
theorem c_J46_getKey {s0 : zE} {d : Nat} {x0 : Nat} {h : zH} {Q : Value → zH → Prop} {E : Nat → zH → Prop} (H : (fR h x0 [67] 0) ∧ (Q (zr (gR h x0 0)) h)) : zX s0 m_J46_getKey d [zr (x0)] h Q E := zX.of2 rfl (by decide +kernel) (zlay_r (zlay_n znone0)) (zle rfl) (b_J46_getKey_0 H)
theorem b_J46_getValue_0 {s0 : zE} {d : Nat} {x0 : Nat} {h : zH} {Q : Value → zH → Prop} {E : Nat → zH → Prop} (H : (fR h x0 [67] 1) ∧ (Q (zr (gR h x0 1)) h)) : zP s0 m_J46_getValue d 0 [some (zr (x0))] [] h Q E := by
  refine z_aload_n (M := m_J46_getValue) (k := 0) rfl dJ46_getValue_0 ?_
  obtain ⟨g, H⟩ := H
  refine z_get (M := m_J46_getValue) f_J46_19 dJ46_getValue_1 g ?_
  exact z_areturn (M := m_J46_getValue) rfl (Or.inl ⟨_, rfl⟩) dJ46_getValue_4 H
theorem c_J46_getValue {s0 : zE} {d : Nat} {x0 : Nat} {h : zH} {Q : Value → zH → Prop} {E : Nat → zH → Prop} (H : (fR h x0 [67] 1) ∧ (Q (zr (gR h x0 1)) h)) : zX s0 m_J46_getValue d [zr (x0)] h Q E := zX.of2 rfl (by decide +kernel) (zlay_r (zlay_n znone0)) (zle rfl) (b_J46_getValue_0 H)
theorem b_J46_init_0 {s0 : zE} {d : Nat} {x0 : Nat} {x1 : Nat} {x2 : Nat} {x3 : Nat} {h : zH} {Q : Value → zH → Prop} {E : Nat → zH → Prop} (H : (∃ c, fC h x0 c) ∧ ((fC h x0 67) ∧ (∀ h1, h1 = zput h x0 5 (.int (1)) → ((fC h1 x0 67) ∧ (∀ h2, h2 = zput h1 x0 0 (zr (x1)) → ((fC h2 x0 67) ∧ (∀ h3, h3 = zput h2 x0 1 (zr (x2)) → ((fC h3 x0 67) ∧ (∀ h4, h4 = zput h3 x0 4 (zr (x3)) → (Q .null h4)))))))))) : zP s0 m_J46_init (d + 1) 0 [some (zr (x0)), some (zr (x1)), some (zr (x2)), some (zr (x3))] [] h Q E := by
  refine z_aload_n (M := m_J46_init) (k := 0) rfl dJ46_init_0 ?_
  obtain ⟨⟨c9, g⟩, H⟩ := H
  refine zz_objInit (M := m_J46_init) q2722 dJ46_init_1 g (Nat.zero_le _) ?_
  refine z_aload_n (M := m_J46_init) (k := 0) rfl dJ46_init_4 ?_
  refine z_iconst (M := m_J46_init) (v := 1) (by decide) dJ46_init_5 ?_
  obtain ⟨g, H⟩ := H
  refine zz_put (M := m_J46_init) f_J46_9 dJ46_init_6 rfl (fn_67_5) g (ft_67_5 (Or.inr rfl)) (fun h1 e => ?_)
  have H := H h1 e
  refine z_aload_n (M := m_J46_init) (k := 0) rfl dJ46_init_9 ?_
  refine z_aload_n (M := m_J46_init) (k := 1) rfl dJ46_init_10 ?_
  obtain ⟨g, H⟩ := H
  refine zz_put (M := m_J46_init) f_J46_15 dJ46_init_11 rfl (fn_67_0) g (ft_67_0) (fun h2 e => ?_)
  have H := H h2 e
  refine z_aload_n (M := m_J46_init) (k := 0) rfl dJ46_init_14 ?_
  refine z_aload_n (M := m_J46_init) (k := 2) rfl dJ46_init_15 ?_
  obtain ⟨g, H⟩ := H
  refine zz_put (M := m_J46_init) f_J46_19 dJ46_init_16 rfl (fn_67_1) g (ft_67_1) (fun h3 e => ?_)
  have H := H h3 e
  refine z_aload_n (M := m_J46_init) (k := 0) rfl dJ46_init_19 ?_
  refine z_aload_n (M := m_J46_init) (k := 3) rfl dJ46_init_20 ?_
  obtain ⟨g, H⟩ := H
  refine zz_put (M := m_J46_init) f_J46_22 dJ46_init_21 rfl (fn_67_4) g (ft_67_4) (fun h4 e => ?_)
  have H := H h4 e
  exact z_return (M := m_J46_init) rfl dJ46_init_24 H
theorem c_J46_init {s0 : zE} {d : Nat} {x0 : Nat} {x1 : Nat} {x2 : Nat} {x3 : Nat} {h : zH} {Q : Value → zH → Prop} {E : Nat → zH → Prop} (H : (∃ c, fC h x0 c) ∧ ((fC h x0 67) ∧ (∀ h1, h1 = zput h x0 5 (.int (1)) → ((fC h1 x0 67) ∧ (∀ h2, h2 = zput h1 x0 0 (zr (x1)) → ((fC h2 x0 67) ∧ (∀ h3, h3 = zput h2 x0 1 (zr (x2)) → ((fC h3 x0 67) ∧ (∀ h4, h4 = zput h3 x0 4 (zr (x3)) → (Q .null h4)))))))))) : zX s0 m_J46_init (d + 1) [zr (x0), zr (x1), zr (x2), zr (x3)] h Q E := zX.of2 rfl (by decide +kernel) (zlay_r (zlay_r (zlay_r (zlay_r (zlay_n znone0))))) (zle rfl) (b_J46_init_0 H)
theorem b_J47_equals_0 {s0 : zE} {d : Nat} {x0 : Nat} {x1 : Nat} {h : zH} {Q : Value → zH → Prop} {E : Nat → zH → Prop} (H : (¬ x0 = x1 → (Q (.int 0) h)) ∧ (x0 = x1 → (Q (.int 1) h))) : zP s0 m_J47_equals d 0 [some (zr (x0)), some (zr (x1))] [] h Q E := by
  refine z_aload_n (M := m_J47_equals) (k := 0) rfl dJ47_equals_0 ?_
  refine z_aload_n (M := m_J47_equals) (k := 1) rfl dJ47_equals_1 ?_
  refine z_acmpne (M := m_J47_equals) 9 rfl dJ47_equals_2 (fun hc => ?_) (fun hc => ?_)
  · have H := H.1 hc
    refine z_iconst (M := m_J47_equals) (v := 0) (by decide) dJ47_equals_9 ?_
    exact z_ireturn (M := m_J47_equals) rfl rfl dJ47_equals_10 H
  · have H := H.2 hc
    refine z_iconst (M := m_J47_equals) (v := 1) (by decide) dJ47_equals_5 ?_
    refine z_goto (M := m_J47_equals) 10 rfl dJ47_equals_6 ?_
    exact z_ireturn (M := m_J47_equals) rfl rfl dJ47_equals_10 H
theorem c_J47_equals {s0 : zE} {d : Nat} {x0 : Nat} {x1 : Nat} {h : zH} {Q : Value → zH → Prop} {E : Nat → zH → Prop} (H : (¬ x0 = x1 → (Q (.int 0) h)) ∧ (x0 = x1 → (Q (.int 1) h))) : zX s0 m_J47_equals d [zr (x0), zr (x1)] h Q E := zX.of2 rfl (by decide +kernel) (zlay_r (zlay_r (zlay_n znone0))) (zle rfl) (b_J47_equals_0 H)
theorem b_J48_init_0 {s0 : zE} {d : Nat} {x0 : Nat} {x1 : Nat} {h : zH} {Q : Value → zH → Prop} {E : Nat → zH → Prop} (H : (fC h x0 68) ∧ (∀ h1, h1 = zput h x0 0 (zr (x1)) → ((∃ c, fC h1 x0 c) ∧ (zX s0 m_J3_init d [zr x0] h1 (fun _ h2 => (Q .null h2)) E)))) : zP s0 m_J48_init (d + 1) 0 [some (zr (x0)), some (zr (x1))] [] h Q E := by
  refine z_aload_n (M := m_J48_init) (k := 0) rfl dJ48_init_0 ?_
  refine z_aload_n (M := m_J48_init) (k := 1) rfl dJ48_init_1 ?_
  obtain ⟨g, H⟩ := H
  refine zz_put (M := m_J48_init) f_J48_1 dJ48_init_2 rfl (⟨_, rfl, Or.inr ⟨rfl, rfl, rfl, q3812⟩⟩) g (ft_68_0) (fun h1 e => ?_)
  have H := H h1 e
  refine z_aload_n (M := m_J48_init) (k := 0) rfl dJ48_init_5 ?_
  obtain ⟨⟨c9, g⟩, H⟩ := H
  refine zz_invI (M := m_J48_init) (a := []) ok_J3_init rfl rfl q3811 q422 dJ48_init_6 g (Nat.zero_le _) rfl H (fun v1 h2 H => ?_) (fun n9 h9 H => zPx.out rfl H)
  exact z_return (M := m_J48_init) rfl dJ48_init_9 H
theorem c_J48_init {s0 : zE} {d : Nat} {x0 : Nat} {x1 : Nat} {h : zH} {Q : Value → zH → Prop} {E : Nat → zH → Prop} (H : (fC h x0 68) ∧ (∀ h1, h1 = zput h x0 0 (zr (x1)) → ((∃ c, fC h1 x0 c) ∧ (zX s0 m_J3_init d [zr x0] h1 (fun _ h2 => (Q .null h2)) E)))) : zX s0 m_J48_init (d + 1) [zr (x0), zr (x1)] h Q E := zX.of2 rfl (by decide +kernel) (zlay_r (zlay_r (zlay_n znone0))) (zle rfl) (b_J48_init_0 H)
theorem b_J48_iterator_0 {s0 : zE} {d : Nat} {x0 : Nat} {h : zH} {Q : Value → zH → Prop} {E : Nat → zH → Prop} (H : (zroom s0 h 4) ∧ (∀ n1, n1 = h.2.1 → (∀ h1, h1 = znew h 58 [zr 0, zr 0, .int 0, zr 0] 4 → ((fR h1 x0 [68] 0) ∧ ((fR h1 x0 [68] 0) ∧ ((fC h1 (gR h1 x0 0) 47 ∧ zX s0 m_J9_getFirstEntry d [zr (gR h1 x0 0)] h1 (fun v1 h2 => ∃ n2 : Nat, v1 = zr (n2) ∧ ((∃ c, fC h2 n1 c) ∧ (zX s0 m_J33_init d [zr n1, zr (gR h1 x0 0), zr (n2)] h2 (fun _ h3 => (Q (zr n1) h3)) E))) E))))))) : zP s0 m_J48_iterator (d + 1) 0 [some (zr (x0))] [] h Q E := by
  obtain ⟨g, H⟩ := H
  refine zz_new (M := m_J48_iterator) (fs := [zr 0, zr 0, .int 0, zr 0]) (w := 4) (c := 58) rfl q1659 q1660 rfl znf_J33 dJ48_iterator_0 g (fun n1 e1 h1 e2 => ?_)
  have H := H n1 e1 h1 e2
  refine z_dup (M := m_J48_iterator) (zr_cat _) dJ48_iterator_3 ?_
  refine z_aload_n (M := m_J48_iterator) (k := 0) rfl dJ48_iterator_4 ?_
  obtain ⟨g, H⟩ := H
  refine z_get (M := m_J48_iterator) f_J48_1 dJ48_iterator_5 g ?_
  refine z_aload_n (M := m_J48_iterator) (k := 0) rfl dJ48_iterator_8 ?_
  obtain ⟨g, H⟩ := H
  refine z_get (M := m_J48_iterator) f_J48_1 dJ48_iterator_9 g ?_
  obtain ⟨⟨fs9, g⟩, H⟩ := H
  refine z_invV (M := m_J48_iterator) (cn := 47) (a := []) ok_J9_getFirstEntry q1661 q1633 q1634 rfl dJ48_iterator_12 g (Nat.le_refl _) (Nat.le_trans (zcatr (zcatr (zcatr zcat0))) (zle rfl)) rfl H (fun v1 h2 H => ?_) (fun n9 h9 H => zPx.out rfl H)
  obtain ⟨n2, rfl, H⟩ := H
  show zP s0 m_J48_iterator (d + 1) _ _ [zr (n2), zr (gR h1 x0 0), zr (n1), zr (n1)] _ _ _
  obtain ⟨⟨c9, g⟩, H⟩ := H
  refine zz_invI (M := m_J48_iterator) (a := [zr (gR h1 x0 0), zr (n2)]) ok_J33_init rfl rfl q1662 q1663 dJ48_iterator_15 g (Nat.le_trans (zcatr zcat0) (zle rfl)) rfl H (fun v2 h3 H => ?_) (fun n9 h9 H => zPx.out rfl H)
  exact z_areturn (M := m_J48_iterator) rfl (Or.inl ⟨_, rfl⟩) dJ48_iterator_18 H
theorem c_J48_iterator {s0 : zE} {d : Nat} {x0 : Nat} {h : zH} {Q : Value → zH → Prop} {E : Nat → zH → Prop} (H : (zroom s0 h 4) ∧ (∀ n1, n1 = h.2.1 → (∀ h1, h1 = znew h 58 [zr 0, zr 0, .int 0, zr 0] 4 → ((fR h1 x0 [68] 0) ∧ ((fR h1 x0 [68] 0) ∧ ((fC h1 (gR h1 x0 0) 47 ∧ zX s0 m_J9_getFirstEntry d [zr (gR h1 x0 0)] h1 (fun v1 h2 => ∃ n2 : Nat, v1 = zr (n2) ∧ ((∃ c, fC h2 n1 c) ∧ (zX s0 m_J33_init d [zr n1, zr (gR h1 x0 0), zr (n2)] h2 (fun _ h3 => (Q (zr n1) h3)) E))) E))))))) : zX s0 m_J48_iterator (d + 1) [zr (x0)] h Q E := zX.of2 rfl (by decide +kernel) (zlay_r (zlay_n znone0)) (zle rfl) (b_J48_iterator_0 H)
theorem b_J48_size_0 {s0 : zE} {d : Nat} {x0 : Nat} {h : zH} {Q : Value → zH → Prop} {E : Nat → zH → Prop} (H : (fR h x0 [68] 0) ∧ ((fC h (gR h x0 0) 47 ∧ zX s0 m_J9_size d [zr (gR h x0 0)] h (fun v1 h1 => ∃ r1 : Int32, v1 = .int (r1) ∧ (Q (.int r1) h1)) E))) : zP s0 m_J48_size (d + 1) 0 [some (zr (x0))] [] h Q E := by
  refine z_aload_n (M := m_J48_size) (k := 0) rfl dJ48_size_0 ?_
  obtain ⟨g, H⟩ := H
  refine z_get (M := m_J48_size) f_J48_1 dJ48_size_1 g ?_
  obtain ⟨⟨fs9, g⟩, H⟩ := H
  refine z_invV (M := m_J48_size) (cn := 47) (a := []) ok_J9_size q1534 q1058 q1059 rfl dJ48_size_4 g (Nat.le_refl _) (Nat.zero_le _) rfl H (fun v1 h1 H => ?_) (fun n9 h9 H => zPx.out rfl H)
  obtain ⟨r1, rfl, H⟩ := H
  show zP s0 m_J48_size (d + 1) _ _ [.int (r1)] _ _ _
  exact z_ireturn (M := m_J48_size) rfl rfl dJ48_size_7 H
theorem c_J48_size {s0 : zE} {d : Nat} {x0 : Nat} {h : zH} {Q : Value → zH → Prop} {E : Nat → zH → Prop} (H : (fR h x0 [68] 0) ∧ ((fC h (gR h x0 0) 47 ∧ zX s0 m_J9_size d [zr (gR h x0 0)] h (fun v1 h1 => ∃ r1 : Int32, v1 = .int (r1) ∧ (Q (.int r1) h1)) E))) : zX s0 m_J48_size (d + 1) [zr (x0)] h Q E := zX.of2 rfl (by decide +kernel) (zlay_r (zlay_n znone0)) (zle rfl) (b_J48_size_0 H)
theorem b_J49_init_0 {s0 : zE} {d : Nat} {x0 : Nat} {x1 : Nat} {h : zH} {Q : Value → zH → Prop} {E : Nat → zH → Prop} (H : (∃ c, fC h x0 c) ∧ (zX s0 m_J18_init d [zr x0, zr (x1)] h (fun _ h1 => (Q .null h1)) E)) : zP s0 m_J49_init (d + 1) 0 [some (zr (x0)), some (zr (x1))] [] h Q E := by
  refine z_aload_n (M := m_J49_init) (k := 0) rfl dJ49_init_0 ?_
  refine z_aload_n (M := m_J49_init) (k := 1) rfl dJ49_init_1 ?_
  obtain ⟨⟨c9, g⟩, H⟩ := H
  refine zz_invI (M := m_J49_init) (a := [zr (x1)]) ok_J18_init rfl rfl q4165 q1465 dJ49_init_2 g (Nat.zero_le _) rfl H (fun v1 h1 H => ?_) (fun n9 h9 H => zPx.out rfl H)
  exact z_return (M := m_J49_init) rfl dJ49_init_5 H
theorem c_J49_init {s0 : zE} {d : Nat} {x0 : Nat} {x1 : Nat} {h : zH} {Q : Value → zH → Prop} {E : Nat → zH → Prop} (H : (∃ c, fC h x0 c) ∧ (zX s0 m_J18_init d [zr x0, zr (x1)] h (fun _ h1 => (Q .null h1)) E)) : zX s0 m_J49_init (d + 1) [zr (x0), zr (x1)] h Q E := zX.of2 rfl (by decide +kernel) (zlay_r (zlay_r (zlay_n znone0))) (zle rfl) (b_J49_init_0 H)
theorem b_J50_init_0 {s0 : zE} {d : Nat} {x0 : Nat} {x1 : Nat} {h : zH} {Q : Value → zH → Prop} {E : Nat → zH → Prop} (H : (∃ c, fC h x0 c) ∧ (zX s0 m_J49_init d [zr x0, zr (x1)] h (fun _ h1 => (Q .null h1)) E)) : zP s0 m_J50_init (d + 1) 0 [some (zr (x0)), some (zr (x1))] [] h Q E := by
  refine z_aload_n (M := m_J50_init) (k := 0) rfl dJ50_init_0 ?_
  refine z_aload_n (M := m_J50_init) (k := 1) rfl dJ50_init_1 ?_
  obtain ⟨⟨c9, g⟩, H⟩ := H
  refine zz_invI (M := m_J50_init) (a := [zr (x1)]) ok_J49_init rfl rfl q4162 q4163 dJ50_init_2 g (Nat.zero_le _) rfl H (fun v1 h1 H => ?_) (fun n9 h9 H => zPx.out rfl H)
  exact z_return (M := m_J50_init) rfl dJ50_init_5 H
theorem c_J50_init {s0 : zE} {d : Nat} {x0 : Nat} {x1 : Nat} {h : zH} {Q : Value → zH → Prop} {E : Nat → zH → Prop} (H : (∃ c, fC h x0 c) ∧ (zX s0 m_J49_init d [zr x0, zr (x1)] h (fun _ h1 => (Q .null h1)) E)) : zX s0 m_J50_init (d + 1) [zr (x0), zr (x1)] h Q E := zX.of2 rfl (by decide +kernel) (zlay_r (zlay_r (zlay_n znone0))) (zle rfl) (b_J50_init_0 H)
theorem b_J51_equals_0 {s0 : zE} {d : Nat} {x0 : Nat} {x1 : Nat} {h : zH} {Q : Value → zH → Prop} {E : Nat → zH → Prop} (H : (¬ x0 = x1 → (Q (.int 0) h)) ∧ (x0 = x1 → (Q (.int 1) h))) : zP s0 m_J51_equals d 0 [some (zr (x0)), some (zr (x1))] [] h Q E := by
  refine z_aload_n (M := m_J51_equals) (k := 0) rfl dJ51_equals_0 ?_
  refine z_aload_n (M := m_J51_equals) (k := 1) rfl dJ51_equals_1 ?_
  refine z_acmpne (M := m_J51_equals) 9 rfl dJ51_equals_2 (fun hc => ?_) (fun hc => ?_)
  · have H := H.1 hc
    refine z_iconst (M := m_J51_equals) (v := 0) (by decide) dJ51_equals_9 ?_
    exact z_ireturn (M := m_J51_equals) rfl rfl dJ51_equals_10 H
  · have H := H.2 hc
    refine z_iconst (M := m_J51_equals) (v := 1) (by decide) dJ51_equals_5 ?_
    refine z_goto (M := m_J51_equals) 10 rfl dJ51_equals_6 ?_
    exact z_ireturn (M := m_J51_equals) rfl rfl dJ51_equals_10 H
theorem c_J51_equals {s0 : zE} {d : Nat} {x0 : Nat} {x1 : Nat} {h : zH} {Q : Value → zH → Prop} {E : Nat → zH → Prop} (H : (¬ x0 = x1 → (Q (.int 0) h)) ∧ (x0 = x1 → (Q (.int 1) h))) : zX s0 m_J51_equals d [zr (x0), zr (x1)] h Q E := zX.ofF rfl (by decide +kernel) (zlay_r (zlay_r (zlay_n znone0))) (zle rfl) (b_J51_equals_0 H)
theorem b_J52_getUTF16Char_0 {s0 : zE} {d : Nat} {x0 : Nat} {x1 : Nat} {x2 : Int32} {h : zH} {Q : Value → zH → Prop} {E : Nat → zH → Prop} (H : zX s0 m_J22_getChar d [zr (x1), .int (x2)] h (fun v1 h1 => ∃ r1 : Int32, v1 = .int (r1) ∧ ((narrow .char (.int r1) = .int r1) ∧ (Q (.int r1) h1))) E) : zP s0 m_J52_getUTF16Char (d + 1) 0 [some (zr (x0)), some (zr (x1)), some (.int (x2))] [] h Q E := by
  refine z_aload_n (M := m_J52_getUTF16Char) (k := 1) rfl dJ52_getUTF16Char_0 ?_
  refine z_iload_n (M := m_J52_getUTF16Char) (k := 2) rfl dJ52_getUTF16Char_1 ?_
  refine z_invS (M := m_J52_getUTF16Char) (a := [zr (x1), .int (x2)]) ok_J22_getChar q2441 q1477 dJ52_getUTF16Char_2 (Nat.le_refl _) (Nat.zero_le _) rfl H (fun v1 h1 H => ?_) (fun n9 h9 H => zPx.out rfl H)
  obtain ⟨r1, rfl, H⟩ := H
  show zP s0 m_J52_getUTF16Char (d + 1) _ _ [.int (r1)] _ _ _
  obtain ⟨g, H⟩ := H
  exact z_ireturn (M := m_J52_getUTF16Char) rfl g dJ52_getUTF16Char_5 H
theorem c_J52_getUTF16Char {s0 : zE} {d : Nat} {x0 : Nat} {x1 : Nat} {x2 : Int32} {h : zH} {Q : Value → zH → Prop} {E : Nat → zH → Prop} (H : zX s0 m_J22_getChar d [zr (x1), .int (x2)] h (fun v1 h1 => ∃ r1 : Int32, v1 = .int (r1) ∧ ((narrow .char (.int r1) = .int r1) ∧ (Q (.int r1) h1))) E) : zX s0 m_J52_getUTF16Char (d + 1) [zr (x0), zr (x1), .int (x2)] h Q E := zX.of2 rfl (by decide +kernel) (zlay_r (zlay_r (zlay_i (zlay_n znone0)))) (zle rfl) (b_J52_getUTF16Char_0 H)
