/-! fields: what they may be written with, printed by dec.py defs -/
set_option maxRecDepth 100000
theorem ft_0_0 {n : Nat} : zFit 0 0 (zr n) := zfit_r rfl (by decide +kernel) (by rfl : FieldType.isReference ((.array (.object "RelayHall$Connection"))) = true)
theorem ft_0_1 {n : Nat} : zFit 0 1 (zr n) := zfit_r rfl (by decide +kernel) (by rfl : FieldType.isReference (.object "java/util/LinkedHashMap") = true)
theorem ft_0_2 {n : Nat} : zFit 0 2 (zr n) := zfit_r rfl (by decide +kernel) (by rfl : FieldType.isReference (.object "java/util/ArrayList") = true)
theorem ft_0_3 {n : Nat} : zFit 0 3 (zr n) := zfit_r rfl (by decide +kernel) (by rfl : FieldType.isReference (.object "java/util/ArrayDeque") = true)
theorem ft_0_4 {n : Nat} : zFit 0 4 (zr n) := zfit_r rfl (by decide +kernel) (by rfl : FieldType.isReference (.object "RelayHall$Log") = true)
theorem ft_0_5 {n : Nat} : zFit 0 5 (zr n) := zfit_r rfl (by decide +kernel) (by rfl : FieldType.isReference (.object "RelayHall$Writer") = true)
theorem ft_0_6 {n : Nat} : zFit 0 6 (zr n) := zfit_r rfl (by decide +kernel) (by rfl : FieldType.isReference (.object "RelayHall$Reader") = true)
theorem ft_0_7 {n : Nat} : zFit 0 7 (zr n) := zfit_r rfl (by decide +kernel) (by rfl : FieldType.isReference (.object "RelayHall$Fault") = true)
theorem ft_0_8 {n : Nat} : zFit 0 8 (zr n) := zfit_r rfl (by decide +kernel) (by rfl : FieldType.isReference ((.array .byte)) = true)
theorem ft_0_9 {n : Nat} : zFit 0 9 (zr n) := zfit_r rfl (by decide +kernel) (by rfl : FieldType.isReference ((.array .byte)) = true)
theorem fn_0_10 {y : MethodName} {idx : Nat} : zFin y idx 0 10 := ⟨_, rfl, Or.inl rfl⟩
theorem ft_0_10 {x : Int32} : zFit 0 10 (.int x) := zfit_i rfl rfl
theorem fn_0_11 {y : MethodName} {idx : Nat} : zFin y idx 0 11 := ⟨_, rfl, Or.inl rfl⟩
theorem ft_0_11 {x : Int32} : zFit 0 11 (.int x) := zfit_i rfl rfl
theorem fn_0_12 {y : MethodName} {idx : Nat} : zFin y idx 0 12 := ⟨_, rfl, Or.inl rfl⟩
theorem ft_0_12 {x : Int32} : zFit 0 12 (.int x) := zfit_i rfl rfl
theorem fn_0_13 {y : MethodName} {idx : Nat} : zFin y idx 0 13 := ⟨_, rfl, Or.inl rfl⟩
theorem ft_0_13 {x : Int32} : zFit 0 13 (.int x) := zfit_i rfl rfl
theorem fn_0_14 {y : MethodName} {idx : Nat} : zFin y idx 0 14 := ⟨_, rfl, Or.inl rfl⟩
theorem ft_0_14 {x : Int32} : zFit 0 14 (.int x) := zfit_i rfl rfl
theorem fn_0_15 {y : MethodName} {idx : Nat} : zFin y idx 0 15 := ⟨_, rfl, Or.inl rfl⟩
theorem ft_0_15 {x : Int32} : zFit 0 15 (.int x) := zfit_i rfl rfl
theorem fn_0_16 {y : MethodName} {idx : Nat} : zFin y idx 0 16 := ⟨_, rfl, Or.inl rfl⟩
theorem ft_0_16 {x : Int32} : zFit 0 16 (.int x) := zfit_i rfl rfl
theorem fn_0_17 {y : MethodName} {idx : Nat} : zFin y idx 0 17 := ⟨_, rfl, Or.inl rfl⟩
theorem ft_0_17 {x : Int32} : zFit 0 17 (.int x) := zfit_i rfl rfl
theorem fn_0_18 {y : MethodName} {idx : Nat} : zFin y idx 0 18 := ⟨_, rfl, Or.inl rfl⟩
theorem ft_0_18 {x : Int32} : zFit 0 18 (.int x) := zfit_i rfl rfl
theorem fn_0_19 {y : MethodName} {idx : Nat} : zFin y idx 0 19 := ⟨_, rfl, Or.inl rfl⟩
theorem ft_0_19 {x : Int32} : zFit 0 19 (.int x) := zfit_i rfl rfl
theorem fn_0_20 {y : MethodName} {idx : Nat} : zFin y idx 0 20 := ⟨_, rfl, Or.inl rfl⟩
theorem ft_0_20 {x : Int32} : zFit 0 20 (.int x) := zfit_i rfl rfl
theorem ft_1_0 {n : Nat} : zFit 1 0 (zr n) := zfit_r rfl (by decide +kernel) (by rfl : FieldType.isReference (.object "java/util/ArrayDeque") = true)
theorem ft_1_1 {n : Nat} : zFit 1 1 (zr n) := zfit_r rfl (by decide +kernel) (by rfl : FieldType.isReference (.object "java/util/LinkedHashMap") = true)
theorem ft_1_2 {n : Nat} : zFit 1 2 (zr n) := zfit_r rfl (by decide +kernel) (by rfl : FieldType.isReference (.object "java/util/LinkedHashMap") = true)
theorem ft_1_3 {n : Nat} : zFit 1 3 (zr n) := zfit_r rfl (by decide +kernel) (by rfl : FieldType.isReference (.object "java/util/ArrayList") = true)
theorem ft_2_0 {n : Nat} : zFit 2 0 (zr n) := zfit_r rfl (by decide +kernel) (by rfl : FieldType.isReference ((.array .byte)) = true)
theorem fn_2_1 {y : MethodName} {idx : Nat} : zFin y idx 2 1 := ⟨_, rfl, Or.inl rfl⟩
theorem ft_2_1 {x : Int32} : zFit 2 1 (.int x) := zfit_i rfl rfl
theorem fn_2_2 {y : MethodName} {idx : Nat} : zFin y idx 2 2 := ⟨_, rfl, Or.inl rfl⟩
theorem ft_2_2 {x : Int32} : zFit 2 2 (.int x) := zfit_i rfl rfl
theorem fn_3_0 {y : MethodName} {idx : Nat} : zFin y idx 3 0 := ⟨_, rfl, Or.inl rfl⟩
theorem ft_3_0 {n : Nat} : zFit 3 0 (zr n) := zfit_r rfl (by decide +kernel) (by rfl : FieldType.isReference ((.array .byte)) = true)
theorem fn_3_1 {y : MethodName} {idx : Nat} : zFin y idx 3 1 := ⟨_, rfl, Or.inl rfl⟩
theorem ft_3_1 {x : Int32} : zFit 3 1 (.int x) := zfit_i rfl rfl
theorem fn_3_2 {y : MethodName} {idx : Nat} : zFin y idx 3 2 := ⟨_, rfl, Or.inl rfl⟩
theorem ft_3_2 {x : Int32} : zFit 3 2 (.int x) := zfit_i rfl rfl
theorem fn_3_3 {y : MethodName} {idx : Nat} : zFin y idx 3 3 := ⟨_, rfl, Or.inl rfl⟩
theorem ft_3_3 {x : Int32} (h : x = 0 ∨ x = 1) : zFit 3 3 (.int x) := zfit_z rfl rfl h
theorem fn_4_0 {y : MethodName} {idx : Nat} : zFin y idx 4 0 := ⟨_, rfl, Or.inl rfl⟩
theorem ft_4_0 {n : Nat} : zFit 4 0 (zr n) := zfit_r rfl (by decide +kernel) (by rfl : FieldType.isReference (.object "java/lang/Throwable") = true)
theorem fn_4_1 {y : MethodName} {idx : Nat} : zFin y idx 4 1 := ⟨_, rfl, Or.inl rfl⟩
theorem ft_4_1 {n : Nat} : zFit 4 1 (zr n) := zfit_r rfl (by decide +kernel) (by rfl : FieldType.isReference ((.array (.object "java/lang/StackTraceElement"))) = true)
theorem fn_4_2 {y : MethodName} {idx : Nat} : zFin y idx 4 2 := ⟨_, rfl, Or.inl rfl⟩
theorem ft_4_2 {n : Nat} : zFit 4 2 (zr n) := zfit_r rfl (by decide +kernel) (by rfl : FieldType.isReference (.object "java/util/List") = true)
theorem fn_4_3 {y : MethodName} {idx : Nat} : zFin y idx 4 3 := ⟨_, rfl, Or.inl rfl⟩
theorem ft_4_3 {n : Nat} : zFit 4 3 (zr n) := zfit_r rfl (by decide +kernel) (by rfl : FieldType.isReference (.object "java/lang/String") = true)
theorem fn_4_4 {y : MethodName} {idx : Nat} : zFin y idx 4 4 := ⟨_, rfl, Or.inl rfl⟩
theorem ft_4_4 {n : Nat} : zFit 4 4 (zr n) := zfit_r rfl (by decide +kernel) (by rfl : FieldType.isReference (.object "java/lang/Object") = true)
theorem fn_4_5 {y : MethodName} {idx : Nat} : zFin y idx 4 5 := ⟨_, rfl, Or.inl rfl⟩
theorem ft_4_5 {x : Int32} : zFit 4 5 (.int x) := zfit_i rfl rfl
theorem fn_4_6 {y : MethodName} {idx : Nat} : zFin y idx 4 6 := ⟨_, rfl, Or.inl rfl⟩
theorem ft_4_6 {x : Int32} (h : x = 0 ∨ x = 1) : zFit 4 6 (.int x) := zfit_z rfl rfl h
theorem fn_4_7 {y : MethodName} {idx : Nat} : zFin y idx 4 7 := ⟨_, rfl, Or.inl rfl⟩
theorem ft_4_7 {x : Int32} : zFit 4 7 (.int x) := zfit_i rfl rfl
theorem ft_5_0 {x : Int32} : zFit 5 0 (.int x) := zfit_i rfl rfl
theorem fn_5_1 {y : MethodName} {idx : Nat} : zFin y idx 5 1 := ⟨_, rfl, Or.inl rfl⟩
theorem ft_5_1 {x : Int32} : zFit 5 1 (.int x) := zfit_i rfl rfl
theorem fn_5_2 {y : MethodName} {idx : Nat} : zFin y idx 5 2 := ⟨_, rfl, Or.inl rfl⟩
theorem ft_5_2 {x : Int32} : zFit 5 2 (.int x) := zfit_i rfl rfl
theorem fn_5_3 {y : MethodName} {idx : Nat} : zFin y idx 5 3 := ⟨_, rfl, Or.inl rfl⟩
theorem ft_5_3 {x : Int32} : zFit 5 3 (.int x) := zfit_i rfl rfl
theorem fn_5_4 {y : MethodName} {idx : Nat} : zFin y idx 5 4 := ⟨_, rfl, Or.inl rfl⟩
theorem ft_5_4 {x : Int32} : zFit 5 4 (.int x) := zfit_i rfl rfl
theorem fn_5_5 {y : MethodName} {idx : Nat} : zFin y idx 5 5 := ⟨_, rfl, Or.inl rfl⟩
theorem ft_5_5 {x : Int32} : zFit 5 5 (.int x) := zfit_i rfl rfl
theorem fn_5_6 {y : MethodName} {idx : Nat} : zFin y idx 5 6 := ⟨_, rfl, Or.inl rfl⟩
theorem ft_5_6 {x : Int32} (h : x = 0 ∨ x = 1) : zFit 5 6 (.int x) := zfit_z rfl rfl h
theorem ft_5_7 {n : Nat} : zFit 5 7 (zr n) := zfit_r rfl (by decide +kernel) (by rfl : FieldType.isReference ((.array .byte)) = true)
theorem fn_5_8 {y : MethodName} {idx : Nat} : zFin y idx 5 8 := ⟨_, rfl, Or.inl rfl⟩
theorem ft_5_8 {x : Int32} : zFit 5 8 (.int x) := zfit_i rfl rfl
theorem ft_5_9 {n : Nat} : zFit 5 9 (zr n) := zfit_r rfl (by decide +kernel) (by rfl : FieldType.isReference ((.array .byte)) = true)
theorem fn_5_10 {y : MethodName} {idx : Nat} : zFin y idx 5 10 := ⟨_, rfl, Or.inl rfl⟩
theorem ft_5_10 {x : Int32} : zFit 5 10 (.int x) := zfit_i rfl rfl
theorem fn_5_11 {y : MethodName} {idx : Nat} : zFin y idx 5 11 := ⟨_, rfl, Or.inl rfl⟩
theorem ft_5_11 {x : Int32} : zFit 5 11 (.int x) := zfit_i rfl rfl
theorem ft_5_12 {n : Nat} : zFit 5 12 (zr n) := zfit_r rfl (by decide +kernel) (by rfl : FieldType.isReference ((.array (.object "RelayHall$Channel"))) = true)
theorem ft_6_0 {n : Nat} : zFit 6 0 (zr n) := zfit_r rfl (by decide +kernel) (by rfl : FieldType.isReference (.object "RelayHall$Connection") = true)
theorem ft_6_1 {x : Int32} : zFit 6 1 (.int x) := zfit_i rfl rfl
theorem fn_6_2 {y : MethodName} {idx : Nat} : zFin y idx 6 2 := ⟨_, rfl, Or.inl rfl⟩
theorem ft_6_2 {x : Int32} : zFit 6 2 (.int x) := zfit_i rfl rfl
theorem fn_6_3 {y : MethodName} {idx : Nat} : zFin y idx 6 3 := ⟨_, rfl, Or.inl rfl⟩
theorem ft_6_3 {x : Int32} : zFit 6 3 (.int x) := zfit_i rfl rfl
theorem fn_6_4 {y : MethodName} {idx : Nat} : zFin y idx 6 4 := ⟨_, rfl, Or.inl rfl⟩
theorem ft_6_4 {x : Int32} : zFit 6 4 (.int x) := zfit_i rfl rfl
theorem fn_6_5 {y : MethodName} {idx : Nat} : zFin y idx 6 5 := ⟨_, rfl, Or.inl rfl⟩
theorem ft_6_5 {x : Int32} : zFit 6 5 (.int x) := zfit_i rfl rfl
theorem fn_6_6 {y : MethodName} {idx : Nat} : zFin y idx 6 6 := ⟨_, rfl, Or.inl rfl⟩
theorem ft_6_6 {x : Int32} : zFit 6 6 (.int x) := zfit_i rfl rfl
theorem fn_6_7 {y : MethodName} {idx : Nat} : zFin y idx 6 7 := ⟨_, rfl, Or.inl rfl⟩
theorem ft_6_7 {x : Int32} : zFit 6 7 (.int x) := zfit_i rfl rfl
theorem fn_6_8 {y : MethodName} {idx : Nat} : zFin y idx 6 8 := ⟨_, rfl, Or.inl rfl⟩
theorem ft_6_8 {x : Int32} : zFit 6 8 (.int x) := zfit_i rfl rfl
theorem fn_6_9 {y : MethodName} {idx : Nat} : zFin y idx 6 9 := ⟨_, rfl, Or.inl rfl⟩
theorem ft_6_9 {x : Int32} : zFit 6 9 (.int x) := zfit_i rfl rfl
theorem fn_6_10 {y : MethodName} {idx : Nat} : zFin y idx 6 10 := ⟨_, rfl, Or.inl rfl⟩
theorem ft_6_10 {x : Int32} (h : x = 0 ∨ x = 1) : zFit 6 10 (.int x) := zfit_z rfl rfl h
theorem fn_6_11 {y : MethodName} {idx : Nat} : zFin y idx 6 11 := ⟨_, rfl, Or.inl rfl⟩
theorem ft_6_11 {x : Int32} (h : x = 0 ∨ x = 1) : zFit 6 11 (.int x) := zfit_z rfl rfl h
theorem fn_6_12 {y : MethodName} {idx : Nat} : zFin y idx 6 12 := ⟨_, rfl, Or.inl rfl⟩
theorem ft_6_12 {n : Nat} : zFit 6 12 (zr n) := zfit_r rfl (by decide +kernel) (by rfl : FieldType.isReference (.object "java/lang/String") = true)
theorem fn_6_13 {y : MethodName} {idx : Nat} : zFin y idx 6 13 := ⟨_, rfl, Or.inl rfl⟩
theorem ft_6_13 {n : Nat} : zFit 6 13 (zr n) := zfit_r rfl (by decide +kernel) (by rfl : FieldType.isReference (.object "RelayHall$Content") = true)
theorem fn_6_14 {y : MethodName} {idx : Nat} : zFin y idx 6 14 := ⟨_, rfl, Or.inl rfl⟩
theorem ft_6_14 {x : Int32} (h : x = 0 ∨ x = 1) : zFit 6 14 (.int x) := zfit_z rfl rfl h
theorem ft_6_15 {n : Nat} : zFit 6 15 (zr n) := zfit_r rfl (by decide +kernel) (by rfl : FieldType.isReference (.object "java/util/TreeMap") = true)
theorem ft_6_16 {n : Nat} : zFit 6 16 (zr n) := zfit_r rfl (by decide +kernel) (by rfl : FieldType.isReference (.object "java/util/ArrayList") = true)
theorem ft_6_17 {n : Nat} : zFit 6 17 (zr n) := zfit_r rfl (by decide +kernel) (by rfl : FieldType.isReference (.object "java/util/ArrayList") = true)
theorem ft_6_18 {n : Nat} : zFit 6 18 (zr n) := zfit_r rfl (by decide +kernel) (by rfl : FieldType.isReference (.object "java/util/ArrayList") = true)
theorem ft_7_0 {n : Nat} : zFit 7 0 (zr n) := zfit_r rfl (by decide +kernel) (by rfl : FieldType.isReference ((.array (.object "RelayHallModel$Connection"))) = true)
theorem ft_7_1 {n : Nat} : zFit 7 1 (zr n) := zfit_r rfl (by decide +kernel) (by rfl : FieldType.isReference ((.array (.object "RelayHallModel$Exchange"))) = true)
theorem ft_7_2 {n : Nat} : zFit 7 2 (zr n) := zfit_r rfl (by decide +kernel) (by rfl : FieldType.isReference ((.array (.object "RelayHallModel$Queue"))) = true)
theorem ft_7_3 {n : Nat} : zFit 7 3 (zr n) := zfit_r rfl (by decide +kernel) (by rfl : FieldType.isReference ((.array (.object "RelayHallModel$Binding"))) = true)
theorem ft_7_4 {n : Nat} : zFit 7 4 (zr n) := zfit_r rfl (by decide +kernel) (by rfl : FieldType.isReference ((.array (.object "RelayHallModel$Consumer"))) = true)
theorem fn_7_5 {y : MethodName} {idx : Nat} : zFin y idx 7 5 := ⟨_, rfl, Or.inl rfl⟩
theorem ft_7_5 {x : Int32} : zFit 7 5 (.int x) := zfit_i rfl rfl
theorem fn_7_6 {y : MethodName} {idx : Nat} : zFin y idx 7 6 := ⟨_, rfl, Or.inl rfl⟩
theorem ft_7_6 {x : Int32} : zFit 7 6 (.int x) := zfit_i rfl rfl
theorem fn_7_7 {y : MethodName} {idx : Nat} : zFin y idx 7 7 := ⟨_, rfl, Or.inl rfl⟩
theorem ft_7_7 {x : Int32} : zFit 7 7 (.int x) := zfit_i rfl rfl
theorem fn_7_8 {y : MethodName} {idx : Nat} : zFin y idx 7 8 := ⟨_, rfl, Or.inl rfl⟩
theorem ft_7_8 {x : Int32} : zFit 7 8 (.int x) := zfit_i rfl rfl
theorem fn_7_9 {y : MethodName} {idx : Nat} : zFin y idx 7 9 := ⟨_, rfl, Or.inl rfl⟩
theorem ft_7_9 {x : Int32} : zFit 7 9 (.int x) := zfit_i rfl rfl
theorem fn_7_10 {y : MethodName} {idx : Nat} : zFin y idx 7 10 := ⟨_, rfl, Or.inl rfl⟩
theorem ft_7_10 {x : Int32} : zFit 7 10 (.int x) := zfit_i rfl rfl
theorem fn_7_11 {y : MethodName} {idx : Nat} : zFin y idx 7 11 := ⟨_, rfl, Or.inl rfl⟩
theorem ft_7_11 {x : Int32} : zFit 7 11 (.int x) := zfit_i rfl rfl
theorem fn_7_12 {y : MethodName} {idx : Nat} : zFin y idx 7 12 := ⟨_, rfl, Or.inl rfl⟩
theorem ft_7_12 {x : Int32} : zFit 7 12 (.int x) := zfit_i rfl rfl
theorem fn_7_13 {y : MethodName} {idx : Nat} : zFin y idx 7 13 := ⟨_, rfl, Or.inl rfl⟩
theorem ft_7_13 {x : Int32} : zFit 7 13 (.int x) := zfit_i rfl rfl
theorem ft_7_14 {n : Nat} : zFit 7 14 (zr n) := zfit_r rfl (by decide +kernel) (by rfl : FieldType.isReference ((.array (.object "RelayHallModel$Dead"))) = true)
theorem fn_7_15 {y : MethodName} {idx : Nat} : zFin y idx 7 15 := ⟨_, rfl, Or.inl rfl⟩
theorem ft_7_15 {x : Int32} : zFit 7 15 (.int x) := zfit_i rfl rfl
theorem fn_7_16 {y : MethodName} {idx : Nat} : zFin y idx 7 16 := ⟨_, rfl, Or.inl rfl⟩
theorem ft_7_16 {n : Nat} : zFit 7 16 (zr n) := zfit_r rfl (by decide +kernel) (by rfl : FieldType.isReference ((.array (.object "RelayHallModel$Fact"))) = true)
theorem fn_7_17 {y : MethodName} {idx : Nat} : zFin y idx 7 17 := ⟨_, rfl, Or.inl rfl⟩
theorem ft_7_17 {x : Int32} : zFit 7 17 (.int x) := zfit_i rfl rfl
theorem ft_7_18 {n : Nat} : zFit 7 18 (zr n) := zfit_r rfl (by decide +kernel) (by rfl : FieldType.isReference ((.array (.object "RelayHallModel$Exchange"))) = true)
theorem ft_7_19 {n : Nat} : zFit 7 19 (zr n) := zfit_r rfl (by decide +kernel) (by rfl : FieldType.isReference ((.array (.object "RelayHallModel$Queue"))) = true)
theorem ft_7_20 {n : Nat} : zFit 7 20 (zr n) := zfit_r rfl (by decide +kernel) (by rfl : FieldType.isReference ((.array (.object "RelayHallModel$Binding"))) = true)
theorem fn_7_21 {y : MethodName} {idx : Nat} : zFin y idx 7 21 := ⟨_, rfl, Or.inl rfl⟩
theorem ft_7_21 {n : Nat} : zFit 7 21 (zr n) := zfit_r rfl (by decide +kernel) (by rfl : FieldType.isReference ((.array (.object "RelayHallModel$Entry"))) = true)
theorem fn_7_22 {y : MethodName} {idx : Nat} : zFin y idx 7 22 := ⟨_, rfl, Or.inl rfl⟩
theorem ft_7_22 {x : Int32} : zFit 7 22 (.int x) := zfit_i rfl rfl
theorem fn_7_23 {y : MethodName} {idx : Nat} : zFin y idx 7 23 := ⟨_, rfl, Or.inl rfl⟩
theorem ft_7_23 {x : Int32} : zFit 7 23 (.int x) := zfit_i rfl rfl
theorem fn_7_24 {y : MethodName} {idx : Nat} : zFin y idx 7 24 := ⟨_, rfl, Or.inl rfl⟩
theorem ft_7_24 {x : Int32} : zFit 7 24 (.int x) := zfit_i rfl rfl
theorem fn_7_25 {y : MethodName} {idx : Nat} : zFin y idx 7 25 := ⟨_, rfl, Or.inl rfl⟩
theorem ft_7_25 {x : Int32} : zFit 7 25 (.int x) := zfit_i rfl rfl
theorem ft_7_26 {n : Nat} : zFit 7 26 (zr n) := zfit_r rfl (by decide +kernel) (by rfl : FieldType.isReference ((.array .byte)) = true)
theorem fn_7_27 {y : MethodName} {idx : Nat} : zFin y idx 7 27 := ⟨_, rfl, Or.inl rfl⟩
theorem ft_7_27 {x : Int32} : zFit 7 27 (.int x) := zfit_i rfl rfl
theorem fn_7_28 {y : MethodName} {idx : Nat} : zFin y idx 7 28 := ⟨_, rfl, Or.inl rfl⟩
theorem ft_7_28 {x : Int32} : zFit 7 28 (.int x) := zfit_i rfl rfl
theorem ft_7_29 {n : Nat} : zFit 7 29 (zr n) := zfit_r rfl (by decide +kernel) (by rfl : FieldType.isReference ((.array .byte)) = true)
theorem fn_7_30 {y : MethodName} {idx : Nat} : zFin y idx 7 30 := ⟨_, rfl, Or.inl rfl⟩
theorem ft_7_30 {x : Int32} : zFit 7 30 (.int x) := zfit_i rfl rfl
theorem fn_7_31 {y : MethodName} {idx : Nat} : zFin y idx 7 31 := ⟨_, rfl, Or.inl rfl⟩
theorem ft_7_31 {x : Int32} : zFit 7 31 (.int x) := zfit_i rfl rfl
theorem fn_7_32 {y : MethodName} {idx : Nat} : zFin y idx 7 32 := ⟨_, rfl, Or.inl rfl⟩
theorem ft_7_32 {x : Int32} : zFit 7 32 (.int x) := zfit_i rfl rfl
theorem fn_7_33 {y : MethodName} {idx : Nat} : zFin y idx 7 33 := ⟨_, rfl, Or.inl rfl⟩
theorem ft_7_33 {x : Int32} : zFit 7 33 (.int x) := zfit_i rfl rfl
theorem fn_7_34 {y : MethodName} {idx : Nat} : zFin y idx 7 34 := ⟨_, rfl, Or.inl rfl⟩
theorem ft_7_34 {x : Int32} (h : x = 0 ∨ x = 1) : zFit 7 34 (.int x) := zfit_z rfl rfl h
theorem ft_7_35 {n : Nat} : zFit 7 35 (zr n) := zfit_r rfl (by decide +kernel) (by rfl : FieldType.isReference ((.array .byte)) = true)
theorem fn_7_36 {y : MethodName} {idx : Nat} : zFin y idx 7 36 := ⟨_, rfl, Or.inl rfl⟩
theorem ft_7_36 {x : Int32} : zFit 7 36 (.int x) := zfit_i rfl rfl
theorem fn_7_37 {y : MethodName} {idx : Nat} : zFin y idx 7 37 := ⟨_, rfl, Or.inl rfl⟩
theorem ft_7_37 {x : Int32} : zFit 7 37 (.int x) := zfit_i rfl rfl
theorem ft_7_38 {n : Nat} : zFit 7 38 (zr n) := zfit_r rfl (by decide +kernel) (by rfl : FieldType.isReference ((.array .int)) = true)
theorem ft_7_39 {n : Nat} : zFit 7 39 (zr n) := zfit_r rfl (by decide +kernel) (by rfl : FieldType.isReference ((.array .int)) = true)
theorem ft_7_40 {n : Nat} : zFit 7 40 (zr n) := zfit_r rfl (by decide +kernel) (by rfl : FieldType.isReference ((.array .int)) = true)
theorem ft_7_41 {n : Nat} : zFit 7 41 (zr n) := zfit_r rfl (by decide +kernel) (by rfl : FieldType.isReference ((.array .int)) = true)
theorem ft_7_42 {n : Nat} : zFit 7 42 (zr n) := zfit_r rfl (by decide +kernel) (by rfl : FieldType.isReference ((.array .boolean)) = true)
theorem ft_7_43 {n : Nat} : zFit 7 43 (zr n) := zfit_r rfl (by decide +kernel) (by rfl : FieldType.isReference ((.array .boolean)) = true)
theorem ft_7_44 {n : Nat} : zFit 7 44 (zr n) := zfit_r rfl (by decide +kernel) (by rfl : FieldType.isReference ((.array (.object "RelayHallModel$Queue"))) = true)
theorem fn_7_45 {y : MethodName} {idx : Nat} : zFin y idx 7 45 := ⟨_, rfl, Or.inl rfl⟩
theorem ft_7_45 {x : Int32} : zFit 7 45 (.int x) := zfit_i rfl rfl
theorem fn_8_0 {y : MethodName} {idx : Nat} : zFin y idx 8 0 := ⟨_, rfl, Or.inl rfl⟩
theorem ft_8_0 {x : Int32} : zFit 8 0 (.int x) := zfit_i rfl rfl
theorem fn_8_1 {y : MethodName} {idx : Nat} : zFin y idx 8 1 := ⟨_, rfl, Or.inl rfl⟩
theorem ft_8_1 {x : Int32} : zFit 8 1 (.int x) := zfit_i rfl rfl
theorem fn_8_2 {y : MethodName} {idx : Nat} : zFin y idx 8 2 := ⟨_, rfl, Or.inl rfl⟩
theorem ft_8_2 {x : Int32} : zFit 8 2 (.int x) := zfit_i rfl rfl
theorem fn_8_3 {y : MethodName} {idx : Nat} : zFin y idx 8 3 := ⟨_, rfl, Or.inl rfl⟩
theorem ft_8_3 {x : Int32} : zFit 8 3 (.int x) := zfit_i rfl rfl
theorem fn_8_4 {y : MethodName} {idx : Nat} : zFin y idx 8 4 := ⟨_, rfl, Or.inl rfl⟩
theorem ft_8_4 {x : Int32} : zFit 8 4 (.int x) := zfit_i rfl rfl
theorem fn_8_5 {y : MethodName} {idx : Nat} : zFin y idx 8 5 := ⟨_, rfl, Or.inl rfl⟩
theorem ft_8_5 {x : Int32} : zFit 8 5 (.int x) := zfit_i rfl rfl
theorem fn_8_6 {y : MethodName} {idx : Nat} : zFin y idx 8 6 := ⟨_, rfl, Or.inl rfl⟩
theorem ft_8_6 {x : Int32} : zFit 8 6 (.int x) := zfit_i rfl rfl
theorem fn_8_7 {y : MethodName} {idx : Nat} : zFin y idx 8 7 := ⟨_, rfl, Or.inl rfl⟩
theorem ft_8_7 {x : Int32} : zFit 8 7 (.int x) := zfit_i rfl rfl
theorem fn_8_8 {y : MethodName} {idx : Nat} : zFin y idx 8 8 := ⟨_, rfl, Or.inl rfl⟩
theorem ft_8_8 {x : Int32} : zFit 8 8 (.int x) := zfit_i rfl rfl
theorem fn_8_9 {y : MethodName} {idx : Nat} : zFin y idx 8 9 := ⟨_, rfl, Or.inl rfl⟩
theorem ft_8_9 {x : Int32} (h : x = 0 ∨ x = 1) : zFit 8 9 (.int x) := zfit_z rfl rfl h
theorem ft_8_10 {n : Nat} : zFit 8 10 (zr n) := zfit_r rfl (by decide +kernel) (by rfl : FieldType.isReference ((.array .byte)) = true)
theorem ft_8_11 {n : Nat} : zFit 8 11 (zr n) := zfit_r rfl (by decide +kernel) (by rfl : FieldType.isReference ((.array .byte)) = true)
theorem ft_8_12 {n : Nat} : zFit 8 12 (zr n) := zfit_r rfl (by decide +kernel) (by rfl : FieldType.isReference ((.array (.object "RelayHallModel$Channel"))) = true)
theorem fn_9_0 {y : MethodName} {idx : Nat} : zFin y idx 9 0 := ⟨_, rfl, Or.inl rfl⟩
theorem ft_9_0 {n : Nat} : zFit 9 0 (zr n) := zfit_r rfl (by decide +kernel) (by rfl : FieldType.isReference (.object "RelayHallModel$Connection") = true)
theorem fn_9_1 {y : MethodName} {idx : Nat} : zFin y idx 9 1 := ⟨_, rfl, Or.inl rfl⟩
theorem ft_9_1 {x : Int32} : zFit 9 1 (.int x) := zfit_i rfl rfl
theorem fn_9_2 {y : MethodName} {idx : Nat} : zFin y idx 9 2 := ⟨_, rfl, Or.inl rfl⟩
theorem ft_9_2 {x : Int32} : zFit 9 2 (.int x) := zfit_i rfl rfl
theorem fn_9_3 {y : MethodName} {idx : Nat} : zFin y idx 9 3 := ⟨_, rfl, Or.inl rfl⟩
theorem ft_9_3 {x : Int32} : zFit 9 3 (.int x) := zfit_i rfl rfl
theorem fn_9_4 {y : MethodName} {idx : Nat} : zFin y idx 9 4 := ⟨_, rfl, Or.inl rfl⟩
theorem ft_9_4 {x : Int32} : zFit 9 4 (.int x) := zfit_i rfl rfl
theorem fn_9_5 {y : MethodName} {idx : Nat} : zFin y idx 9 5 := ⟨_, rfl, Or.inl rfl⟩
theorem ft_9_5 {x : Int32} : zFit 9 5 (.int x) := zfit_i rfl rfl
theorem fn_9_6 {y : MethodName} {idx : Nat} : zFin y idx 9 6 := ⟨_, rfl, Or.inl rfl⟩
theorem ft_9_6 {x : Int32} : zFit 9 6 (.int x) := zfit_i rfl rfl
theorem fn_9_7 {y : MethodName} {idx : Nat} : zFin y idx 9 7 := ⟨_, rfl, Or.inl rfl⟩
theorem ft_9_7 {x : Int32} : zFit 9 7 (.int x) := zfit_i rfl rfl
theorem fn_9_8 {y : MethodName} {idx : Nat} : zFin y idx 9 8 := ⟨_, rfl, Or.inl rfl⟩
theorem ft_9_8 {x : Int32} : zFit 9 8 (.int x) := zfit_i rfl rfl
theorem fn_9_9 {y : MethodName} {idx : Nat} : zFin y idx 9 9 := ⟨_, rfl, Or.inl rfl⟩
theorem ft_9_9 {x : Int32} : zFit 9 9 (.int x) := zfit_i rfl rfl
theorem fn_9_10 {y : MethodName} {idx : Nat} : zFin y idx 9 10 := ⟨_, rfl, Or.inl rfl⟩
theorem ft_9_10 {x : Int32} : zFit 9 10 (.int x) := zfit_i rfl rfl
theorem fn_9_11 {y : MethodName} {idx : Nat} : zFin y idx 9 11 := ⟨_, rfl, Or.inl rfl⟩
theorem ft_9_11 {x : Int32} : zFit 9 11 (.int x) := zfit_i rfl rfl
theorem fn_9_12 {y : MethodName} {idx : Nat} : zFin y idx 9 12 := ⟨_, rfl, Or.inl rfl⟩
theorem ft_9_12 {x : Int32} : zFit 9 12 (.int x) := zfit_i rfl rfl
theorem fn_9_13 {y : MethodName} {idx : Nat} : zFin y idx 9 13 := ⟨_, rfl, Or.inl rfl⟩
theorem ft_9_13 {x : Int32} (h : x = 0 ∨ x = 1) : zFit 9 13 (.int x) := zfit_z rfl rfl h
theorem fn_9_14 {y : MethodName} {idx : Nat} : zFin y idx 9 14 := ⟨_, rfl, Or.inl rfl⟩
theorem ft_9_14 {n : Nat} : zFit 9 14 (zr n) := zfit_r rfl (by decide +kernel) (by rfl : FieldType.isReference ((.array .byte)) = true)
theorem fn_9_15 {y : MethodName} {idx : Nat} : zFin y idx 9 15 := ⟨_, rfl, Or.inl rfl⟩
theorem ft_9_15 {n : Nat} : zFit 9 15 (zr n) := zfit_r rfl (by decide +kernel) (by rfl : FieldType.isReference (.object "RelayHallModel$Content") = true)
theorem fn_9_16 {y : MethodName} {idx : Nat} : zFin y idx 9 16 := ⟨_, rfl, Or.inl rfl⟩
theorem ft_9_16 {n : Nat} : zFit 9 16 (zr n) := zfit_r rfl (by decide +kernel) (by rfl : FieldType.isReference ((.array (.object "RelayHallModel$Sent"))) = true)
theorem ft_9_17 {n : Nat} : zFit 9 17 (zr n) := zfit_r rfl (by decide +kernel) (by rfl : FieldType.isReference ((.array (.object "RelayHallModel$Kept"))) = true)
theorem fn_9_18 {y : MethodName} {idx : Nat} : zFin y idx 9 18 := ⟨_, rfl, Or.inl rfl⟩
theorem ft_9_18 {n : Nat} : zFit 9 18 (zr n) := zfit_r rfl (by decide +kernel) (by rfl : FieldType.isReference ((.array .int)) = true)
theorem ft_10_0 {n : Nat} : zFit 10 0 (zr n) := zfit_r rfl (by decide +kernel) (by rfl : FieldType.isReference (.object "java/lang/String") = true)
theorem ft_11_0 {n : Nat} : zFit 11 0 (zr n) := zfit_r rfl (by decide +kernel) (by rfl : FieldType.isReference (.object "java/lang/String") = true)
theorem ft_12_0 {n : Nat} : zFit 12 0 (zr n) := zfit_r rfl (by decide +kernel) (by rfl : FieldType.isReference (.object "java/lang/String") = true)
theorem ft_12_1 {x : Int32} : zFit 12 1 (.int x) := zfit_i rfl rfl
theorem ft_13_0 {n : Nat} : zFit 13 0 (zr n) := zfit_r rfl (by decide +kernel) (by rfl : FieldType.isReference (.object "RelayHall$Content") = true)
theorem ft_13_1 {n : Nat} : zFit 13 1 (zr n) := zfit_r rfl (by decide +kernel) (by rfl : FieldType.isReference (.object "RelayHall$Arguments") = true)
theorem ft_13_2 {x : Int32} : zFit 13 2 (.int x) := zfit_i rfl rfl
theorem ft_14_0 {n : Nat} : zFit 14 0 (zr n) := zfit_r rfl (by decide +kernel) (by rfl : FieldType.isReference (.object "java/util/LinkedHashMap") = true)
theorem fn_14_1 {y : MethodName} {idx : Nat} : zFin y idx 14 1 := ⟨_, rfl, Or.inl rfl⟩
theorem ft_14_1 {n : Nat} : zFit 14 1 (zr n) := zfit_r rfl (by decide +kernel) (by rfl : FieldType.isReference ((.array .byte)) = true)
theorem ft_15_0 {x : Int32} : zFit 15 0 (.int x) := zfit_i rfl rfl
theorem ft_15_1 {x : Int32} : zFit 15 1 (.int x) := zfit_i rfl rfl
theorem ft_15_2 {n : Nat} : zFit 15 2 (zr n) := zfit_r rfl (by decide +kernel) (by rfl : FieldType.isReference (.object "java/lang/String") = true)
theorem ft_16_0 {n : Nat} : zFit 16 0 (zr n) := zfit_r rfl (by decide +kernel) (by rfl : FieldType.isReference (.object "java/lang/String") = true)
theorem ft_16_1 {n : Nat} : zFit 16 1 (zr n) := zfit_r rfl (by decide +kernel) (by rfl : FieldType.isReference (.object "RelayHall$Kind") = true)
theorem ft_16_2 {x : Int32} : zFit 16 2 (.int x) := zfit_i rfl rfl
theorem ft_16_3 {n : Nat} : zFit 16 3 (zr n) := zfit_r rfl (by decide +kernel) (by rfl : FieldType.isReference (.object "java/lang/String") = true)
theorem ft_16_4 {n : Nat} : zFit 16 4 (zr n) := zfit_r rfl (by decide +kernel) (by rfl : FieldType.isReference (.object "java/util/ArrayList") = true)
theorem ft_17_0 {n : Nat} : zFit 17 0 (zr n) := zfit_r rfl (by decide +kernel) (by rfl : FieldType.isReference (.object "RelayHall$Exchange") = true)
theorem ft_18_0 {x : Int32} : zFit 18 0 (.int x) := zfit_i rfl rfl
theorem ft_18_1 {x : Int32} : zFit 18 1 (.int x) := zfit_i rfl rfl
theorem ft_18_2 {x : Int32} : zFit 18 2 (.int x) := zfit_i rfl rfl
theorem ft_18_3 {n : Nat} : zFit 18 3 (zr n) := zfit_r rfl (by decide +kernel) (by rfl : FieldType.isReference (.object "java/lang/String") = true)
theorem ft_18_4 {n : Nat} : zFit 18 4 (zr n) := zfit_r rfl (by decide +kernel) (by rfl : FieldType.isReference (.object "java/lang/String") = true)
theorem ft_19_0 {n : Nat} : zFit 19 0 (zr n) := zfit_r rfl (by decide +kernel) (by rfl : FieldType.isReference (.object "java/lang/String") = true)
theorem ft_19_1 {x : Int32} : zFit 19 1 (.int x) := zfit_i rfl rfl
theorem ft_19_2 {n : Nat} : zFit 19 2 (zr n) := zfit_r rfl (by decide +kernel) (by rfl : FieldType.isReference (.object "RelayHall$Connection") = true)
theorem ft_19_3 {n : Nat} : zFit 19 3 (zr n) := zfit_r rfl (by decide +kernel) (by rfl : FieldType.isReference (.object "RelayHall$Arguments") = true)
theorem ft_19_4 {n : Nat} : zFit 19 4 (zr n) := zfit_r rfl (by decide +kernel) (by rfl : FieldType.isReference (.object "java/util/TreeMap") = true)
theorem ft_19_5 {n : Nat} : zFit 19 5 (zr n) := zfit_r rfl (by decide +kernel) (by rfl : FieldType.isReference (.object "java/util/ArrayList") = true)
theorem fn_19_6 {y : MethodName} {idx : Nat} : zFin y idx 19 6 := ⟨_, rfl, Or.inl rfl⟩
theorem ft_19_6 {n : Nat} : zFit 19 6 (zr n) := zfit_r rfl (by decide +kernel) (by rfl : FieldType.isReference (.object "RelayHall$Consumer") = true)
theorem fn_19_7 {y : MethodName} {idx : Nat} : zFin y idx 19 7 := ⟨_, rfl, Or.inl rfl⟩
theorem ft_19_7 {x : Int32} : zFit 19 7 (.int x) := zfit_i rfl rfl
theorem fn_19_8 {y : MethodName} {idx : Nat} : zFin y idx 19 8 := ⟨_, rfl, Or.inl rfl⟩
theorem ft_19_8 {x : Int32} : zFit 19 8 (.int x) := zfit_i rfl rfl
theorem fn_19_9 {y : MethodName} {idx : Nat} : zFin y idx 19 9 := ⟨_, rfl, Or.inl rfl⟩
theorem ft_19_9 {x : Int32} (h : x = 0 ∨ x = 1) : zFit 19 9 (.int x) := zfit_z rfl rfl h
theorem fn_19_10 {y : MethodName} {idx : Nat} : zFin y idx 19 10 := ⟨_, rfl, Or.inl rfl⟩
theorem ft_19_10 {x : Int64} : zFit 19 10 (.long x) := zfit_j rfl rfl
theorem ft_20_0 {n : Nat} : zFit 20 0 (zr n) := zfit_r rfl (by decide +kernel) (by rfl : FieldType.isReference (.object "RelayHall$MessageQueue") = true)
theorem ft_21_0 {n : Nat} : zFit 21 0 (zr n) := zfit_r rfl (by decide +kernel) (by rfl : FieldType.isReference (.object "RelayHall$Exchange") = true)
theorem ft_21_1 {n : Nat} : zFit 21 1 (zr n) := zfit_r rfl (by decide +kernel) (by rfl : FieldType.isReference (.object "RelayHall$MessageQueue") = true)
theorem ft_21_2 {n : Nat} : zFit 21 2 (zr n) := zfit_r rfl (by decide +kernel) (by rfl : FieldType.isReference (.object "java/lang/String") = true)
theorem ft_21_3 {n : Nat} : zFit 21 3 (zr n) := zfit_r rfl (by decide +kernel) (by rfl : FieldType.isReference (.object "RelayHall$Table") = true)
theorem ft_21_4 {n : Nat} : zFit 21 4 (zr n) := zfit_r rfl (by decide +kernel) (by rfl : FieldType.isReference (.object "java/util/ArrayList") = true)
theorem ft_22_0 {n : Nat} : zFit 22 0 (zr n) := zfit_r rfl (by decide +kernel) (by rfl : FieldType.isReference (.object "java/lang/String") = true)
theorem ft_22_1 {n : Nat} : zFit 22 1 (zr n) := zfit_r rfl (by decide +kernel) (by rfl : FieldType.isReference (.object "java/lang/String") = true)
theorem ft_22_2 {n : Nat} : zFit 22 2 (zr n) := zfit_r rfl (by decide +kernel) (by rfl : FieldType.isReference (.object "java/lang/String") = true)
theorem ft_22_3 {n : Nat} : zFit 22 3 (zr n) := zfit_r rfl (by decide +kernel) (by rfl : FieldType.isReference (.object "RelayHall$Table") = true)
theorem ft_23_0 {n : Nat} : zFit 23 0 (zr n) := zfit_r rfl (by decide +kernel) (by rfl : FieldType.isReference (.object "RelayHall$Bound") = true)
theorem ft_24_0 {n : Nat} : zFit 24 0 (zr n) := zfit_r rfl (by decide +kernel) (by rfl : FieldType.isReference (.object "RelayHall$Channel") = true)
theorem ft_24_1 {n : Nat} : zFit 24 1 (zr n) := zfit_r rfl (by decide +kernel) (by rfl : FieldType.isReference (.object "java/lang/String") = true)
theorem ft_24_2 {n : Nat} : zFit 24 2 (zr n) := zfit_r rfl (by decide +kernel) (by rfl : FieldType.isReference (.object "RelayHall$MessageQueue") = true)
theorem ft_24_3 {x : Int32} (h : x = 0 ∨ x = 1) : zFit 24 3 (.int x) := zfit_z rfl rfl h
theorem ft_24_4 {x : Int32} (h : x = 0 ∨ x = 1) : zFit 24 4 (.int x) := zfit_z rfl rfl h
theorem ft_24_5 {x : Int32} : zFit 24 5 (.int x) := zfit_i rfl rfl
theorem fn_24_6 {y : MethodName} {idx : Nat} : zFin y idx 24 6 := ⟨_, rfl, Or.inl rfl⟩
theorem ft_24_6 {x : Int32} : zFit 24 6 (.int x) := zfit_i rfl rfl
theorem fn_25_0 {y : MethodName} {idx : Nat} : zFin y idx 25 0 := ⟨_, rfl, Or.inl rfl⟩
theorem ft_25_0 {n : Nat} : zFit 25 0 (zr n) := zfit_r rfl (by decide +kernel) (by rfl : FieldType.isReference (.object "java/lang/String") = true)
theorem fn_25_1 {y : MethodName} {idx : Nat} : zFin y idx 25 1 := ⟨_, rfl, Or.inl rfl⟩
theorem ft_25_1 {n : Nat} : zFit 25 1 (zr n) := zfit_r rfl (by decide +kernel) (by rfl : FieldType.isReference (.object "java/lang/String") = true)
theorem fn_25_2 {y : MethodName} {idx : Nat} : zFin y idx 25 2 := ⟨_, rfl, Or.inl rfl⟩
theorem ft_25_2 {x : Int32} : zFit 25 2 (.int x) := zfit_i rfl rfl
theorem fn_25_3 {y : MethodName} {idx : Nat} : zFin y idx 25 3 := ⟨_, rfl, Or.inl rfl⟩
theorem ft_25_3 {x : Int64} : zFit 25 3 (.long x) := zfit_j rfl rfl
theorem fn_25_4 {y : MethodName} {idx : Nat} : zFin y idx 25 4 := ⟨_, rfl, Or.inl rfl⟩
theorem ft_25_4 {x : Int32} (h : x = 0 ∨ x = 1) : zFit 25 4 (.int x) := zfit_z rfl rfl h
theorem fn_25_5 {y : MethodName} {idx : Nat} : zFin y idx 25 5 := ⟨_, rfl, Or.inl rfl⟩
theorem ft_25_5 {n : Nat} : zFit 25 5 (zr n) := zfit_r rfl (by decide +kernel) (by rfl : FieldType.isReference (.object "RelayHall$Table") = true)
theorem fn_25_6 {y : MethodName} {idx : Nat} : zFin y idx 25 6 := ⟨_, rfl, Or.inl rfl⟩
theorem ft_25_6 {n : Nat} : zFit 25 6 (zr n) := zfit_r rfl (by decide +kernel) (by rfl : FieldType.isReference ((.array .byte)) = true)
theorem fn_25_7 {y : MethodName} {idx : Nat} : zFin y idx 25 7 := ⟨_, rfl, Or.inl rfl⟩
theorem ft_25_7 {x : Int32} : zFit 25 7 (.int x) := zfit_i rfl rfl
theorem ft_26_0 {x : Int32} : zFit 26 0 (.int x) := zfit_i rfl rfl
theorem ft_26_1 {n : Nat} : zFit 26 1 (zr n) := zfit_r rfl (by decide +kernel) (by rfl : FieldType.isReference (.object "RelayHall$Message") = true)
theorem ft_26_2 {n : Nat} : zFit 26 2 (zr n) := zfit_r rfl (by decide +kernel) (by rfl : FieldType.isReference (.object "RelayHall$MessageQueue") = true)
theorem ft_26_3 {n : Nat} : zFit 26 3 (zr n) := zfit_r rfl (by decide +kernel) (by rfl : FieldType.isReference (.object "RelayHall$Consumer") = true)
theorem fn_26_4 {y : MethodName} {idx : Nat} : zFin y idx 26 4 := ⟨_, rfl, Or.inl rfl⟩
theorem ft_26_4 {x : Int32} (h : x = 0 ∨ x = 1) : zFit 26 4 (.int x) := zfit_z rfl rfl h
theorem ft_27_0 {n : Nat} : zFit 27 0 (zr n) := zfit_r rfl (by decide +kernel) (by rfl : FieldType.isReference (.object "java/util/ArrayList") = true)
theorem ft_27_1 {x : Int32} : zFit 27 1 (.int x) := zfit_i rfl rfl
theorem ft_28_0 {n : Nat} : zFit 28 0 (zr n) := zfit_r rfl (by decide +kernel) (by rfl : FieldType.isReference (.object "RelayHall$Content") = true)
theorem ft_28_1 {x : Int32} : zFit 28 1 (.int x) := zfit_i rfl rfl
theorem ft_28_2 {x : Int32} : zFit 28 2 (.int x) := zfit_i rfl rfl
theorem ft_28_3 {x : Int32} : zFit 28 3 (.int x) := zfit_i rfl rfl
theorem fn_28_4 {y : MethodName} {idx : Nat} : zFin y idx 28 4 := ⟨_, rfl, Or.inl rfl⟩
theorem ft_28_4 {x : Int32} : zFit 28 4 (.int x) := zfit_i rfl rfl
theorem fn_28_5 {y : MethodName} {idx : Nat} : zFin y idx 28 5 := ⟨_, rfl, Or.inl rfl⟩
theorem ft_28_5 {x : Int32} (h : x = 0 ∨ x = 1) : zFit 28 5 (.int x) := zfit_z rfl rfl h
theorem ft_29_0 {n : Nat} : zFit 29 0 (zr n) := zfit_r rfl (by decide +kernel) (by rfl : FieldType.isReference (.object "java/lang/String") = true)
theorem ft_29_1 {n : Nat} : zFit 29 1 (zr n) := zfit_r rfl (by decide +kernel) (by rfl : FieldType.isReference (.object "RelayHall$Message") = true)
theorem ft_30_0 {n : Nat} : zFit 30 0 (zr n) := zfit_r rfl (by decide +kernel) (by rfl : FieldType.isReference (.object "RelayHall$Content") = true)
theorem ft_30_1 {x : Int32} (h : x = 0 ∨ x = 1) : zFit 30 1 (.int x) := zfit_z rfl rfl h
theorem fn_31_0 {y : MethodName} {idx : Nat} : zFin y idx 31 0 := ⟨_, rfl, Or.inl rfl⟩
theorem ft_31_0 {x : Int32} : zFit 31 0 (.int x) := zfit_i rfl rfl
theorem fn_31_1 {y : MethodName} {idx : Nat} : zFin y idx 31 1 := ⟨_, rfl, Or.inl rfl⟩
theorem ft_31_1 {n : Nat} : zFit 31 1 (zr n) := zfit_r rfl (by decide +kernel) (by rfl : FieldType.isReference (.object "RelayHallModel$Exchange") = true)
theorem fn_31_2 {y : MethodName} {idx : Nat} : zFin y idx 31 2 := ⟨_, rfl, Or.inl rfl⟩
theorem ft_31_2 {n : Nat} : zFit 31 2 (zr n) := zfit_r rfl (by decide +kernel) (by rfl : FieldType.isReference (.object "RelayHallModel$Queue") = true)
theorem fn_31_3 {y : MethodName} {idx : Nat} : zFin y idx 31 3 := ⟨_, rfl, Or.inl rfl⟩
theorem ft_31_3 {n : Nat} : zFit 31 3 (zr n) := zfit_r rfl (by decide +kernel) (by rfl : FieldType.isReference (.object "RelayHallModel$Binding") = true)
theorem fn_31_4 {y : MethodName} {idx : Nat} : zFin y idx 31 4 := ⟨_, rfl, Or.inl rfl⟩
theorem ft_31_4 {n : Nat} : zFit 31 4 (zr n) := zfit_r rfl (by decide +kernel) (by rfl : FieldType.isReference (.object "RelayHallModel$Entry") = true)
theorem fn_32_0 {y : MethodName} {idx : Nat} : zFin y idx 32 0 := ⟨_, rfl, Or.inl rfl⟩
theorem ft_32_0 {n : Nat} : zFit 32 0 (zr n) := zfit_r rfl (by decide +kernel) (by rfl : FieldType.isReference (.object "RelayHallModel$Entry") = true)
theorem fn_32_1 {y : MethodName} {idx : Nat} : zFin y idx 32 1 := ⟨_, rfl, Or.inl rfl⟩
theorem ft_32_1 {n : Nat} : zFit 32 1 (zr n) := zfit_r rfl (by decide +kernel) (by rfl : FieldType.isReference ((.array .byte)) = true)
theorem fn_32_2 {y : MethodName} {idx : Nat} : zFin y idx 32 2 := ⟨_, rfl, Or.inl rfl⟩
theorem ft_32_2 {n : Nat} : zFit 32 2 (zr n) := zfit_r rfl (by decide +kernel) (by rfl : FieldType.isReference ((.array .byte)) = true)
theorem fn_33_0 {y : MethodName} {idx : Nat} : zFin y idx 33 0 := ⟨_, rfl, Or.inl rfl⟩
theorem ft_33_0 {n : Nat} : zFit 33 0 (zr n) := zfit_r rfl (by decide +kernel) (by rfl : FieldType.isReference (.object "RelayHallModel$Content") = true)
theorem fn_33_1 {y : MethodName} {idx : Nat} : zFin y idx 33 1 := ⟨_, rfl, Or.inl rfl⟩
theorem ft_33_1 {n : Nat} : zFit 33 1 (zr n) := zfit_r rfl (by decide +kernel) (by rfl : FieldType.isReference ((.array .byte)) = true)
theorem fn_33_2 {y : MethodName} {idx : Nat} : zFin y idx 33 2 := ⟨_, rfl, Or.inl rfl⟩
theorem ft_33_2 {n : Nat} : zFit 33 2 (zr n) := zfit_r rfl (by decide +kernel) (by rfl : FieldType.isReference ((.array .byte)) = true)
theorem fn_33_3 {y : MethodName} {idx : Nat} : zFin y idx 33 3 := ⟨_, rfl, Or.inl rfl⟩
theorem ft_33_3 {x : Int64} : zFit 33 3 (.long x) := zfit_j rfl rfl
theorem fn_33_4 {y : MethodName} {idx : Nat} : zFin y idx 33 4 := ⟨_, rfl, Or.inl rfl⟩
theorem ft_33_4 {n : Nat} : zFit 33 4 (zr n) := zfit_r rfl (by decide +kernel) (by rfl : FieldType.isReference (.object "RelayHallModel$Queue") = true)
theorem fn_33_5 {y : MethodName} {idx : Nat} : zFin y idx 33 5 := ⟨_, rfl, Or.inl rfl⟩
theorem ft_33_5 {x : Int32} : zFit 33 5 (.int x) := zfit_i rfl rfl
theorem fn_33_6 {y : MethodName} {idx : Nat} : zFin y idx 33 6 := ⟨_, rfl, Or.inl rfl⟩
theorem ft_33_6 {x : Int32} : zFit 33 6 (.int x) := zfit_i rfl rfl
theorem fn_33_7 {y : MethodName} {idx : Nat} : zFin y idx 33 7 := ⟨_, rfl, Or.inl rfl⟩
theorem ft_33_7 {x : Int32} : zFit 33 7 (.int x) := zfit_i rfl rfl
theorem fn_33_8 {y : MethodName} {idx : Nat} : zFin y idx 33 8 := ⟨_, rfl, Or.inl rfl⟩
theorem ft_33_8 {x : Int32} : zFit 33 8 (.int x) := zfit_i rfl rfl
theorem fn_33_9 {y : MethodName} {idx : Nat} : zFin y idx 33 9 := ⟨_, rfl, Or.inl rfl⟩
theorem ft_33_9 {x : Int32} (h : x = 0 ∨ x = 1) : zFit 33 9 (.int x) := zfit_z rfl rfl h
theorem fn_34_0 {y : MethodName} {idx : Nat} : zFin y idx 34 0 := ⟨_, rfl, Or.inl rfl⟩
theorem ft_34_0 {x : Int32} : zFit 34 0 (.int x) := zfit_i rfl rfl
theorem fn_34_1 {y : MethodName} {idx : Nat} : zFin y idx 34 1 := ⟨_, rfl, Or.inl rfl⟩
theorem ft_34_1 {n : Nat} : zFit 34 1 (zr n) := zfit_r rfl (by decide +kernel) (by rfl : FieldType.isReference (.object "RelayHallModel$Entry") = true)
theorem fn_34_2 {y : MethodName} {idx : Nat} : zFin y idx 34 2 := ⟨_, rfl, Or.inl rfl⟩
theorem ft_34_2 {n : Nat} : zFit 34 2 (zr n) := zfit_r rfl (by decide +kernel) (by rfl : FieldType.isReference (.object "RelayHallModel$Consumer") = true)
theorem fn_34_3 {y : MethodName} {idx : Nat} : zFin y idx 34 3 := ⟨_, rfl, Or.inl rfl⟩
theorem ft_34_3 {x : Int32} (h : x = 0 ∨ x = 1) : zFit 34 3 (.int x) := zfit_z rfl rfl h
theorem fn_35_0 {y : MethodName} {idx : Nat} : zFin y idx 35 0 := ⟨_, rfl, Or.inl rfl⟩
theorem ft_35_0 {x : Int32} : zFit 35 0 (.int x) := zfit_i rfl rfl
theorem ft_35_1 {n : Nat} : zFit 35 1 (zr n) := zfit_r rfl (by decide +kernel) (by rfl : FieldType.isReference ((.array (.array .byte))) = true)
theorem ft_35_2 {n : Nat} : zFit 35 2 (zr n) := zfit_r rfl (by decide +kernel) (by rfl : FieldType.isReference ((.array .int)) = true)
theorem ft_35_3 {n : Nat} : zFit 35 3 (zr n) := zfit_r rfl (by decide +kernel) (by rfl : FieldType.isReference ((.array .int)) = true)
theorem ft_35_4 {n : Nat} : zFit 35 4 (zr n) := zfit_r rfl (by decide +kernel) (by rfl : FieldType.isReference ((.array (.array .byte))) = true)
theorem fn_35_5 {y : MethodName} {idx : Nat} : zFin y idx 35 5 := ⟨_, rfl, Or.inl rfl⟩
theorem ft_35_5 {n : Nat} : zFit 35 5 (zr n) := zfit_r rfl (by decide +kernel) (by rfl : FieldType.isReference ((.array .byte)) = true)
theorem fn_36_0 {y : MethodName} {idx : Nat} : zFin y idx 36 0 := ⟨_, rfl, Or.inl rfl⟩
theorem ft_36_0 {n : Nat} : zFit 36 0 (zr n) := zfit_r rfl (by decide +kernel) (by rfl : FieldType.isReference ((.array .byte)) = true)
theorem fn_36_1 {y : MethodName} {idx : Nat} : zFin y idx 36 1 := ⟨_, rfl, Or.inl rfl⟩
theorem ft_36_1 {x : Int32} : zFit 36 1 (.int x) := zfit_i rfl rfl
theorem fn_36_2 {y : MethodName} {idx : Nat} : zFin y idx 36 2 := ⟨_, rfl, Or.inl rfl⟩
theorem ft_36_2 {x : Int32} (h : x = 0 ∨ x = 1) : zFit 36 2 (.int x) := zfit_z rfl rfl h
theorem fn_36_3 {y : MethodName} {idx : Nat} : zFin y idx 36 3 := ⟨_, rfl, Or.inl rfl⟩
theorem ft_36_3 {x : Int32} (h : x = 0 ∨ x = 1) : zFit 36 3 (.int x) := zfit_z rfl rfl h
theorem fn_36_4 {y : MethodName} {idx : Nat} : zFin y idx 36 4 := ⟨_, rfl, Or.inl rfl⟩
theorem ft_36_4 {x : Int32} (h : x = 0 ∨ x = 1) : zFit 36 4 (.int x) := zfit_z rfl rfl h
theorem fn_36_5 {y : MethodName} {idx : Nat} : zFin y idx 36 5 := ⟨_, rfl, Or.inl rfl⟩
theorem ft_36_5 {x : Int32} (h : x = 0 ∨ x = 1) : zFit 36 5 (.int x) := zfit_z rfl rfl h
theorem fn_36_6 {y : MethodName} {idx : Nat} : zFin y idx 36 6 := ⟨_, rfl, Or.inl rfl⟩
theorem ft_36_6 {n : Nat} : zFit 36 6 (zr n) := zfit_r rfl (by decide +kernel) (by rfl : FieldType.isReference ((.array .byte)) = true)
theorem fn_37_0 {y : MethodName} {idx : Nat} : zFin y idx 37 0 := ⟨_, rfl, Or.inl rfl⟩
theorem ft_37_0 {n : Nat} : zFit 37 0 (zr n) := zfit_r rfl (by decide +kernel) (by rfl : FieldType.isReference ((.array .byte)) = true)
theorem fn_37_1 {y : MethodName} {idx : Nat} : zFin y idx 37 1 := ⟨_, rfl, Or.inl rfl⟩
theorem ft_37_1 {x : Int32} (h : x = 0 ∨ x = 1) : zFit 37 1 (.int x) := zfit_z rfl rfl h
theorem fn_37_2 {y : MethodName} {idx : Nat} : zFin y idx 37 2 := ⟨_, rfl, Or.inl rfl⟩
theorem ft_37_2 {x : Int32} (h : x = 0 ∨ x = 1) : zFit 37 2 (.int x) := zfit_z rfl rfl h
theorem fn_37_3 {y : MethodName} {idx : Nat} : zFin y idx 37 3 := ⟨_, rfl, Or.inl rfl⟩
theorem ft_37_3 {x : Int32} (h : x = 0 ∨ x = 1) : zFit 37 3 (.int x) := zfit_z rfl rfl h
theorem fn_37_4 {y : MethodName} {idx : Nat} : zFin y idx 37 4 := ⟨_, rfl, Or.inl rfl⟩
theorem ft_37_4 {x : Int32} (h : x = 0 ∨ x = 1) : zFit 37 4 (.int x) := zfit_z rfl rfl h
theorem fn_37_5 {y : MethodName} {idx : Nat} : zFin y idx 37 5 := ⟨_, rfl, Or.inl rfl⟩
theorem ft_37_5 {n : Nat} : zFit 37 5 (zr n) := zfit_r rfl (by decide +kernel) (by rfl : FieldType.isReference (.object "RelayHallModel$Connection") = true)
theorem fn_37_6 {y : MethodName} {idx : Nat} : zFin y idx 37 6 := ⟨_, rfl, Or.inl rfl⟩
theorem ft_37_6 {x : Int32} : zFit 37 6 (.int x) := zfit_i rfl rfl
theorem fn_37_7 {y : MethodName} {idx : Nat} : zFin y idx 37 7 := ⟨_, rfl, Or.inl rfl⟩
theorem ft_37_7 {x : Int32} : zFit 37 7 (.int x) := zfit_i rfl rfl
theorem fn_37_8 {y : MethodName} {idx : Nat} : zFin y idx 37 8 := ⟨_, rfl, Or.inl rfl⟩
theorem ft_37_8 {x : Int32} : zFit 37 8 (.int x) := zfit_i rfl rfl
theorem fn_37_9 {y : MethodName} {idx : Nat} : zFin y idx 37 9 := ⟨_, rfl, Or.inl rfl⟩
theorem ft_37_9 {n : Nat} : zFit 37 9 (zr n) := zfit_r rfl (by decide +kernel) (by rfl : FieldType.isReference ((.array .byte)) = true)
theorem fn_37_10 {y : MethodName} {idx : Nat} : zFin y idx 37 10 := ⟨_, rfl, Or.inl rfl⟩
theorem ft_37_10 {n : Nat} : zFit 37 10 (zr n) := zfit_r rfl (by decide +kernel) (by rfl : FieldType.isReference ((.array .byte)) = true)
theorem ft_37_11 {n : Nat} : zFit 37 11 (zr n) := zfit_r rfl (by decide +kernel) (by rfl : FieldType.isReference ((.array (.object "RelayHallModel$Entry"))) = true)
theorem fn_37_12 {y : MethodName} {idx : Nat} : zFin y idx 37 12 := ⟨_, rfl, Or.inl rfl⟩
theorem ft_37_12 {x : Int32} : zFit 37 12 (.int x) := zfit_i rfl rfl
theorem fn_37_13 {y : MethodName} {idx : Nat} : zFin y idx 37 13 := ⟨_, rfl, Or.inl rfl⟩
theorem ft_37_13 {n : Nat} : zFit 37 13 (zr n) := zfit_r rfl (by decide +kernel) (by rfl : FieldType.isReference (.object "RelayHallModel$Consumer") = true)
theorem fn_38_0 {y : MethodName} {idx : Nat} : zFin y idx 38 0 := ⟨_, rfl, Or.inl rfl⟩
theorem ft_38_0 {n : Nat} : zFit 38 0 (zr n) := zfit_r rfl (by decide +kernel) (by rfl : FieldType.isReference (.object "RelayHallModel$Queue") = true)
theorem fn_38_1 {y : MethodName} {idx : Nat} : zFin y idx 38 1 := ⟨_, rfl, Or.inl rfl⟩
theorem ft_38_1 {n : Nat} : zFit 38 1 (zr n) := zfit_r rfl (by decide +kernel) (by rfl : FieldType.isReference (.object "RelayHallModel$Exchange") = true)
theorem fn_38_2 {y : MethodName} {idx : Nat} : zFin y idx 38 2 := ⟨_, rfl, Or.inl rfl⟩
theorem ft_38_2 {n : Nat} : zFit 38 2 (zr n) := zfit_r rfl (by decide +kernel) (by rfl : FieldType.isReference ((.array .byte)) = true)
theorem fn_38_3 {y : MethodName} {idx : Nat} : zFin y idx 38 3 := ⟨_, rfl, Or.inl rfl⟩
theorem ft_38_3 {n : Nat} : zFit 38 3 (zr n) := zfit_r rfl (by decide +kernel) (by rfl : FieldType.isReference (.object "RelayHallModel$Table") = true)
theorem fn_39_0 {y : MethodName} {idx : Nat} : zFin y idx 39 0 := ⟨_, rfl, Or.inl rfl⟩
theorem ft_39_0 {n : Nat} : zFit 39 0 (zr n) := zfit_r rfl (by decide +kernel) (by rfl : FieldType.isReference ((.array .byte)) = true)
theorem fn_39_1 {y : MethodName} {idx : Nat} : zFin y idx 39 1 := ⟨_, rfl, Or.inl rfl⟩
theorem ft_39_1 {n : Nat} : zFit 39 1 (zr n) := zfit_r rfl (by decide +kernel) (by rfl : FieldType.isReference (.object "RelayHallModel$Queue") = true)
theorem fn_39_2 {y : MethodName} {idx : Nat} : zFin y idx 39 2 := ⟨_, rfl, Or.inl rfl⟩
theorem ft_39_2 {n : Nat} : zFit 39 2 (zr n) := zfit_r rfl (by decide +kernel) (by rfl : FieldType.isReference (.object "RelayHallModel$Channel") = true)
theorem fn_39_3 {y : MethodName} {idx : Nat} : zFin y idx 39 3 := ⟨_, rfl, Or.inl rfl⟩
theorem ft_39_3 {x : Int32} (h : x = 0 ∨ x = 1) : zFit 39 3 (.int x) := zfit_z rfl rfl h
theorem fn_39_4 {y : MethodName} {idx : Nat} : zFin y idx 39 4 := ⟨_, rfl, Or.inl rfl⟩
theorem ft_39_4 {x : Int32} (h : x = 0 ∨ x = 1) : zFit 39 4 (.int x) := zfit_z rfl rfl h
theorem fn_39_5 {y : MethodName} {idx : Nat} : zFin y idx 39 5 := ⟨_, rfl, Or.inl rfl⟩
theorem ft_39_5 {x : Int32} : zFit 39 5 (.int x) := zfit_i rfl rfl
theorem fn_40_0 {y : MethodName} {idx : Nat} : zFin y idx 40 0 := ⟨_, rfl, Or.inl rfl⟩
theorem ft_40_0 {n : Nat} : zFit 40 0 (zr n) := zfit_r rfl (by decide +kernel) (by rfl : FieldType.isReference ((.array .byte)) = true)
theorem fn_40_1 {y : MethodName} {idx : Nat} : zFin y idx 40 1 := ⟨_, rfl, Or.inl rfl⟩
theorem ft_40_1 {n : Nat} : zFit 40 1 (zr n) := zfit_r rfl (by decide +kernel) (by rfl : FieldType.isReference ((.array .byte)) = true)
theorem fn_40_2 {y : MethodName} {idx : Nat} : zFin y idx 40 2 := ⟨_, rfl, Or.inl rfl⟩
theorem ft_40_2 {x : Int32} (h : x = 0 ∨ x = 1) : zFit 40 2 (.int x) := zfit_z rfl rfl h
theorem fn_40_3 {y : MethodName} {idx : Nat} : zFin y idx 40 3 := ⟨_, rfl, Or.inl rfl⟩
theorem ft_40_3 {x : Int32} (h : x = 0 ∨ x = 1) : zFit 40 3 (.int x) := zfit_z rfl rfl h
theorem fn_40_4 {y : MethodName} {idx : Nat} : zFin y idx 40 4 := ⟨_, rfl, Or.inl rfl⟩
theorem ft_40_4 {x : Int32} : zFit 40 4 (.int x) := zfit_i rfl rfl
theorem fn_40_5 {y : MethodName} {idx : Nat} : zFin y idx 40 5 := ⟨_, rfl, Or.inl rfl⟩
theorem ft_40_5 {x : Int64} : zFit 40 5 (.long x) := zfit_j rfl rfl
theorem fn_40_6 {y : MethodName} {idx : Nat} : zFin y idx 40 6 := ⟨_, rfl, Or.inl rfl⟩
theorem ft_40_6 {n : Nat} : zFit 40 6 (zr n) := zfit_r rfl (by decide +kernel) (by rfl : FieldType.isReference (.object "RelayHallModel$Table") = true)
theorem fn_40_7 {y : MethodName} {idx : Nat} : zFin y idx 40 7 := ⟨_, rfl, Or.inl rfl⟩
theorem ft_40_7 {n : Nat} : zFit 40 7 (zr n) := zfit_r rfl (by decide +kernel) (by rfl : FieldType.isReference ((.array .byte)) = true)
theorem fn_40_8 {y : MethodName} {idx : Nat} : zFin y idx 40 8 := ⟨_, rfl, Or.inl rfl⟩
theorem ft_40_8 {x : Int32} : zFit 40 8 (.int x) := zfit_i rfl rfl
theorem fn_41_0 {y : MethodName} {idx : Nat} : zFin y idx 41 0 := ⟨_, rfl, Or.inl rfl⟩
theorem ft_41_0 {n : Nat} : zFit 41 0 (zr n) := zfit_r rfl (by decide +kernel) (by rfl : FieldType.isReference (.object "RelayHallModel$Content") = true)
theorem fn_41_1 {y : MethodName} {idx : Nat} : zFin y idx 41 1 := ⟨_, rfl, Or.inl rfl⟩
theorem ft_41_1 {x : Int32} : zFit 41 1 (.int x) := zfit_i rfl rfl
theorem fn_41_2 {y : MethodName} {idx : Nat} : zFin y idx 41 2 := ⟨_, rfl, Or.inl rfl⟩
theorem ft_41_2 {n : Nat} : zFit 41 2 (zr n) := zfit_r rfl (by decide +kernel) (by rfl : FieldType.isReference ((.array (.object "RelayHallModel$Sent"))) = true)
theorem ft_42_0 {n : Nat} : zFit 42 0 (zr n) := zfit_r rfl (by decide +kernel) (by rfl : FieldType.isReference (.object "RelayHall$MessageQueue") = true)
theorem ft_42_1 {n : Nat} : zFit 42 1 (zr n) := zfit_r rfl (by decide +kernel) (by rfl : FieldType.isReference (.object "java/util/TreeMap") = true)
theorem fn_43_0 {y : MethodName} {idx : Nat} : zFin y idx 43 0 := ⟨_, rfl, Or.inl rfl⟩
theorem ft_43_0 {n : Nat} : zFit 43 0 (zr n) := zfit_r rfl (by decide +kernel) (by rfl : FieldType.isReference ((.array (.object "java/util/HashMap$Node"))) = true)
theorem fn_43_1 {y : MethodName} {idx : Nat} : zFin y idx 43 1 := ⟨_, rfl, Or.inl rfl⟩
theorem ft_43_1 {n : Nat} : zFit 43 1 (zr n) := zfit_r rfl (by decide +kernel) (by rfl : FieldType.isReference (.object "java/util/Set") = true)
theorem fn_43_2 {y : MethodName} {idx : Nat} : zFin y idx 43 2 := ⟨_, rfl, Or.inl rfl⟩
theorem ft_43_2 {x : Int32} : zFit 43 2 (.int x) := zfit_i rfl rfl
theorem fn_43_3 {y : MethodName} {idx : Nat} : zFin y idx 43 3 := ⟨_, rfl, Or.inl rfl⟩
theorem ft_43_3 {x : Int32} : zFit 43 3 (.int x) := zfit_i rfl rfl
theorem fn_43_4 {y : MethodName} {idx : Nat} : zFin y idx 43 4 := ⟨_, rfl, Or.inl rfl⟩
theorem ft_43_4 {x : Int32} : zFit 43 4 (.int x) := zfit_i rfl rfl
theorem ft_43_5 : zFit 43 5 (.float 1061158912) := zfit_f rfl rfl rfl rfl
theorem fn_43_6 {y : MethodName} {idx : Nat} : zFin y idx 43 6 := ⟨_, rfl, Or.inl rfl⟩
theorem ft_43_6 {n : Nat} : zFit 43 6 (zr n) := zfit_r rfl (by decide +kernel) (by rfl : FieldType.isReference (.object "java/util/Set") = true)
theorem fn_43_7 {y : MethodName} {idx : Nat} : zFin y idx 43 7 := ⟨_, rfl, Or.inl rfl⟩
theorem ft_43_7 {n : Nat} : zFit 43 7 (zr n) := zfit_r rfl (by decide +kernel) (by rfl : FieldType.isReference (.object "java/util/Collection") = true)
theorem fn_43_8 {y : MethodName} {idx : Nat} : zFin y idx 43 8 := ⟨_, rfl, Or.inl rfl⟩
theorem ft_43_8 {n : Nat} : zFit 43 8 (zr n) := zfit_r rfl (by decide +kernel) (by rfl : FieldType.isReference (.object "java/util/LinkedHashMap$Entry") = true)
theorem fn_43_9 {y : MethodName} {idx : Nat} : zFin y idx 43 9 := ⟨_, rfl, Or.inl rfl⟩
theorem ft_43_9 {n : Nat} : zFit 43 9 (zr n) := zfit_r rfl (by decide +kernel) (by rfl : FieldType.isReference (.object "java/util/LinkedHashMap$Entry") = true)
theorem ft_43_10 {x : Int32} (h : x = 0 ∨ x = 1) : zFit 43 10 (.int x) := zfit_z rfl rfl h
theorem fn_43_11 {y : MethodName} {idx : Nat} : zFin y idx 43 11 := ⟨_, rfl, Or.inl rfl⟩
theorem ft_43_11 {x : Int32} : zFit 43 11 (.int x) := zfit_i rfl rfl
theorem fn_44_0 {y : MethodName} {idx : Nat} : zFin y idx 44 0 := ⟨_, rfl, Or.inl rfl⟩
theorem ft_44_0 {x : Int32} : zFit 44 0 (.int x) := zfit_i rfl rfl
theorem fn_44_1 {y : MethodName} {idx : Nat} : zFin y idx 44 1 := ⟨_, rfl, Or.inl rfl⟩
theorem ft_44_1 {n : Nat} : zFit 44 1 (zr n) := zfit_r rfl (by decide +kernel) (by rfl : FieldType.isReference ((.array (.object "java/lang/Object"))) = true)
theorem fn_44_2 {y : MethodName} {idx : Nat} : zFin y idx 44 2 := ⟨_, rfl, Or.inl rfl⟩
theorem ft_44_2 {x : Int32} : zFit 44 2 (.int x) := zfit_i rfl rfl
theorem fn_45_0 {y : MethodName} {idx : Nat} : zFin y idx 45 0 := ⟨_, rfl, Or.inl rfl⟩
theorem ft_45_0 {n : Nat} : zFit 45 0 (zr n) := zfit_r rfl (by decide +kernel) (by rfl : FieldType.isReference ((.array (.object "java/lang/Object"))) = true)
theorem fn_45_1 {y : MethodName} {idx : Nat} : zFin y idx 45 1 := ⟨_, rfl, Or.inl rfl⟩
theorem ft_45_1 {x : Int32} : zFit 45 1 (.int x) := zfit_i rfl rfl
theorem fn_45_2 {y : MethodName} {idx : Nat} : zFin y idx 45 2 := ⟨_, rfl, Or.inl rfl⟩
theorem ft_45_2 {x : Int32} : zFit 45 2 (.int x) := zfit_i rfl rfl
theorem fn_46_0 {y : MethodName} {idx : Nat} : zFin y idx 46 0 := ⟨_, rfl, Or.inl rfl⟩
theorem ft_46_0 {n : Nat} : zFit 46 0 (zr n) := zfit_r rfl (by decide +kernel) (by rfl : FieldType.isReference (.object "java/lang/Throwable") = true)
theorem fn_46_1 {y : MethodName} {idx : Nat} : zFin y idx 46 1 := ⟨_, rfl, Or.inl rfl⟩
theorem ft_46_1 {n : Nat} : zFit 46 1 (zr n) := zfit_r rfl (by decide +kernel) (by rfl : FieldType.isReference ((.array (.object "java/lang/StackTraceElement"))) = true)
theorem fn_46_2 {y : MethodName} {idx : Nat} : zFin y idx 46 2 := ⟨_, rfl, Or.inl rfl⟩
theorem ft_46_2 {n : Nat} : zFit 46 2 (zr n) := zfit_r rfl (by decide +kernel) (by rfl : FieldType.isReference (.object "java/util/List") = true)
theorem fn_46_3 {y : MethodName} {idx : Nat} : zFin y idx 46 3 := ⟨_, rfl, Or.inl rfl⟩
theorem ft_46_3 {n : Nat} : zFit 46 3 (zr n) := zfit_r rfl (by decide +kernel) (by rfl : FieldType.isReference (.object "java/lang/String") = true)
theorem fn_46_4 {y : MethodName} {idx : Nat} : zFin y idx 46 4 := ⟨_, rfl, Or.inl rfl⟩
theorem ft_46_4 {n : Nat} : zFit 46 4 (zr n) := zfit_r rfl (by decide +kernel) (by rfl : FieldType.isReference (.object "java/lang/Object") = true)
theorem fn_47_0 {y : MethodName} {idx : Nat} : zFin y idx 47 0 := ⟨_, rfl, Or.inl rfl⟩
theorem ft_47_0 {n : Nat} : zFit 47 0 (zr n) := zfit_r rfl (by decide +kernel) (by rfl : FieldType.isReference (.object "java/util/Set") = true)
theorem fn_47_1 {y : MethodName} {idx : Nat} : zFin y idx 47 1 := ⟨_, rfl, Or.inl rfl⟩
theorem ft_47_1 {n : Nat} : zFit 47 1 (zr n) := zfit_r rfl (by decide +kernel) (by rfl : FieldType.isReference (.object "java/util/Collection") = true)
theorem ft_47_2 {n : Nat} : zFit 47 2 (zr n) := zfit_r rfl (by decide +kernel) (by rfl : FieldType.isReference (.object "java/util/Comparator") = true)
theorem fn_47_3 {y : MethodName} {idx : Nat} : zFin y idx 47 3 := ⟨_, rfl, Or.inl rfl⟩
theorem ft_47_3 {n : Nat} : zFit 47 3 (zr n) := zfit_r rfl (by decide +kernel) (by rfl : FieldType.isReference (.object "java/util/TreeMap$Entry") = true)
theorem fn_47_4 {y : MethodName} {idx : Nat} : zFin y idx 47 4 := ⟨_, rfl, Or.inl rfl⟩
theorem ft_47_4 {x : Int32} : zFit 47 4 (.int x) := zfit_i rfl rfl
theorem fn_47_5 {y : MethodName} {idx : Nat} : zFin y idx 47 5 := ⟨_, rfl, Or.inl rfl⟩
theorem ft_47_5 {x : Int32} : zFit 47 5 (.int x) := zfit_i rfl rfl
theorem fn_47_6 {y : MethodName} {idx : Nat} : zFin y idx 47 6 := ⟨_, rfl, Or.inl rfl⟩
theorem ft_47_6 {n : Nat} : zFit 47 6 (zr n) := zfit_r rfl (by decide +kernel) (by rfl : FieldType.isReference (.object "java/util/TreeMap$EntrySet") = true)
theorem fn_47_7 {y : MethodName} {idx : Nat} : zFin y idx 47 7 := ⟨_, rfl, Or.inl rfl⟩
theorem ft_47_7 {n : Nat} : zFit 47 7 (zr n) := zfit_r rfl (by decide +kernel) (by rfl : FieldType.isReference (.object "java/util/TreeMap$KeySet") = true)
theorem fn_47_8 {y : MethodName} {idx : Nat} : zFin y idx 47 8 := ⟨_, rfl, Or.inl rfl⟩
theorem ft_47_8 {n : Nat} : zFit 47 8 (zr n) := zfit_r rfl (by decide +kernel) (by rfl : FieldType.isReference (.object "java/util/NavigableMap") = true)
theorem ft_48_0 {n : Nat} : zFit 48 0 (zr n) := zfit_r rfl (by decide +kernel) (by rfl : FieldType.isReference ((.array .byte)) = true)
theorem ft_48_1 {x : Int32} (h : narrow .byte (.int x) = .int x ∧ fits .byte (.int x) = true) : zFit 48 1 (.int x) := zfit_b rfl rfl h.1 h.2
theorem fn_48_2 {y : MethodName} {idx : Nat} : zFin y idx 48 2 := ⟨_, rfl, Or.inl rfl⟩
theorem ft_48_2 {x : Int32} : zFit 48 2 (.int x) := zfit_i rfl rfl
theorem fn_48_3 {y : MethodName} {idx : Nat} : zFin y idx 48 3 := ⟨_, rfl, Or.inl rfl⟩
theorem ft_48_3 {x : Int32} (h : x = 0 ∨ x = 1) : zFit 48 3 (.int x) := zfit_z rfl rfl h
theorem ft_49_0 {x : Int32} (h : x = 0 ∨ x = 1) : zFit 49 0 (.int x) := zfit_z rfl rfl h
theorem ft_49_1 {n : Nat} : zFit 49 1 (zr n) := zfit_r rfl (by decide +kernel) (by rfl : FieldType.isReference (.object "java/util/LinkedHashMap") = true)
theorem fn_50_0 {y : MethodName} {idx : Nat} : zFin y idx 50 0 := ⟨_, rfl, Or.inl rfl⟩
theorem ft_50_0 {n : Nat} : zFit 50 0 (zr n) := zfit_r rfl (by decide +kernel) (by rfl : FieldType.isReference (.object "java/lang/Throwable") = true)
theorem fn_50_1 {y : MethodName} {idx : Nat} : zFin y idx 50 1 := ⟨_, rfl, Or.inl rfl⟩
theorem ft_50_1 {n : Nat} : zFit 50 1 (zr n) := zfit_r rfl (by decide +kernel) (by rfl : FieldType.isReference ((.array (.object "java/lang/StackTraceElement"))) = true)
theorem fn_50_2 {y : MethodName} {idx : Nat} : zFin y idx 50 2 := ⟨_, rfl, Or.inl rfl⟩
theorem ft_50_2 {n : Nat} : zFit 50 2 (zr n) := zfit_r rfl (by decide +kernel) (by rfl : FieldType.isReference (.object "java/util/List") = true)
theorem fn_50_3 {y : MethodName} {idx : Nat} : zFin y idx 50 3 := ⟨_, rfl, Or.inl rfl⟩
theorem ft_50_3 {n : Nat} : zFit 50 3 (zr n) := zfit_r rfl (by decide +kernel) (by rfl : FieldType.isReference (.object "java/lang/String") = true)
theorem fn_50_4 {y : MethodName} {idx : Nat} : zFin y idx 50 4 := ⟨_, rfl, Or.inl rfl⟩
theorem ft_50_4 {n : Nat} : zFit 50 4 (zr n) := zfit_r rfl (by decide +kernel) (by rfl : FieldType.isReference (.object "java/lang/Object") = true)
theorem fn_50_5 {y : MethodName} {idx : Nat} : zFin y idx 50 5 := ⟨_, rfl, Or.inl rfl⟩
theorem ft_50_5 {x : Int32} : zFit 50 5 (.int x) := zfit_i rfl rfl
theorem fn_51_0 {y : MethodName} {idx : Nat} : zFin y idx 51 0 := ⟨_, rfl, Or.inl rfl⟩
theorem ft_51_0 {n : Nat} : zFit 51 0 (zr n) := zfit_r rfl (by decide +kernel) (by rfl : FieldType.isReference ((.array .byte)) = true)
theorem fn_51_1 {y : MethodName} {idx : Nat} : zFin y idx 51 1 := ⟨_, rfl, Or.inl rfl⟩
theorem ft_51_1 {x : Int32} (h : narrow .byte (.int x) = .int x ∧ fits .byte (.int x) = true) : zFit 51 1 (.int x) := zfit_b rfl rfl h.1 h.2
theorem fn_51_2 {y : MethodName} {idx : Nat} : zFin y idx 51 2 := ⟨_, rfl, Or.inl rfl⟩
theorem ft_51_2 {x : Int32} (h : x = 0 ∨ x = 1) : zFit 51 2 (.int x) := zfit_z rfl rfl h
theorem fn_51_3 {y : MethodName} {idx : Nat} : zFin y idx 51 3 := ⟨_, rfl, Or.inl rfl⟩
theorem ft_51_3 {x : Int32} : zFit 51 3 (.int x) := zfit_i rfl rfl
theorem ft_52_0 {x : Int32} : zFit 52 0 (.int x) := zfit_i rfl rfl
theorem fn_53_0 {y : MethodName} {idx : Nat} : zFin y idx 53 0 := ⟨_, rfl, Or.inl rfl⟩
theorem ft_53_0 {x : Int32} : zFit 53 0 (.int x) := zfit_i rfl rfl
theorem fn_53_1 {y : MethodName} {idx : Nat} : zFin y idx 53 1 := ⟨_, rfl, Or.inl rfl⟩
theorem ft_53_1 {x : Int32} : zFit 53 1 (.int x) := zfit_i rfl rfl
theorem fn_53_2 {y : MethodName} {idx : Nat} : zFin y idx 53 2 := ⟨_, rfl, Or.inl rfl⟩
theorem ft_53_2 {x : Int32} : zFit 53 2 (.int x) := zfit_i rfl rfl
theorem ft_53_3 {n : Nat} : zFit 53 3 (zr n) := zfit_r rfl (by decide +kernel) (by rfl : FieldType.isReference (.object "java/util/ArrayDeque") = true)
theorem fn_54_0 {y : MethodName} {idx : Nat} : zFin y idx 54 0 := ⟨_, rfl, Or.inl rfl⟩
theorem ft_54_0 {x : Int32} : zFit 54 0 (.int x) := zfit_i rfl rfl
theorem fn_54_1 {y : MethodName} {idx : Nat} : zFin y idx 54 1 := ⟨_, rfl, Or.inl rfl⟩
theorem ft_54_1 {x : Int32} : zFit 54 1 (.int x) := zfit_i rfl rfl
theorem fn_54_2 {y : MethodName} {idx : Nat} : zFin y idx 54 2 := ⟨_, rfl, Or.inl rfl⟩
theorem ft_54_2 {x : Int32} : zFit 54 2 (.int x) := zfit_i rfl rfl
theorem ft_54_3 {n : Nat} : zFit 54 3 (zr n) := zfit_r rfl (by decide +kernel) (by rfl : FieldType.isReference (.object "java/util/ArrayList") = true)
theorem fn_55_0 {y : MethodName} {idx : Nat} : zFin y idx 55 0 := ⟨_, rfl, Or.inl rfl⟩
theorem ft_55_0 {n : Nat} : zFit 55 0 (zr n) := zfit_r rfl (by decide +kernel) (by rfl : FieldType.isReference (.object "java/util/LinkedHashMap$Entry") = true)
theorem fn_55_1 {y : MethodName} {idx : Nat} : zFin y idx 55 1 := ⟨_, rfl, Or.inl rfl⟩
theorem ft_55_1 {n : Nat} : zFit 55 1 (zr n) := zfit_r rfl (by decide +kernel) (by rfl : FieldType.isReference (.object "java/util/LinkedHashMap$Entry") = true)
theorem fn_55_2 {y : MethodName} {idx : Nat} : zFin y idx 55 2 := ⟨_, rfl, Or.inl rfl⟩
theorem ft_55_2 {x : Int32} : zFit 55 2 (.int x) := zfit_i rfl rfl
theorem fn_55_3 {y : MethodName} {idx : Nat} : zFin y idx 55 3 := ⟨_, rfl, Or.inl rfl⟩
theorem ft_55_3 {x : Int32} (h : x = 0 ∨ x = 1) : zFit 55 3 (.int x) := zfit_z rfl rfl h
theorem ft_55_4 {n : Nat} : zFit 55 4 (zr n) := zfit_r rfl (by decide +kernel) (by rfl : FieldType.isReference (.object "java/util/LinkedHashMap") = true)
theorem fn_56_0 {y : MethodName} {idx : Nat} : zFin y idx 56 0 := ⟨_, rfl, Or.inl rfl⟩
theorem ft_56_0 {n : Nat} : zFit 56 0 (zr n) := zfit_r rfl (by decide +kernel) (by rfl : FieldType.isReference (.object "java/util/LinkedHashMap$Entry") = true)
theorem fn_56_1 {y : MethodName} {idx : Nat} : zFin y idx 56 1 := ⟨_, rfl, Or.inl rfl⟩
theorem ft_56_1 {n : Nat} : zFit 56 1 (zr n) := zfit_r rfl (by decide +kernel) (by rfl : FieldType.isReference (.object "java/util/LinkedHashMap$Entry") = true)
theorem fn_56_2 {y : MethodName} {idx : Nat} : zFin y idx 56 2 := ⟨_, rfl, Or.inl rfl⟩
theorem ft_56_2 {x : Int32} : zFit 56 2 (.int x) := zfit_i rfl rfl
theorem fn_56_3 {y : MethodName} {idx : Nat} : zFin y idx 56 3 := ⟨_, rfl, Or.inl rfl⟩
theorem ft_56_3 {x : Int32} (h : x = 0 ∨ x = 1) : zFit 56 3 (.int x) := zfit_z rfl rfl h
theorem ft_56_4 {n : Nat} : zFit 56 4 (zr n) := zfit_r rfl (by decide +kernel) (by rfl : FieldType.isReference (.object "java/util/LinkedHashMap") = true)
theorem fn_57_0 {y : MethodName} {idx : Nat} : zFin y idx 57 0 := ⟨_, rfl, Or.inl rfl⟩
theorem ft_57_0 {n : Nat} : zFit 57 0 (zr n) := zfit_r rfl (by decide +kernel) (by rfl : FieldType.isReference (.object "java/util/TreeMap$Entry") = true)
theorem fn_57_1 {y : MethodName} {idx : Nat} : zFin y idx 57 1 := ⟨_, rfl, Or.inl rfl⟩
theorem ft_57_1 {n : Nat} : zFit 57 1 (zr n) := zfit_r rfl (by decide +kernel) (by rfl : FieldType.isReference (.object "java/util/TreeMap$Entry") = true)
theorem fn_57_2 {y : MethodName} {idx : Nat} : zFin y idx 57 2 := ⟨_, rfl, Or.inl rfl⟩
theorem ft_57_2 {x : Int32} : zFit 57 2 (.int x) := zfit_i rfl rfl
theorem ft_57_3 {n : Nat} : zFit 57 3 (zr n) := zfit_r rfl (by decide +kernel) (by rfl : FieldType.isReference (.object "java/util/TreeMap") = true)
theorem fn_58_0 {y : MethodName} {idx : Nat} : zFin y idx 58 0 := ⟨_, rfl, Or.inl rfl⟩
theorem ft_58_0 {n : Nat} : zFit 58 0 (zr n) := zfit_r rfl (by decide +kernel) (by rfl : FieldType.isReference (.object "java/util/TreeMap$Entry") = true)
theorem fn_58_1 {y : MethodName} {idx : Nat} : zFin y idx 58 1 := ⟨_, rfl, Or.inl rfl⟩
theorem ft_58_1 {n : Nat} : zFit 58 1 (zr n) := zfit_r rfl (by decide +kernel) (by rfl : FieldType.isReference (.object "java/util/TreeMap$Entry") = true)
theorem fn_58_2 {y : MethodName} {idx : Nat} : zFin y idx 58 2 := ⟨_, rfl, Or.inl rfl⟩
theorem ft_58_2 {x : Int32} : zFit 58 2 (.int x) := zfit_i rfl rfl
theorem ft_58_3 {n : Nat} : zFit 58 3 (zr n) := zfit_r rfl (by decide +kernel) (by rfl : FieldType.isReference (.object "java/util/TreeMap") = true)
theorem fn_59_0 {y : MethodName} {idx : Nat} : zFin y idx 59 0 := ⟨_, rfl, Or.inl rfl⟩
theorem ft_59_0 {n : Nat} : zFit 59 0 (zr n) := zfit_r rfl (by decide +kernel) (by rfl : FieldType.isReference (.object "java/lang/Throwable") = true)
theorem fn_59_1 {y : MethodName} {idx : Nat} : zFin y idx 59 1 := ⟨_, rfl, Or.inl rfl⟩
theorem ft_59_1 {n : Nat} : zFit 59 1 (zr n) := zfit_r rfl (by decide +kernel) (by rfl : FieldType.isReference ((.array (.object "java/lang/StackTraceElement"))) = true)
theorem fn_59_2 {y : MethodName} {idx : Nat} : zFin y idx 59 2 := ⟨_, rfl, Or.inl rfl⟩
theorem ft_59_2 {n : Nat} : zFit 59 2 (zr n) := zfit_r rfl (by decide +kernel) (by rfl : FieldType.isReference (.object "java/util/List") = true)
theorem fn_59_3 {y : MethodName} {idx : Nat} : zFin y idx 59 3 := ⟨_, rfl, Or.inl rfl⟩
theorem ft_59_3 {n : Nat} : zFit 59 3 (zr n) := zfit_r rfl (by decide +kernel) (by rfl : FieldType.isReference (.object "java/lang/String") = true)
theorem fn_59_4 {y : MethodName} {idx : Nat} : zFin y idx 59 4 := ⟨_, rfl, Or.inl rfl⟩
theorem ft_59_4 {n : Nat} : zFit 59 4 (zr n) := zfit_r rfl (by decide +kernel) (by rfl : FieldType.isReference (.object "java/lang/Object") = true)
theorem fn_59_5 {y : MethodName} {idx : Nat} : zFin y idx 59 5 := ⟨_, rfl, Or.inl rfl⟩
theorem ft_59_5 {x : Int32} : zFit 59 5 (.int x) := zfit_i rfl rfl
theorem fn_60_0 {y : MethodName} {idx : Nat} : zFin y idx 60 0 := ⟨_, rfl, Or.inl rfl⟩
theorem ft_60_0 {n : Nat} : zFit 60 0 (zr n) := zfit_r rfl (by decide +kernel) (by rfl : FieldType.isReference (.object "java/lang/Throwable") = true)
theorem fn_60_1 {y : MethodName} {idx : Nat} : zFin y idx 60 1 := ⟨_, rfl, Or.inl rfl⟩
theorem ft_60_1 {n : Nat} : zFit 60 1 (zr n) := zfit_r rfl (by decide +kernel) (by rfl : FieldType.isReference ((.array (.object "java/lang/StackTraceElement"))) = true)
theorem fn_60_2 {y : MethodName} {idx : Nat} : zFin y idx 60 2 := ⟨_, rfl, Or.inl rfl⟩
theorem ft_60_2 {n : Nat} : zFit 60 2 (zr n) := zfit_r rfl (by decide +kernel) (by rfl : FieldType.isReference (.object "java/util/List") = true)
theorem fn_60_3 {y : MethodName} {idx : Nat} : zFin y idx 60 3 := ⟨_, rfl, Or.inl rfl⟩
theorem ft_60_3 {n : Nat} : zFit 60 3 (zr n) := zfit_r rfl (by decide +kernel) (by rfl : FieldType.isReference (.object "java/lang/String") = true)
theorem fn_60_4 {y : MethodName} {idx : Nat} : zFin y idx 60 4 := ⟨_, rfl, Or.inl rfl⟩
theorem ft_60_4 {n : Nat} : zFit 60 4 (zr n) := zfit_r rfl (by decide +kernel) (by rfl : FieldType.isReference (.object "java/lang/Object") = true)
theorem fn_60_5 {y : MethodName} {idx : Nat} : zFin y idx 60 5 := ⟨_, rfl, Or.inl rfl⟩
theorem ft_60_5 {x : Int32} : zFit 60 5 (.int x) := zfit_i rfl rfl
theorem fn_61_0 {y : MethodName} {idx : Nat} : zFin y idx 61 0 := ⟨_, rfl, Or.inl rfl⟩
theorem ft_61_0 {n : Nat} : zFit 61 0 (zr n) := zfit_r rfl (by decide +kernel) (by rfl : FieldType.isReference (.object "java/lang/Object") = true)
theorem fn_61_1 {y : MethodName} {idx : Nat} : zFin y idx 61 1 := ⟨_, rfl, Or.inl rfl⟩
theorem ft_61_1 {n : Nat} : zFit 61 1 (zr n) := zfit_r rfl (by decide +kernel) (by rfl : FieldType.isReference (.object "java/lang/String") = true)
theorem fn_61_2 {y : MethodName} {idx : Nat} : zFin y idx 61 2 := ⟨_, rfl, Or.inl rfl⟩
theorem ft_61_2 {n : Nat} : zFit 61 2 (zr n) := zfit_r rfl (by decide +kernel) (by rfl : FieldType.isReference (.object "java/lang/Throwable") = true)
theorem fn_61_3 {y : MethodName} {idx : Nat} : zFin y idx 61 3 := ⟨_, rfl, Or.inl rfl⟩
theorem ft_61_3 {n : Nat} : zFit 61 3 (zr n) := zfit_r rfl (by decide +kernel) (by rfl : FieldType.isReference ((.array (.object "java/lang/StackTraceElement"))) = true)
theorem fn_61_4 {y : MethodName} {idx : Nat} : zFin y idx 61 4 := ⟨_, rfl, Or.inl rfl⟩
theorem ft_61_4 {x : Int32} : zFit 61 4 (.int x) := zfit_i rfl rfl
theorem fn_61_5 {y : MethodName} {idx : Nat} : zFin y idx 61 5 := ⟨_, rfl, Or.inl rfl⟩
theorem ft_61_5 {n : Nat} : zFit 61 5 (zr n) := zfit_r rfl (by decide +kernel) (by rfl : FieldType.isReference (.object "java/util/List") = true)
theorem ft_62_0 {x : Int32} : zFit 62 0 (.int x) := zfit_i rfl rfl
theorem ft_62_1 {n : Nat} : zFit 62 1 (zr n) := zfit_r rfl (by decide +kernel) (by rfl : FieldType.isReference (.object "java/lang/Object") = true)
theorem fn_62_2 {y : MethodName} {idx : Nat} : zFin y idx 62 2 := ⟨_, rfl, Or.inl rfl⟩
theorem ft_62_2 {n : Nat} : zFit 62 2 (zr n) := zfit_r rfl (by decide +kernel) (by rfl : FieldType.isReference (.object "java/lang/Object") = true)
theorem fn_62_3 {y : MethodName} {idx : Nat} : zFin y idx 62 3 := ⟨_, rfl, Or.inl rfl⟩
theorem ft_62_3 {n : Nat} : zFit 62 3 (zr n) := zfit_r rfl (by decide +kernel) (by rfl : FieldType.isReference (.object "java/util/HashMap$Node") = true)
theorem fn_62_4 {y : MethodName} {idx : Nat} : zFin y idx 62 4 := ⟨_, rfl, Or.inl rfl⟩
theorem ft_62_4 {n : Nat} : zFit 62 4 (zr n) := zfit_r rfl (by decide +kernel) (by rfl : FieldType.isReference (.object "java/util/LinkedHashMap$Entry") = true)
theorem fn_62_5 {y : MethodName} {idx : Nat} : zFin y idx 62 5 := ⟨_, rfl, Or.inl rfl⟩
theorem ft_62_5 {n : Nat} : zFit 62 5 (zr n) := zfit_r rfl (by decide +kernel) (by rfl : FieldType.isReference (.object "java/util/LinkedHashMap$Entry") = true)
theorem ft_63_0 {x : Int32} : zFit 63 0 (.int x) := zfit_i rfl rfl
theorem ft_63_1 {n : Nat} : zFit 63 1 (zr n) := zfit_r rfl (by decide +kernel) (by rfl : FieldType.isReference (.object "java/lang/Object") = true)
theorem fn_63_2 {y : MethodName} {idx : Nat} : zFin y idx 63 2 := ⟨_, rfl, Or.inl rfl⟩
theorem ft_63_2 {n : Nat} : zFit 63 2 (zr n) := zfit_r rfl (by decide +kernel) (by rfl : FieldType.isReference (.object "java/lang/Object") = true)
theorem fn_63_3 {y : MethodName} {idx : Nat} : zFin y idx 63 3 := ⟨_, rfl, Or.inl rfl⟩
theorem ft_63_3 {n : Nat} : zFit 63 3 (zr n) := zfit_r rfl (by decide +kernel) (by rfl : FieldType.isReference (.object "java/util/HashMap$Node") = true)
theorem fn_63_4 {y : MethodName} {idx : Nat} : zFin y idx 63 4 := ⟨_, rfl, Or.inl rfl⟩
theorem ft_63_4 {n : Nat} : zFit 63 4 (zr n) := zfit_r rfl (by decide +kernel) (by rfl : FieldType.isReference (.object "java/util/LinkedHashMap$Entry") = true)
theorem fn_63_5 {y : MethodName} {idx : Nat} : zFin y idx 63 5 := ⟨_, rfl, Or.inl rfl⟩
theorem ft_63_5 {n : Nat} : zFit 63 5 (zr n) := zfit_r rfl (by decide +kernel) (by rfl : FieldType.isReference (.object "java/util/LinkedHashMap$Entry") = true)
theorem fn_63_6 {y : MethodName} {idx : Nat} : zFin y idx 63 6 := ⟨_, rfl, Or.inl rfl⟩
theorem ft_63_6 {n : Nat} : zFit 63 6 (zr n) := zfit_r rfl (by decide +kernel) (by rfl : FieldType.isReference (.object "java/util/HashMap$TreeNode") = true)
theorem fn_63_7 {y : MethodName} {idx : Nat} : zFin y idx 63 7 := ⟨_, rfl, Or.inl rfl⟩
theorem ft_63_7 {n : Nat} : zFit 63 7 (zr n) := zfit_r rfl (by decide +kernel) (by rfl : FieldType.isReference (.object "java/util/HashMap$TreeNode") = true)
theorem fn_63_8 {y : MethodName} {idx : Nat} : zFin y idx 63 8 := ⟨_, rfl, Or.inl rfl⟩
theorem ft_63_8 {n : Nat} : zFit 63 8 (zr n) := zfit_r rfl (by decide +kernel) (by rfl : FieldType.isReference (.object "java/util/HashMap$TreeNode") = true)
theorem fn_63_9 {y : MethodName} {idx : Nat} : zFin y idx 63 9 := ⟨_, rfl, Or.inl rfl⟩
theorem ft_63_9 {n : Nat} : zFit 63 9 (zr n) := zfit_r rfl (by decide +kernel) (by rfl : FieldType.isReference (.object "java/util/HashMap$TreeNode") = true)
theorem fn_63_10 {y : MethodName} {idx : Nat} : zFin y idx 63 10 := ⟨_, rfl, Or.inl rfl⟩
theorem ft_63_10 {x : Int32} (h : x = 0 ∨ x = 1) : zFit 63 10 (.int x) := zfit_z rfl rfl h
theorem ft_64_0 {x : Int32} (h : x = 0 ∨ x = 1) : zFit 64 0 (.int x) := zfit_z rfl rfl h
theorem ft_64_1 {n : Nat} : zFit 64 1 (zr n) := zfit_r rfl (by decide +kernel) (by rfl : FieldType.isReference (.object "java/util/LinkedHashMap") = true)
theorem ft_65_0 {n : Nat} : zFit 65 0 (zr n) := zfit_r rfl (by decide +kernel) (by rfl : FieldType.isReference (.object "java/util/TreeMap") = true)
theorem ft_66_0 {n : Nat} : zFit 66 0 (zr n) := zfit_r rfl (by decide +kernel) (by rfl : FieldType.isReference (.object "java/lang/Object") = true)
theorem ft_66_1 {n : Nat} : zFit 66 1 (zr n) := zfit_r rfl (by decide +kernel) (by rfl : FieldType.isReference (.object "java/lang/Object") = true)
theorem fn_67_0 {y : MethodName} {idx : Nat} : zFin y idx 67 0 := ⟨_, rfl, Or.inl rfl⟩
theorem ft_67_0 {n : Nat} : zFit 67 0 (zr n) := zfit_r rfl (by decide +kernel) (by rfl : FieldType.isReference (.object "java/lang/Object") = true)
theorem fn_67_1 {y : MethodName} {idx : Nat} : zFin y idx 67 1 := ⟨_, rfl, Or.inl rfl⟩
theorem ft_67_1 {n : Nat} : zFit 67 1 (zr n) := zfit_r rfl (by decide +kernel) (by rfl : FieldType.isReference (.object "java/lang/Object") = true)
theorem fn_67_2 {y : MethodName} {idx : Nat} : zFin y idx 67 2 := ⟨_, rfl, Or.inl rfl⟩
theorem ft_67_2 {n : Nat} : zFit 67 2 (zr n) := zfit_r rfl (by decide +kernel) (by rfl : FieldType.isReference (.object "java/util/TreeMap$Entry") = true)
theorem fn_67_3 {y : MethodName} {idx : Nat} : zFin y idx 67 3 := ⟨_, rfl, Or.inl rfl⟩
theorem ft_67_3 {n : Nat} : zFit 67 3 (zr n) := zfit_r rfl (by decide +kernel) (by rfl : FieldType.isReference (.object "java/util/TreeMap$Entry") = true)
theorem fn_67_4 {y : MethodName} {idx : Nat} : zFin y idx 67 4 := ⟨_, rfl, Or.inl rfl⟩
theorem ft_67_4 {n : Nat} : zFit 67 4 (zr n) := zfit_r rfl (by decide +kernel) (by rfl : FieldType.isReference (.object "java/util/TreeMap$Entry") = true)
theorem fn_67_5 {y : MethodName} {idx : Nat} : zFin y idx 67 5 := ⟨_, rfl, Or.inl rfl⟩
theorem ft_67_5 {x : Int32} (h : x = 0 ∨ x = 1) : zFit 67 5 (.int x) := zfit_z rfl rfl h
theorem ft_68_0 {n : Nat} : zFit 68 0 (zr n) := zfit_r rfl (by decide +kernel) (by rfl : FieldType.isReference (.object "java/util/TreeMap") = true)
theorem fn_69_0 {y : MethodName} {idx : Nat} : zFin y idx 69 0 := ⟨_, rfl, Or.inl rfl⟩
theorem ft_69_0 {n : Nat} : zFit 69 0 (zr n) := zfit_r rfl (by decide +kernel) (by rfl : FieldType.isReference (.object "java/lang/Throwable") = true)
theorem fn_69_1 {y : MethodName} {idx : Nat} : zFin y idx 69 1 := ⟨_, rfl, Or.inl rfl⟩
theorem ft_69_1 {n : Nat} : zFit 69 1 (zr n) := zfit_r rfl (by decide +kernel) (by rfl : FieldType.isReference ((.array (.object "java/lang/StackTraceElement"))) = true)
theorem fn_69_2 {y : MethodName} {idx : Nat} : zFin y idx 69 2 := ⟨_, rfl, Or.inl rfl⟩
theorem ft_69_2 {n : Nat} : zFit 69 2 (zr n) := zfit_r rfl (by decide +kernel) (by rfl : FieldType.isReference (.object "java/util/List") = true)
theorem fn_69_3 {y : MethodName} {idx : Nat} : zFin y idx 69 3 := ⟨_, rfl, Or.inl rfl⟩
theorem ft_69_3 {n : Nat} : zFit 69 3 (zr n) := zfit_r rfl (by decide +kernel) (by rfl : FieldType.isReference (.object "java/lang/String") = true)
theorem fn_69_4 {y : MethodName} {idx : Nat} : zFin y idx 69 4 := ⟨_, rfl, Or.inl rfl⟩
theorem ft_69_4 {n : Nat} : zFit 69 4 (zr n) := zfit_r rfl (by decide +kernel) (by rfl : FieldType.isReference (.object "java/lang/Object") = true)
theorem fn_69_5 {y : MethodName} {idx : Nat} : zFin y idx 69 5 := ⟨_, rfl, Or.inl rfl⟩
theorem ft_69_5 {x : Int32} : zFit 69 5 (.int x) := zfit_i rfl rfl
theorem fn_70_0 {y : MethodName} {idx : Nat} : zFin y idx 70 0 := ⟨_, rfl, Or.inl rfl⟩
theorem ft_70_0 {n : Nat} : zFit 70 0 (zr n) := zfit_r rfl (by decide +kernel) (by rfl : FieldType.isReference (.object "java/lang/Object") = true)
theorem fn_70_1 {y : MethodName} {idx : Nat} : zFin y idx 70 1 := ⟨_, rfl, Or.inl rfl⟩
theorem ft_70_1 {n : Nat} : zFit 70 1 (zr n) := zfit_r rfl (by decide +kernel) (by rfl : FieldType.isReference (.object "java/lang/String") = true)
theorem fn_70_2 {y : MethodName} {idx : Nat} : zFin y idx 70 2 := ⟨_, rfl, Or.inl rfl⟩
theorem ft_70_2 {n : Nat} : zFit 70 2 (zr n) := zfit_r rfl (by decide +kernel) (by rfl : FieldType.isReference (.object "java/lang/Throwable") = true)
theorem fn_70_3 {y : MethodName} {idx : Nat} : zFin y idx 70 3 := ⟨_, rfl, Or.inl rfl⟩
theorem ft_70_3 {n : Nat} : zFit 70 3 (zr n) := zfit_r rfl (by decide +kernel) (by rfl : FieldType.isReference ((.array (.object "java/lang/StackTraceElement"))) = true)
theorem fn_70_4 {y : MethodName} {idx : Nat} : zFin y idx 70 4 := ⟨_, rfl, Or.inl rfl⟩
theorem ft_70_4 {x : Int32} : zFit 70 4 (.int x) := zfit_i rfl rfl
theorem fn_70_5 {y : MethodName} {idx : Nat} : zFin y idx 70 5 := ⟨_, rfl, Or.inl rfl⟩
theorem ft_70_5 {n : Nat} : zFit 70 5 (zr n) := zfit_r rfl (by decide +kernel) (by rfl : FieldType.isReference (.object "java/util/List") = true)
