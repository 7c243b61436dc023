/-! ===== the classes and the array types of L0, by numbers ===== -/
set_option maxRecDepth 100000
def zcl : List vw_C := [(RX1, TX1, 21), (RX2, TX2, 4), (RX3, TX3, 3), (RX4, TX4, 4), (RX5, TX5, 8), (RX6, TX6, 13), (RX7, TX7, 19), (RX8, TX8, 46), (RX9, TX9, 13), (RX10, TX10, 19), (RX11, TX11, 1), (RX12, TX12, 1), (RX13, TX13, 2), (RX14, TX14, 3), (RX15, TX15, 2), (RX16, TX16, 3), (RX18, TX18, 5), (RX19, TX19, 1), (RX20, TX20, 5), (RX21, TX21, 11), (RX22, TX22, 1), (RX23, TX23, 5), (RX24, TX24, 4), (RX25, TX25, 1), (RX26, TX26, 7), (RX27, TX27, 8), (RX28, TX28, 5), (RX29, TX29, 2), (RX31, TX31, 6), (RX32, TX32, 2), (RX33, TX33, 2), (RX34, TX34, 5), (RX35, TX35, 3), (RX36, TX36, 10), (RX37, TX37, 4), (RX38, TX38, 6), (RX39, TX39, 7), (RX40, TX40, 14), (RX41, TX41, 4), (RX42, TX42, 6), (RX43, TX43, 9), (RX44, TX44, 3), (RX45, TX45, 2), (RJ2, TJ2, 12), (RJ5, TJ5, 3), (RJ6, TJ6, 3), (RJ7, TJ7, 5), (RJ9, TJ9, 9), (RJ12, TJ12, 4), (RJ17, TJ17, 2), (RJ19, TJ19, 6), (RJ21, TJ21, 4), (RJ24, TJ24, 1), (RJ26, TJ26, 4), (RJ27, TJ27, 4), (RJ29, TJ29, 5), (RJ30, TJ30, 5), (RJ32, TJ32, 4), (RJ33, TJ33, 4), (RJ34, TJ34, 6), (RJ35, TJ35, 6), (RJ36, TJ36, 6), (RJ40, TJ40, 6), (RJ41, TJ41, 11), (RJ43, TJ43, 2), (RJ44, TJ44, 1), (RJ45, TJ45, 2), (RJ46, TJ46, 6), (RJ48, TJ48, 1), (RJ49, TJ49, 6), (RJ50, TJ50, 6)]
/-- what the tables know of a class -/
def zCf (q : vw_C) : Prop := (∀ w ∈ u_ws q.1 q.2.1 q.2.2, w ∈ lw_all) ∧ (∃ n, Cond.instantiable q.1 n ∈ lw_all) ∧ Cond.initialized q.1 ∈ lw_all ∧ (∀ a, a < q.2.2 → ∀ b, b < q.2.2 → a ≠ b → (q.2.1 a).2.1 ≠ (q.2.1 b).2.1) ∧ (∀ k, k < q.2.2 → ∃ ty, parseFieldDescriptor (q.2.1 k).2.2.1 = some ty)
theorem zcf_X1 : zCf (RX1, TX1, 21) := ⟨in_X1, ⟨_, q343⟩, q243, nmX1, fun k h => ⟨_, tyX1_ok k h⟩⟩
theorem zcf_X2 : zCf (RX2, TX2, 4) := ⟨in_X2, ⟨_, q463⟩, q251, nmX2, fun k h => ⟨_, tyX2_ok k h⟩⟩
theorem zcf_X3 : zCf (RX3, TX3, 3) := ⟨in_X3, ⟨_, q492⟩, q252, nmX3, fun k h => ⟨_, tyX3_ok k h⟩⟩
theorem zcf_X4 : zCf (RX4, TX4, 4) := ⟨in_X4, ⟨_, q511⟩, q253, nmX4, fun k h => ⟨_, tyX4_ok k h⟩⟩
theorem zcf_X5 : zCf (RX5, TX5, 8) := ⟨in_X5, ⟨_, q530⟩, q256, nmX5, fun k h => ⟨_, tyX5_ok k h⟩⟩
theorem zcf_X6 : zCf (RX6, TX6, 13) := ⟨in_X6, ⟨_, q601⟩, q257, nmX6, fun k h => ⟨_, tyX6_ok k h⟩⟩
theorem zcf_X7 : zCf (RX7, TX7, 19) := ⟨in_X7, ⟨_, q608⟩, q258, nmX7, fun k h => ⟨_, tyX7_ok k h⟩⟩
theorem zcf_X8 : zCf (RX8, TX8, 46) := ⟨in_X8, ⟨_, q4399⟩, q260, nmX8, fun k h => ⟨_, tyX8_ok k h⟩⟩
theorem zcf_X9 : zCf (RX9, TX9, 13) := ⟨in_X9, ⟨_, q4420⟩, q261, nmX9, fun k h => ⟨_, tyX9_ok k h⟩⟩
theorem zcf_X10 : zCf (RX10, TX10, 19) := ⟨in_X10, ⟨_, q4473⟩, q262, nmX10, fun k h => ⟨_, tyX10_ok k h⟩⟩
theorem zcf_X11 : zCf (RX11, TX11, 1) := ⟨in_X11, ⟨_, q1071⟩, q269, nmX11, fun k h => ⟨_, tyX11_ok k h⟩⟩
theorem zcf_X12 : zCf (RX12, TX12, 1) := ⟨in_X12, ⟨_, q2501⟩, q298, nmX12, fun k h => ⟨_, tyX12_ok k h⟩⟩
theorem zcf_X13 : zCf (RX13, TX13, 2) := ⟨in_X13, ⟨_, q2800⟩, q305, nmX13, fun k h => ⟨_, tyX13_ok k h⟩⟩
theorem zcf_X14 : zCf (RX14, TX14, 3) := ⟨in_X14, ⟨_, q2822⟩, q306, nmX14, fun k h => ⟨_, tyX14_ok k h⟩⟩
theorem zcf_X15 : zCf (RX15, TX15, 2) := ⟨in_X15, ⟨_, q2990⟩, q307, nmX15, fun k h => ⟨_, tyX15_ok k h⟩⟩
theorem zcf_X16 : zCf (RX16, TX16, 3) := ⟨in_X16, ⟨_, q3013⟩, q308, nmX16, fun k h => ⟨_, tyX16_ok k h⟩⟩
theorem zcf_X18 : zCf (RX18, TX18, 5) := ⟨in_X18, ⟨_, q3203⟩, q311, nmX18, fun k h => ⟨_, tyX18_ok k h⟩⟩
theorem zcf_X19 : zCf (RX19, TX19, 1) := ⟨in_X19, ⟨_, q3242⟩, q312, nmX19, fun k h => ⟨_, tyX19_ok k h⟩⟩
theorem zcf_X20 : zCf (RX20, TX20, 5) := ⟨in_X20, ⟨_, q3296⟩, q313, nmX20, fun k h => ⟨_, tyX20_ok k h⟩⟩
theorem zcf_X21 : zCf (RX21, TX21, 11) := ⟨in_X21, ⟨_, q3336⟩, q314, nmX21, fun k h => ⟨_, tyX21_ok k h⟩⟩
theorem zcf_X22 : zCf (RX22, TX22, 1) := ⟨in_X22, ⟨_, q3411⟩, q315, nmX22, fun k h => ⟨_, tyX22_ok k h⟩⟩
theorem zcf_X23 : zCf (RX23, TX23, 5) := ⟨in_X23, ⟨_, q3552⟩, q316, nmX23, fun k h => ⟨_, tyX23_ok k h⟩⟩
theorem zcf_X24 : zCf (RX24, TX24, 4) := ⟨in_X24, ⟨_, q3595⟩, q317, nmX24, fun k h => ⟨_, tyX24_ok k h⟩⟩
theorem zcf_X25 : zCf (RX25, TX25, 1) := ⟨in_X25, ⟨_, q3630⟩, q318, nmX25, fun k h => ⟨_, tyX25_ok k h⟩⟩
theorem zcf_X26 : zCf (RX26, TX26, 7) := ⟨in_X26, ⟨_, q3660⟩, q319, nmX26, fun k h => ⟨_, tyX26_ok k h⟩⟩
theorem zcf_X27 : zCf (RX27, TX27, 8) := ⟨in_X27, ⟨_, q3703⟩, q320, nmX27, fun k h => ⟨_, tyX27_ok k h⟩⟩
theorem zcf_X28 : zCf (RX28, TX28, 5) := ⟨in_X28, ⟨_, q3767⟩, q321, nmX28, fun k h => ⟨_, tyX28_ok k h⟩⟩
theorem zcf_X29 : zCf (RX29, TX29, 2) := ⟨in_X29, ⟨_, q3835⟩, q323, nmX29, fun k h => ⟨_, tyX29_ok k h⟩⟩
theorem zcf_X31 : zCf (RX31, TX31, 6) := ⟨in_X31, ⟨_, q3949⟩, q325, nmX31, fun k h => ⟨_, tyX31_ok k h⟩⟩
theorem zcf_X32 : zCf (RX32, TX32, 2) := ⟨in_X32, ⟨_, q3990⟩, q326, nmX32, fun k h => ⟨_, tyX32_ok k h⟩⟩
theorem zcf_X33 : zCf (RX33, TX33, 2) := ⟨in_X33, ⟨_, q4027⟩, q327, nmX33, fun k h => ⟨_, tyX33_ok k h⟩⟩
theorem zcf_X34 : zCf (RX34, TX34, 5) := ⟨in_X34, ⟨_, q4787⟩, q328, nmX34, fun k h => ⟨_, tyX34_ok k h⟩⟩
theorem zcf_X35 : zCf (RX35, TX35, 3) := ⟨in_X35, ⟨_, q4873⟩, q329, nmX35, fun k h => ⟨_, tyX35_ok k h⟩⟩
theorem zcf_X36 : zCf (RX36, TX36, 10) := ⟨in_X36, ⟨_, q4977⟩, q330, nmX36, fun k h => ⟨_, tyX36_ok k h⟩⟩
theorem zcf_X37 : zCf (RX37, TX37, 4) := ⟨in_X37, ⟨_, q5034⟩, q331, nmX37, fun k h => ⟨_, tyX37_ok k h⟩⟩
theorem zcf_X38 : zCf (RX38, TX38, 6) := ⟨in_X38, ⟨_, q5131⟩, q332, nmX38, fun k h => ⟨_, tyX38_ok k h⟩⟩
theorem zcf_X39 : zCf (RX39, TX39, 7) := ⟨in_X39, ⟨_, q5192⟩, q333, nmX39, fun k h => ⟨_, tyX39_ok k h⟩⟩
theorem zcf_X40 : zCf (RX40, TX40, 14) := ⟨in_X40, ⟨_, q5239⟩, q334, nmX40, fun k h => ⟨_, tyX40_ok k h⟩⟩
theorem zcf_X41 : zCf (RX41, TX41, 4) := ⟨in_X41, ⟨_, q5338⟩, q335, nmX41, fun k h => ⟨_, tyX41_ok k h⟩⟩
theorem zcf_X42 : zCf (RX42, TX42, 6) := ⟨in_X42, ⟨_, q5389⟩, q336, nmX42, fun k h => ⟨_, tyX42_ok k h⟩⟩
theorem zcf_X43 : zCf (RX43, TX43, 9) := ⟨in_X43, ⟨_, q5426⟩, q337, nmX43, fun k h => ⟨_, tyX43_ok k h⟩⟩
theorem zcf_X44 : zCf (RX44, TX44, 3) := ⟨in_X44, ⟨_, q5497⟩, q338, nmX44, fun k h => ⟨_, tyX44_ok k h⟩⟩
theorem zcf_X45 : zCf (RX45, TX45, 2) := ⟨in_X45, ⟨_, q4268⟩, q341, nmX45, fun k h => ⟨_, tyX45_ok k h⟩⟩
theorem zcf_J2 : zCf (RJ2, TJ2, 12) := ⟨in_J2, ⟨_, q353⟩, q246, nmJ2, fun k h => ⟨_, tyJ2_ok k h⟩⟩
theorem zcf_J5 : zCf (RJ5, TJ5, 3) := ⟨in_J5, ⟨_, q414⟩, q249, nmJ5, fun k h => ⟨_, tyJ5_ok k h⟩⟩
theorem zcf_J6 : zCf (RJ6, TJ6, 3) := ⟨in_J6, ⟨_, q443⟩, q250, nmJ6, fun k h => ⟨_, tyJ6_ok k h⟩⟩
theorem zcf_J7 : zCf (RJ7, TJ7, 5) := ⟨in_J7, ⟨_, q570⟩, q254, nmJ7, fun k h => ⟨_, tyJ7_ok k h⟩⟩
theorem zcf_J9 : zCf (RJ9, TJ9, 9) := ⟨in_J9, ⟨_, q614⟩, q259, nmJ9, fun k h => ⟨_, tyJ9_ok k h⟩⟩
theorem zcf_J12 : zCf (RJ12, TJ12, 4) := ⟨in_J12, ⟨_, q1430⟩, q265, nmJ12, fun k h => ⟨_, tyJ12_ok k h⟩⟩
theorem zcf_J17 : zCf (RJ17, TJ17, 2) := ⟨in_J17, ⟨_, q1211⟩, q272, nmJ17, fun k h => ⟨_, tyJ17_ok k h⟩⟩
theorem zcf_J19 : zCf (RJ19, TJ19, 6) := ⟨in_J19, ⟨_, q1246⟩, q274, nmJ19, fun k h => ⟨_, tyJ19_ok k h⟩⟩
theorem zcf_J21 : zCf (RJ21, TJ21, 4) := ⟨in_J21, ⟨_, q1257⟩, q276, nmJ21, fun k h => ⟨_, tyJ21_ok k h⟩⟩
theorem zcf_J24 : zCf (RJ24, TJ24, 1) := ⟨in_J24, ⟨_, q2658⟩, q279, nmJ24, fun k h => ⟨_, tyJ24_ok k h⟩⟩
theorem zcf_J26 : zCf (RJ26, TJ26, 4) := ⟨in_J26, ⟨_, q1543⟩, q281, nmJ26, fun k h => ⟨_, tyJ26_ok k h⟩⟩
theorem zcf_J27 : zCf (RJ27, TJ27, 4) := ⟨in_J27, ⟨_, q1566⟩, q282, nmJ27, fun k h => ⟨_, tyJ27_ok k h⟩⟩
theorem zcf_J29 : zCf (RJ29, TJ29, 5) := ⟨in_J29, ⟨_, q1588⟩, q284, nmJ29, fun k h => ⟨_, tyJ29_ok k h⟩⟩
theorem zcf_J30 : zCf (RJ30, TJ30, 5) := ⟨in_J30, ⟨_, q1616⟩, q285, nmJ30, fun k h => ⟨_, tyJ30_ok k h⟩⟩
theorem zcf_J32 : zCf (RJ32, TJ32, 4) := ⟨in_J32, ⟨_, q1631⟩, q287, nmJ32, fun k h => ⟨_, tyJ32_ok k h⟩⟩
theorem zcf_J33 : zCf (RJ33, TJ33, 4) := ⟨in_J33, ⟨_, q1660⟩, q288, nmJ33, fun k h => ⟨_, tyJ33_ok k h⟩⟩
theorem zcf_J34 : zCf (RJ34, TJ34, 6) := ⟨in_J34, ⟨_, q1716⟩, q289, nmJ34, fun k h => ⟨_, tyJ34_ok k h⟩⟩
theorem zcf_J35 : zCf (RJ35, TJ35, 6) := ⟨in_J35, ⟨_, q1880⟩, q290, nmJ35, fun k h => ⟨_, tyJ35_ok k h⟩⟩
theorem zcf_J36 : zCf (RJ36, TJ36, 6) := ⟨in_J36, ⟨_, q1899⟩, q291, nmJ36, fun k h => ⟨_, tyJ36_ok k h⟩⟩
theorem zcf_J40 : zCf (RJ40, TJ40, 6) := ⟨in_J40, ⟨_, q2202⟩, q296, nmJ40, fun k h => ⟨_, tyJ40_ok k h⟩⟩
theorem zcf_J41 : zCf (RJ41, TJ41, 11) := ⟨in_J41, ⟨_, q3086⟩, q297, nmJ41, fun k h => ⟨_, tyJ41_ok k h⟩⟩
theorem zcf_J43 : zCf (RJ43, TJ43, 2) := ⟨in_J43, ⟨_, q3474⟩, q300, nmJ43, fun k h => ⟨_, tyJ43_ok k h⟩⟩
theorem zcf_J44 : zCf (RJ44, TJ44, 1) := ⟨in_J44, ⟨_, q3494⟩, q301, nmJ44, fun k h => ⟨_, tyJ44_ok k h⟩⟩
theorem zcf_J45 : zCf (RJ45, TJ45, 2) := ⟨in_J45, ⟨_, q2581⟩, q302, nmJ45, fun k h => ⟨_, tyJ45_ok k h⟩⟩
theorem zcf_J46 : zCf (RJ46, TJ46, 6) := ⟨in_J46, ⟨_, q2718⟩, q304, nmJ46, fun k h => ⟨_, tyJ46_ok k h⟩⟩
theorem zcf_J48 : zCf (RJ48, TJ48, 1) := ⟨in_J48, ⟨_, q3807⟩, q322, nmJ48, fun k h => ⟨_, tyJ48_ok k h⟩⟩
theorem zcf_J49 : zCf (RJ49, TJ49, 6) := ⟨in_J49, ⟨_, q4182⟩, q339, nmJ49, fun k h => ⟨_, tyJ49_ok k h⟩⟩
theorem zcf_J50 : zCf (RJ50, TJ50, 6) := ⟨in_J50, ⟨_, q4159⟩, q340, nmJ50, fun k h => ⟨_, tyJ50_ok k h⟩⟩
theorem zcl_ok : ∀ q ∈ zcl, zCf q := List.forall_mem_cons.mpr ⟨zcf_X1, List.forall_mem_cons.mpr ⟨zcf_X2, List.forall_mem_cons.mpr ⟨zcf_X3, List.forall_mem_cons.mpr ⟨zcf_X4, List.forall_mem_cons.mpr ⟨zcf_X5, List.forall_mem_cons.mpr ⟨zcf_X6, List.forall_mem_cons.mpr ⟨zcf_X7, List.forall_mem_cons.mpr ⟨zcf_X8, List.forall_mem_cons.mpr ⟨zcf_X9, List.forall_mem_cons.mpr ⟨zcf_X10, List.forall_mem_cons.mpr ⟨zcf_X11, List.forall_mem_cons.mpr ⟨zcf_X12, List.forall_mem_cons.mpr ⟨zcf_X13, List.forall_mem_cons.mpr ⟨zcf_X14, List.forall_mem_cons.mpr ⟨zcf_X15, List.forall_mem_cons.mpr ⟨zcf_X16, List.forall_mem_cons.mpr ⟨zcf_X18, List.forall_mem_cons.mpr ⟨zcf_X19, List.forall_mem_cons.mpr ⟨zcf_X20, List.forall_mem_cons.mpr ⟨zcf_X21, List.forall_mem_cons.mpr ⟨zcf_X22, List.forall_mem_cons.mpr ⟨zcf_X23, List.forall_mem_cons.mpr ⟨zcf_X24, List.forall_mem_cons.mpr ⟨zcf_X25, List.forall_mem_cons.mpr ⟨zcf_X26, List.forall_mem_cons.mpr ⟨zcf_X27, List.forall_mem_cons.mpr ⟨zcf_X28, List.forall_mem_cons.mpr ⟨zcf_X29, List.forall_mem_cons.mpr ⟨zcf_X31, List.forall_mem_cons.mpr ⟨zcf_X32, List.forall_mem_cons.mpr ⟨zcf_X33, List.forall_mem_cons.mpr ⟨zcf_X34, List.forall_mem_cons.mpr ⟨zcf_X35, List.forall_mem_cons.mpr ⟨zcf_X36, List.forall_mem_cons.mpr ⟨zcf_X37, List.forall_mem_cons.mpr ⟨zcf_X38, List.forall_mem_cons.mpr ⟨zcf_X39, List.forall_mem_cons.mpr ⟨zcf_X40, List.forall_mem_cons.mpr ⟨zcf_X41, List.forall_mem_cons.mpr ⟨zcf_X42, List.forall_mem_cons.mpr ⟨zcf_X43, List.forall_mem_cons.mpr ⟨zcf_X44, List.forall_mem_cons.mpr ⟨zcf_X45, List.forall_mem_cons.mpr ⟨zcf_J2, List.forall_mem_cons.mpr ⟨zcf_J5, List.forall_mem_cons.mpr ⟨zcf_J6, List.forall_mem_cons.mpr ⟨zcf_J7, List.forall_mem_cons.mpr ⟨zcf_J9, List.forall_mem_cons.mpr ⟨zcf_J12, List.forall_mem_cons.mpr ⟨zcf_J17, List.forall_mem_cons.mpr ⟨zcf_J19, List.forall_mem_cons.mpr ⟨zcf_J21, List.forall_mem_cons.mpr ⟨zcf_J24, List.forall_mem_cons.mpr ⟨zcf_J26, List.forall_mem_cons.mpr ⟨zcf_J27, List.forall_mem_cons.mpr ⟨zcf_J29, List.forall_mem_cons.mpr ⟨zcf_J30, List.forall_mem_cons.mpr ⟨zcf_J32, List.forall_mem_cons.mpr ⟨zcf_J33, List.forall_mem_cons.mpr ⟨zcf_J34, List.forall_mem_cons.mpr ⟨zcf_J35, List.forall_mem_cons.mpr ⟨zcf_J36, List.forall_mem_cons.mpr ⟨zcf_J40, List.forall_mem_cons.mpr ⟨zcf_J41, List.forall_mem_cons.mpr ⟨zcf_J43, List.forall_mem_cons.mpr ⟨zcf_J44, List.forall_mem_cons.mpr ⟨zcf_J45, List.forall_mem_cons.mpr ⟨zcf_J46, List.forall_mem_cons.mpr ⟨zcf_J48, List.forall_mem_cons.mpr ⟨zcf_J49, List.forall_mem_cons.mpr ⟨zcf_J50, fun q h => nomatch h⟩⟩⟩⟩⟩⟩⟩⟩⟩⟩⟩⟩⟩⟩⟩⟩⟩⟩⟩⟩⟩⟩⟩⟩⟩⟩⟩⟩⟩⟩⟩⟩⟩⟩⟩⟩⟩⟩⟩⟩⟩⟩⟩⟩⟩⟩⟩⟩⟩⟩⟩⟩⟩⟩⟩⟩⟩⟩⟩⟩⟩⟩⟩⟩⟩⟩⟩⟩⟩⟩⟩
def zar : List FieldType := [FieldType.byte, FieldType.int, FieldType.long, FieldType.boolean, FieldType.char, FieldType.short, FieldType.object "java/lang/Object", FieldType.object "RelayHall$Connection", FieldType.object "RelayHall$Channel", FieldType.object "java/util/HashMap$Node", FieldType.object "RelayHall$Kind", FieldType.object "RelayHallModel$Connection", FieldType.object "RelayHallModel$Exchange", FieldType.object "RelayHallModel$Queue", FieldType.object "RelayHallModel$Binding", FieldType.object "RelayHallModel$Consumer", FieldType.object "RelayHallModel$Dead", FieldType.object "RelayHallModel$Fact", FieldType.object "RelayHallModel$Entry", FieldType.object "RelayHallModel$Channel", FieldType.object "RelayHallModel$Sent", FieldType.object "RelayHallModel$Kept", FieldType.array FieldType.byte]
def zAf (ty : FieldType) : Prop := (Cond.arrayClass ty ∈ lw_all ∧ (∀ C, ty ≠ .object C) ∧ ∀ t, ty ≠ .array t) ∨ (Cond.arrayOver ty ∈ lw_tbl ∧ ((∃ C, ty = .object C) ∨ (∃ t, ty = .array t)))
theorem zar_ok : ∀ q ∈ zar, zAf q := List.forall_mem_cons.mpr ⟨Or.inl ⟨q509, fun C h => (by cases h), fun t h => (by cases h)⟩, List.forall_mem_cons.mpr ⟨Or.inl ⟨q4470, fun C h => (by cases h), fun t h => (by cases h)⟩, List.forall_mem_cons.mpr ⟨Or.inl ⟨q5653, fun C h => (by cases h), fun t h => (by cases h)⟩, List.forall_mem_cons.mpr ⟨Or.inl ⟨q4471, fun C h => (by cases h), fun t h => (by cases h)⟩, List.forall_mem_cons.mpr ⟨Or.inl ⟨q5808, fun C h => (by cases h), fun t h => (by cases h)⟩, List.forall_mem_cons.mpr ⟨Or.inl ⟨q5809, fun C h => (by cases h), fun t h => (by cases h)⟩, List.forall_mem_cons.mpr ⟨Or.inr ⟨q449, Or.inl ⟨_, rfl⟩⟩, List.forall_mem_cons.mpr ⟨Or.inr ⟨q351, Or.inl ⟨_, rfl⟩⟩, List.forall_mem_cons.mpr ⟨Or.inr ⟨q607, Or.inl ⟨_, rfl⟩⟩, List.forall_mem_cons.mpr ⟨Or.inr ⟨q3052, Or.inl ⟨_, rfl⟩⟩, List.forall_mem_cons.mpr ⟨Or.inr ⟨q3181, Or.inl ⟨_, rfl⟩⟩, List.forall_mem_cons.mpr ⟨Or.inr ⟨q4405, Or.inl ⟨_, rfl⟩⟩, List.forall_mem_cons.mpr ⟨Or.inr ⟨q4407, Or.inl ⟨_, rfl⟩⟩, List.forall_mem_cons.mpr ⟨Or.inr ⟨q4409, Or.inl ⟨_, rfl⟩⟩, List.forall_mem_cons.mpr ⟨Or.inr ⟨q4411, Or.inl ⟨_, rfl⟩⟩, List.forall_mem_cons.mpr ⟨Or.inr ⟨q4413, Or.inl ⟨_, rfl⟩⟩, List.forall_mem_cons.mpr ⟨Or.inr ⟨q4415, Or.inl ⟨_, rfl⟩⟩, List.forall_mem_cons.mpr ⟨Or.inr ⟨q4417, Or.inl ⟨_, rfl⟩⟩, List.forall_mem_cons.mpr ⟨Or.inr ⟨q4419, Or.inl ⟨_, rfl⟩⟩, List.forall_mem_cons.mpr ⟨Or.inr ⟨q4426, Or.inl ⟨_, rfl⟩⟩, List.forall_mem_cons.mpr ⟨Or.inr ⟨q4479, Or.inl ⟨_, rfl⟩⟩, List.forall_mem_cons.mpr ⟨Or.inr ⟨q4481, Or.inl ⟨_, rfl⟩⟩, List.forall_mem_cons.mpr ⟨Or.inr ⟨q5137, Or.inr ⟨_, rfl⟩⟩, fun q h => nomatch h⟩⟩⟩⟩⟩⟩⟩⟩⟩⟩⟩⟩⟩⟩⟩⟩⟩⟩⟩⟩⟩⟩⟩
