/-! ===== small helpers of the printed blocks ===== -/
theorem zlt {i n : Nat} (h : Nat.blt i n = true) : i < n := Nat.le_of_ble_eq_true h
theorem zle {i n : Nat} (h : Nat.ble i n = true) : i ≤ n := Nat.le_of_ble_eq_true h
theorem znone0 : ∀ o ∈ ([] : List (Option Value)), o = none := fun o h => by cases h
theorem znoneS {ls : List (Option Value)} (h : ∀ o ∈ ls, o = none) : ∀ o ∈ (none :: ls), o = none := fun o ho => by
  rcases List.mem_cons.mp ho with e | e
  · exact e
  · exact h o e
theorem zcat0 : (([] : List Value).map fun v => v.category).sum ≤ 0 := Nat.le_refl _
theorem zcatr {n k : Nat} {st : List Value} (h : (st.map fun v => v.category).sum ≤ k) : ((zr n :: st).map fun v => v.category).sum ≤ k + 1 := by
  simp only [List.map_cons, List.sum_cons, zr_cat]
  omega
theorem zcati {x : Int32} {k : Nat} {st : List Value} (h : (st.map fun v => v.category).sum ≤ k) : ((.int x :: st).map fun v => v.category).sum ≤ k + 1 := by
  rw [List.map_cons, List.sum_cons]
  have : (Value.int x).category = 1 := rfl
  omega
theorem zcatj {x : Int64} {k : Nat} {st : List Value} (h : (st.map fun v => v.category).sum ≤ k) : ((.long x :: st).map fun v => v.category).sum ≤ k + 2 := by
  rw [List.map_cons, List.sum_cons]
  have : (Value.long x).category = 2 := rfl
  omega
