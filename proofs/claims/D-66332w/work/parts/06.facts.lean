theorem pq_in : ∀ r ∈ classes, ∀ w ∈ u_ws r.1 r.2.1 r.2.2, w ∈ pq_tbl := by decide +kernel
theorem pq_tyok : ∀ k, k < 14 → ∀ j, j < (classes.getD k ("", F_Wa, 0)).2.2 → parseFieldDescriptor ((classes.getD k ("", F_Wa, 0)).2.1 j).2.2.1 = some ((pq_types.getD k []).getD j .int) := by decide +kernel
theorem pq_nmok : ∀ k, k < 14 → ∀ a, a < (classes.getD k ("", F_Wa, 0)).2.2 → ∀ b, b < (classes.getD k ("", F_Wa, 0)).2.2 → a ≠ b → ((classes.getD k ("", F_Wa, 0)).2.1 a).2.1 ≠ ((classes.getD k ("", F_Wa, 0)).2.1 b).2.1 := by decide +kernel
theorem pq_idok : ∀ k, k < 14 → ∀ a, a < (classes.getD k ("", F_Wa, 0)).2.2 → ∀ b, b < (classes.getD k ("", F_Wa, 0)).2.2 → a ≠ b → (pq_F k a).2 ≠ (pq_F k b).2 := by decide +kernel
def pq_dfl (ty : FieldType) : Nat := match ty with | .int => 0 | .boolean => 0 | .long => 1 | .object _ => 2 | .array _ => 2 | _ => 9
theorem pq_kdok : ∀ k, k < 14 → ∀ a, a < (classes.getD k ("", F_Wa, 0)).2.2 → (pq_F k a).1 = pq_dfl ((pq_types.getD k []).getD a .int) := by decide +kernel
theorem pq_cl {k : Nat} {r : vw_C} (h : classes[k]? = some r) : k < 14 ∧ classes.getD k ("", F_Wa, 0) = r := by
  have hk := (List.getElem?_eq_some_iff.mp h).1
  exact ⟨hk, by rw [List.getD_eq_getElem?_getD, h]; rfl⟩
