/-! calls on lambdas -/
set_option maxRecDepth 100000
theorem lfs_all : ∀ im ∈ ["lambda$new$0", "lambda$new$1", "lambda$new$2", "lambda$new$3", "lambda$new$4", "lambda$new$5", "lambda$new$6", "lambda$new$7"], LFS (sgL im) "RegisterColours" := by
  intro im him
  simp only [List.mem_cons, List.not_mem_nil, or_false] at him
  rcases him with rfl | rfl | rfl | rfl | rfl | rfl | rfl | rfl <;>
  exact ⟨by decide +kernel, by decide +kernel, by decide +kernel, by decide +kernel, by decide +kernel, by decide +kernel, by decide +kernel, by decide +kernel, by decide +kernel, by decide +kernel, by decide +kernel, by decide +kernel⟩
theorem lfc_T : LFC_long sgT "RegisterColours" := ⟨by decide +kernel, by decide +kernel, by decide +kernel, by decide +kernel, by decide +kernel, by decide +kernel, by decide +kernel, by decide +kernel, by decide +kernel, by decide +kernel, by decide +kernel, by decide +kernel, by decide +kernel, by decide +kernel, by decide +kernel⟩
theorem lfc_F : ∀ im ∈ ["isFewHeavy", "isBorneByFixed"], LFC_int (sgF im) "RegisterColours$Graph" := by
  intro im him
  simp only [List.mem_cons, List.not_mem_nil, or_false] at him
  rcases him with rfl | rfl <;>
  exact ⟨by decide +kernel, by decide +kernel, by decide +kernel, by decide +kernel, by decide +kernel, by decide +kernel, by decide +kernel, by decide +kernel, by decide +kernel, by decide +kernel, by decide +kernel, by decide +kernel, by decide +kernel, by decide +kernel, by decide +kernel⟩
