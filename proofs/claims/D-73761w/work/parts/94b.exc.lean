/-! exceptions of ours, arrays of objects, lambdas: what their rows ask. Printed by gen/print_rows.py -/
set_option maxRecDepth 100000
theorem exc8 : EXC 8 := ⟨by decide, _, 8, rfl, (fmk (Or.inr q207) (fmk (Or.inr q886) (fmk (Or.inr q895) (fmk (Or.inr q898) (fmk (Or.inr q901) (fmk (Or.inr q903) (fmk (Or.inr q887) (fmk (Or.inr q888) (fmk (Or.inr q242) (fmk (Or.inr q243) (fmk (Or.inr q889) (fmk (Or.inr q894) (fmk (Or.inr q899) (fmk (Or.inr q916) (fmk (Or.inr q876) (fmk (Or.inr q917) (fmk (Or.inr q878) (fmk (Or.inr q918) (fmk (Or.inr q880) (fmk (Or.inr q890) (fmk (Or.inl (Or.inl rfl)) (fmk (Or.inr q892) (fmk (Or.inl (Or.inr (Or.inl rfl))) (fmk (Or.inr q882) (fmk (Or.inr q908) (fmk (Or.inr q909) (fmk (Or.inr q910) (fmk (Or.inr q887) (fmk (Or.inl (Or.inr (Or.inr rfl))) (fmk (Or.inr q867) (fmk (Or.inr q873) (fmk (Or.inr q874) (fmk (Or.inr q875) (fmk (Or.inr q877) (fmk (Or.inr q879) (fmk (Or.inr q883) (fmk (Or.inr q885) (fmk (Or.inr q884) fmz)))))))))))))))))))))))))))))))))))))), rfl, rfl, rfl, rfl, by decide⟩
theorem exc22 : EXC 22 := ⟨by decide, _, 6, rfl, (fmk (Or.inr q207) (fmk (Or.inr q886) (fmk (Or.inr q895) (fmk (Or.inr q898) (fmk (Or.inr q901) (fmk (Or.inr q903) (fmk (Or.inr q887) (fmk (Or.inr q888) (fmk (Or.inr q242) (fmk (Or.inr q243) (fmk (Or.inr q889) (fmk (Or.inr q894) (fmk (Or.inr q899) (fmk (Or.inr q916) (fmk (Or.inr q876) (fmk (Or.inr q917) (fmk (Or.inr q878) (fmk (Or.inr q918) (fmk (Or.inr q880) (fmk (Or.inr q890) (fmk (Or.inl (Or.inl rfl)) (fmk (Or.inr q892) (fmk (Or.inl (Or.inr (Or.inl rfl))) (fmk (Or.inr q882) (fmk (Or.inr q908) (fmk (Or.inr q909) (fmk (Or.inr q910) (fmk (Or.inr q887) (fmk (Or.inl (Or.inr (Or.inr rfl))) (fmk (Or.inr q1945) (fmk (Or.inr q1947) (fmk (Or.inr q897) (fmk (Or.inr q1948) (fmk (Or.inr q1949) (fmk (Or.inr q1950) (fmk (Or.inr q1952) (fmk (Or.inr q885) (fmk (Or.inr q884) fmz)))))))))))))))))))))))))))))))))))))), rfl, rfl, rfl, rfl, by decide⟩
theorem asgO {G : rg_G} : ∀ c, rg_obj.contains c = true → AsgOK G 4 c := by
  intro c h
  have h : c = 4 ∨ c = 3 ∨ c = 16 ∨ c = 13 := by simpa [rg_obj] using h
  rcases h with rfl | rfl | rfl | rfl <;> exact aas4 4 _ (by simp)
theorem aasL6 {G : rg_G} : ∀ k c, (k, c) ∈ ([(6, 910), (6, 911), (6, 912), (6, 913), (6, 914), (6, 915), (6, 916), (6, 917), (6, 918)] : List (Nat × Nat)) → AsgOK G k c := by
  intro k c h
  simp only [List.mem_cons, List.not_mem_nil, or_false, Prod.mk.injEq] at h
  rcases h with ⟨rfl, rfl⟩ | ⟨rfl, rfl⟩ | ⟨rfl, rfl⟩ | ⟨rfl, rfl⟩ | ⟨rfl, rfl⟩ | ⟨rfl, rfl⟩ | ⟨rfl, rfl⟩ | ⟨rfl, rfl⟩ | ⟨rfl, rfl⟩
  · exact asg_lam (List.mem_of_getElem? (i := 0) rfl) (by decide) (by decide) rfl
  · exact asg_lam (List.mem_of_getElem? (i := 1) rfl) (by decide) (by decide) rfl
  · exact asg_lam (List.mem_of_getElem? (i := 2) rfl) (by decide) (by decide) rfl
  · exact asg_lam (List.mem_of_getElem? (i := 3) rfl) (by decide) (by decide) rfl
  · exact asg_lam (List.mem_of_getElem? (i := 4) rfl) (by decide) (by decide) rfl
  · exact asg_lam (List.mem_of_getElem? (i := 5) rfl) (by decide) (by decide) rfl
  · exact asg_lam (List.mem_of_getElem? (i := 6) rfl) (by decide) (by decide) rfl
  · exact asg_lam (List.mem_of_getElem? (i := 7) rfl) (by decide) (by decide) rfl
  · exact asg_lam (List.mem_of_getElem? (i := 8) rfl) (by decide) (by decide) rfl
theorem aasL5 {G : rg_G} : ∀ k c, (k, c) ∈ ([(5, 920), (5, 921)] : List (Nat × Nat)) → AsgOK G k c := by
  intro k c h
  simp only [List.mem_cons, List.not_mem_nil, or_false, Prod.mk.injEq] at h
  rcases h with ⟨rfl, rfl⟩ | ⟨rfl, rfl⟩
  · exact asg_lam (List.mem_of_getElem? (i := 9) rfl) (by decide) (by decide) rfl
  · exact asg_lam (List.mem_of_getElem? (i := 10) rfl) (by decide) (by decide) rfl
theorem lamt_Making : ∀ q ∈ ([(910, 480), (911, 481), (912, 482), (913, 483), (914, 484), (915, 485), (916, 486), (917, 487), (918, 488)] : List (Nat × Nat)), 480 ≤ q.2 ∧ q.2 < 500 ∧ (("RegisterColours$Making" = "RegisterColours$Making" ∧ "(JJ)J" = "(JJ)J" ∧ (LCS q.1 q.2 ∨ LCT q.1 q.2)) ∨ ("RegisterColours$Making" = "RegisterColours$Safety" ∧ "(JJ)J" = "(II)Z" ∧ LCF q.1 q.2)) := (fmk ⟨by decide, by decide, Or.inl ⟨rfl, rfl, Or.inl ⟨"lambda$new$0", _, _, 4, by decide, (List.mem_of_getElem? (i := 0) rfl), lfs_all _ (by decide), rfl, rfl, by decide, (fun i o h => match i, h with
    | 0, h => by cases h; rfl
    | 1, h => by cases h; rfl
    | 2, h => by cases h; rfl
    | 3, h => by cases h; rfl
    | _ + 4, h => nomatch h), by decide +kernel, mf4, rfl, q593⟩⟩⟩ (fmk ⟨by decide, by decide, Or.inl ⟨rfl, rfl, Or.inl ⟨"lambda$new$1", _, _, 5, by decide, (List.mem_of_getElem? (i := 1) rfl), lfs_all _ (by decide), rfl, rfl, by decide, (fun i o h => match i, h with
    | 0, h => by cases h; rfl
    | 1, h => by cases h; rfl
    | 2, h => by cases h; rfl
    | 3, h => by cases h; rfl
    | _ + 4, h => nomatch h), by decide +kernel, mf5, rfl, q595⟩⟩⟩ (fmk ⟨by decide, by decide, Or.inl ⟨rfl, rfl, Or.inl ⟨"lambda$new$2", _, _, 6, by decide, (List.mem_of_getElem? (i := 2) rfl), lfs_all _ (by decide), rfl, rfl, by decide, (fun i o h => match i, h with
    | 0, h => by cases h; rfl
    | 1, h => by cases h; rfl
    | 2, h => by cases h; rfl
    | 3, h => by cases h; rfl
    | _ + 4, h => nomatch h), by decide +kernel, mf6, rfl, q597⟩⟩⟩ (fmk ⟨by decide, by decide, Or.inl ⟨rfl, rfl, Or.inl ⟨"lambda$new$3", _, _, 7, by decide, (List.mem_of_getElem? (i := 3) rfl), lfs_all _ (by decide), rfl, rfl, by decide, (fun i o h => match i, h with
    | 0, h => by cases h; rfl
    | 1, h => by cases h; rfl
    | 2, h => by cases h; rfl
    | 3, h => by cases h; rfl
    | _ + 4, h => nomatch h), by decide +kernel, mf7, rfl, q599⟩⟩⟩ (fmk ⟨by decide, by decide, Or.inl ⟨rfl, rfl, Or.inl ⟨"lambda$new$4", _, _, 8, by decide, (List.mem_of_getElem? (i := 4) rfl), lfs_all _ (by decide), rfl, rfl, by decide, (fun i o h => match i, h with
    | 0, h => by cases h; rfl
    | 1, h => by cases h; rfl
    | 2, h => by cases h; rfl
    | 3, h => by cases h; rfl
    | _ + 4, h => nomatch h), by decide +kernel, mf8, rfl, q601⟩⟩⟩ (fmk ⟨by decide, by decide, Or.inl ⟨rfl, rfl, Or.inr ⟨_, _, 9, 0, _, rfl, (List.mem_of_getElem? (i := 5) rfl), rfl, rfl, by decide, (fun i o h => match i, h with
    | 0, h => by cases h; rfl
    | 1, h => by cases h; rfl
    | 2, h => by cases h; rfl
    | 3, h => by cases h; rfl
    | 4, h => by cases h; rfl
    | 5, h => by cases h; rfl
    | _ + 6, h => nomatch h), by decide +kernel, mf9, rfl, q604, rfl, by decide, qs11⟩⟩⟩ (fmk ⟨by decide, by decide, Or.inl ⟨rfl, rfl, Or.inl ⟨"lambda$new$5", _, _, 10, by decide, (List.mem_of_getElem? (i := 6) rfl), lfs_all _ (by decide), rfl, rfl, by decide, (fun i o h => match i, h with
    | 0, h => by cases h; rfl
    | 1, h => by cases h; rfl
    | 2, h => by cases h; rfl
    | 3, h => by cases h; rfl
    | _ + 4, h => nomatch h), by decide +kernel, mf10, rfl, q606⟩⟩⟩ (fmk ⟨by decide, by decide, Or.inl ⟨rfl, rfl, Or.inl ⟨"lambda$new$6", _, _, 11, by decide, (List.mem_of_getElem? (i := 7) rfl), lfs_all _ (by decide), rfl, rfl, by decide, (fun i o h => match i, h with
    | 0, h => by cases h; rfl
    | 1, h => by cases h; rfl
    | 2, h => by cases h; rfl
    | 3, h => by cases h; rfl
    | _ + 4, h => nomatch h), by decide +kernel, mf11, rfl, q610⟩⟩⟩ (fmk ⟨by decide, by decide, Or.inl ⟨rfl, rfl, Or.inl ⟨"lambda$new$7", _, _, 12, by decide, (List.mem_of_getElem? (i := 8) rfl), lfs_all _ (by decide), rfl, rfl, by decide, (fun i o h => match i, h with
    | 0, h => by cases h; rfl
    | 1, h => by cases h; rfl
    | 2, h => by cases h; rfl
    | 3, h => by cases h; rfl
    | _ + 4, h => nomatch h), by decide +kernel, mf12, rfl, q612⟩⟩⟩ fmz)))))))))
theorem lamt_Safety : ∀ q ∈ ([(920, 489), (921, 490)] : List (Nat × Nat)), 480 ≤ q.2 ∧ q.2 < 500 ∧ (("RegisterColours$Safety" = "RegisterColours$Making" ∧ "(II)Z" = "(JJ)J" ∧ (LCS q.1 q.2 ∨ LCT q.1 q.2)) ∨ ("RegisterColours$Safety" = "RegisterColours$Safety" ∧ "(II)Z" = "(II)Z" ∧ LCF q.1 q.2)) := (fmk ⟨by decide, by decide, Or.inr ⟨rfl, rfl, "isFewHeavy", _, _, 227, 12, _, by decide, (List.mem_of_getElem? (i := 9) rfl), lfc_F _ (by decide), rfl, rfl, by decide, (fun i o h => match i, h with
    | 0, h => by cases h; rfl
    | 1, h => by cases h; rfl
    | 2, h => by cases h; rfl
    | 3, h => by cases h; rfl
    | 4, h => by cases h; rfl
    | 5, h => by cases h; rfl
    | _ + 6, h => nomatch h), by decide +kernel, mf227, rfl, q1133, rfl, by decide, qs31⟩⟩ (fmk ⟨by decide, by decide, Or.inr ⟨rfl, rfl, "isBorneByFixed", _, _, 233, 12, _, by decide, (List.mem_of_getElem? (i := 10) rfl), lfc_F _ (by decide), rfl, rfl, by decide, (fun i o h => match i, h with
    | 0, h => by cases h; rfl
    | 1, h => by cases h; rfl
    | 2, h => by cases h; rfl
    | 3, h => by cases h; rfl
    | 4, h => by cases h; rfl
    | 5, h => by cases h; rfl
    | _ + 6, h => nomatch h), by decide +kernel, mf233, rfl, q1173, rfl, by decide, qs32⟩⟩ fmz))
