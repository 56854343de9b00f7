/-! returns of references; what may stand in an array of objects -/
set_option maxRecDepth 100000
section MORE
variable {G : rg_G} {y pc npc : Nat} {x : List (Nat × Nat)}
def rfTy : FieldType → Bool
  | .object _ => true
  | .array _ => true
  | _ => false
theorem ret_a {rt : FieldType} (d : decode (rg_by y) pc = .ok (.areturn, 1)) (hy : rg_rt y = some rt) (hrt : rfTy rt = true) : RetOK G y pc (.areturn, npc, x) := by
  intro L st σ v σ' h
  obtain ⟨w, rfl, rfl, ht, rfl⟩ := ret_of (show rg_ret rg_isr st σ = _ from h)
  refine ⟨rfl, fun cx hq hf => ?_⟩
  have hr : (∃ n, rt = .object n) ∨ ∃ t, rt = .array t := by
    cases rt <;> first | exact Or.inl ⟨_, rfl⟩ | exact Or.inr ⟨_, rfl⟩ | (cases hrt)
  exact W.aret cx.1 cx.2.1 (cx.2.2.2.1.trans hy) hr (isr_cases ht) hq hf d cx.2.2.2.2.1
theorem asg4 {c : Nat} {r : vw_C} (hc : c < 910) (hr : rg_cl[c]? = some r) (hf : va_Nw (.castable r.1 "java/lang/Object") ∈ rg_facts) : AsgOK G 4 c := by
  refine ⟨by decide, cl_ne hr, fun s hK => ?_⟩
  obtain ⟨h1, kC, hkC, -⟩ := (hK.1.1 c r hr).2
  have he : clsId G c = (g_D G).1 c := by unfold clsId; rw [if_pos hc]
  rw [he]
  refine ⟨kC, hkC, fun comp E hE hcomp => ?_⟩
  obtain ⟨c0, t0, f1, f2, f3⟩ := Cond.castable_spec (va_Nw.use (A := #[]) rfl (hK.fact hf))
  cases h1.symm.trans f1
  have hE' : E = "java/lang/Object" := by
    have : FieldType.object "java/lang/Object" = FieldType.object E := hE
    cases this
    rfl
  rw [hE'] at hcomp
  cases f2.symm.trans hcomp
  exact f3
theorem cno_S {idx n m y1 z : Nat} {t : List (Nat × Nat)} (L : rg_L) (st : List Value) (σ : rg_S) (w : Nat × rg_L × List Value × rg_S) : rg_do (.invokestatic idx, npc, (n, m) :: (y1, z) :: t) L st σ ≠ some (.inl w) := cal_no (npc := npc) (n := n) (m := m) (y1 := y1) (z := z) (t := t) L st σ w
theorem cno_V {idx n m y1 z : Nat} {t : List (Nat × Nat)} (L : rg_L) (st : List Value) (σ : rg_S) (w : Nat × rg_L × List Value × rg_S) : rg_do (.invokevirtual idx, npc, (n, m) :: (y1, z) :: t) L st σ ≠ some (.inl w) := cal_no (npc := npc) (n := n) (m := m) (y1 := y1) (z := z) (t := t) L st σ w
theorem cno_P {idx n m y1 z : Nat} {t : List (Nat × Nat)} (L : rg_L) (st : List Value) (σ : rg_S) (w : Nat × rg_L × List Value × rg_S) : rg_do (.invokespecial idx, npc, (n, m) :: (y1, z) :: t) L st σ ≠ some (.inl w) := cal_no (npc := npc) (n := n) (m := m) (y1 := y1) (z := z) (t := t) L st σ w
theorem cno_F {idx cnt n m y1 z : Nat} {t : List (Nat × Nat)} (L : rg_L) (st : List Value) (σ : rg_S) (w : Nat × rg_L × List Value × rg_S) : rg_do (.invokeinterface idx cnt, npc, (n, m) :: (y1, z) :: t) L st σ ≠ some (.inl w) := cal_no (npc := npc) (n := n) (m := m) (y1 := y1) (z := z) (t := t) L st σ w
end MORE
