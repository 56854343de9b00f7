/-! the frame of the soundness: what a row owes at a return, a throw, a call; the contracts of the callees; the induction over the fuel -/
set_option maxRecDepth 100000
def okd : Instr → Nat
  | .invokestatic _ => 1
  | .invokevirtual _ => 1
  | .invokespecial _ => 1
  | .invokeinterface _ _ => 1
  | .ireturn => 2
  | .lreturn => 2
  | .areturn => 2
  | .return_ => 2
  | .athrow => 3
  | _ => 0
def outK : rg_O → Nat → Bool
  | .inl _, k => decide (k ≤ 1)
  | .inr (.inl _), k => decide (k = 1)
  | .inr (.inr (.inl _)), k => decide (k = 2)
  | .inr (.inr (.inr _)), k => decide (k = 3)
set_option maxHeartbeats 2000000 in
theorem rg_do_kind {o : rg_op} {L : rg_L} {st : List Value} {σ : rg_S} {z : rg_O} (h : rg_do o L st σ = some z) : outK z (okd o.1) = true := by
  unfold rg_do at h
  split at h
  all_goals (rename_i ho)
  all_goals (first | unfold rg_lod at h | unfold rg_sta at h | unfold rg_stj at h | unfold rg_inc at h | unfold rg_b2 at h | unfold rg_j2 at h | unfold rg_js at h | unfold rg_u1 at h | unfold rg_dv at h | unfold rg_nul at h | unfold rg_get at h | unfold rg_put at h | unfold rg_ial at h | unfold rg_jal at h | unfold rg_qal at h | unfold rg_ias at h | unfold rg_bas at h | unfold rg_jas at h | unfold rg_qas at h | unfold rg_len at h | unfold rg_nar at h | unfold rg_cst at h | unfold rg_ins at h | unfold rg_ldc at h | unfold rg_ldc2 at h | unfold rg_cal at h | unfold rg_new1 at h | unfold rg_dyn at h | unfold rg_ret at h | skip)
  all_goals (repeat' split at h)
  all_goals (try unfold rg_cnd at h)
  all_goals (try unfold rg_acm at h)
  all_goals (repeat' split at h)
  all_goals (try unfold rg_go at h)
  all_goals (try split at h)
  all_goals (first | (cases h; done) | (cases h; rw [ho]; rfl))
-- ===== returns =====
def RetOK (G : rg_G) (y pc : Nat) (o : rg_op) : Prop := ∀ (L : rg_L) (st : List Value) (σ : rg_S) (v : Option Value) (σ' : rg_S), rg_do o L st σ = some (.inr (.inr (.inl (v, σ')))) → σ' = σ ∧
  ∀ {p : Program} {l : Launch} {e : Env} {R : Room} {s : State} {m : MethodId} {args : Array Value} {below : List Frame} {meth : Method} {c : Code} {H : Heap} {locs : List Loc} {cells slots : Nat} {ls : Array Slot} {Qc : Array Value → State → Outcome → State → Prop} {free : Addr → Prop},
    CX p y s m args meth c → (∀ t : State, t.heap = H → s.WarmedH t.vm → Qc args s (.returned v) t) → (∀ q ∈ locs, free q.base) → W p l e R s m args below meth c H locs cells slots (MQ below Qc args s cells slots free) (F0 m pc ls st)
section RET
variable {G : rg_G} {y pc npc : Nat} {x : List (Nat × Nat)}
theorem ret_of {t : Value → Bool} {st : List Value} {σ σ' : rg_S} {v : Option Value} (h : rg_ret t st σ = some (.inr (.inr (.inl (v, σ'))))) : ∃ w, st = [w] ∧ v = some w ∧ t w = true ∧ σ' = σ := by
  unfold rg_ret at h
  split at h
  · split at h
    · rename_i w ht
      cases h
      exact ⟨w, rfl, rfl, ht, rfl⟩
    · cases h
  · cases h
theorem ret_i (d : decode (rg_by y) pc = .ok (.ireturn, 1)) (hy : rg_rt y = some .int) : RetOK G y pc (.ireturn, npc, []) := by
  intro L st σ v σ' h
  obtain ⟨w, rfl, rfl, ht, rfl⟩ := ret_of (show rg_ret (rg_isz []) st σ = _ from h)
  refine ⟨rfl, fun cx hq hf => ?_⟩
  cases w <;> first | exact W.iret cx.1 cx.2.1 (cx.2.2.2.1.trans hy) hq hf d cx.2.2.2.2.1 | (cases ht)
theorem ret_z (d : decode (rg_by y) pc = .ok (.ireturn, 1)) (hy : rg_rt y = some .boolean) (hx : x.isEmpty = false) (h1 : rg_tg x = 1) : RetOK G y pc (.ireturn, npc, x) := by
  intro L st σ v σ' h
  obtain ⟨w, rfl, rfl, ht, rfl⟩ := ret_of (show rg_ret (rg_isz x) st σ = _ from h)
  refine ⟨rfl, fun cx hq hf => ?_⟩
  cases w <;> first | (cases ht; done) | skip
  rename_i z
  have hz : rg_isb z = true := by
    have ht : (x.isEmpty || rg_isy (rg_tg x) z) = true := ht
    rw [hx, h1] at ht
    exact ht
  exact W.zret cx.1 cx.2.1 (cx.2.2.2.1.trans hy) (isb_nar hz) hq hf d cx.2.2.2.2.1
theorem ret_b (d : decode (rg_by y) pc = .ok (.ireturn, 1)) (hy : rg_rt y = some .byte) : RetOK G y pc (.ireturn, npc, [(2, 0)]) := by
  intro L st σ v σ' h
  obtain ⟨w, rfl, rfl, ht, rfl⟩ := ret_of (show rg_ret (rg_isz [(2, 0)]) st σ = _ from h)
  refine ⟨rfl, fun cx hq hf => ?_⟩
  cases w <;> first | (cases ht; done) | skip
  exact W.zret cx.1 cx.2.1 (cx.2.2.2.1.trans hy) (of_decide_eq_true ht) hq hf d cx.2.2.2.2.1
theorem ret_c (d : decode (rg_by y) pc = .ok (.ireturn, 1)) (hy : rg_rt y = some .char) : RetOK G y pc (.ireturn, npc, [(3, 0)]) := by
  intro L st σ v σ' h
  obtain ⟨w, rfl, rfl, ht, rfl⟩ := ret_of (show rg_ret (rg_isz [(3, 0)]) st σ = _ from h)
  refine ⟨rfl, fun cx hq hf => ?_⟩
  cases w <;> first | (cases ht; done) | skip
  exact W.zret cx.1 cx.2.1 (cx.2.2.2.1.trans hy) (of_decide_eq_true ht) hq hf d cx.2.2.2.2.1
theorem ret_l (d : decode (rg_by y) pc = .ok (.lreturn, 1)) (hy : rg_rt y = some .long) : RetOK G y pc (.lreturn, npc, x) := by
  intro L st σ v σ' h
  obtain ⟨w, rfl, rfl, ht, rfl⟩ := ret_of (show rg_ret rg_isj st σ = _ from h)
  refine ⟨rfl, fun cx hq hf => ?_⟩
  obtain ⟨z, rfl⟩ := isj_long ht
  exact W.lret cx.1 cx.2.1 (cx.2.2.2.1.trans hy) hq hf d cx.2.2.2.2.1
theorem ret_v (d : decode (rg_by y) pc = .ok (.return_, 1)) (hy : rg_rt y = none) : RetOK G y pc (.return_, npc, x) := by
  intro L st σ v σ' h
  simp only [rg_do] at h
  split at h
  · cases h
    exact ⟨rfl, fun cx hq hf => W.vret cx.1 cx.2.1 (cx.2.2.2.1.trans hy) hq hf d cx.2.2.2.2.1⟩
  · cases h
end RET
