/-! the induction over the fuel: what rg_ex answers the machine does -/
set_option maxRecDepth 100000
def PcR (G : rg_G) (as : List Value) (σ : rg_S) : Array Value → State → Prop := fun a U => a = as.toArray ∧ KS G U ∧ hp G σ U.heap
def QcR (G : rg_G) (r : rg_R) : Array Value → State → Outcome → State → Prop := fun _ _ o t => ∃ v σ', r = .inl (v, σ') ∧ o = .returned v ∧ hp G σ' t.heap
def XcR (G : rg_G) (r : rg_R) : Nat → String → State → State → Prop := fun q E _ t => ∃ σ' c k, r = .inr (q, σ') ∧ hp G σ' t.heap ∧ rg_tc σ' q = some c ∧ rg_cl[c]? = some k ∧ E = k.1
def frG (G : rg_G) : Addr → Prop := fun a => (g_0 G).size ≤ a
theorem PcR.blind {G : rg_G} {as : List Value} {σ : rg_S} : FrameBlind (PcR G as σ) := fun a U g mk h => ⟨h.1, h.2.1.moved (u := U) (U := U.calling g mk a) (State.WarmedH.refl U), h.2.2⟩
/-- the words of a method's contract -/
def rg_cw (y : Nat) : Cond := if rg_hh y = [] then .code (rg_nm y) (rg_by y) (rg_ml y) (rg_rt y) else .codeWith (rg_nm y) (rg_by y) (rg_ml y) (rg_rt y) (rg_hh y)
def rg_ws (y : Nat) : List Cond := rg_cw y :: lw_all
def rmD (d c s : Nat) : Room := { frames := d + 1, cells := c, slots := s, locals := 64 * d + 3200 }
def CT (l : Launch) (G : rg_G) (d y : Nat) (as : List Value) (σ : rg_S) (r : rg_R) : Prop :=
  vx_Met l (rg_nm y) (rg_ws y) (rmD d (rg_sz (resS r) - rg_sz σ) (rg_sl (resS r) - rg_sl σ)) (PcR G as σ) (QcR G r) (XcR G r) (rg_sz (resS r) - rg_sz σ) (rg_sl (resS r) - rg_sl σ) (frG G)
/-- a call that has come back, or thrown -/
def RunW (G : rg_G) (p : Program) (l : Launch) (e : Env) (R : Room) (s : State) (m : MethodId) (args : Array Value) (below : List Frame) (meth : Method) (c : Code) (H : Heap) (locs : List Loc) (cells slots : Nat) (g : JFrame) (npc : Nat) (rest : List Value) (σ : rg_S) (w : rg_R) : Prop :=
  ∀ T : State, T.heap = H → Stand p l e R s m args below meth c T locs cells slots →
    ∃ (T' : State) (locs' : List Loc), hp G (resS w) T'.heap ∧ LB G locs' ∧ Stand p l e R s m args below meth c T' locs' (cells + (rg_sz (resS w) - rg_sz σ)) (slots + (rg_sl (resS w) - rg_sl σ)) ∧
      ((∃ v σ', w = .inl (v, σ') ∧ ∀ target, Steps p.tables e below (T'.setTop { g with pc := npc, stack := v.toList ++ rest }) target → Steps p.tables e below (T.setTop g) target) ∨
       (∃ q σ' ci k ce, w = .inr (q, σ') ∧ rg_tc σ' q = some ci ∧ rg_cl[ci]? = some k ∧ T'.heap[q]? = some ce ∧ ce.vm = .none ∧ s.vm.findClass k.1 = some ce.cls ∧ Steps p.tables e below (T.setTop g) ((T'.setTop { g with stack := rest }).pushFrame (.throwing q))))
theorem hp.thr {G : rg_G} {σ : rg_S} {H : Heap} {q ci : Nat} {s : State} (hP : hp G σ H) (hK : KS G s) (h : rg_tc σ q = some ci) : ∃ k ce, rg_cl[ci]? = some k ∧ H[q]? = some ce ∧ ce.vm = .none ∧ s.vm.findClass k.1 = some ce.cls := by
  unfold rg_tc at h
  split at h
  · rename_i c F hh
    split at h
    · rename_i hc
      cases h
      obtain ⟨-, hcell⟩ := hP.2.2.2.2.2 q _ hh
      have h9 : ci < 910 := by
        rw [Bool.or_eq_true, beq_iff_eq, beq_iff_eq] at hc
        omega
      obtain ⟨r, hr, ⟨cell, q1, q2, q3, -⟩, -⟩ := hcell.resolve_right fun z => absurd z.1 (by omega)
      exact ⟨r, cell, hr, q1, q3, by rw [q2]; exact (hK.1.1 ci r hr).2.1⟩
    · cases h
  · cases h
theorem runW_of {G : rg_G} {p : Program} {l : Launch} {e : Env} {R : Room} {s : State} {m : MethodId} {args : Array Value} {below : List Frame} {meth : Method} {c : Code} {H : Heap} {locs : List Loc} {cells slots pc : Nat} {ls : Array Slot} {st rest : List Value} {σ : rg_S} {w : rg_R} {as : Array Value} (hB : LB G locs)
    (h : vx_Run p l e R s m args below meth c H locs cells slots (rg_sz (resS w) - rg_sz σ) (rg_sl (resS w) - rg_sl σ) (F0 m pc ls st) rest (QcR G w as) (XcR G w) (frG G)) : RunW G p l e R s m args below meth c H locs cells slots (F0 m pc ls st) (pc + 3) rest σ w := by
  intro T hT X
  have hLB : ∀ L : List Loc, (∀ q ∈ L, frG G q.base) → LB G (locs ++ L) := fun L hL q hq => (List.mem_append.mp hq).elim (hB q) (hL q)
  rcases h T hT X with ⟨v, st₀, t, T', L, h1, h2, h3, h4, h5, ⟨v', σ', rfl, hv, hh⟩, h7⟩ | ⟨q, st₀, t, T', L, E, ce, h1, h2, h3, h4, h5, ⟨σ', ci, k, rfl, hh, hc1, hc2, rfl⟩, hce, hcv, hcl, h7⟩
  · cases hv
    exact ⟨T', locs ++ L, by rw [h4]; exact hh, hLB L h3, h2, Or.inl ⟨v, σ', rfl, h7⟩⟩
  · exact ⟨T', locs ++ L, by rw [h4]; exact hh, hLB L h3, h2, Or.inr ⟨q, σ', ci, k, ce, rfl, hc1, hc2, by rw [h4]; exact hce, hcv, hcl, h7⟩⟩
def CallOK (l : Launch) (G : rg_G) (y pc : Nat) (o : rg_op) : Prop := ∀ (L : rg_L) (st : List Value) (σ : rg_S) (y' : Nat) (as : List Value) (npc : Nat) (rest : List Value) (σ' : rg_S), rg_do o L st σ = some (.inr (.inl (y', as, npc, rest, σ'))) → σ' = σ ∧
  ∀ {p : Program} {e : Env} {R : Room} {s : State} {m : MethodId} {args : Array Value} {below : List Frame} {meth : Method} {c : Code} {H : Heap} {locs : List Loc} {cells slots : Nat} {ls : Array Slot} {d : Nat} {w : rg_R},
    CX p y s m args meth c → KS G s → hp G σ H → LB G locs → LV ls (rg_ml y) L → rg_up σ (resS w) → cells + (rg_sz (resS w) - rg_sz σ) ≤ R.cells → slots + (rg_sl (resS w) - rg_sl σ) ≤ R.slots →
    ((y' < 480 ∧ d + 2 ≤ R.frames ∧ 64 * (d + 1) + 3200 ≤ R.locals ∧ CT l G d y' as σ w) ∨ (500 ≤ y' ∧ 5 ≤ R.frames ∧ 3456 ≤ R.locals ∧ rg_intr y' as σ = some w) ∨
      (480 ≤ y' ∧ y' < 500 ∧ d + 2 ≤ R.frames ∧ 64 * (d + 1) + 3200 ≤ R.locals ∧ ∃ n, rg_ex n d y' 0 (rg_pad (rg_ml y') (rg_args as)) [] σ = some w ∧ ∀ {d' y2 : Nat} {as2 : List Value} {σ2 : rg_S} {r2 : rg_R}, y2 < 480 → (rg_args as2).length ≤ rg_ml y2 → rg_ex n d' y2 0 (rg_pad (rg_ml y2) (rg_args as2)) [] σ2 = some r2 → CT l G d' y2 as2 σ2 r2)) →
    RunW G p l e R s m args below meth c H locs cells slots (F0 m pc ls st) npc rest σ w
def RowOK (l : Launch) (G : rg_G) (y pc : Nat) (o : rg_op) : Prop := (okd o.1 ≤ 1 → GoOK G y pc o) ∧ (okd o.1 = 1 → CallOK l G y pc o) ∧ (okd o.1 = 2 → RetOK G y pc o) ∧ (okd o.1 = 3 → decode (rg_by y) pc = .ok (.athrow, 1))
/-- what is caught, and what goes out -/
def HndOK (G : rg_G) (y : Nat) : Prop := ∀ {p : Program} {l : Launch} {e : Env} {R : Room} {s : State} {m : MethodId} {args : Array Value} {below : List Frame} {meth : Method} {c : Code} {H : Heap} {locs : List Loc} {cells slots : Nat} {ls : Array Slot} {rest : List Value} {Q : State → Prop} {pc q ci : Nat} {k : vw_C} {ce : Cell},
  CX p y s m args meth c → KS G s → rg_cl[ci]? = some k → H[q]? = some ce → ce.vm = .none → s.vm.findClass k.1 = some ce.cls →
    (∀ h, rg_hd pc ci (rg_hds y) = some h → W p l e R s m args below meth c H locs cells slots Q (F0 m h ls [.ref q]) → vx_W p l e R s m args below meth c H locs cells slots Q (F0 m pc ls rest) q) ∧
    (rg_hd pc ci (rg_hds y) = none → rg_cov pc (rg_hds y) = false → ∀ x ∈ c.exceptionTable.toList, covers x pc = false)
theorem hnd_nil {G : rg_G} {y : Nat} (h1 : rg_hds y = []) (h2 : rg_hh y = []) : HndOK G y := by
  intro p l e R s m args below meth c H locs cells slots ls rest Q pc q ci k ce cx hK hk hce hcv hcl
  refine ⟨fun h hh => absurd hh (by rw [h1]; exact fun z => nomatch z), fun _ _ x hx => ?_⟩
  rw [cx.2.2.2.2.2.2.2.2.1, h2] at hx
  cases hx
def rg_ROWS (l : Launch) (G : rg_G) : Prop := ∀ y pc o, y < 480 → rg_at y pc = some o → RowOK l G y pc o
theorem rg_args_lv : ∀ (as : List Value), (rg_args as).length = (lg_sl as).length
  | [] => rfl
  | v :: r => by
    unfold rg_args
    by_cases h : v.category = 2
    · rw [if_pos (rg_isl_cat.mpr h)]
      simp [lg_sl, h, rg_args_lv r] <;> simpa [lg_sl] using rg_args_lv r
    · rw [if_neg (fun z => h (rg_isl_cat.mp z))]
      simp [lg_sl, h, rg_args_lv r] <;> simpa [lg_sl] using rg_args_lv r

theorem lv_args_at : ∀ (as : List Value) (k i : Nat) (v : Value), (rg_args as)[i]? = some (some v) → (k + i, v) ∈ lv_args k as
  | [], k, i, v, h => by simp [rg_args] at h
  | w :: r, k, i, v, h => by
    unfold rg_args at h
    by_cases hc : w.category = 2
    · rw [if_pos (rg_isl_cat.mpr hc)] at h
      match i, h with
      | 0, h =>
        simp at h
        subst h
        unfold lv_args
        simp
      | 1, h => simp at h
      | i + 2, h =>
        have := lv_args_at r (k + 2) i v (by simpa using h)
        rw [show k + (i + 2) = k + 2 + i by omega]
        unfold lv_args
        simp [hc]
        exact Or.inr this
    · rw [if_neg (fun z => hc (rg_isl_cat.mp z))] at h
      match i, h with
      | 0, h =>
        simp at h
        subst h
        unfold lv_args
        simp
      | i + 1, h =>
        have := lv_args_at r (k + 1) i v (by simpa using h)
        rw [show k + (i + 1) = k + 1 + i by omega]
        unfold lv_args
        simp [hc]
        exact Or.inr this
theorem LV.entry {as : List Value} {n : Nat} (h : (rg_args as).length ≤ n) : LV ((lg_sl as ++ List.replicate (n - (lg_sl as).length) Slot.unset).toArray) n (rg_pad n (rg_args as)) := by
  have hl := rg_args_lv as
  have he := lv_entry as (n := n) (by omega)
  refine ⟨he.1, he.2.1, by unfold rg_pad; rw [List.length_append, List.length_replicate]; omega, fun i v hv => ?_⟩
  unfold rg_pad at hv
  by_cases hi : i < (rg_args as).length
  · rw [List.getElem?_append_left hi] at hv
    have := lv_args_at as 0 i v hv
    rw [Nat.zero_add] at this
    exact he.2.2 _ this
  · rw [List.getElem?_append_right (by omega), List.getElem?_replicate] at hv
    split at hv <;> cases hv
