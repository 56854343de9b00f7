/-! RowOK out of its parts; Object.<init>; calls through interfaces -/
set_option maxRecDepth 100000
section ROW
variable {l : Launch} {G : rg_G} {y pc npc : Nat} {o : rg_op} {x : List (Nat × Nat)}
/-- a row that stays in its frame -/
theorem row_go (hk : okd o.1 = 0) (h : GoOK G y pc o) : RowOK l G y pc o := ⟨fun _ => h, fun z => absurd (hk.symm.trans z) (by decide), fun z => absurd (hk.symm.trans z) (by decide), fun z => absurd (hk.symm.trans z) (by decide)⟩
theorem row_ret (hk : okd o.1 = 2) (h : RetOK G y pc o) : RowOK l G y pc o := ⟨fun z => absurd z (by rw [hk]; decide), fun z => absurd (hk.symm.trans z) (by decide), fun _ => h, fun z => absurd (hk.symm.trans z) (by decide)⟩
theorem row_thr (hk : okd o.1 = 3) (h : decode (rg_by y) pc = .ok (.athrow, 1)) : RowOK l G y pc o := ⟨fun z => absurd z (by rw [hk]; decide), fun z => absurd (hk.symm.trans z) (by decide), fun z => absurd (hk.symm.trans z) (by decide), fun _ => h⟩
/-- a row that the abstract machine never does -/
theorem row_none (h : ∀ L st σ, rg_do o L st σ = none) (hk : okd o.1 ≤ 2) : RowOK l G y pc o := by
  refine ⟨fun _ L st σ pc' L' st' σ' hd => ?_, fun _ L st σ y' as npc rest σ' hd => ?_, fun _ L st σ v σ' hd => ?_, fun z => absurd hk (by rw [z]; decide)⟩ <;> (rw [h] at hd; cases hd)
theorem row_call (hk : okd o.1 = 1) (hno : ∀ (L : rg_L) (st : List Value) (σ : rg_S) (z : Nat × rg_L × List Value × rg_S), rg_do o L st σ ≠ some (.inl z)) (h : CallOK l G y pc o) : RowOK l G y pc o := ⟨fun _ L st σ pc' L' st' σ' hd => absurd hd (hno L st σ _), fun _ => h, fun z => absurd (hk.symm.trans z) (by decide), fun z => absurd (hk.symm.trans z) (by decide)⟩
theorem cal_no {n m y1 z : Nat} {t : List (Nat × Nat)} (L : rg_L) (st : List Value) (σ : rg_S) (w : Nat × rg_L × List Value × rg_S) : rg_cal ((n, m) :: (y1, z) :: t) npc L st σ ≠ some (.inl w) := by
  intro h
  unfold rg_cal at h
  dsimp only at h
  split at h
  · split at h
    · split at h <;> cases h
    · split at h
      · split at h
        · split at h
          · split at h <;> cases h
          · cases h
        · cases h
      · cases h
    · split at h
      · split at h <;> cases h
      · cases h
    · cases h
  · cases h
/-- the constructor of Object -/
theorem row_objinit {idx : Nat} (d : decode (rg_by y) pc = .ok (.invokespecial idx, 3)) (hl : Cond.methodLink (rg_nm y).cls idx Lib.objectInit ∈ lw_all) (hi : Cond.instanceMethod Lib.objectInit ∈ lw_all) (hc : Cond.code Lib.objectInit ⟨#[0xb1]⟩ 1 none ∈ lw_all) : RowOK l G y pc (.invokespecial idx, pc + 3, [(0, 2)]) := by
  have key : ∀ (L : rg_L) (st : List Value) (σ : rg_S) (z : rg_O), rg_do (.invokespecial idx, pc + 3, [(0, 2)]) L st σ = some z → ∃ b r, st = .ref b :: r ∧ rg_w r ≤ 8 ∧ z = .inl (pc + 3, L, r, σ) := by
    intro L st σ z h
    replace h : (if 0 ≤ st.length then (match st.drop 0 with
         | .ref b :: r => (match st with
             | .ref _ :: r0 => if rg_w r0 ≤ 8 then rg_go (pc + 3) L r0 σ else none
             | _ => none)
         | _ => none) else none) = some z := h
    rw [if_pos (Nat.zero_le _)] at h
    split at h
    · split at h
      · split at h
        · rename_i hw
          cases h
          exact ⟨_, _, rfl, hw, rfl⟩
        · cases h
      · cases h
    · cases h
  refine ⟨fun _ L st σ pc' L' st' σ' hd => ?_, fun _ L st σ y' as npc rest σ' hd => ?_, fun z => absurd (show (1 : Nat) = 2 from z) (by decide), fun z => absurd (show (1 : Nat) = 3 from z) (by decide)⟩
  · obtain ⟨b, r, rfl, hw, hz⟩ := key L st σ _ hd
    cases hz
    intro p l e R s m args below meth c H locs cells slots Q ls cx hK hP hB hL hf hlo hcl hsl kk
    have kk := kk H ls locs hP hB hL
    rw [Nat.sub_self, Nat.sub_self] at kk
    refine W.objInit cx.1 cx.2.1 cx.2.2.2.2.2.1 (cx.2.2.2.2.2.2.1 _ hl) (cx.2.2.2.2.2.2.1 _ hi) (cx.2.2.2.2.2.2.1 _ hc) rfl (hL.1.trans cx.2.2.1.symm) rfl d hf ?_ kk
    rw [rg_w_sum]
    show 2 * 0 + rg_w _ + 12 ≤ R.locals
    omega
  · obtain ⟨b, r, rfl, hw, hz⟩ := key L st σ _ hd
    cases hz
theorem runW_of5 {p : Program} {e : Env} {R : Room} {s : State} {m : MethodId} {args : Array Value} {below : List Frame} {meth : Method} {c : Code} {H : Heap} {locs : List Loc} {cells slots pc : Nat} {ls : Array Slot} {st rest : List Value} {σ : rg_S} {w : rg_R} {as : Array Value} (hB : LB G locs)
    (h : vx_Run5 p l e R s m args below meth c H locs cells slots (rg_sz (resS w) - rg_sz σ) (rg_sl (resS w) - rg_sl σ) (F0 m pc ls st) rest (QcR G w as) (XcR G w) (frG G)) : RunW G p l e R s m args below meth c H locs cells slots (F0 m pc ls st) (pc + 5) rest σ w := by
  intro T hT X
  have hLB : ∀ L : List Loc, (∀ q ∈ L, frG G q.base) → LB G (locs ++ L) := fun L hL q hq => (List.mem_append.mp hq).elim (hB q) (hL q)
  rcases h T hT X with ⟨v, st₀, t, T', L, h1, h2, h3, h4, h5, ⟨v', σ', rfl, hv, hh⟩, h7⟩ | ⟨q, st₀, t, T', L, E, ce, h1, h2, h3, h4, h5, ⟨σ', ci, k, rfl, hh, hc1, hc2, rfl⟩, hce, hcv, hcl, h7⟩
  · cases hv
    exact ⟨T', locs ++ L, by rw [h4]; exact hh, hLB L h3, h2, Or.inl ⟨v, σ', rfl, h7⟩⟩
  · exact ⟨T', locs ++ L, by rw [h4]; exact hh, hLB L h3, h2, Or.inr ⟨q, σ', ci, k, ce, rfl, hc1, hc2, by rw [h4]; exact hce, hcv, hcl, h7⟩⟩
theorem cnm_of {ci : Nat} {r : vw_C} (h : rg_cl[ci]? = some r) : rg_cnm ci = some r.1 := by
  unfold rg_cnm
  rw [if_neg (cl_ne h), h]; rfl
/-- a call through an interface -/
def IF (y idx n ci y1 : Nat) (x : MethodName) : Prop := ci < 910 ∧ MF y1 n ∧ rg_hh y1 = [] ∧ Cond.instanceMethod (rg_nm y1) ∈ lw_all ∧ Cond.methodLink (rg_nm y).cls idx x ∈ lw_all ∧ x.cls ≠ "java/lang/invoke/MethodHandle" ∧ x.cls ≠ "java/lang/invoke/VarHandle" ∧ (parseMethodDescriptor x.desc).map (fun d => d.parameters.length) = some n ∧
  ∃ r, rg_cl[ci]? = some r ∧ Cond.selects r.1 x (rg_nm y1) ∈ lw_all ∧ va_IF r.1 x (rg_nm y1) ∈ rg_facts
theorem call_F {idx cnt n : Nat} {t : List (Nat × Nat)} {x : MethodName} (d : decode (rg_by y) pc = .ok (.invokeinterface idx cnt, 5)) (hx : ∀ q ∈ t, IF y idx n q.1 q.2 x) : CallOK l G y pc (.invokeinterface idx cnt, pc + 5, (n, 1) :: t) := by
  intro L st σ y' as npc rest σ' hd
  obtain ⟨b, ci, F, h1, h2, hrd, hlk, rfl, rfl, rfl, hw⟩ := cal1 (n := n) (t := t) (npc := pc + 5) (L := L) hd
  refine ⟨rfl, ?_⟩
  intro p e R s m args below meth c H locs cells slots ls d' w cx hK hP hB hL hup hc hs hor
  obtain ⟨h9, mf, hh, hi, hl, n1, n2, n3, r, hr, hsel, hif⟩ := lk_all (P := fun ci y1 => IF y idx n ci y1 x) hx hlk
  rcases hor with ⟨-, hf, hlo, hct⟩ | ⟨h5, -⟩ | ⟨h5, -⟩
  · have hst : st = (st.take n).reverse.reverse ++ .ref b :: rest := by rw [← h2]; exact rg_st_eq.symm
    have mf2 := mf
    obtain ⟨m1, m2, m3, m4, m5, m6, m7⟩ := mf2
    obtain ⟨f1, f2, f3, f4, f5⟩ := hK.fact hif
    have hcode := cx.2.2.2.2.2.2.1 _ m3
    unfold rg_cw at hcode
    rw [if_pos hh] at hcode
    refine runW_of5 hB (vx_runF (x := x) (bytes := rg_by y') (maxL := rg_ml y') (ret := rg_rt y') (hK.1.1 ci r hr).2 (cfix cx) hct ⟨⟨rfl, rfl, hf, by show 8 + (rg_ml _ + 11) + (64 * d' + 3200) ≤ R.locals; omega, pay_in cx.2.2.2.2.2.2.1 (ws_good m3), by unfold rg_ws rg_cw; rw [if_pos hh]; exact List.mem_cons_self⟩, cx.2.2.2.2.2.2.1 _ hl, va_Nw.use rfl f1, va_Nw.use rfl f2, cx.2.2.2.2.2.2.1 _ hsel, cx.2.2.2.2.2.2.1 _ hi, va_Nw.use rfl f3, va_Nw.use rfl f4, va_Nw.use rfl f5, cx.2.2.2.2.2.2.1 _ m4, hcode, ⟨n1, n2⟩, fun sig h => ?_⟩ (pre_V hK hP hrd h9 (cnm_of hr)) rfl (rg_len_eq h1) hL.1 hst (rg_wok hw) d ⟨hc, hs⟩)
    rw [h] at n3
    exact (Option.some.inj n3).symm
  · exact absurd mf.1 (by omega)
  · exact absurd mf.1 (by omega)
end ROW
