/-! CallOK of the kinds of calls -/
set_option maxRecDepth 100000
theorem rg_w_sum : ∀ (l : List Value), (l.map fun v => v.category).sum = rg_w l
  | [] => rfl
  | v :: r => by
    show v.category + (r.map fun v => v.category).sum = (if rg_isl v then 2 else 1) + rg_w r
    rw [rg_w_sum r]
    congr 1
    cases v <;> rfl
/-- what is known of a callee by its code -/
def MF (y' n : Nat) : Prop := y' < 480 ∧ rg_ml y' ≤ 45 ∧ rg_cw y' ∈ lw_all ∧ Cond.initialized (rg_nm y').cls ∈ lw_all ∧ (rg_nm y').cls ≠ "java/lang/invoke/MethodHandle" ∧ (rg_nm y').cls ≠ "java/lang/invoke/VarHandle" ∧ (parseMethodDescriptor (rg_nm y').desc).map (fun d => d.parameters.length) = some n
theorem ws_good {y' : Nat} (h : rg_cw y' ∈ lw_all) : GoodIn lw_all (rg_ws y') := lw_good fun w hw => (List.mem_cons.mp hw).elim (fun e => e ▸ h) id
section CALL
variable {l : Launch} {G : rg_G} {y pc : Nat}
variable {p : Program} {e : Env} {R : Room} {s : State} {m : MethodId} {args : Array Value} {below : List Frame} {meth : Method} {c : Code} {H : Heap} {locs : List Loc} {cells slots : Nat} {ls : Array Slot} {L : rg_L}
theorem cb_of {y' n idx d A B : Nat} {own : String} (mf : MF y' n) (hh : rg_hh y' = []) (cx : CX p y s m args meth c) (hl : Cond.methodLink own idx (rg_nm y') ∈ lw_all) (hf : d + 2 ≤ R.frames) (hlo : 64 * (d + 1) + 3200 ≤ R.locals) :
    CallB R s args own idx (rg_nm y') (rg_by y') (rg_ml y') (rg_rt y') (rg_ws y') (rmD d A B) A B n := by
  obtain ⟨h1, h2, h3, h4, h5, h6, h7⟩ := mf
  exact callB_of n cx.2.2.2.2.2.2.1 (ws_good h3) (ws' := lw_all) (by unfold rg_ws rg_cw; rw [if_pos hh]) rfl rfl (cx.2.2.2.2.2.2.1 _ h4) (cx.2.2.2.2.2.2.1 _ hl) ⟨h5, h6, h7⟩ ⟨hf, by show 8 + (rg_ml y' + 11) + (64 * d + 3200) ≤ R.locals; omega⟩
theorem cfix (cx : CX p y s m args meth c) : CallFix p m c (rg_by y) (rg_ml y) s args lw_all (rg_nm y).cls := ⟨cx.1, cx.2.1, cx.2.2.1, cx.2.2.2.2.2.1, cx.2.2.2.2.2.2.1⟩
theorem cal0 {n y1 z npc npc' y' : Nat} {t : List (Nat × Nat)} {st as rest : List Value} {σ σ' : rg_S} (h : rg_cal ((n, 0) :: (y1, z) :: t) npc L st σ = some (.inr (.inl (y', as, npc', rest, σ')))) : n ≤ st.length ∧ y' = y1 ∧ as = (st.take n).reverse ∧ npc' = npc ∧ rest = st.drop n ∧ σ' = σ ∧ rg_w rest ≤ 8 := by
  replace h : (if n ≤ st.length then (if rg_w (st.drop n) ≤ 8 then (some (.inr (.inl (y1, (st.take n).reverse, npc, st.drop n, σ))) : Option rg_O) else none) else none) = some (.inr (.inl (y', as, npc', rest, σ'))) := h
  split at h
  · split at h
    · cases h
      exact ⟨by assumption, rfl, rfl, rfl, rfl, rfl, by assumption⟩
    · cases h
  · cases h
theorem cal1 {n npc npc' y' : Nat} {t : List (Nat × Nat)} {st as rest : List Value} {σ σ' : rg_S} (h : rg_cal ((n, 1) :: t) npc L st σ = some (.inr (.inl (y', as, npc', rest, σ')))) : ∃ b ci F, n ≤ st.length ∧ st.drop n = .ref b :: rest ∧ rg_rd σ b = some (.inr (ci, F)) ∧ rg_lk ci t = some y' ∧ as = .ref b :: (st.take n).reverse ∧ npc' = npc ∧ σ' = σ ∧ rg_w rest ≤ 8 := by
  replace h : (if n ≤ st.length then (match st.drop n with
         | .ref b :: r => (match rg_rd σ b with
           | some (.inr (ci, _)) => (match rg_lk ci t with
             | some y => if rg_w r ≤ 8 then (some (.inr (.inl (y, .ref b :: (st.take n).reverse, npc, r, σ))) : Option rg_O) else none
             | none => none)
           | _ => none)
         | _ => none) else none) = some (.inr (.inl (y', as, npc', rest, σ'))) := h
  split at h
  · split at h
    · rename_i b r hdr
      split at h
      · rename_i ci F hrd
        split at h
        · rename_i y1 hlk
          split at h
          · cases h
            exact ⟨b, ci, F, by assumption, hdr, hrd, hlk, rfl, rfl, rfl, by assumption⟩
          · cases h
        · cases h
      · cases h
    · cases h
  · cases h
theorem cal2 {n y1 z npc npc' y' : Nat} {t : List (Nat × Nat)} {st as rest : List Value} {σ σ' : rg_S} (h : rg_cal ((n, 2) :: (y1, z) :: t) npc L st σ = some (.inr (.inl (y', as, npc', rest, σ')))) : ∃ b, n ≤ st.length ∧ st.drop n = .ref b :: rest ∧ y' = y1 ∧ as = .ref b :: (st.take n).reverse ∧ npc' = npc ∧ σ' = σ ∧ rg_w rest ≤ 8 := by
  replace h : (if n ≤ st.length then (match st.drop n with
         | .ref b :: r => if rg_w r ≤ 8 then (some (.inr (.inl (y1, .ref b :: (st.take n).reverse, npc, r, σ))) : Option rg_O) else none
         | _ => none) else none) = some (.inr (.inl (y', as, npc', rest, σ'))) := h
  split at h
  · split at h
    · rename_i b r hdr
      split at h
      · cases h
        exact ⟨b, by assumption, hdr, rfl, rfl, rfl, rfl, by assumption⟩
      · cases h
    · cases h
  · cases h
theorem pre_S {as : List Value} {σ : rg_S} (hK : KS G s) (hP : hp G σ H) : PreS s H (PcR G as σ) as := ⟨PcR.blind, fun U hU hW => ⟨rfl, hK.moved hW, by rw [hU]; exact hP⟩⟩
theorem pre_V {as : List Value} {b ci : Nat} {F : Nat → Value} {nm : String} {σ : rg_S} (hK : KS G s) (hP : hp G σ H) (hrd : rg_rd σ b = some (.inr (ci, F))) (h9 : ci < 910) (hr : rg_cnm ci = some nm) : PreV s H nm b (PcR G (.ref b :: as) σ) as := by
  obtain ⟨cell, q1, q3, q5⟩ := hP.rcv hK hrd h9 hr
  exact ⟨PcR.blind, ⟨cell, q1, q3, q5⟩, fun U hU hW => ⟨rfl, hK.moved hW, by rw [hU]; exact hP⟩⟩
theorem rg_st_eq {n : Nat} {st : List Value} : (st.take n).reverse.reverse ++ st.drop n = st := by rw [List.reverse_reverse, List.take_append_drop]
theorem rg_len_eq {n : Nat} {st : List Value} (h : n ≤ st.length) : (st.take n).reverse.length = n := by rw [List.length_reverse, List.length_take]; omega
theorem rg_wok {pc : Nat} {rest st : List Value} (h : rg_w rest ≤ 8) : 2 * (F0 m pc ls st).monitorRoom + (rest.map fun v => v.category).sum ≤ 8 := by
  rw [rg_w_sum]
  show 2 * 0 + rg_w rest ≤ 8
  omega
/-- a static call -/
theorem call_S {idx n y1 z : Nat} {t : List (Nat × Nat)} (d : decode (rg_by y) pc = .ok (.invokestatic idx, 3)) (mf : MF y1 n) (hh : rg_hh y1 = []) (hst : Cond.static (rg_nm y1) ∈ lw_all) (hl : Cond.methodLink (rg_nm y).cls idx (rg_nm y1) ∈ lw_all) : CallOK l G y pc (.invokestatic idx, pc + 3, (n, 0) :: (y1, z) :: t) := by
  intro L st σ y' as npc rest σ' hd
  obtain ⟨h1, rfl, rfl, rfl, rfl, rfl, hw⟩ := cal0 (n := n) (y1 := y1) (z := z) (t := t) (npc := pc + 3) (L := L) hd
  refine ⟨rfl, ?_⟩
  intro p e R s m args below meth c H locs cells slots ls d' w cx hK hP hB hL hup hc hs hor
  rcases hor with ⟨-, hf, hlo, hct⟩ | ⟨h5, -⟩ | ⟨h5, -⟩
  · exact runW_of hB (vx_runS (cfix cx) hct ⟨cb_of mf hh cx hl hf hlo, cx.2.2.2.2.2.2.1 _ hst⟩ (pre_S hK hP) rfl (rg_len_eq h1) hL.1 rg_st_eq.symm (rg_wok hw) d ⟨hc, hs⟩)
  · exact absurd mf.1 (by omega)
  · exact absurd mf.1 (by omega)
/-- a private static of a nest mate -/
theorem call_SN {idx n y1 z : Nat} {t : List (Nat × Nat)} {host : String} (d : decode (rg_by y) pc = .ok (.invokestatic idx, 3)) (mf : MF y1 n) (hh : rg_hh y1 = []) (hst : Cond.static (rg_nm y1) ∈ lw_all) (hl : va_Nw (.methodLinkNest (rg_nm y).cls idx (rg_nm y1) host) ∈ rg_facts) : CallOK l G y pc (.invokestatic idx, pc + 3, (n, 0) :: (y1, z) :: t) := by
  intro L st σ y' as npc rest σ' hd
  obtain ⟨h1, rfl, rfl, rfl, rfl, rfl, hw⟩ := cal0 (n := n) (y1 := y1) (z := z) (t := t) (npc := pc + 3) (L := L) hd
  refine ⟨rfl, ?_⟩
  intro p e R s m args below meth c H locs cells slots ls d' w cx hK hP hB hL hup hc hs hor
  rcases hor with ⟨-, hf, hlo, hct⟩ | ⟨h5, -⟩ | ⟨h5, -⟩
  · obtain ⟨m1, m2, m3, m4, m5, m6, m7⟩ := mf
    exact runW_of hB (vx_runSN (cfix cx) hct ⟨va_cnB n cx.2.2.2.2.2.2.1 (ws_good m3) (ws' := lw_all) (by unfold rg_ws rg_cw; rw [if_pos hh]) rfl rfl (hK.fact hl) (cx.2.2.2.2.2.2.1 _ m4) ⟨m5, m6, m7⟩ ⟨hf, by show 8 + (rg_ml _ + 11) + (64 * d' + 3200) ≤ R.locals; omega⟩, cx.2.2.2.2.2.2.1 _ hst, trivial⟩ (pre_S hK hP) rfl (rg_len_eq h1) hL.1 rg_st_eq.symm (rg_wok hw) d ⟨hc, hs⟩)
  · exact absurd mf.1 (by omega)
  · exact absurd mf.1 (by omega)
/-- a constructor -/
theorem call_I {idx n y1 z : Nat} {t : List (Nat × Nat)} (d : decode (rg_by y) pc = .ok (.invokespecial idx, 3)) (mf : MF y1 n) (hh : rg_hh y1 = []) (hr : rg_rt y1 = none) (hn : (rg_nm y1).name = "<init>") (hi : Cond.instanceMethod (rg_nm y1) ∈ lw_all) (hl : Cond.methodLink (rg_nm y).cls idx (rg_nm y1) ∈ lw_all) : CallOK l G y pc (.invokespecial idx, pc + 3, (n, 2) :: (y1, z) :: t) := by
  intro L st σ y' as npc rest σ' hd
  obtain ⟨b, h1, h2, rfl, rfl, rfl, rfl, hw⟩ := cal2 (n := n) (y1 := y1) (z := z) (t := t) (npc := pc + 3) (L := L) hd
  refine ⟨rfl, ?_⟩
  intro p e R s m args below meth c H locs cells slots ls d' w cx hK hP hB hL hup hc hs hor
  rcases hor with ⟨-, hf, hlo, hct⟩ | ⟨h5, -⟩ | ⟨h5, -⟩
  · have hcb := cb_of (A := rg_sz (resS w) - rg_sz σ') (B := rg_sl (resS w) - rg_sl σ') mf hh cx hl hf hlo
    rw [hr] at hcb
    exact runW_of hB (vx_runI (cfix cx) hct ⟨hcb, hn, cx.2.2.2.2.2.2.1 _ hi⟩ (pre_S hK hP) rfl (rg_len_eq h1) hL.1 (by rw [← h2]; exact rg_st_eq.symm) (rg_wok hw) d ⟨hc, hs⟩)
  · exact absurd mf.1 (by omega)
  · exact absurd mf.1 (by omega)
/-- a constructor of a nest mate -/
theorem call_IN {idx n y1 z : Nat} {t : List (Nat × Nat)} {host : String} (d : decode (rg_by y) pc = .ok (.invokespecial idx, 3)) (mf : MF y1 n) (hh : rg_hh y1 = []) (hr : rg_rt y1 = none) (hn : (rg_nm y1).name = "<init>") (hi : Cond.instanceMethod (rg_nm y1) ∈ lw_all) (hl : va_Nw (.methodLinkNest (rg_nm y).cls idx (rg_nm y1) host) ∈ rg_facts) : CallOK l G y pc (.invokespecial idx, pc + 3, (n, 2) :: (y1, z) :: t) := by
  intro L st σ y' as npc rest σ' hd
  obtain ⟨b, h1, h2, rfl, rfl, rfl, rfl, hw⟩ := cal2 (n := n) (y1 := y1) (z := z) (t := t) (npc := pc + 3) (L := L) hd
  refine ⟨rfl, ?_⟩
  intro p e R s m args below meth c H locs cells slots ls d' w cx hK hP hB hL hup hc hs hor
  rcases hor with ⟨-, hf, hlo, hct⟩ | ⟨h5, -⟩ | ⟨h5, -⟩
  · obtain ⟨m1, m2, m3, m4, m5, m6, m7⟩ := mf
    exact runW_of hB (vx_runIN (bytes := rg_by _) (maxL := rg_ml _) (cfix cx) hct ⟨va_cnB n cx.2.2.2.2.2.2.1 (ws_good m3) (ws' := lw_all) (by unfold rg_ws rg_cw; rw [if_pos hh, hr]) rfl rfl (hK.fact hl) (cx.2.2.2.2.2.2.1 _ m4) ⟨m5, m6, m7⟩ ⟨hf, by show 8 + (rg_ml _ + 11) + (64 * d' + 3200) ≤ R.locals; omega⟩, hn, cx.2.2.2.2.2.2.1 _ hi⟩ (pre_S hK hP) rfl (rg_len_eq h1) hL.1 (by rw [← h2]; exact rg_st_eq.symm) (rg_wok hw) d ⟨hc, hs⟩)
  · exact absurd mf.1 (by omega)
  · exact absurd mf.1 (by omega)
/-- a virtual call: for each class that may stand there, its own method -/
def VF (y idx n ci y1 : Nat) : Prop := ci < 910 ∧ MF y1 n ∧ Cond.instanceMethod (rg_nm y1) ∈ lw_all ∧ ∃ nm, rg_cnm ci = some nm ∧
  ((rg_hh y1 = [] ∧ Cond.methodLink (rg_nm y).cls idx (rg_nm y1) ∈ lw_all ∧ (Cond.selects nm (rg_nm y1) (rg_nm y1) ∈ lw_all ∨ va_Nw (.selects nm (rg_nm y1) (rg_nm y1)) ∈ rg_facts)) ∨
   (rg_hh y1 ≠ [] ∧ Cond.methodLink (rg_nm y).cls idx (rg_nm y1) ∈ lw_all ∧ Cond.selects nm (rg_nm y1) (rg_nm y1) ∈ lw_all) ∨
   (rg_hh y1 = [] ∧ ∃ (x : MethodName) (owner : String), x.desc = (rg_nm y1).desc ∧ (owner ≠ "java/lang/invoke/MethodHandle" ∧ owner ≠ "java/lang/invoke/VarHandle") ∧ ((rg_nm y1) = ⟨owner, x.name, x.desc⟩ ∨ va_Nw (.declares ⟨owner, x.name, x.desc⟩) ∈ rg_facts) ∧ Cond.methodLink (rg_nm y).cls idx x ∈ lw_all ∧ Cond.sameMethod x.cls owner x.name x.desc ∈ lw_all ∧ Cond.selects nm x (rg_nm y1) ∈ lw_all))
theorem call_V {idx n : Nat} {t : List (Nat × Nat)} (d : decode (rg_by y) pc = .ok (.invokevirtual idx, 3)) (hx : ∀ q ∈ t, VF y idx n q.1 q.2) : CallOK l G y pc (.invokevirtual idx, pc + 3, (n, 1) :: t) := by
  intro L st σ y' as npc rest σ' hd
  obtain ⟨b, ci, F, h1, h2, hrd, hlk, rfl, rfl, rfl, hw⟩ := cal1 (n := n) (t := t) (npc := pc + 3) (L := L) hd
  refine ⟨rfl, ?_⟩
  intro p e R s m args below meth c H locs cells slots ls d' w cx hK hP hB hL hup hc hs hor
  obtain ⟨h9, mf, hi, nm, hr, hv⟩ := lk_all hx hlk
  rcases hor with ⟨-, hf, hlo, hct⟩ | ⟨h5, -⟩ | ⟨h5, -⟩
  · have hst : st = (st.take n).reverse.reverse ++ .ref b :: rest := by rw [← h2]; exact rg_st_eq.symm
    have mf2 := mf
    obtain ⟨m1, m2, m3, m4, m5, m6, m7⟩ := mf2
    rcases hv with ⟨hh, hl, hsel⟩ | ⟨hh, hl, hsel⟩ | ⟨hh, x, owner, hxd, hxo, hxy, hl, hsm, hsel⟩
    · exact runW_of hB (vx_runV (cfix cx) hct ⟨cb_of mf hh cx hl hf hlo, cx.2.2.2.2.2.2.1 _ hi, hsel.elim (fun z => cx.2.2.2.2.2.2.1 _ z) (fun z => va_Nw.use rfl (hK.fact z))⟩ (pre_V hK hP hrd h9 hr) rfl (rg_len_eq h1) hL.1 hst (rg_wok hw) d ⟨hc, hs⟩)
    · refine runW_of hB (vx_runVX (hh := rg_hh y') (bytes := rg_by y') (maxL := rg_ml y') (ret := rg_rt y') (cfix cx) hct ⟨⟨rfl, rfl, hf, by show 8 + (rg_ml _ + 11) + (64 * d' + 3200) ≤ R.locals; omega, pay_in cx.2.2.2.2.2.2.1 (ws_good m3), by unfold rg_ws rg_cw; rw [if_neg hh]; exact List.mem_cons_self⟩, ?_, cx.2.2.2.2.2.2.1 _ m4, ⟨m5, m6⟩, fun sig h => ?_, cx.2.2.2.2.2.2.1 _ hl, cx.2.2.2.2.2.2.1 _ hi, cx.2.2.2.2.2.2.1 _ hsel⟩ (pre_V hK hP hrd h9 hr) rfl (rg_len_eq h1) hL.1 hst (rg_wok hw) d ⟨hc, hs⟩)
      · have := cx.2.2.2.2.2.2.1 _ m3
        unfold rg_cw at this
        rw [if_neg hh] at this
        exact this
      · rw [h] at m7
        exact (Option.some.inj m7).symm
    · refine runW_of hB (vx_runU (x := x) (owner := owner) (bytes := rg_by y') (maxL := rg_ml y') (ret := rg_rt y') (cfix cx) hct ⟨⟨rfl, rfl, hf, by show 8 + (rg_ml _ + 11) + (64 * d' + 3200) ≤ R.locals; omega, pay_in cx.2.2.2.2.2.2.1 (ws_good m3), by unfold rg_ws rg_cw; rw [if_pos hh]; exact List.mem_cons_self⟩, ?_, cx.2.2.2.2.2.2.1 _ m4, hxo, fun sig h => ?_, cx.2.2.2.2.2.2.1 _ hl, cx.2.2.2.2.2.2.1 _ hsm, ?_, cx.2.2.2.2.2.2.1 _ hsel, cx.2.2.2.2.2.2.1 _ hi⟩ (pre_V hK hP hrd h9 hr) rfl (rg_len_eq h1) hL.1 hst (rg_wok hw) d ⟨hc, hs⟩)
      · have := cx.2.2.2.2.2.2.1 _ m3
        unfold rg_cw at this
        rw [if_pos hh] at this
        exact this
      · rw [← hxd, h] at m7
        exact (Option.some.inj m7).symm
      · rcases hxy with hxy | hxy
        · rw [← hxy]
          have := cx.2.2.2.2.2.2.1 _ m3
          unfold rg_cw at this
          rw [if_pos hh] at this
          exact va_Decl.of (cx.2.2.2.2.2.2.1 _ hi) this
        · exact va_Decl.abs (hK.fact hxy)
  · exact absurd mf.1 (by omega)
  · exact absurd mf.1 (by omega)
end CALL
