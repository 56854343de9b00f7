/-! the abstract run of a forwarder -/
set_option maxRecDepth 100000
-- ===== the abstract run of a forwarder =====
theorem ex_succ {n d y pc : Nat} {L : rg_L} {st : List Value} {σ : rg_S} {r : rg_R} {o : rg_op} (h : rg_ex n d y pc L st σ = some r) (ho : rg_at y pc = some o) : ∃ k, n = k + 1 ∧ rg_K (rg_ex k) d y pc L (rg_do o L st σ) = some r := by
  cases n with
  | zero => cases h
  | succ k =>
    refine ⟨k, rfl, ?_⟩
    replace h : rg_K (rg_ex k) d y pc L ((rg_at y pc).bind fun o => rg_do o L st σ) = some r := h
    rw [ho] at h
    exact h
theorem ex_le {m n : Nat} (h : m ≤ n) {d y pc : Nat} {L : rg_L} {st : List Value} {σ : rg_S} {r : rg_R} (e : rg_ex m d y pc L st σ = some r) : rg_ex n d y pc L st σ = some r := rg_ex_mono h _ _ _ _ _ _ _ e
/-- behind the forwarder's call -/
theorem fw_after {k d y1 y' pc npc : Nat} {L : rg_L} {as : List Value} {σ : rg_S} {w : rg_R} (hh : rg_hds y' = [(0, 100, 0, [])]) (hpc : pc < 100) (hy1 : y1 < 500) (h : rg_af (rg_ex k) d y' pc L npc [] (rg_cr (rg_ex k) d y1 as σ) = some w) :
    ∃ d0 v σ1, d = d0 + 1 ∧ (rg_args as).length ≤ rg_ml y1 ∧ rg_ex k d0 y1 0 (rg_pad (rg_ml y1) (rg_args as)) [] σ = some (.inl (v, σ1)) ∧ rg_ex k d y' npc L (v.toList ++ []) σ1 = some w := by
  unfold rg_cr at h
  rw [if_neg (by omega)] at h
  cases d with
  | zero => cases h
  | succ d0 =>
    dsimp only at h
    split at h
    · rename_i hlen
      cases hx : rg_ex k d0 y1 0 (rg_pad (rg_ml y1) (rg_args as)) [] σ with
      | none => rw [hx] at h; cases h
      | some z =>
        rw [hx] at h
        rcases z with ⟨v, σ1⟩ | ⟨q, σ1⟩
        · exact ⟨d0, v, σ1, rfl, hlen, hx, h⟩
        · replace h : rg_th (rg_ex k) (d0 + 1) y' pc L q σ1 = some w := h
          unfold rg_th at h
          split at h
          · cases h
          · rename_i ci _
            rw [hh] at h
            have e1 : rg_hd pc ci [(0, 100, 0, [])] = none := by simp [rg_hd]
            have e2 : rg_cov pc [(0, 100, 0, [])] = true := by simp [rg_cov, hpc]
            rw [e1] at h
            dsimp only at h
            rw [e2] at h
            cases h
    · cases h
def fwcode (y' : Nat) (l : List rg_op) : Prop := ∀ i o, l[i]? = some o → rg_at y' i = some o
theorem fwS_run {n d y' y1 : Nat} {o : Nat} {v0 v1 : Value} {σ : rg_S} {w : rg_R} (hm : rg_ml y' = 5) (hh : rg_hds y' = [(0, 100, 0, [])]) (hy1 : y1 < 500)
    (hc : fwcode y' [(.lload_n 1, 1, []), (.lload_n 3, 2, []), (.invokestatic 0, 3, [(2, 0), (y1, 0)]), (.lreturn, 4, [])])
    (h : rg_ex n d y' 0 (rg_pad (rg_ml y') (rg_args [.ref o, v0, v1])) [] σ = some w) :
    ∃ d0 x0 x1 z σ1, d = d0 + 1 ∧ v0 = .long x0 ∧ v1 = .long x1 ∧ (rg_args [.long x0, .long x1]).length ≤ rg_ml y1 ∧ rg_ex n d0 y1 0 (rg_pad (rg_ml y1) (rg_args [.long x0, .long x1])) [] σ = some (.inl (some (.long z), σ1)) ∧ w = .inl (some (.long z), σ1) := by
  rw [hm] at h
  replace h := ex_succ h (hc 0 _ rfl)
  obtain ⟨k, rfl, h⟩ := h
  cases v0 with
  | long x0 =>
    cases v1 with
    | long x1 =>
      replace h : rg_ex k d y' 1 (rg_pad 5 (rg_args [.ref o, .long x0, .long x1])) [.long x0] σ = some w := h
      replace h := ex_succ h (hc 1 _ rfl)
      obtain ⟨k, rfl, h⟩ := h
      replace h : rg_ex k d y' 2 (rg_pad 5 (rg_args [.ref o, .long x0, .long x1])) [.long x1, .long x0] σ = some w := h
      replace h := ex_succ h (hc 2 _ rfl)
      obtain ⟨k, rfl, h⟩ := h
      replace h : rg_af (rg_ex k) d y' 2 (rg_pad 5 (rg_args [.ref o, .long x0, .long x1])) 3 [] (rg_cr (rg_ex k) d y1 [.long x0, .long x1] σ) = some w := h
      replace h := fw_after hh (by decide) hy1 h
      obtain ⟨d0, v, σ1, rfl, hlen, hx, h⟩ := h
      have hx2 := ex_le (n := k + 1 + 1 + 1) (by omega) hx
      replace h := ex_succ h (hc 3 _ rfl)
      obtain ⟨k2, rfl, h⟩ := h
      cases v with
      | none => cases h
      | some v =>
        cases v with
        | long z =>
          cases h
          exact ⟨d0, x0, x1, z, σ1, rfl, rfl, rfl, hlen, hx2, rfl⟩
        | _ => cases h
    | _ =>
      replace h : rg_ex k d y' 1 (rg_pad 5 (rg_args [.ref o, .long x0, _])) [.long x0] σ = some w := h
      replace h := ex_succ h (hc 1 _ rfl)
      obtain ⟨k, rfl, h⟩ := h
      cases h
  | _ => cases h
theorem fwC_long_run {n d y' y1 c0 c1 : Nat} {o : Nat} {v0 v1 : Value} {σ : rg_S} {F : Nat → Value} {w : rg_R} (hm : rg_ml y' = 5) (hh : rg_hds y' = [(0, 100, 0, [])]) (hy1 : y1 < 500) (ho : rg_rd σ o = some (.inr (c0, F)))
    (hc : fwcode y' [(.aload_n 0, 1, []), (.getfield 0, 2, [(c0, 0)]), (.lload_n 1, 3, []), (.lload_n 3, 4, []), (.invokevirtual 0, 5, [(2, 1), (c1, y1)]), (.lreturn, 6, [])])
    (h : rg_ex n d y' 0 (rg_pad (rg_ml y') (rg_args [.ref o, v0, v1])) [] σ = some w) :
    ∃ d0 b Fb x0 x1 z σ1, d = d0 + 1 ∧ F 0 = .ref b ∧ rg_rd σ b = some (.inr (c1, Fb)) ∧ v0 = .long x0 ∧ v1 = .long x1 ∧ (rg_args [.ref b, .long x0, .long x1]).length ≤ rg_ml y1 ∧ rg_ex n d0 y1 0 (rg_pad (rg_ml y1) (rg_args [.ref b, .long x0, .long x1])) [] σ = some (.inl (some (.long z), σ1)) ∧ w = .inl (some (.long z), σ1) := by
  rw [hm] at h
  replace h := ex_succ h (hc 0 _ rfl)
  obtain ⟨k, rfl, h⟩ := h
  cases v0 with
  | long x0 =>
    cases v1 with
    | long x1 =>
      replace h : rg_ex k d y' 1 (rg_pad 5 (rg_args [.ref o, .long x0, .long x1])) [.ref o] σ = some w := h
      replace h := ex_succ h (hc 1 _ rfl)
      obtain ⟨k, rfl, h⟩ := h
      have e1 : ∀ L : rg_L, rg_do (.getfield 0, 2, [(c0, 0)]) L [.ref o] σ = rg_go 2 L [F 0] σ := by
        intro L
        show rg_get [(c0, 0)] 2 _ [.ref o] σ = _
        unfold rg_get
        dsimp only
        rw [ho]
        simp [rg_lk]
      rw [e1] at h
      replace h : rg_ex k d y' 2 (rg_pad 5 (rg_args [.ref o, .long x0, .long x1])) [F 0] σ = some w := h
      replace h := ex_succ h (hc 2 _ rfl)
      obtain ⟨k, rfl, h⟩ := h
      replace h : rg_ex k d y' 3 (rg_pad 5 (rg_args [.ref o, .long x0, .long x1])) [.long x0, F 0] σ = some w := h
      replace h := ex_succ h (hc 3 _ rfl)
      obtain ⟨k, rfl, h⟩ := h
      replace h : rg_ex k d y' 4 (rg_pad 5 (rg_args [.ref o, .long x0, .long x1])) [.long x1, .long x0, F 0] σ = some w := h
      replace h := ex_succ h (hc 4 _ rfl)
      obtain ⟨k, rfl, h⟩ := h
      cases hz : rg_do (.invokevirtual 0, 5, [(2, 1), (c1, y1)]) (rg_pad 5 (rg_args [.ref o, .long x0, .long x1])) [.long x1, .long x0, F 0] σ with
      | none => rw [hz] at h; cases h
      | some q =>
        rw [hz] at h
        rcases q with q | ⟨y2, as, npc, rest, σ'⟩ | q
        · exact absurd hz (cno_V (npc := 5) (idx := 0) (n := 2) (m := 1) (y1 := c1) (z := y1) (t := []) _ _ _ q)
        · obtain ⟨b, ci, Fb, -, h2, hrd, hlk, h3, h4, h5, -⟩ := cal1 (n := 2) (t := [(c1, y1)]) (npc := 5) (L := rg_pad 5 (rg_args [.ref o, .long x0, .long x1])) (st := [.long x1, .long x0, F 0]) (σ := σ) hz
          replace h2 : [F 0] = .ref b :: rest := h2
          have hF : F 0 = .ref b := (List.cons.inj h2).1
          have hr0 : [] = rest := (List.cons.inj h2).2
          have hci : ci = c1 ∧ y2 = y1 := by
            unfold rg_lk at hlk
            split at hlk
            · exact ⟨by assumption, (Option.some.inj hlk).symm⟩
            · cases hlk
          obtain ⟨rfl, rfl⟩ := hci
          subst h3; subst h4; subst h5; subst hr0
          replace h : rg_af (rg_ex k) d y' 4 (rg_pad 5 (rg_args [.ref o, .long x0, .long x1])) 5 [] (rg_cr (rg_ex k) d y2 [.ref b, .long x0, .long x1] σ') = some w := h
          replace h := fw_after hh (by decide) hy1 h
          obtain ⟨d0, v, σ1, rfl, hlen, hx, h⟩ := h
          have hx2 := ex_le (n := k + 1 + 1 + 1 + 1 + 1) (by omega) hx
          replace h := ex_succ h (hc 5 _ rfl)
          obtain ⟨k2, rfl, h⟩ := h
          cases v with
          | none => cases h
          | some v =>
            cases v with
            | long z =>
              cases h
              exact ⟨d0, b, Fb, x0, x1, z, σ1, rfl, hF, hrd, rfl, rfl, hlen, hx2, rfl⟩
            | _ => cases h
        · rcases q with q | q <;> (exfalso; have hk := rg_do_kind hz; simp [outK, okd] at hk)
    | _ =>
      replace h : rg_ex k d y' 1 (rg_pad 5 (rg_args [.ref o, .long x0, _])) [.ref o] σ = some w := h
      replace h := ex_succ h (hc 1 _ rfl)
      obtain ⟨k, rfl, h⟩ := h
      have e1 : ∀ L : rg_L, rg_do (.getfield 0, 2, [(c0, 0)]) L [.ref o] σ = rg_go 2 L [F 0] σ := by
        intro L
        show rg_get [(c0, 0)] 2 _ [.ref o] σ = _
        unfold rg_get
        dsimp only
        rw [ho]
        simp [rg_lk]
      rw [e1] at h
      replace h : rg_ex k d y' 2 (rg_pad 5 (rg_args [.ref o, .long x0, _])) [F 0] σ = some w := h
      replace h := ex_succ h (hc 2 _ rfl)
      obtain ⟨k, rfl, h⟩ := h
      replace h : rg_ex k d y' 3 (rg_pad 5 (rg_args [.ref o, .long x0, _])) [.long x0, F 0] σ = some w := h
      replace h := ex_succ h (hc 3 _ rfl)
      obtain ⟨k, rfl, h⟩ := h
      cases h
  | _ =>
    replace h : rg_ex k d y' 1 (rg_pad 5 (rg_args [.ref o, _, v1])) [.ref o] σ = some w := h
    replace h := ex_succ h (hc 1 _ rfl)
    obtain ⟨k, rfl, h⟩ := h
    have e1 : ∀ L : rg_L, rg_do (.getfield 0, 2, [(c0, 0)]) L [.ref o] σ = rg_go 2 L [F 0] σ := by
      intro L
      show rg_get [(c0, 0)] 2 _ [.ref o] σ = _
      unfold rg_get
      dsimp only
      rw [ho]
      simp [rg_lk]
    rw [e1] at h
    replace h : rg_ex k d y' 2 (rg_pad 5 (rg_args [.ref o, _, v1])) [F 0] σ = some w := h
    replace h := ex_succ h (hc 2 _ rfl)
    obtain ⟨k, rfl, h⟩ := h
    cases h
theorem fwC_int_run {n d y' y1 c0 c1 : Nat} {o : Nat} {v0 v1 : Value} {σ : rg_S} {F : Nat → Value} {w : rg_R} (hm : rg_ml y' = 3) (hh : rg_hds y' = [(0, 100, 0, [])]) (hy1 : y1 < 500) (ho : rg_rd σ o = some (.inr (c0, F)))
    (hc : fwcode y' [(.aload_n 0, 1, []), (.getfield 0, 2, [(c0, 0)]), (.iload_n 1, 3, []), (.iload_n 2, 4, []), (.invokevirtual 0, 5, [(2, 1), (c1, y1)]), (.ireturn, 6, [(1, 0)])])
    (h : rg_ex n d y' 0 (rg_pad (rg_ml y') (rg_args [.ref o, v0, v1])) [] σ = some w) :
    ∃ d0 b Fb x0 x1 z σ1, d = d0 + 1 ∧ F 0 = .ref b ∧ rg_rd σ b = some (.inr (c1, Fb)) ∧ v0 = .int x0 ∧ v1 = .int x1 ∧ (rg_args [.ref b, .int x0, .int x1]).length ≤ rg_ml y1 ∧ rg_ex n d0 y1 0 (rg_pad (rg_ml y1) (rg_args [.ref b, .int x0, .int x1])) [] σ = some (.inl (some (.int z), σ1)) ∧ w = .inl (some (.int z), σ1) ∧ rg_isb z = true := by
  rw [hm] at h
  replace h := ex_succ h (hc 0 _ rfl)
  obtain ⟨k, rfl, h⟩ := h
  cases v0 with
  | int x0 =>
    cases v1 with
    | int x1 =>
      replace h : rg_ex k d y' 1 (rg_pad 3 (rg_args [.ref o, .int x0, .int x1])) [.ref o] σ = some w := h
      replace h := ex_succ h (hc 1 _ rfl)
      obtain ⟨k, rfl, h⟩ := h
      have e1 : ∀ L : rg_L, rg_do (.getfield 0, 2, [(c0, 0)]) L [.ref o] σ = rg_go 2 L [F 0] σ := by
        intro L
        show rg_get [(c0, 0)] 2 _ [.ref o] σ = _
        unfold rg_get
        dsimp only
        rw [ho]
        simp [rg_lk]
      rw [e1] at h
      replace h : rg_ex k d y' 2 (rg_pad 3 (rg_args [.ref o, .int x0, .int x1])) [F 0] σ = some w := h
      replace h := ex_succ h (hc 2 _ rfl)
      obtain ⟨k, rfl, h⟩ := h
      replace h : rg_ex k d y' 3 (rg_pad 3 (rg_args [.ref o, .int x0, .int x1])) [.int x0, F 0] σ = some w := h
      replace h := ex_succ h (hc 3 _ rfl)
      obtain ⟨k, rfl, h⟩ := h
      replace h : rg_ex k d y' 4 (rg_pad 3 (rg_args [.ref o, .int x0, .int x1])) [.int x1, .int x0, F 0] σ = some w := h
      replace h := ex_succ h (hc 4 _ rfl)
      obtain ⟨k, rfl, h⟩ := h
      cases hz : rg_do (.invokevirtual 0, 5, [(2, 1), (c1, y1)]) (rg_pad 3 (rg_args [.ref o, .int x0, .int x1])) [.int x1, .int x0, F 0] σ with
      | none => rw [hz] at h; cases h
      | some q =>
        rw [hz] at h
        rcases q with q | ⟨y2, as, npc, rest, σ'⟩ | q
        · exact absurd hz (cno_V (npc := 5) (idx := 0) (n := 2) (m := 1) (y1 := c1) (z := y1) (t := []) _ _ _ q)
        · obtain ⟨b, ci, Fb, -, h2, hrd, hlk, h3, h4, h5, -⟩ := cal1 (n := 2) (t := [(c1, y1)]) (npc := 5) (L := rg_pad 3 (rg_args [.ref o, .int x0, .int x1])) (st := [.int x1, .int x0, F 0]) (σ := σ) hz
          replace h2 : [F 0] = .ref b :: rest := h2
          have hF : F 0 = .ref b := (List.cons.inj h2).1
          have hr0 : [] = rest := (List.cons.inj h2).2
          have hci : ci = c1 ∧ y2 = y1 := by
            unfold rg_lk at hlk
            split at hlk
            · exact ⟨by assumption, (Option.some.inj hlk).symm⟩
            · cases hlk
          obtain ⟨rfl, rfl⟩ := hci
          subst h3; subst h4; subst h5; subst hr0
          replace h : rg_af (rg_ex k) d y' 4 (rg_pad 3 (rg_args [.ref o, .int x0, .int x1])) 5 [] (rg_cr (rg_ex k) d y2 [.ref b, .int x0, .int x1] σ') = some w := h
          replace h := fw_after hh (by decide) hy1 h
          obtain ⟨d0, v, σ1, rfl, hlen, hx, h⟩ := h
          have hx2 := ex_le (n := k + 1 + 1 + 1 + 1 + 1) (by omega) hx
          replace h := ex_succ h (hc 5 _ rfl)
          obtain ⟨k2, rfl, h⟩ := h
          cases v with
          | none => cases h
          | some v =>
            cases v with
            | int z =>
              replace h : rg_K (rg_ex k2) (d0 + 1) y' 5 (rg_pad 3 (rg_args [.ref o, .int x0, .int x1])) (if rg_isb z then some (.inr (.inr (.inl (some (.int z), σ1)))) else none) = some w := h
              split at h
              · rename_i hz9
                cases h
                exact ⟨d0, b, Fb, x0, x1, z, σ1, rfl, hF, hrd, rfl, rfl, hlen, hx2, rfl, hz9⟩
              · cases h
            | _ => cases h
        · rcases q with q | q <;> (exfalso; have hk := rg_do_kind hz; simp [outK, okd] at hk)
    | _ =>
      replace h : rg_ex k d y' 1 (rg_pad 3 (rg_args [.ref o, .int x0, _])) [.ref o] σ = some w := h
      replace h := ex_succ h (hc 1 _ rfl)
      obtain ⟨k, rfl, h⟩ := h
      have e1 : ∀ L : rg_L, rg_do (.getfield 0, 2, [(c0, 0)]) L [.ref o] σ = rg_go 2 L [F 0] σ := by
        intro L
        show rg_get [(c0, 0)] 2 _ [.ref o] σ = _
        unfold rg_get
        dsimp only
        rw [ho]
        simp [rg_lk]
      rw [e1] at h
      replace h : rg_ex k d y' 2 (rg_pad 3 (rg_args [.ref o, .int x0, _])) [F 0] σ = some w := h
      replace h := ex_succ h (hc 2 _ rfl)
      obtain ⟨k, rfl, h⟩ := h
      replace h : rg_ex k d y' 3 (rg_pad 3 (rg_args [.ref o, .int x0, _])) [.int x0, F 0] σ = some w := h
      replace h := ex_succ h (hc 3 _ rfl)
      obtain ⟨k, rfl, h⟩ := h
      cases h
  | _ =>
    replace h : rg_ex k d y' 1 (rg_pad 3 (rg_args [.ref o, _, v1])) [.ref o] σ = some w := h
    replace h := ex_succ h (hc 1 _ rfl)
    obtain ⟨k, rfl, h⟩ := h
    have e1 : ∀ L : rg_L, rg_do (.getfield 0, 2, [(c0, 0)]) L [.ref o] σ = rg_go 2 L [F 0] σ := by
      intro L
      show rg_get [(c0, 0)] 2 _ [.ref o] σ = _
      unfold rg_get
      dsimp only
      rw [ho]
      simp [rg_lk]
    rw [e1] at h
    replace h : rg_ex k d y' 2 (rg_pad 3 (rg_args [.ref o, _, v1])) [F 0] σ = some w := h
    replace h := ex_succ h (hc 2 _ rfl)
    obtain ⟨k, rfl, h⟩ := h
    cases h
