/-! the counts of cells and slots only grow -/
set_option maxRecDepth 100000
def rg_up (σ σ' : rg_S) : Prop := rg_sz σ ≤ rg_sz σ' ∧ rg_sl σ ≤ rg_sl σ'
theorem up_rf (σ : rg_S) : rg_up σ σ := ⟨Nat.le_refl _, Nat.le_refl _⟩
theorem up_tr {a b c : rg_S} (h : rg_up a b) (k : rg_up b c) : rg_up a c := ⟨Nat.le_trans h.1 k.1, Nat.le_trans h.2 k.2⟩
theorem up_set {σ : rg_S} {a : Nat} {e : rg_E} : rg_up σ (rg_set σ a e) := ⟨Nat.le_refl _, Nat.le_refl _⟩
theorem up_new {σ : rg_S} {e : rg_E} {n : Nat} : rg_up σ (rg_new σ e n) := ⟨by rw [sz_new]; omega, by rw [sl_new]; omega⟩
def outS : rg_O → rg_S
  | .inl (_, _, _, σ) => σ
  | .inr (.inl (_, _, _, _, σ)) => σ
  | .inr (.inr (.inl (_, σ))) => σ
  | .inr (.inr (.inr (_, σ))) => σ
def resS : rg_R → rg_S
  | .inl (_, σ) => σ
  | .inr (_, σ) => σ
set_option maxHeartbeats 2000000 in
theorem rg_do_up {o : rg_op} {L : rg_L} {st : List Value} {σ : rg_S} {z : rg_O} (h : rg_do o L st σ = some z) : rg_up σ (outS z) := by
  unfold rg_do at h
  split at h
  all_goals (first | unfold rg_lod at h | unfold rg_sta at h | unfold rg_stj at h | unfold rg_inc at h | unfold rg_b2 at h | unfold rg_j2 at h | unfold rg_js at h | unfold rg_u1 at h | unfold rg_dv at h | unfold rg_nul at h | unfold rg_get at h | unfold rg_put at h | unfold rg_ial at h | unfold rg_jal at h | unfold rg_qal at h | unfold rg_ias at h | unfold rg_bas at h | unfold rg_jas at h | unfold rg_qas at h | unfold rg_len at h | unfold rg_nar at h | unfold rg_cst at h | unfold rg_ins at h | unfold rg_ldc at h | unfold rg_ldc2 at h | unfold rg_cal at h | unfold rg_new1 at h | unfold rg_dyn at h | unfold rg_ret at h | skip)
  all_goals (repeat' split at h)
  all_goals (try unfold rg_cnd at h)
  all_goals (try unfold rg_acm at h)
  all_goals (repeat' split at h)
  all_goals (try unfold rg_go at h)
  all_goals (try split at h)
  all_goals (first | (cases h; done) | (cases h; exact up_rf _) | (cases h; exact up_set) | (cases h; exact up_new))
theorem rg_intr_up {y : Nat} {as : List Value} {σ : rg_S} {r : rg_R} (h : rg_intr y as σ = some r) : rg_up σ (resS r) := by
  unfold rg_intr at h
  repeat' split at h
  all_goals (first | unfold rg_exi at h | unfold rg_acp at h | unfold rg_gcl at h | skip)
  all_goals (repeat' split at h)
  all_goals (first | (cases h; done) | (cases h; exact up_rf _) | (cases h; exact up_set) | (cases h; exact up_new))
theorem rg_ex_upS : ∀ (n : Nat) {d y pc : Nat} {L : rg_L} {st : List Value} {σ : rg_S} {r : rg_R}, rg_ex n d y pc L st σ = some r → rg_up σ (resS r)
  | 0, d, y, pc, L, st, σ, r, h => by cases h
  | n + 1, d, y, pc, L, st, σ, r, h => by
    have hth : ∀ {q : Nat} {σ' : rg_S}, rg_th (rg_ex n) d y pc L q σ' = some r → rg_up σ' (resS r) := by
      intro q σ' h
      unfold rg_th at h
      split at h
      · cases h
      · split at h
        · exact rg_ex_upS n h
        · split at h
          · cases h
          · cases h; exact up_rf _
    replace h : rg_K (rg_ex n) d y pc L ((rg_at y pc).bind fun o => rg_do o L st σ) = some r := h
    cases ho : (rg_at y pc).bind fun o => rg_do o L st σ with
    | none => rw [ho] at h; cases h
    | some z =>
      rw [ho] at h
      have hz : rg_up σ (outS z) := by
        cases hat : rg_at y pc with
        | none => rw [hat] at ho; cases ho
        | some o => rw [hat] at ho; exact rg_do_up ho
      rcases z with ⟨pc', L', st', σ'⟩ | ⟨y', as, npc, rest, σ'⟩ | ⟨v, σ'⟩ | ⟨q, σ'⟩
      · exact up_tr hz (rg_ex_upS n h)
      · replace h : rg_af (rg_ex n) d y pc L npc rest (rg_cr (rg_ex n) d y' as σ') = some r := h
        cases hc : rg_cr (rg_ex n) d y' as σ' with
        | none => rw [hc] at h; cases h
        | some w =>
          rw [hc] at h
          have hw : rg_up σ' (resS w) := by
            unfold rg_cr at hc
            split at hc
            · split at hc
              · exact rg_intr_up hc
              · cases hc
            · split at hc
              · cases hc
              · split at hc
                · exact rg_ex_upS n hc
                · cases hc
          rcases w with ⟨v, σ2⟩ | ⟨q, σ2⟩
          · exact up_tr hz (up_tr hw (rg_ex_upS n h))
          · exact up_tr hz (up_tr hw (hth h))
      · cases h; exact hz
      · exact up_tr hz (hth h)
