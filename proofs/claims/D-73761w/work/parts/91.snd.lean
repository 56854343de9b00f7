/-! the induction itself -/
set_option maxRecDepth 100000
def SND (l : Launch) (G : rg_G) (n : Nat) : Prop := ∀ {d y pc : Nat} {L : rg_L} {st : List Value} {σ : rg_S} {r : rg_R}, rg_ex n d y pc L st σ = some r → y < 480 →
  ∀ {p : Program} {e : Env} {R : Room} {s : State} {m : MethodId} {args : Array Value} {below : List Frame} {meth : Method} {c : Code} {H : Heap} {locs : List Loc} {cells slots mc ms : Nat} {ls : Array Slot},
    CX p y s m args meth c → KS G s → hp G σ H → LB G locs → LV ls (rg_ml y) L → d + 1 ≤ R.frames → 64 * d + 3200 ≤ R.locals → cells + (rg_sz (resS r) - rg_sz σ) = mc → slots + (rg_sl (resS r) - rg_sl σ) = ms → mc ≤ R.cells → ms ≤ R.slots →
    W p l e R s m args below meth c H locs cells slots (vx_MQ below (QcR G r) (XcR G r) args s mc ms (frG G)) (F0 m pc ls st)
theorem tableOf_nil : tableOf [] = [] := rfl
theorem plain_hh : ∀ y, y < 480 → (rg_hh y).isEmpty = false → plainName (rg_nm y).cls = true := by decide +kernel
/-- as vx_ofW, for classes of which the machine runs some methods itself, but not this one -/
theorem vx_ofWF {l : Launch} {y : MethodName} {ws ws' : List Cond} {rm : Room} {Pc : Array Value → State → Prop} {Qc : Array Value → State → Outcome → State → Prop} {XC : Nat → String → State → State → Prop} {mc ms : Nat} {free : Addr → Prop} {cc : ByteArray} {maxL : Nat} {ret : Option FieldType}
    (hy : plainFor y = true) (hw : ws = Cond.code y cc maxL ret :: ws')
    (body : ∀ p e s m args below meth c s₁, BodyLoose p l y (headSpec ws rm) cc maxL ret e s m args below meth c s₁ → c.maxLocals = maxL → (∀ x ∈ c.exceptionTable.toList, False) → Pc args s →
      W p l e (headSpec ws rm).room s m args below meth c s.heap [] 0 0 (vx_MQ below Qc XC args s mc ms free) (entryFrame m args maxL)) : vx_Met l y ws rm Pc Qc XC mc ms free := by
  refine MetFree.of_bodySF (code := cc) (maxLocals := maxL) (ret := ret) hy ?_ ?_
  · intro args s m h hn
    obtain ⟨meth, c, h1, h2, h3, h4, h5, h6, -, -⟩ := Cond.code_spec hn (atoms_spec (ws := ws) h _ (by rw [hw]; exact List.mem_cons_self))
    exact ⟨meth, c, h1, h2, h3, h4, h5, h6⟩
  · intro p e s m args below meth c s₁ B hml hP _
    have hh0 : s₁.heap = s.heap := by rw [B.state]; rfl
    have ht : ∀ x ∈ c.exceptionTable.toList, False := by
      obtain ⟨meth9, c9, h1, h2, -, -, -, -, h7, -⟩ := Cond.code_spec B.named (atoms_spec (ws := ws) B.pre _ (by rw [hw]; exact List.mem_cons_self))
      cases Option.some.inj (h1.symm.trans B.method)
      cases Option.some.inj (h2.symm.trans (Stand.of_body B).code)
      intro x hx
      rw [Array.isEmpty_iff.mp h7] at hx
      cases hx
    obtain ⟨t, a1, o, b1, b2, b3⟩ := body p e s m args below meth c s₁ B hml ht hP s₁ hh0 (Stand.of_body B)
    exact ⟨t, o, a1, b1, b2, b3⟩
theorem CT_of {l : Launch} {G : rg_G} {n : Nat} (hs : SND l G n) (hPN : ∀ y, y < 480 → plainFor (rg_nm y) = true) {d y : Nat} {as : List Value} {σ : rg_S} {r : rg_R} (hy : y < 480) (ha : (rg_args as).length ≤ rg_ml y) (h : rg_ex n d y 0 (rg_pad (rg_ml y) (rg_args as)) [] σ = some r) : CT l G d y as σ r := by
  unfold CT
  have main : ∀ (p : Program) (e : Env) (s : State) (m : MethodId) (args : Array Value) (below : List Frame) (meth : Method) (c : Code) (s₁ : State), BodyLoose p l (rg_nm y) (headSpec (rg_ws y) (rmD d (rg_sz (resS r) - rg_sz σ) (rg_sl (resS r) - rg_sl σ))) (rg_by y) (rg_ml y) (rg_rt y) e s m args below meth c s₁ → c.maxLocals = rg_ml y → c.exceptionTable.toList = tableOf (rg_hh y) → PcR G as σ args s →
      W p l e (headSpec (rg_ws y) (rmD d (rg_sz (resS r) - rg_sz σ) (rg_sl (resS r) - rg_sl σ))).room s m args below meth c s.heap [] 0 0 (vx_MQ below (QcR G r) (XcR G r) args s (rg_sz (resS r) - rg_sz σ) (rg_sl (resS r) - rg_sl σ) (frG G)) (entryFrame m args (rg_ml y)) := by
    intro p e s m args below meth c s₁ B hml ht hP
    obtain ⟨rfl, hK, hh⟩ := hP
    rw [lg_entry_eq]
    exact hs h hy ⟨B.exec, B.bytes, hml, B.returns, B.notSynchronized, findClass_of_methodNamed B.named, fun w hw => atoms_spec B.pre w (List.mem_cons_of_mem _ hw), (name_of_methodNamed B.named B.method).1, ht, B.named⟩ hK hh (fun q hq => nomatch hq) (LV.entry ha) (Nat.le_refl _) (Nat.le_refl _) (Nat.zero_add _) (Nat.zero_add _) (Nat.le_refl _) (Nat.le_refl _)
  by_cases hh : rg_hh y = []
  · refine vx_ofWF (cc := rg_by y) (maxL := rg_ml y) (ret := rg_rt y) (ws' := lw_all) (hPN y hy) (by unfold rg_ws rg_cw; rw [if_pos hh]) fun p e s m args below meth c s₁ B hml ht hP => ?_
    refine main p e s m args below meth c s₁ B hml ?_ hP
    rw [hh, tableOf_nil]
    cases hc : c.exceptionTable.toList with
    | nil => rfl
    | cons x t => exact (ht x (by rw [hc]; exact List.mem_cons_self)).elim
  · refine vx_ofWH (cc := rg_by y) (maxL := rg_ml y) (ret := rg_rt y) (hh := rg_hh y) (ws' := lw_all) (plain_hh y hy (by cases hz : rg_hh y with | nil => exact absurd hz hh | cons _ _ => rfl)) (by unfold rg_ws rg_cw; rw [if_neg hh]) fun p e s m args below meth c s₁ B hml hP => ?_
    refine main p e s m args below meth c s₁ B hml ?_ hP
    exact vx_table (x := rg_nm y) B (y := rg_nm y) (bytes := rg_by y) (maxL' := rg_ml y) (ret' := rg_rt y) (atoms_spec B.pre _ (by unfold rg_ws rg_cw; rw [if_neg hh]; exact List.mem_cons_self))
theorem snd_th {l : Launch} {G : rg_G} {n : Nat} (hs : SND l G n) (hH : ∀ y, y < 480 → HndOK G y) {d y pc : Nat} {L : rg_L} {q : Nat} {σ : rg_S} {r : rg_R} (h : rg_th (rg_ex n) d y pc L q σ = some r) (hy : y < 480)
    {p : Program} {e : Env} {R : Room} {s : State} {m : MethodId} {args : Array Value} {below : List Frame} {meth : Method} {c : Code} {H : Heap} {locs : List Loc} {cells slots mc ms : Nat} {ls : Array Slot} {rest : List Value} {ci : Nat} {k : vw_C} {ce : Cell}
    (hci : rg_tc σ q = some ci) (hk : rg_cl[ci]? = some k) (hce : H[q]? = some ce) (hcv : ce.vm = .none) (hcl : s.vm.findClass k.1 = some ce.cls)
    (cx : CX p y s m args meth c) (hK : KS G s) (hP : hp G σ H) (hB : LB G locs) (hL : LV ls (rg_ml y) L) (hf : d + 1 ≤ R.frames) (hlo : 64 * d + 3200 ≤ R.locals) (hmc : cells + (rg_sz (resS r) - rg_sz σ) = mc) (hms : slots + (rg_sl (resS r) - rg_sl σ) = ms) (h1 : mc ≤ R.cells) (h2 : ms ≤ R.slots) :
    vx_W p l e R s m args below meth c H locs cells slots (vx_MQ below (QcR G r) (XcR G r) args s mc ms (frG G)) (F0 m pc ls rest) q := by
  unfold rg_th at h
  rw [hci] at h
  dsimp only at h
  obtain ⟨k1, k2⟩ := hH y hy (p := p) (l := l) (e := e) (R := R) (below := below) (locs := locs) (cells := cells) (slots := slots) (ls := ls) (rest := rest) (Q := vx_MQ below (QcR G r) (XcR G r) args s mc ms (frG G)) (pc := pc) cx hK hk hce hcv hcl
  cases hh : rg_hd pc ci (rg_hds y) with
  | some t =>
    rw [hh] at h
    exact k1 t hh (hs h hy cx hK hP hB hL hf hlo hmc hms h1 h2)
  | none =>
    rw [hh] at h
    dsimp only at h
    split at h
    · cases h
    · rename_i hc
      cases h
      refine vx_out (k2 hh (by simpa using hc)) cx.2.2.2.2.1 hce hcv hcl (fun t ht _ => ⟨σ, ci, k, rfl, by rw [ht]; exact hP, hci, hk, rfl⟩) hB (by omega) (by omega)
theorem snd {l : Launch} {G : rg_G} (hR : rg_ROWS l G) (hH : ∀ y, y < 480 → HndOK G y) (hPN : ∀ y, y < 480 → plainFor (rg_nm y) = true) : ∀ n, SND l G n := by
  intro n
  induction n with
  | zero => intro d y pc L st σ r h; cases h
  | succ n ih =>
    intro d y pc L st σ r h hy p e R s m args below meth c H locs cells slots mc ms ls cx hK hP hB hL hf hlo hmc hms h1 h2
    replace h : rg_K (rg_ex n) d y pc L ((rg_at y pc).bind fun o => rg_do o L st σ) = some r := h
    cases hat : rg_at y pc with
    | none => rw [hat] at h; cases h
    | some o =>
      rw [hat] at h
      replace h : rg_K (rg_ex n) d y pc L (rg_do o L st σ) = some r := h
      obtain ⟨r1, r2, r3, r4⟩ := hR y pc o hy hat
      cases hd : rg_do o L st σ with
      | none => rw [hd] at h; cases h
      | some z =>
        rw [hd] at h
        have hk := rg_do_kind hd
        have hu := rg_do_up hd
        rcases z with ⟨pc', L', st', σ'⟩ | ⟨y', as, npc, rest, σ'⟩ | ⟨v, σ'⟩ | ⟨q, σ'⟩
        · replace h : rg_ex n d y pc' L' st' σ' = some r := h
          have hu2 := rg_ex_upS n h
          have hu : rg_up σ σ' := hu
          obtain ⟨a1, a2⟩ := hu
          obtain ⟨b1, b2⟩ := hu2
          refine r1 (by simpa [outK] using hk) L st σ pc' L' st' σ' hd cx hK hP hB hL (by omega) (by omega) (by omega) (by omega) fun H' ls' locs' g1 g2 g3 => ?_
          exact ih h hy cx hK g1 g2 g3 hf hlo (by omega) (by omega) h1 h2
        · replace h : rg_af (rg_ex n) d y pc L npc rest (rg_cr (rg_ex n) d y' as σ') = some r := h
          obtain ⟨rfl, hc⟩ := r2 (by simpa [outK] using hk) L st σ y' as npc rest σ' hd
          cases hcr : rg_cr (rg_ex n) d y' as σ' with
          | none => rw [hcr] at h; cases h
          | some w =>
            rw [hcr] at h
            have hw : rg_up σ' (resS w) := by
              unfold rg_cr at hcr
              split at hcr
              · split at hcr
                · exact rg_intr_up hcr
                · cases hcr
              · split at hcr
                · cases hcr
                · split at hcr
                  · exact rg_ex_upS n hcr
                  · cases hcr
            have hwr : rg_up (resS w) (resS r) := by
              rcases w with ⟨v, σ2⟩ | ⟨q, σ2⟩
              · exact rg_ex_upS n h
              · replace h : rg_th (rg_ex n) d y pc L q σ2 = some r := h
                unfold rg_th at h
                split at h
                · cases h
                · split at h
                  · exact rg_ex_upS n h
                  · split at h
                    · cases h
                    · cases h; exact up_rf _
            obtain ⟨a1, a2⟩ := hw
            obtain ⟨b1, b2⟩ := hwr
            have hrun : RunW G p l e R s m args below meth c H locs cells slots (F0 m pc ls st) npc rest σ' w := by
              unfold rg_cr at hcr
              split at hcr
              · rename_i h5
                split at hcr
                · rename_i h4
                  exact hc (d := 0) cx hK hP hB hL ⟨a1, a2⟩ (by omega) (by omega) (Or.inr (Or.inl ⟨h5, by omega, by omega, hcr⟩))
                · cases hcr
              · rename_i h5
                split at hcr
                · cases hcr
                · rename_i d' 
                  split at hcr
                  · rename_i ha
                    by_cases h48 : y' < 480
                    · exact hc (d := d') cx hK hP hB hL ⟨a1, a2⟩ (by omega) (by omega) (Or.inl ⟨h48, by omega, by omega, CT_of ih hPN h48 ha hcr⟩)
                    · exact hc (d := d') cx hK hP hB hL ⟨a1, a2⟩ (by omega) (by omega) (Or.inr (Or.inr ⟨by omega, by omega, by omega, by omega, n, hcr, fun z1 z2 z3 => CT_of ih hPN z1 z2 z3⟩))
                  · cases hcr
            intro T hT X
            obtain ⟨T', locs', g1, g2, X', hor⟩ := hrun T hT X
            rcases hor with ⟨v, σ2, rfl, go⟩ | ⟨q, σ2, ci, k, ce, rfl, e1, e2, e3, e4, e5, go⟩
            · replace h : rg_ex n d y npc L (v.toList ++ rest) σ2 = some r := h
              have a1 : rg_sz σ' ≤ rg_sz σ2 := a1
              have a2 : rg_sl σ' ≤ rg_sl σ2 := a2
              have b1 : rg_sz σ2 ≤ rg_sz (resS r) := b1
              have b2 : rg_sl σ2 ≤ rg_sl (resS r) := b2
              have g1 : hp G σ2 T'.heap := g1
              obtain ⟨t, s1, s2⟩ := ih h hy cx hK g1 g2 hL hf hlo (mc := mc) (ms := ms) (cells := cells + (rg_sz σ2 - rg_sz σ')) (slots := slots + (rg_sl σ2 - rg_sl σ')) (by omega) (by omega) h1 h2 T' rfl X'
              exact ⟨t, go t s1, s2⟩
            · replace h : rg_th (rg_ex n) d y pc L q σ2 = some r := h
              have a1 : rg_sz σ' ≤ rg_sz σ2 := a1
              have a2 : rg_sl σ' ≤ rg_sl σ2 := a2
              have b1 : rg_sz σ2 ≤ rg_sz (resS r) := b1
              have b2 : rg_sl σ2 ≤ rg_sl (resS r) := b2
              have g1 : hp G σ2 T'.heap := g1
              obtain ⟨t, s1, s2⟩ := snd_th ih hH h hy (rest := rest) (ls := ls) (mc := mc) (ms := ms) (cells := cells + (rg_sz σ2 - rg_sz σ')) (slots := slots + (rg_sl σ2 - rg_sl σ')) e1 e2 e3 e4 e5 cx hK g1 g2 hL hf hlo (by omega) (by omega) h1 h2 T' rfl X'
              exact ⟨t, go.trans s1, s2⟩
        · replace h : some (Sum.inl (v, σ')) = some r := h
          cases h
          obtain ⟨rfl, hret⟩ := r3 (by simpa [outK] using hk) L st σ v σ' hd
          replace hmc : cells + (rg_sz σ' - rg_sz σ') = mc := hmc
          replace hms : slots + (rg_sl σ' - rg_sl σ') = ms := hms
          rw [Nat.sub_self] at hmc hms
          subst hmc
          subst hms
          exact vx_ret (hret cx (fun t ht _ => ⟨v, σ', rfl, rfl, by rw [ht]; exact hP⟩) hB)
        · replace h : rg_th (rg_ex n) d y pc L q σ' = some r := h
          have hdec := r4 (by simpa [outK] using hk)
          have hk3 : okd o.1 = 3 := by simpa [outK] using hk
          obtain ⟨r0, rfl, rfl⟩ : ∃ r0, st = .ref q :: r0 ∧ σ' = σ := by
            unfold rg_do at hd
            split at hd <;> (rename_i ho; first | (cases hd; done) | (rw [ho] at hk3; cases hk3; done) | skip)
            split at hd
            · cases hd
              exact ⟨_, rfl, rfl⟩
            · cases hd
          have hci : ∃ ci, rg_tc σ' q = some ci := by
            unfold rg_th at h
            cases hc : rg_tc σ' q with
            | none => rw [hc] at h; cases h
            | some ci => exact ⟨ci, rfl⟩
          obtain ⟨ci, hci⟩ := hci
          obtain ⟨k, ce, e2, e3, e4, e5⟩ := hP.thr hK hci
          exact vx_athrow cx.1 cx.2.1 hdec (snd_th ih hH h hy hci e2 e3 e4 e5 cx hK hP hB hL hf hlo hmc hms h1 h2)
