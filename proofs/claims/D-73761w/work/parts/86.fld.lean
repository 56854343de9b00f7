/-! GoOK of getfield and putfield -/
set_option maxRecDepth 100000
/-- a field as an instruction's link names it -/
def FLnk (y idx : Nat) (ref name desc : String) : Prop := (Cond.fieldLink (rg_nm y).cls idx ref name desc) ∈ lw_all ∨ ∃ host, va_Nw (.fieldLinkNest (rg_nm y).cls idx ref name desc host) ∈ rg_facts
/-- field k of class c is the one of these names -/
def FK (ref name desc : String) (c k : Nat) : Prop := c < 910 ∧ ∃ r, rg_cl[c]? = some r ∧ k < r.2.2 ∧ (r.2.1 k).2.1 = name ∧ (r.2.1 k).2.2.1 = desc ∧ ((r.2.1 k).1 = ref ∨ (Cond.sameField ref (r.2.1 k).1 name desc) ∈ lw_all)
/-- the classes' words are among the law's -/
def rg_IN : Prop := ∀ (c : Nat) (r : vw_C), rg_cl[c]? = some r → ∀ w ∈ u_ws r.1 r.2.1 r.2.2, w ∈ lw_all
/-- no two fields of a class in one slot: by name, or by declarer where both are final -/
def rg_AP : Prop := ∀ (c : Nat) (r : vw_C), rg_cl[c]? = some r → (∀ k, k < r.2.2 → ∃ ty, parseFieldDescriptor (r.2.1 k).2.2.1 = some ty) ∧ ∀ a, a < r.2.2 → ∀ b, b < r.2.2 → a ≠ b → (r.2.1 a).2.1 ≠ (r.2.1 b).2.1 ∨ ((r.2.1 a).2.2.2 = true ∧ (r.2.1 b).2.2.2 = true ∧ (r.2.1 a).1 ≠ (r.2.1 b).1)
def fitOK : Nat → FieldType → Bool
  | 0, .int => true
  | 1, .long => true
  | 2, .boolean => true
  | 3, .object _ => true
  | 3, .array _ => true
  | _, _ => false
theorem fit_narrow {t : Nat} {ty : FieldType} {v : Value} (h : fitOK t ty = true) (hv : rg_fit t v = true) : narrow ty v = v ∧ fits ty v = true := by
  unfold fitOK at h
  split at h
  · cases v <;> first | exact ⟨rfl, rfl⟩ | (simp [rg_fit, rg_isi] at hv)
  · cases v <;> first | exact ⟨rfl, rfl⟩ | (simp [rg_fit, rg_isj] at hv)
  · cases v <;> first | (simp [rg_fit] at hv; done) | skip
    rename_i z
    have hz : rg_isb z = true := hv
    refine ⟨isb_nar hz, ?_⟩
    unfold rg_isb at hz
    rw [Bool.or_eq_true, decide_eq_true_eq, decide_eq_true_eq] at hz
    rcases hz with rfl | rfl <;> decide
  · cases v <;> first | exact ⟨rfl, rfl⟩ | (simp [rg_fit, rg_isr] at hv)
  · cases v <;> first | exact ⟨rfl, rfl⟩ | (simp [rg_fit, rg_isr] at hv)
  · cases h
theorem laysFinal_apart {args : Array Value} {s : State} {C O f d O' f' d' : String} (h : (Cond.laysFinal C O f d).before args s = true) (h' : (Cond.laysFinal C O' f' d').before args s = true)
    {cf kf fi fd cf' kf' fi' fd'} (hi : s.fieldFound? O f d = some (cf, kf, fi, fd)) (hi' : s.fieldFound? O' f' d' = some (cf', kf', fi', fd')) (hne : O ≠ O') : fd.slot ≠ fd'.slot := by
  obtain ⟨c, k, a1, a2, a3, a4, r1, r2, q, -, -, -, hO, -, dd, hd, hn, -⟩ := Cond.laysFinal_spec h
  cases hi.symm.trans q
  obtain ⟨c', k', b1, b2, b3, b4, r1', r2', q', -, -, -, hO', -, dd', hd', hn', -⟩ := Cond.laysFinal_spec h'
  cases hi'.symm.trans q'
  cases r1.symm.trans r1'
  intro hs
  rw [hs] at hd
  cases hd.symm.trans hd'
  obtain ⟨x, hx, hxn⟩ := Vm.findClass_spec hO
  obtain ⟨x', hx', hxn'⟩ := Vm.findClass_spec hO'
  cases hx.symm.trans (State.fieldFound?_class hi)
  cases hx'.symm.trans (State.fieldFound?_class hi')
  exact hne (by rw [← hxn, ← hxn', ← hn, ← hn'])
theorem fk_same {s : State} {args : Array Value} (hw : ∀ w ∈ lw_all, w.before args s = true) {O ref name desc : String} (ho : O = ref ∨ (Cond.sameField ref O name desc) ∈ lw_all) {z : ClassId × Class × Nat × Field} (hi : s.fieldFound? O name desc = some z) : s.fieldFound? ref name desc = some z := by
  rcases ho with ho | ho
  · rw [← ho]; exact hi
  · exact u_same (hw _ ho) _ hi
section FLD
variable {G : rg_G} {y pc : Nat} {x : List (Nat × Nat)}
theorem lk_all {P : Nat → Nat → Prop} : ∀ {x : List (Nat × Nat)}, (∀ q ∈ x, P q.1 q.2) → ∀ {c k}, rg_lk c x = some k → P c k
  | [], _, c, k, h => by cases h
  | (c', k') :: r, hx, c, k, h => by
    unfold rg_lk at h
    split at h
    · rename_i hc
      cases h
      subst hc
      exact hx _ List.mem_cons_self
    · exact lk_all (fun q hq => hx q (List.mem_cons_of_mem _ hq)) h
theorem rg_slots_apart (hAP : rg_AP) (hIN : rg_IN) {s : State} {args : Array Value} (hw : ∀ w ∈ lw_all, w.before args s = true) (hK : KS G s) {c : Nat} {r : vw_C} (hr : rg_cl[c]? = some r) : ∀ a b, a < r.2.2 → b < r.2.2 → a ≠ b → (g_D G).2 c a ≠ (g_D G).2 c b := by
  intro a b ha hb hne
  obtain ⟨hS, -⟩ := hK.1.1 c r hr
  obtain ⟨cf, kf, fi, fa, hia, ea⟩ := hS a ha
  obtain ⟨cf', kf', fi', fb, hib, eb⟩ := hS b hb
  obtain ⟨hP, hN⟩ := hAP c r hr
  rw [← ea, ← eb]
  rcases hN a ha b hb hne with h | ⟨h1, h2, h3⟩
  · refine u_apart (u_lays hw (hIN c r hr) ha) (u_lays hw (hIN c r hr) hb) hia hib ?_
    obtain ⟨t1, ht1⟩ := hP a ha
    obtain ⟨t2, ht2⟩ := hP b hb
    rw [(State.fieldFound?_type hia ht1).1, (State.fieldFound?_type hib ht2).1]
    exact h
  · have w1 := hw _ (hIN c r hr _ (u_in_lay ha))
    have w2 := hw _ (hIN c r hr _ (u_in_lay hb))
    unfold u_lay at w1 w2
    rw [if_pos h1] at w1
    rw [if_pos h2] at w2
    exact laysFinal_apart w1 w2 hia hib h3
theorem go_getfield (hIN : rg_IN) {idx : Nat} {ref name desc : String} (d : decode (rg_by y) pc = .ok (.getfield idx, 3)) (hl : FLnk y idx ref name desc) (hx : ∀ q ∈ x, FK ref name desc q.1 q.2) : GoOK G y pc (.getfield idx, pc + 3, x) := go_rd (npc := 0) fun L st σ pc' L' st' σ' h => by
  replace h : rg_get x (pc + 3) L st σ = _ := h
  unfold rg_get at h
  split at h
  · split at h
    · rename_i ci F hrd
      split at h
      · rename_i k hk
        obtain ⟨rfl, rfl, rfl, rfl⟩ := rg_go_inv h
        refine ⟨rfl, rfl, fun cx hK hP kk => ?_⟩
        obtain ⟨hc9, r, hr, hkN, hn, hd, ho⟩ := lk_all hx hk
        obtain ⟨cell, r', q1, q2, q3, q4, q5, q6⟩ := hP.obj hK hrd hc9 (cl_ne hr)
        cases hr.symm.trans q2
        obtain ⟨hS, hfc, kC, hkC, hkind⟩ := hK.1.1 ci r hr
        obtain ⟨cf, kf, fi, f, hi, hsl⟩ := hS k hkN
        have hst := (u_facts hfc hkC (u_lays cx.2.2.2.2.2.2.1 (hIN ci r hr) hkN) hi).1
        have hi' : _ = some (cf, kf, fi, f) := hi
        rw [hn, hd] at hi'
        have hi2 := fk_same cx.2.2.2.2.2.2.1 ho hi'
        have hv : cell.slots[f.slot]? = some (F k) := by rw [hsl]; exact q6 k hkN
        rcases hl with hl | ⟨host, hl⟩
        · exact W.getf cx.1 cx.2.1 cx.2.2.2.2.2.1 (cx.2.2.2.2.2.2.1 _ hl) hi2 hst q1 q4 hv rfl rfl d kk
        · exact va_Wgetf cx.1 cx.2.1 cx.2.2.2.2.2.1 (va_Nw.use rfl (hK.fact hl)) hi2 hst q1 q4 hv rfl rfl d kk
      · cases h
    · cases h
  · cases h
/-- a field that is written: its type, and final ones in their class's constructor alone -/
def FP (y idx t : Nat) (ref name desc : String) (c k : Nat) : Prop := ∃ r ty, rg_cl[c]? = some r ∧ parseFieldDescriptor desc = some ty ∧ fitOK t ty = true ∧ ((r.2.1 k).2.2.2 = false ∨ ((rg_nm y).name = "<init>" ∧ (rg_nm y).cls = (r.2.1 k).1 ∧ (r.2.1 k).2.2.2 = true ∧ (Cond.fieldLink (rg_nm y).cls idx ref name desc) ∈ lw_all))
theorem go_putfield (hIN : rg_IN) (hAP : rg_AP) {idx t t0 : Nat} {ref name desc : String} (d : decode (rg_by y) pc = .ok (.putfield idx, 3)) (hl : FLnk y idx ref name desc) (hx : ∀ q ∈ x, FK ref name desc q.1 q.2) (hp : ∀ q ∈ x, FP y idx t ref name desc q.1 q.2) : GoOK G y pc (.putfield idx, pc + 3, (t, t0) :: x) := by
  intro L st σ pc' L' st' σ' hd p l e R s m args below meth c H locs cells slots Q ls cx hK hP hB hL hf hlo hc hs kk
  replace hd : rg_put t x (pc + 3) L st σ = _ := hd
  unfold rg_put at hd
  split at hd
  · rename_i v a rest
    split at hd
    · rename_i ci F hh
      split at hd
      · rename_i k hk
        split at hd
        · rename_i hfit
          obtain ⟨rfl, rfl, rfl, rfl⟩ := rg_go_inv hd
          rw [sz_set, sl_set, Nat.sub_self, Nat.sub_self] at kk
          obtain ⟨hc9, r, hr, hkN, hn, hde, ho⟩ := lk_all hx hk
          obtain ⟨r', ty, hr', hty, hft, hfin⟩ := lk_all hp hk
          cases hr.symm.trans hr'
          obtain ⟨g1, hcell⟩ := hP.2.2.2.2.2 a _ hh
          obtain ⟨r'', hr'', ⟨cell, q1, q3, q2, q4⟩, qm⟩ := hcell.resolve_right fun z => absurd z.1 (by omega)
          cases hr.symm.trans hr''
          obtain ⟨hS, hfc, kC, hkC, hkind⟩ := hK.1.1 ci r hr
          obtain ⟨cf, kf, fi, f, hi, hsl⟩ := hS k hkN
          have hlay := u_lays cx.2.2.2.2.2.2.1 (hIN ci r hr) hkN
          have hst := (u_facts hfc hkC hlay hi).1
          have hi' : _ = some (cf, kf, fi, f) := hi
          rw [hn, hde] at hi'
          have hi2 := fk_same cx.2.2.2.2.2.2.1 ho hi'
          obtain ⟨hnar, hfits⟩ := fit_narrow hft hfit
          have hap := rg_slots_apart hAP hIN cx.2.2.2.2.2.2.1 hK hr
          have hlt : f.slot < cell.slots.size := by rw [hsl]; exact k2_hasslot (q4 k hkN)
          have hlay' := u_in_lay (C := r.1) (T := r.2.1) hkN
          have hset : ∀ H' : Heap, H'[a]? = some (cell.setSlot f.slot v) → rg_cell G H' a (.inr (ci, va_up F k v)) := fun H' e1 => Or.inl ⟨r, hr, ⟨_, e1, q3, q2, by rw [hsl]; exact t_set q4 hap hkN v⟩, fun cz hz => by cases e1.symm.trans hz; exact qm cell q1⟩
          have hpty : parseFieldDescriptor (r.2.1 k).2.2.1 = some ty := by rw [hde]; exact hty
          rcases hfin with hfin | ⟨hin, hown, hfin, hlk⟩
          · have hw := cx.2.2.2.2.2.2.1 _ (hIN ci r hr _ hlay')
            unfold u_lay at hw
            rw [if_neg (by rw [hfin]; decide)] at hw
            have hSd := u_store hfc hkC hkind hw hi hpty hnar hfits
            rw [← q3] at hSd
            rcases hl with hl | ⟨host, hl⟩
            · exact W.putK cx.1 cx.2.1 ⟨cx.2.2.2.2.2.1, cx.2.2.2.2.2.2.1 _ hl, ⟨cf, kf, fi, hi2⟩, hst⟩ hSd q1 q2 hlt rfl rfl d fun H' e1 e2 e3 => kk H' ls _ (hP.set hh (hset H' e1) e2 e3) (hB.app g1) hL
            · exact va_WputK cx.1 cx.2.1 cx.2.2.2.2.2.1 (va_Nw.use rfl (hK.fact hl)) hi2 hst hSd q1 q2 hlt rfl rfl d fun H' e1 e2 e3 => kk H' ls _ (hP.set hh (hset H' e1) e2 e3) (hB.app g1) hL
          · have hSd := u_fits hfc hkC hkind hlay hi hpty hnar hfits
            rw [← q3] at hSd
            have hw := cx.2.2.2.2.2.2.1 _ (hIN ci r hr _ hlay')
            unfold u_lay at hw
            rw [if_pos hfin] at hw
            obtain ⟨c1, k1, cf1, kf1, fi1, f1, r1, r2, w1, -, -, -, hO, -⟩ := Cond.laysFinal_spec hw
            cases hi.symm.trans w1
            have hcf : m.cls = cf := by
              have := cx.2.2.2.2.2.1
              rw [hown] at this
              exact Option.some.inj (this.symm.trans hO)
            exact W.putFinK cx.1 cx.2.1 cx.2.2.2.2.2.1 (cx.2.2.2.2.2.2.1 _ hlk) hi2 hst hcf (cx.2.2.2.2.2.2.2.1.trans hin) hSd q1 q2 hlt rfl rfl d fun H' e1 e2 e3 => kk H' ls _ (hP.set hh (hset H' e1) e2 e3) (hB.app g1) hL
        · cases hd
      · cases hd
    · cases hd
  · cases hd
end FLD
