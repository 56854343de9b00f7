/-! GoOK of the instructions that read and write cells, and make them -/
set_option maxRecDepth 100000
theorem rg_in_iff {i : Int32} {n : Nat} : rg_in i n = true ↔ ¬ i < 0 ∧ i.toNatClampNeg < n := by
  unfold rg_in
  rw [Bool.and_eq_true, decide_eq_true_eq, decide_eq_true_eq]
section HE
variable {G : rg_G} {y pc npc t : Nat} {o : rg_op} {x : List (Nat × Nat)}
-- ===== arrays read =====
theorem go_rd {npc : Nat} (hr : ∀ (L : rg_L) (st : List Value) (σ : rg_S) (pc' : Nat) (L' : rg_L) (st' : List Value) (σ' : rg_S), rg_do o L st σ = some (.inl (pc', L', st', σ')) → σ' = σ ∧ L' = L ∧
    ∀ {p : Program} {l : Launch} {e : Env} {R : Room} {s : State} {m : MethodId} {args : Array Value} {below : List Frame} {meth : Method} {c : Code} {H : Heap} {locs : List Loc} {cells slots : Nat} {Q : State → Prop} {ls : Array Slot},
      CX p y s m args meth c → KS G s → hp G σ H → W p l e R s m args below meth c H locs cells slots Q (F0 m pc' ls st') → W p l e R s m args below meth c H locs cells slots Q (F0 m pc ls st)) : GoOK G y pc o := by
  intro L st σ pc' L' st' σ' hd p l e R s m args below meth c H locs cells slots Q ls cx hK hP hB hL hf hl hc hs kk
  obtain ⟨rfl, rfl, h⟩ := hr L st σ pc' L' st' σ' hd
  have kk := kk H ls locs hP hB hL
  rw [Nat.sub_self, Nat.sub_self] at kk
  exact h cx hK hP kk
theorem go_iaload (d : decode (rg_by y) pc = .ok (.iaload, 1)) : GoOK G y pc (.iaload, pc + 1, x) := go_rd (npc := 0) fun L st σ pc' L' st' σ' h => by
  have h : rg_ial [0] (pc + 1) L st σ = _ := h
  unfold rg_ial at h
  split at h
  · split at h
    · rename_i k n f hrd
      split at h
      · rename_i hk
        simp only [Bool.and_eq_true, List.contains_cons, List.contains_nil, Bool.or_false, beq_iff_eq] at hk
        obtain ⟨rfl, hin⟩ := hk
        obtain ⟨h1, h2⟩ := rg_in_iff.mp hin
        obtain ⟨rfl, rfl, rfl, rfl⟩ := rg_go_inv h
        refine ⟨rfl, rfl, fun cx hK hP k => ?_⟩
        obtain ⟨cell, q1, q2, q3, q4, q5, q6⟩ := hP.arr hK hrd (by decide)
        exact W.iald cx.1 cx.2.1 q1 q2 q3 (fun z => z.elim h1 (fun z => by omega)) (q6 _ h2) rfl rfl d k
      · cases h
    · cases h
  · cases h
theorem go_baload (d : decode (rg_by y) pc = .ok (.baload, 1)) : GoOK G y pc (.baload, pc + 1, x) := go_rd (npc := 0) fun L st σ pc' L' st' σ' h => by
  have h : rg_ial [2, 3] (pc + 1) L st σ = _ := h
  unfold rg_ial at h
  split at h
  · split at h
    · rename_i k n f hrd
      split at h
      · rename_i hk
        simp only [Bool.and_eq_true, List.contains_cons, List.contains_nil, Bool.or_false, Bool.or_eq_true, beq_iff_eq] at hk
        obtain ⟨hk, hin⟩ := hk
        obtain ⟨h1, h2⟩ := rg_in_iff.mp hin
        obtain ⟨rfl, rfl, rfl, rfl⟩ := rg_go_inv h
        refine ⟨rfl, rfl, fun cx hK hP kk => ?_⟩
        rcases hk with rfl | rfl
        · obtain ⟨cell, q1, q2, q3, q4, q5, q6⟩ := hP.arr hK hrd (by decide)
          exact W.bald cx.1 cx.2.1 q1 q2 q3 (fun z => z.elim h1 (fun z => by omega)) (q6 _ h2) rfl rfl d kk
        · obtain ⟨cell, q1, q2, q3, q4, q5, q6⟩ := hP.arr hK hrd (by decide)
          exact W.zald cx.1 cx.2.1 q1 q2 q3 (fun z => z.elim h1 (fun z => by omega)) (q6 _ h2) rfl rfl d kk
      · cases h
    · cases h
  · cases h
theorem go_laload (d : decode (rg_by y) pc = .ok (.laload, 1)) : GoOK G y pc (.laload, pc + 1, x) := go_rd (npc := 0) fun L st σ pc' L' st' σ' h => by
  have h : rg_jal (pc + 1) L st σ = _ := h
  unfold rg_jal at h
  split at h
  · split at h
    · rename_i k n f hrd
      split at h
      · rename_i hk
        simp only [Bool.and_eq_true, beq_iff_eq] at hk
        obtain ⟨rfl, hin⟩ := hk
        obtain ⟨h1, h2⟩ := rg_in_iff.mp hin
        obtain ⟨rfl, rfl, rfl, rfl⟩ := rg_go_inv h
        refine ⟨rfl, rfl, fun cx hK hP kk => ?_⟩
        obtain ⟨cell, q1, q2, q3, q4, q5, q6⟩ := hP.arr hK hrd (by decide)
        exact W.lald cx.1 cx.2.1 q1 q2 q3 (fun z => z.elim h1 (fun z => by omega)) (q6 _ h2) rfl rfl d kk
      · cases h
    · cases h
  · cases h
theorem ty_obj {k : Nat} (h : 4 ≤ k) (h7 : k < 7) : ∃ E, rg_ty k = .object E := by
  match k, h, h7 with
  | 4, _, _ => exact ⟨_, rfl⟩
  | 5, _, _ => exact ⟨_, rfl⟩
  | 6, _, _ => exact ⟨_, rfl⟩
theorem k456 {k : Nat} (h : [4, 5, 6].contains k = true) : 4 ≤ k ∧ k < 7 := by
  simp only [List.contains_cons, List.contains_nil, Bool.or_false, Bool.or_eq_true, beq_iff_eq] at h
  omega
theorem k4567 {k : Nat} (h : [4, 5, 6, 7].contains k = true) : 4 ≤ k ∧ k < 8 := by
  simp only [List.contains_cons, List.contains_nil, Bool.or_false, Bool.or_eq_true, beq_iff_eq] at h
  omega
theorem ty_obj7 {k : Nat} (h4 : 4 ≤ k) (h7 : k < 8) : ∃ E, rg_ty k = .object E := by
  rcases (show k = 7 ∨ k < 7 by omega) with rfl | h
  · exact ⟨_, rfl⟩
  · exact ty_obj h4 h
theorem go_aaload (d : decode (rg_by y) pc = .ok (.aaload, 1)) : GoOK G y pc (.aaload, pc + 1, x) := go_rd (npc := 0) fun L st σ pc' L' st' σ' h => by
  have h : rg_qal (pc + 1) L st σ = _ := h
  unfold rg_qal at h
  split at h
  · split at h
    · rename_i k n f hrd
      split at h
      · rename_i hk
        rw [Bool.and_eq_true] at hk
        obtain ⟨h4, h7⟩ := k4567 hk.1
        obtain ⟨h1, h2⟩ := rg_in_iff.mp hk.2
        obtain ⟨rfl, rfl, rfl, rfl⟩ := rg_go_inv h
        refine ⟨rfl, rfl, fun cx hK hP kk => ?_⟩
        obtain ⟨E, hE⟩ := ty_obj7 h4 h7
        obtain ⟨cell, q1, q2, q3, q4, q5, q6⟩ := hP.arr hK hrd (by omega)
        exact W.aald cx.1 cx.2.1 q1 q2 (by rw [hE]; rfl) q3 (fun z => z.elim h1 (fun z => by omega)) (q6 _ h2) rfl rfl d kk
      · cases h
    · cases h
  · cases h
theorem go_len (d : decode (rg_by y) pc = .ok (.arraylength, 1)) : GoOK G y pc (.arraylength, pc + 1, x) := go_rd (npc := 0) fun L st σ pc' L' st' σ' h => by
  have h : rg_len (pc + 1) L st σ = _ := h
  unfold rg_len at h
  split at h
  · split at h
    · rename_i k n f hrd
      split at h
      · cases h
      · rename_i h8
        obtain ⟨rfl, rfl, rfl, rfl⟩ := rg_go_inv h
        refine ⟨rfl, rfl, fun cx hK hP kk => ?_⟩
        obtain ⟨cell, q1, q2, q3, q4, q5, q6⟩ := hP.arr hK hrd (fun z => h8 (by rw [z]; rfl))
        exact W.alen cx.1 cx.2.1 q1 q2 q5 rfl rfl d kk
    · cases h
  · cases h
-- ===== arrays written =====
theorem vpv_upI {f : Nat → Int32} {k : Nat} {z : Int32} : updV (vpv (.inl f)) k (.int z) = vpv (.inl (upd f k z)) := by
  funext q
  by_cases h : q = k
  · subst h; simp [updV, vpv, upd]
  · simp [updV, vpv, upd, h]
theorem vpv_upJ {f : Nat → Int64} {k : Nat} {z : Int64} : updV (vpv (.inr (.inl f))) k (.long z) = vpv (.inr (.inl (vp_updL f k z))) := by
  funext q
  by_cases h : q = k
  · subst h; simp [updV, vpv, vp_updL]
  · simp [updV, vpv, vp_updL, h]
theorem vpv_upQ {f : Nat → Option Nat} {k : Nat} {z : Option Nat} : updV (vpv (.inr (.inr (.inr (.inr f))))) k (va_rf z) = vpv (.inr (.inr (.inr (.inr (va_up f k z))))) := by
  funext q
  by_cases h : q = k
  · subst h; simp [updV, vpv, va_up]
  · simp [updV, vpv, va_up, h]
theorem hp.own {σ : rg_S} {H : Heap} {a : Nat} {k n : Nat} {z} {s : State} (hP : hp G σ H) (hK : KS G s) (h : rg_h σ a = some (.inl (k, n, z))) : (g_0 G).size ≤ a ∧ k < 7 ∧ H[a]? = some (arrV (g_A G k) n (vpv z)) ∧ s.isArrayOf (arrV (g_A G k) n (vpv z)) (rg_ty k) := by
  obtain ⟨h1, h2, h3⟩ := hP.2.2.2.2.2 a _ h
  refine ⟨h1, h2, by rw [← vp_cell_v]; exact h3, (hK.1.2 k (g_A G k, rg_ty k) (by unfold rg_tys; simp [h2])).1 n (vpv z)⟩
theorem go_iastore (d : decode (rg_by y) pc = .ok (.iastore, 1)) : GoOK G y pc (.iastore, pc + 1, x) := by
  intro L st σ pc' L' st' σ' hd p l e R s m args below meth c H locs cells slots Q ls cx hK hP hB hL hf hl hc hs kk
  have hd : rg_ias (pc + 1) L st σ = _ := hd
  unfold rg_ias at hd
  split at hd
  · split at hd
    · rename_i z i a r k n f hh
      split at hd
      · rename_i hk
        simp only [Bool.and_eq_true, beq_iff_eq] at hk
        obtain ⟨rfl, hin⟩ := hk
        obtain ⟨h1, h2⟩ := rg_in_iff.mp hin
        obtain ⟨rfl, rfl, rfl, rfl⟩ := rg_go_inv hd
        obtain ⟨g1, g2, g3, g4⟩ := hP.own hK hh
        rw [sz_set, sl_set, Nat.sub_self, Nat.sub_self] at kk
        refine W.iast cx.1 cx.2.1 g3 g4 (fun q => by cases q) (by rw [arrV_size]; exact fun z => z.elim h1 (fun z => by omega)) rfl rfl d fun H' e1 e2 e3 => ?_
        rw [arrV_store, vpv_upI] at e1
        exact kk H' ls _ (hP.set hh ⟨g2, by rw [vp_cell_v]; exact e1⟩ e2 e3) (hB.app g1) hL
      · cases hd
    · cases hd
  · cases hd
theorem vpv_upR {f : Nat → Option Nat} {k z : Nat} : updV (vpv (.inr (.inr (.inr (.inr f))))) k (.ref z) = vpv (.inr (.inr (.inr (.inr (va_up f k (some z)))))) := vpv_upQ (z := some z)
theorem vpv_upN {f : Nat → Option Nat} {k : Nat} : updV (vpv (.inr (.inr (.inr (.inr f))))) k .null = vpv (.inr (.inr (.inr (.inr (va_up f k none))))) := vpv_upQ (z := none)
theorem nar_byte {z : Int32} : narrow .byte (.int z) = .int (vp_nar .byte z) := by simp [vp_nar, narrow]
theorem isb_nar {z : Int32} (h : rg_isb z = true) : narrow .boolean (.int z) = .int z := by
  unfold rg_isb at h
  rw [Bool.or_eq_true, decide_eq_true_eq, decide_eq_true_eq] at h
  rcases h with rfl | rfl <;> decide
theorem go_bastore (d : decode (rg_by y) pc = .ok (.bastore, 1)) : GoOK G y pc (.bastore, pc + 1, x) := by
  intro L st σ pc' L' st' σ' hd p l e R s m args below meth c H locs cells slots Q ls cx hK hP hB hL hf hl hc hs kk
  have hd : rg_bas (pc + 1) L st σ = _ := hd
  unfold rg_bas at hd
  split at hd
  · split at hd
    · rename_i z i a r k n f hh
      split at hd
      · rename_i hk
        simp only [Bool.and_eq_true, beq_iff_eq] at hk
        obtain ⟨rfl, hin⟩ := hk
        obtain ⟨h1, h2⟩ := rg_in_iff.mp hin
        obtain ⟨rfl, rfl, rfl, rfl⟩ := rg_go_inv hd
        obtain ⟨g1, g2, g3, g4⟩ := hP.own hK hh
        rw [sz_set, sl_set, Nat.sub_self, Nat.sub_self] at kk
        refine W.bast cx.1 cx.2.1 g3 g4 (fun q => by cases q) (by rw [arrV_size]; exact fun z => z.elim h1 (fun z => by omega)) rfl rfl d fun H' e1 e2 e3 => ?_
        rw [arrV_store, nar_byte, vpv_upI] at e1
        exact kk H' ls _ (hP.set hh ⟨g2, by rw [vp_cell_v]; exact e1⟩ e2 e3) (hB.app g1) hL
      · split at hd
        · rename_i hk
          simp only [Bool.and_eq_true, beq_iff_eq] at hk
          obtain ⟨⟨rfl, hin⟩, hb⟩ := hk
          obtain ⟨h1, h2⟩ := rg_in_iff.mp hin
          obtain ⟨rfl, rfl, rfl, rfl⟩ := rg_go_inv hd
          obtain ⟨g1, g2, g3, g4⟩ := hP.own hK hh
          rw [sz_set, sl_set, Nat.sub_self, Nat.sub_self] at kk
          refine W.zast cx.1 cx.2.1 g3 g4 (fun q => by cases q) (by rw [arrV_size]; exact fun z => z.elim h1 (fun z => by omega)) rfl rfl d fun H' e1 e2 e3 => ?_
          rw [arrV_store, isb_nar hb, vpv_upI] at e1
          exact kk H' ls _ (hP.set hh ⟨g2, by rw [vp_cell_v]; exact e1⟩ e2 e3) (hB.app g1) hL
        · cases hd
    · cases hd
  · cases hd
theorem go_lastore (d : decode (rg_by y) pc = .ok (.lastore, 1)) : GoOK G y pc (.lastore, pc + 1, x) := by
  intro L st σ pc' L' st' σ' hd p l e R s m args below meth c H locs cells slots Q ls cx hK hP hB hL hf hl hc hs kk
  have hd : rg_jas (pc + 1) L st σ = _ := hd
  unfold rg_jas at hd
  split at hd
  · split at hd
    · rename_i z i a r k n f hh
      split at hd
      · rename_i hk
        simp only [Bool.and_eq_true, beq_iff_eq] at hk
        obtain ⟨rfl, hin⟩ := hk
        obtain ⟨h1, h2⟩ := rg_in_iff.mp hin
        obtain ⟨rfl, rfl, rfl, rfl⟩ := rg_go_inv hd
        obtain ⟨g1, g2, g3, g4⟩ := hP.own hK hh
        rw [sz_set, sl_set, Nat.sub_self, Nat.sub_self] at kk
        refine W.last cx.1 cx.2.1 g3 g4 (fun q => by cases q) (by rw [arrV_size]; exact fun z => z.elim h1 (fun z => by omega)) rfl rfl d fun H' e1 e2 e3 => ?_
        rw [arrV_store, vpv_upJ] at e1
        exact kk H' ls _ (hP.set hh ⟨g2, by rw [vp_cell_v]; exact e1⟩ e2 e3) (hB.app g1) hL
      · cases hd
    · cases hd
  · cases hd
/-- the class of a cell by its number -/
def clsId (G : rg_G) (c : Nat) : ClassId := if c < 910 then (g_D G).1 c else g_L G c
/-- an object of class c may be stored in an array of kind k -/
def AsgOK (G : rg_G) (k c : Nat) : Prop := 4 ≤ k ∧ c ≠ 26 ∧ ∀ s, KS G s → ∃ kv, s.vm.classes[clsId G c]? = some kv ∧ ∀ comp E, rg_ty k = .object E → s.vm.findClass E = some comp → s.vm.assignable (clsId G c) comp = true
theorem hp.any {σ : rg_S} {H : Heap} {a c : Nat} {F : Nat → Value} {s : State} (hP : hp G σ H) (hK : KS G s) (h : rg_rd σ a = some (.inr (c, F))) (h26 : c ≠ 26) : ∃ cell : Cell, H[a]? = some cell ∧ cell.vm.isStatics = false ∧ cell.cls = clsId G c := by
  by_cases h9 : c < 910
  · obtain ⟨cell, r, q1, q2, q3, -, q5, -⟩ := hP.obj hK h h9 h26
    refine ⟨cell, q1, q3, ?_⟩
    have := (hK.1.1 c r q2).2.1
    unfold clsId
    rw [if_pos h9]
    exact Option.some.inj (q5.symm.trans this)
  · obtain ⟨h1, h2, h3, h4, h5, h6⟩ := hP
    unfold rg_rd at h
    unfold clsId
    rw [if_neg h9]
    cases hh : rg_h σ a with
    | some e =>
      rw [hh] at h
      cases h
      obtain ⟨-, hc⟩ := h6 a _ hh
      rcases hc with ⟨r, q1, q2, -⟩ | ⟨q1, q2⟩
      · exact absurd (List.getElem?_eq_some_iff.mp q1).1 (by unfold rg_cl; simp; omega)
      · exact ⟨_, q2, rfl, rfl⟩
    | none =>
      rw [hh] at h
      have h : rg_r σ a = some (.inr (c, F)) := h
      rw [h4] at h
      obtain ⟨hlt, ho⟩ := hK.2.1 a _ h
      rcases ho with ⟨-, -, cell, q1, q2, q3⟩ | ⟨ho, -⟩ | ⟨cell, r, q1, q2, -⟩
      · exact ⟨cell, by rw [h3 a hlt]; exact q1, by rw [q3]; rfl, q2⟩
      · exact absurd ho h26
      · exact absurd (List.getElem?_eq_some_iff.mp q2).1 (by unfold rg_cl; simp; omega)
theorem go_aastore (d : decode (rg_by y) pc = .ok (.aastore, 1)) (hx : ∀ k c, (k, c) ∈ x → AsgOK G k c) : GoOK G y pc (.aastore, pc + 1, x) := by
  intro L st σ pc' L' st' σ' hd p l e R s m args below meth c H locs cells slots Q ls cx hK hP hB hL hf hl hc hs kk
  have hd : rg_qas x (pc + 1) L st σ = _ := hd
  unfold rg_qas at hd
  split at hd
  · split at hd
    · rename_i v i a r k n f hh
      split at hd
      · rename_i ci F hv
        split at hd
        · rename_i hk
          simp only [Bool.and_eq_true, List.contains_iff_mem] at hk
          obtain ⟨hmem, hin⟩ := hk
          obtain ⟨h1, h2⟩ := rg_in_iff.mp hin
          obtain ⟨rfl, rfl, rfl, rfl⟩ := rg_go_inv hd
          obtain ⟨g1, g2, g3, g4⟩ := hP.own hK hh
          obtain ⟨h4, h26, hasg⟩ := hx k ci hmem
          obtain ⟨cv, w1, w2, w3⟩ := hP.any hK hv h26
          obtain ⟨kv, a1, a2⟩ := hasg s hK
          obtain ⟨E, hE⟩ := ty_obj h4 g2
          have hra := (hK.1.2 k (g_A G k, rg_ty k) (by unfold rg_tys; simp [g2])).2
          rw [hE] at hra
          obtain ⟨kA, comp, k1, k2, k3, k4⟩ := hra
          obtain ⟨kcomp, hkcomp, -⟩ := Vm.findClass_spec k3
          rw [sz_set, sl_set, Nat.sub_self, Nat.sub_self] at kk
          refine W.aast cx.1 cx.2.1 g3 (fun q z => by cases z) (fun z => by cases z) k1 k2 rfl hkcomp ⟨h1, by rw [arrV_size]; exact h2⟩ w1 (fun q z => by rw [z] at w2; cases w2) (by rw [w3]; exact a1) (by rw [w3]; exact a2 comp E hE k3) rfl rfl d fun H' e1 e2 e3 => ?_
          rw [arrV_store, vpv_upR] at e1
          exact kk H' ls _ (hP.set hh ⟨g2, by rw [vp_cell_v]; exact e1⟩ e2 e3) (hB.app g1) hL
        · cases hd
      · cases hd
    · cases hd
  · split at hd
    · rename_i i a r k n f hh
      split at hd
      · rename_i hk
        rw [Bool.and_eq_true] at hk
        obtain ⟨h4, -⟩ := k456 hk.1
        obtain ⟨h1, h2⟩ := rg_in_iff.mp hk.2
        obtain ⟨rfl, rfl, rfl, rfl⟩ := rg_go_inv hd
        obtain ⟨g1, g2, g3, g4⟩ := hP.own hK hh
        obtain ⟨E, hE⟩ := ty_obj h4 g2
        rw [hE] at g4
        rw [sz_set, sl_set, Nat.sub_self, Nat.sub_self] at kk
        refine va_WaastN (C := E) cx.1 cx.2.1 g3 g4 (fun z => by cases z) (by rw [arrV_size]; exact fun z => z.elim h1 (fun z => by omega)) rfl rfl d fun H' e1 e2 e3 => ?_
        rw [arrV_store, vpv_upN] at e1
        exact kk H' ls _ (hP.set hh ⟨g2, by rw [vp_cell_v]; exact e1⟩ e2 e3) (hB.app g1) hL
      · cases hd
    · cases hd
  · cases hd
end HE
