/-! GoOK of what makes cells, of casts, constants and statics -/
set_option maxRecDepth 100000
section NEW
variable {G : rg_G} {y pc npc t : Nat} {o : rg_op} {x : List (Nat × Nat)}
theorem rg_arr_cell {k n : Nat} (h4 : k < 4) {H : Heap} {a : Nat} (h : H[a]? = some (arrV (g_A G k) n (fun _ => defaultValue (rg_ty k)))) : rg_cell G H a (rg_arr k n) := by
  match k, h4 with
  | 0, _ => exact ⟨by decide, by rw [vp_cell_v]; exact h⟩
  | 1, _ => exact ⟨by decide, by rw [vp_cell_v]; exact h⟩
  | 2, _ => exact ⟨by decide, by rw [vp_cell_v]; exact h⟩
  | 3, _ => exact ⟨by decide, by rw [vp_cell_v]; exact h⟩
theorem rg_arr_cellR {k n : Nat} (h4 : k = 4 ∨ k = 5 ∨ k = 6) {H : Heap} {a : Nat} (h : H[a]? = some (arrV (g_A G k) n (fun _ => .null))) : rg_cell G H a (rg_arr k n) := by
  rcases h4 with rfl | rfl | rfl
  · exact ⟨by decide, by rw [vp_cell_v]; exact h⟩
  · exact ⟨by decide, by rw [vp_cell_v]; exact h⟩
  · exact ⟨by decide, by rw [vp_cell_v]; exact h⟩
theorem rg_cb {k n : Nat} (h4 : k < 4) (hn : n ≤ 60000000) : n * componentBytes (rg_ty k) ≤ 536870912 := by
  match k, h4 with
  | 0, _ => show n * 4 ≤ _; omega
  | 1, _ => show n * 8 ≤ _; omega
  | 2, _ => show n * 1 ≤ _; omega
  | 3, _ => show n * 1 ≤ _; omega
theorem tysG {k : Nat} (h : k < 7) : (rg_tys G)[k]? = some (g_A G k, rg_ty k) := by unfold rg_tys; simp [h]
theorem rg_raP {k : Nat} {s : State} (h4 : k < 4) (hK : KS G s) : s.vm.findClass ("[" ++ (rg_ty k).toString) = some (g_A G k) := by
  have h := (hK.1.2 k _ (tysG (by omega : k < 7))).2
  match k, h4, h with
  | 0, _, h => exact h
  | 1, _, h => exact h
  | 2, _, h => exact h
  | 3, _, h => exact h
theorem sz_new_sub {σ : rg_S} {e : rg_E} {n : Nat} : rg_sz (rg_new σ e n) - rg_sz σ = 1 := by rw [sz_new]; omega
theorem sl_new_sub {σ : rg_S} {e : rg_E} {n : Nat} : rg_sl (rg_new σ e n) - rg_sl σ = n := by rw [sl_new]; omega
theorem go_newarray {at_ : ArrayType} {k : Nat} (d : decode (rg_by y) pc = .ok (.newarray at_, 2)) (hk : newarray.typeOf at_ = rg_ty k) (h4 : k < 4) (ha : (Cond.arrayClass (rg_ty k)) ∈ lw_all) (hx : rg_tg x = k) : GoOK G y pc (.newarray at_, pc + 2, x) := by
  intro L st σ pc' L' st' σ' hd p l e R s m args below meth c H locs cells slots Q ls cx hK hP hB hL hf hl hc hs kk
  replace hd : rg_nar (rg_tg x) (pc + 2) L st σ = _ := hd
  rw [hx] at hd
  unfold rg_nar at hd
  split at hd
  · rename_i i r
    split at hd
    · rename_i hi
      rw [Bool.and_eq_true, decide_eq_true_eq, decide_eq_true_eq] at hi
      obtain ⟨rfl, rfl, rfl, rfl⟩ := rg_go_inv hd
      rw [sz_new_sub, sl_new_sub] at kk
      rw [sz_new_sub] at hc
      rw [sl_new_sub] at hs
      refine va_newaK cx.1 cx.2.1 (by rw [hk]; exact cx.2.2.2.2.2.2.1 _ ha) rfl d rfl hi.1 rfl (by rw [hk]; exact rg_cb h4 hi.2) hc hs hP.1 fun H' cA e1 e2 e3 e4 e5 => ?_
      rw [hk] at e1 e5
      cases (rg_raP h4 hK).symm.trans e5
      rw [← hP.1] at e1 e2 e3
      have := kk H' ls locs (hP.new (rg_arr_cell h4 e1) e2 e3) hB hL
      exact this
    · cases hd
  · cases hd
theorem go_anewarray {idx k : Nat} {C : String} (d : decode (rg_by y) pc = .ok (.anewarray idx, 3)) (hk : rg_ty k = .object C) (h4 : k = 4 ∨ k = 5 ∨ k = 6) (hl : (Cond.classLink (rg_nm y).cls idx C) ∈ lw_all) (ha : va_AO C ∈ rg_facts) (hx : rg_tg x = k) : GoOK G y pc (.anewarray idx, pc + 3, x) := by
  intro L st σ pc' L' st' σ' hd p l e R s m args below meth c H locs cells slots Q ls cx hK hP hB hL hf hlo hc hs kk
  replace hd : rg_nar (rg_tg x) (pc + 3) L st σ = _ := hd
  rw [hx] at hd
  unfold rg_nar at hd
  split at hd
  · rename_i i r
    split at hd
    · rename_i hi
      rw [Bool.and_eq_true, decide_eq_true_eq, decide_eq_true_eq] at hi
      obtain ⟨rfl, rfl, rfl, rfl⟩ := rg_go_inv hd
      rw [sz_new_sub, sl_new_sub] at kk
      rw [sz_new_sub] at hc
      rw [sl_new_sub] at hs
      have hra := (hK.1.2 k _ (tysG (by omega : k < 7))).2
      rw [hk] at hra
      obtain ⟨kA0, comp0, k1, k2, k3, k4⟩ := hra
      refine W.anew cx.1 cx.2.1 cx.2.2.2.2.2.1 (cx.2.2.2.2.2.2.1 _ hl) (va_AO.use (hK.fact ha)) rfl d rfl hi.1 (by omega) hc hs fun cA kA comp f1 f2 f3 f4 => ?_
      cases k4.symm.trans f1
      rw [arrV_new]
      have e1 : (H.push (arrV (g_A G k) i.toNatClampNeg fun _ => Value.null))[H.size]? = some (arrV (g_A G k) i.toNatClampNeg fun _ => Value.null) := by simp
      have := kk _ ls locs (hP.new (rg_arr_cellR h4 e1) (by simp) (fun q hq => by rw [Array.getElem?_push, if_neg (Nat.ne_of_lt hq)])) hB hL
      rw [hP.1]
      exact this
    · cases hd
  · cases hd
/-- the fields of a new one are their defaults -/
def NewOK (ci n : Nat) (t : List (Nat × Nat)) (C : String) : Prop := Cond.instantiable C n ∈ lw_all ∧ Cond.initialized C ∈ lw_all ∧ ∃ (r : vw_C) (ty : Nat → FieldType), rg_cl[ci]? = some r ∧ r.1 = C ∧ (∀ k, k < r.2.2 → parseFieldDescriptor (r.2.1 k).2.2.1 = some (ty k)) ∧ ∀ k, k < r.2.2 → rg_f (t.map fun q => rg_dv0 q.1) k = defaultValue (ty k)
theorem go_new (hIN : rg_IN) {idx ci n : Nat} {C : String} {t : List (Nat × Nat)} (d : decode (rg_by y) pc = .ok (.new idx, 3)) (hl : (Cond.classLink (rg_nm y).cls idx C) ∈ lw_all) (ho : NewOK ci n t C) : GoOK G y pc (.new idx, pc + 3, (ci, n) :: t) := by
  intro L st σ pc' L' st' σ' hd p l e R s m args below meth c H locs cells slots Q ls cx hK hP hB hL hf hlo hc hs kk
  replace hd : rg_new1 ((ci, n) :: t) (pc + 3) L st σ = _ := hd
  unfold rg_new1 at hd
  obtain ⟨rfl, rfl, rfl, rfl⟩ := rg_go_inv hd
  rw [sz_new_sub, sl_new_sub] at kk
  rw [sz_new_sub] at hc
  rw [sl_new_sub] at hs
  obtain ⟨h1, h2, r, ty, hr, rfl, h3, h4⟩ := ho
  have hKn := hK.1.1 ci r hr
  refine W.newcK cx.1 cx.2.1 cx.2.2.2.2.2.1 (cx.2.2.2.2.2.2.1 _ hl) (cx.2.2.2.2.2.2.1 _ h1) (cx.2.2.2.2.2.2.1 _ h2) rfl d hc hs hKn.2.1 hP.1 fun H' kC e1 e2 e3 e4 => ?_
  have hob := u_born ty cx.2.2.2.2.2.2.1 (hIN ci r hr) hKn e1 e2 h3
  obtain ⟨cell, g1, g2, g3, g4⟩ := hob
  rw [← hP.1] at e3 e4 g1
  exact kk H' ls locs (hP.new (Or.inl ⟨r, hr, ⟨cell, g1, g2, g3, fun k hk => (g4 k hk).trans (by rw [h4 k hk])⟩, fun cz hz => by first | (cases e2.symm.trans hz; rfl) | (rw [hP.1] at hz; cases e2.symm.trans hz; rfl) | (rw [← hP.1] at e2; cases e2.symm.trans hz; rfl)⟩) e3 e4) hB hL
/-- an object of class c is one of the class nm -/
def CastOK (nm : String) (c : Nat) : Prop := c < 910 ∧ ∃ r, rg_cl[c]? = some r ∧ (r.1 = nm ∨ va_Nw (.castable r.1 nm) ∈ rg_facts)
theorem go_checkcast {idx : Nat} {nm : String} (d : decode (rg_by y) pc = .ok (.checkcast idx, 3)) (hl : (Cond.classLink (rg_nm y).cls idx nm) ∈ lw_all) (hx : ∀ q ∈ x, CastOK nm q.1) : GoOK G y pc (.checkcast idx, pc + 3, x) := go_rd (npc := 0) fun L st σ pc' L' st' σ' h => by
  replace h : rg_cst x (pc + 3) L st σ = _ := h
  unfold rg_cst at h
  split at h
  · split at h
    · rename_i ci F hrd
      split at h
      · rename_i k hk
        obtain ⟨rfl, rfl, rfl, rfl⟩ := rg_go_inv h
        refine ⟨rfl, rfl, fun cx hK hP kk => ?_⟩
        obtain ⟨hc9, r, hr, ho⟩ := lk_all (P := fun c _ => CastOK nm c) hx hk
        obtain ⟨cell, r', q1, q2, q3, q4, q5, q6⟩ := hP.obj hK hrd hc9 (cl_ne hr)
        cases hr.symm.trans q2
        rcases ho with rfl | ho
        · exact va_castS cx.1 cx.2.1 cx.2.2.2.2.2.1 (cx.2.2.2.2.2.2.1 _ hl) (hK.1.1 ci r hr).2 ⟨cell, q1, q3, q5⟩ d kk
        · exact va_castY cx.1 cx.2.1 cx.2.2.2.2.2.1 (cx.2.2.2.2.2.2.1 _ hl) (hK.fact ho) ⟨cell, q1, q3, q5⟩ d kk
      · cases h
    · cases h
  · obtain ⟨rfl, rfl, rfl, rfl⟩ := rg_go_inv h
    exact ⟨rfl, rfl, fun cx hK hP kk => lv_castN cx.1 cx.2.1 d kk⟩
  · cases h
theorem go_instanceof {idx : Nat} {nm : String} (d : decode (rg_by y) pc = .ok (.instanceof idx, 3)) (hl : (Cond.classLink (rg_nm y).cls idx nm) ∈ lw_all) (hx : ∀ q ∈ x, CastOK nm q.1 ∧ q.2 = 1) : GoOK G y pc (.instanceof idx, pc + 3, x) := go_rd (npc := 0) fun L st σ pc' L' st' σ' h => by
  replace h : rg_ins x (pc + 3) L st σ = _ := h
  unfold rg_ins at h
  split at h
  · split at h
    · rename_i ci F hrd
      split at h
      · rename_i k hk
        obtain ⟨rfl, rfl, rfl, rfl⟩ := rg_go_inv h
        refine ⟨rfl, rfl, fun cx hK hP kk => ?_⟩
        obtain ⟨⟨hc9, r, hr, ho⟩, h1⟩ := lk_all (P := fun c k => CastOK nm c ∧ k = 1) hx hk
        subst h1
        obtain ⟨cell, r', q1, q2, q3, q4, q5, q6⟩ := hP.obj hK hrd hc9 (cl_ne hr)
        cases hr.symm.trans q2
        rcases ho with rfl | ho
        · exact va_instS cx.1 cx.2.1 cx.2.2.2.2.2.1 (cx.2.2.2.2.2.2.1 _ hl) (hK.1.1 ci r hr).2 ⟨cell, q1, q3, q5⟩ d kk
        · exact va_instY cx.1 cx.2.1 cx.2.2.2.2.2.1 (cx.2.2.2.2.2.2.1 _ hl) (hK.fact ho) ⟨cell, q1, q3, q5⟩ d kk
      · cases h
    · cases h
  · cases h
-- constants and statics
theorem go_ldcI {idx n : Nat} (d : decode (rg_by y) pc = .ok (.ldc idx, 2)) (hc : (Cond.constant (rg_nm y).cls idx (zI n)) ∈ lw_all) : GoOK G y pc (.ldc idx, pc + 2, [(n, 0)]) := go_push (fun _ _ _ => rfl) fun _ => (fun cx k => lv_ldc cx.1 cx.2.1 cx.2.2.2.2.2.1 (cx.2.2.2.2.2.2.1 _ hc) d k)
theorem go_ldcwI {idx n : Nat} (d : decode (rg_by y) pc = .ok (.ldc_w idx, 3)) (hc : (Cond.constant (rg_nm y).cls idx (zI n)) ∈ lw_all) : GoOK G y pc (.ldc_w idx, pc + 3, [(n, 0)]) := go_push (fun _ _ _ => rfl) fun _ => (fun cx k => lv_ldcw cx.1 cx.2.1 cx.2.2.2.2.2.1 (cx.2.2.2.2.2.2.1 _ hc) d k)
theorem go_ldcwN {idx n : Nat} (d : decode (rg_by y) pc = .ok (.ldc_w idx, 3)) (hc : (Cond.constant (rg_nm y).cls idx (zI (-(n : Int)))) ∈ lw_all) : GoOK G y pc (.ldc_w idx, pc + 3, [(n, 1)]) := go_push (fun _ _ _ => rfl) fun _ => (fun cx k => lv_ldcw cx.1 cx.2.1 cx.2.2.2.2.2.1 (cx.2.2.2.2.2.2.1 _ hc) d k)
theorem go_ldc2P {idx n : Nat} (d : decode (rg_by y) pc = .ok (.ldc2_w idx, 3)) (hc : (Cond.constantLong (rg_nm y).cls idx (zL n)) ∈ lw_all) : GoOK G y pc (.ldc2_w idx, pc + 3, [(n, 0)]) := go_push (fun _ _ _ => rfl) fun _ => (fun cx k => lv_ldc2 cx.1 cx.2.1 cx.2.2.2.2.2.1 (cx.2.2.2.2.2.2.1 _ hc) d k)
theorem go_ldc2N {idx n : Nat} (d : decode (rg_by y) pc = .ok (.ldc2_w idx, 3)) (hc : (Cond.constantLong (rg_nm y).cls idx (zL (-(n : Int)))) ∈ lw_all) : GoOK G y pc (.ldc2_w idx, pc + 3, [(n, 1)]) := go_push (fun _ _ _ => rfl) fun _ => (fun cx k => lv_ldc2 cx.1 cx.2.1 cx.2.2.2.2.2.1 (cx.2.2.2.2.2.2.1 _ hc) d k)
theorem go_ldcS {idx i : Nat} {tx : String} (d : decode (rg_by y) pc = .ok (.ldc idx, 2)) (hq : (i, (rg_nm y).cls, idx, tx) ∈ rg_strs) : GoOK G y pc (.ldc idx, pc + 2, [(i, 2)]) := go_rd (npc := 0) fun L st σ pc' L' st' σ' h => by
  obtain ⟨rfl, rfl, rfl, rfl⟩ := rg_go_inv (show rg_go (pc + 2) L (rg_st σ i :: st) σ = _ from h)
  refine ⟨rfl, rfl, fun cx hK hP kk => ?_⟩
  obtain ⟨a, h1, h2⟩ := hK.2.2.2.2.2 _ hq
  rw [hP.2.2.2.2.1, h1] at kk
  exact va_ldcS cx.1 cx.2.1 cx.2.2.2.2.2.1 h2 d kk
theorem go_getstatic {idx i t0 : Nat} {C n ds : String} (d : decode (rg_by y) pc = .ok (.getstatic idx, 3)) (hq : (i, C, n, ds) ∈ rg_sts) (hl : (Cond.fieldLink (rg_nm y).cls idx C n ds) ∈ lw_all) : GoOK G y pc (.getstatic idx, pc + 3, [(i, t0)]) := go_rd (npc := 0) fun L st σ pc' L' st' σ' h => by
  obtain ⟨rfl, rfl, rfl, rfl⟩ := rg_go_inv (show rg_go (pc + 3) L (rg_st σ i :: st) σ = _ from h)
  refine ⟨rfl, rfl, fun cx hK hP kk => ?_⟩
  obtain ⟨cf, kf, fi, f, a, cell, f1, f2, f3, f4, f5, f6, f7, -⟩ := hK.2.2.2.1 _ hq
  rw [hP.2.2.2.2.1] at kk
  exact W.gets cx.1 cx.2.1 cx.2.2.2.2.2.1 (cx.2.2.2.2.2.2.1 _ hl) f1 f2 f3 f4 (by rw [hP.2.2.1 a (Array.getElem?_eq_some_iff.mp f5).1]; exact f5) (fun z => by rw [z] at f6; cases f6) f7 rfl d kk
/-- a class constant -/
theorem go_ldcM {idx : Nat} (d : decode (rg_by y) pc = .ok (.ldc idx, 2)) (hl : (Cond.classLink (rg_nm y).cls idx "[Ljava/lang/Object;") ∈ lw_all) : GoOK G y pc (.ldc idx, pc + 2, [(310, 2)]) := go_rd (npc := 0) fun L st σ pc' L' st' σ' h => by
  obtain ⟨rfl, rfl, rfl, rfl⟩ := rg_go_inv (show rg_go (pc + 2) L (rg_st σ 310 :: st) σ = _ from h)
  refine ⟨rfl, rfl, fun cx hK hP kk => ?_⟩
  obtain ⟨mi, h1, h2⟩ := hK.2.2.2.2.1.2.1
  rw [hP.2.2.2.2.1, h1] at kk
  exact va_ldcM cx.1 cx.2.1 cx.2.2.2.2.2.1 (cx.2.2.2.2.2.2.1 _ hl) h2 d kk
theorem go_getS {idx k : Nat} {n ds : String} (d : decode (rg_by y) pc = .ok (.getfield idx, 3)) (hl : (Cond.fieldLink (rg_nm y).cls idx "java/lang/String" n ds) ∈ lw_all) (hof : ∀ (G : rg_G) (s : State) (a : Nat) (F : Nat → Value), va_OF "java/lang/String" "value" "[B" (F 0) a (fun _ => False) s (g_0 G) ∧ va_OF "java/lang/String" "coder" "B" (F 1) a (fun _ => False) s (g_0 G) → va_OF "java/lang/String" n ds (F k) a (fun _ => False) s (g_0 G)) : GoOK G y pc (.getfield idx, pc + 3, [(26, k)]) := go_rd (npc := 0) fun L st σ pc' L' st' σ' h => by
  replace h : rg_get [(26, k)] (pc + 3) L st σ = _ := h
  unfold rg_get at h
  split at h
  · split at h
    · rename_i ci F hrd
      split at h
      · rename_i k' hk
        obtain ⟨rfl, rfl, rfl, rfl⟩ := rg_go_inv h
        unfold rg_lk at hk
        split at hk
        · rename_i h26
          cases hk
          subst h26
          refine ⟨rfl, rfl, fun cx hK hP kk => ?_⟩
          obtain ⟨h0, hq⟩ := hP.txt hK hrd
          obtain ⟨cf, k0, fi, f, cell, h1, h2, h3, h4, h5, h6⟩ := hof G _ _ _ hq
          exact W.getf cx.1 cx.2.1 cx.2.2.2.2.2.1 (cx.2.2.2.2.2.2.1 _ hl) h1 h2 (by rw [h0 _ (Array.getElem?_eq_some_iff.mp h3).1]; exact h3) h4 h5 rfl rfl d kk
        · cases hk
      · cases h
    · cases h
  · cases h
theorem go_getfieldS0 {idx : Nat} (d : decode (rg_by y) pc = .ok (.getfield idx, 3)) (hl : (Cond.fieldLink (rg_nm y).cls idx "java/lang/String" "value" "[B") ∈ lw_all) : GoOK G y pc (.getfield idx, pc + 3, [(26, 0)]) := go_getS d hl (fun _ _ _ _ h => h.1)
theorem go_getfieldS1 {idx : Nat} (d : decode (rg_by y) pc = .ok (.getfield idx, 3)) (hl : (Cond.fieldLink (rg_nm y).cls idx "java/lang/String" "coder" "B") ∈ lw_all) : GoOK G y pc (.getfield idx, pc + 3, [(26, 1)]) := go_getS d hl (fun _ _ _ _ h => h.2)
/-- a table of jumps -/
theorem go_tableswitch {dflt lo hi : Int} {offs : Array Int} {len df : Nat} (d : decode (rg_by y) pc = .ok (.tableswitch dflt lo hi offs, len)) (hd : (pc : Int) + dflt = (df : Int)) (hlh : (x.length : Int) = hi - lo + 1) (ho : ∀ (j : Nat) (t : Nat × Nat), x[j]? = some t → ∃ off, offs[j]? = some off ∧ (pc : Int) + off = (t.1 : Int)) : GoOK G y pc (.tableswitch dflt lo hi offs, df, x) := go_row fun L st σ pc' L' st' σ' h => by
  simp only [rg_do] at h
  split at h
  · rename_i v r
    obtain ⟨rfl, rfl, rfl, rfl⟩ := rg_go_inv h
    refine ⟨rfl, rfl, fun cx k => ?_⟩
    unfold rg_tsw at k
    by_cases h1 : v.toInt < lo
    · rw [if_pos h1] at k
      exact lv_tableOut cx.1 cx.2.1 d (Or.inl h1) hd k
    · rw [if_neg h1] at k
      split at k
      · rename_i t ht
        obtain ⟨off, o1, o2⟩ := ho _ _ ht
        have hlt := (List.getElem?_eq_some_iff.mp ht).1
        exact lv_tableIn cx.1 cx.2.1 d h1 (by omega) o1 o2 k
      · rename_i ht
        have hge := List.getElem?_eq_none_iff.mp ht
        exact lv_tableOut cx.1 cx.2.1 d (Or.inr (by omega)) hd k
  · cases h
end NEW
