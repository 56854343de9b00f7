/-! GoOK: a step of rg_do that goes on in the same frame is a step of the machine: constants, locals, arithmetic, branches, fields, arrays, new ones -/
set_option maxRecDepth 100000
def GoOK (G : rg_G) (y pc : Nat) (o : rg_op) : Prop := ∀ (L : rg_L) (st : List Value) (σ : rg_S) (pc' : Nat) (L' : rg_L) (st' : List Value) (σ' : rg_S), rg_do o L st σ = some (.inl (pc', L', st', σ')) →
  ∀ {p : Program} {l : Launch} {e : Env} {R : Room} {s : State} {m : MethodId} {args : Array Value} {below : List Frame} {meth : Method} {c : Code} {H : Heap} {locs : List Loc} {cells slots : Nat} {Q : State → Prop} {ls : Array Slot},
    CX p y s m args meth c → KS G s → hp G σ H → LB G locs → LV ls (rg_ml y) L → 1 ≤ R.frames → 3200 ≤ R.locals → cells + (rg_sz σ' - rg_sz σ) ≤ R.cells → slots + (rg_sl σ' - rg_sl σ) ≤ R.slots →
    (∀ (H' : Heap) (ls' : Array Slot) (locs' : List Loc), hp G σ' H' → LB G locs' → LV ls' (rg_ml y) L' → W p l e R s m args below meth c H' locs' (cells + (rg_sz σ' - rg_sz σ)) (slots + (rg_sl σ' - rg_sl σ)) Q (F0 m pc' ls' st')) →
    W p l e R s m args below meth c H locs cells slots Q (F0 m pc ls st)
/-- a step that touches neither heap nor locals -/
def Row (y pc : Nat) (st : List Value) (pc' : Nat) (st' : List Value) : Prop := ∀ {p : Program} {l : Launch} {e : Env} {R : Room} {s : State} {m : MethodId} {args : Array Value} {below : List Frame} {meth : Method} {c : Code} {H : Heap} {locs : List Loc} {cells slots : Nat} {Q : State → Prop} {ls : Array Slot},
    CX p y s m args meth c → W p l e R s m args below meth c H locs cells slots Q (F0 m pc' ls st') → W p l e R s m args below meth c H locs cells slots Q (F0 m pc ls st)
section GO
variable {G : rg_G} {y pc npc t : Nat} {o : rg_op} {x : List (Nat × Nat)}
theorem go_row (h : ∀ (L : rg_L) (st : List Value) (σ : rg_S) (pc' : Nat) (L' : rg_L) (st' : List Value) (σ' : rg_S), rg_do o L st σ = some (.inl (pc', L', st', σ')) → σ' = σ ∧ L' = L ∧ Row y pc st pc' st') : GoOK G y pc o := by
  intro L st σ pc' L' st' σ' hd p l e R s m args below meth c H locs cells slots Q ls cx hK hP hB hL hf hl hc hs k
  obtain ⟨rfl, rfl, hr⟩ := h L st σ pc' L' st' σ' hd
  have k := k H ls locs hP hB hL
  rw [Nat.sub_self, Nat.sub_self] at k
  exact hr cx k
theorem rg_go_inv {pc pc' : Nat} {L L' : rg_L} {st st' : List Value} {σ σ' : rg_S} (h : rg_go pc L st σ = some (.inl (pc', L', st', σ'))) : pc' = pc ∧ L' = L ∧ st' = st ∧ σ' = σ := by
  unfold rg_go at h
  cases h
  exact ⟨rfl, rfl, rfl, rfl⟩
/-- pushes a value that is known -/
theorem go_push {v : Value} (hdo : ∀ L st σ, rg_do o L st σ = rg_go npc L (v :: st) σ) (hr : ∀ st, Row y pc st npc (v :: st)) : GoOK G y pc o := go_row fun L st σ pc' L' st' σ' h => by
  rw [hdo] at h
  obtain ⟨rfl, rfl, rfl, rfl⟩ := rg_go_inv h
  exact ⟨rfl, rfl, hr _⟩
theorem go_iconst {n : Int} (d : decode (rg_by y) pc = .ok (.iconst n, 1)) : GoOK G y pc (.iconst n, pc + 1, x) := go_push (fun _ _ _ => rfl) fun _ => (fun cx k => lv_iconst cx.1 cx.2.1 d rfl k)
theorem go_bipush {n : Int} (d : decode (rg_by y) pc = .ok (.bipush n, 2)) (hn : (Int8.ofInt n).toInt32 = zI n) : GoOK G y pc (.bipush n, pc + 2, x) := go_push (fun _ _ _ => rfl) fun _ => (fun cx k => lv_bipush cx.1 cx.2.1 d hn k)
theorem go_sipush {n : Int} (d : decode (rg_by y) pc = .ok (.sipush n, 3)) (hn : (Int16.ofInt n).toInt32 = zI n) : GoOK G y pc (.sipush n, pc + 3, x) := go_push (fun _ _ _ => rfl) fun _ => (fun cx k => lv_sipush cx.1 cx.2.1 d hn k)
theorem go_lconst {n : Fin 2} (d : decode (rg_by y) pc = .ok (.lconst n, 1)) : GoOK G y pc (.lconst n, pc + 1, x) := go_push (v := .long (zL (n.val : Int))) (fun _ _ _ => rfl) fun _ => (fun cx k => lv_lconst cx.1 cx.2.1 d rfl k)
theorem go_null (d : decode (rg_by y) pc = .ok (.aconst_null, 1)) : GoOK G y pc (.aconst_null, pc + 1, x) := go_push (fun _ _ _ => rfl) fun _ => (fun cx k => lv_null cx.1 cx.2.1 d k)
-- arithmetic
theorem go_b2 {f : Int32 → Int32 → Int32} (hdo : rg_do o = rg_b2 f npc) (hr : ∀ a b r, Row y pc (.int b :: .int a :: r) npc (.int (f a b) :: r)) : GoOK G y pc o := go_row fun L st σ pc' L' st' σ' h => by
  rw [hdo] at h
  unfold rg_b2 at h
  split at h
  · obtain ⟨rfl, rfl, rfl, rfl⟩ := rg_go_inv h
    exact ⟨rfl, rfl, hr _ _ _⟩
  · cases h
theorem go_j2 {f : Int64 → Int64 → Int64} (hdo : rg_do o = rg_j2 f npc) (hr : ∀ a b r, Row y pc (.long b :: .long a :: r) npc (.long (f a b) :: r)) : GoOK G y pc o := go_row fun L st σ pc' L' st' σ' h => by
  rw [hdo] at h
  unfold rg_j2 at h
  split at h
  · obtain ⟨rfl, rfl, rfl, rfl⟩ := rg_go_inv h
    exact ⟨rfl, rfl, hr _ _ _⟩
  · cases h
theorem go_js {f : Int64 → Int32 → Int64} (hdo : rg_do o = rg_js f npc) (hr : ∀ a b r, Row y pc (.int b :: .long a :: r) npc (.long (f a b) :: r)) : GoOK G y pc o := go_row fun L st σ pc' L' st' σ' h => by
  rw [hdo] at h
  unfold rg_js at h
  split at h
  · obtain ⟨rfl, rfl, rfl, rfl⟩ := rg_go_inv h
    exact ⟨rfl, rfl, hr _ _ _⟩
  · cases h
theorem go_u1 {f : Int32 → Int32} (hdo : rg_do o = rg_u1 f npc) (hr : ∀ a r, Row y pc (.int a :: r) npc (.int (f a) :: r)) : GoOK G y pc o := go_row fun L st σ pc' L' st' σ' h => by
  rw [hdo] at h
  unfold rg_u1 at h
  split at h
  · obtain ⟨rfl, rfl, rfl, rfl⟩ := rg_go_inv h
    exact ⟨rfl, rfl, hr _ _⟩
  · cases h
theorem go_iadd (d : decode (rg_by y) pc = .ok (.iadd, 1)) : GoOK G y pc (.iadd, pc + 1, x) := go_b2 rfl fun _ _ _ => (fun cx k => lv_iadd cx.1 cx.2.1 d k)
theorem go_isub (d : decode (rg_by y) pc = .ok (.isub, 1)) : GoOK G y pc (.isub, pc + 1, x) := go_b2 rfl fun _ _ _ => (fun cx k => lv_isub cx.1 cx.2.1 d k)
theorem go_imul (d : decode (rg_by y) pc = .ok (.imul, 1)) : GoOK G y pc (.imul, pc + 1, x) := go_b2 rfl fun _ _ _ => (fun cx k => lv_imul cx.1 cx.2.1 d k)
theorem go_iand (d : decode (rg_by y) pc = .ok (.iand, 1)) : GoOK G y pc (.iand, pc + 1, x) := go_b2 rfl fun _ _ _ => (fun cx k => lv_iand cx.1 cx.2.1 d k)
theorem go_ior (d : decode (rg_by y) pc = .ok (.ior, 1)) : GoOK G y pc (.ior, pc + 1, x) := go_b2 rfl fun _ _ _ => (fun cx k => lv_ior cx.1 cx.2.1 d k)
theorem go_ixor (d : decode (rg_by y) pc = .ok (.ixor, 1)) : GoOK G y pc (.ixor, pc + 1, x) := go_b2 rfl fun _ _ _ => (fun cx k => lv_ixor cx.1 cx.2.1 d k)
theorem go_ishl (d : decode (rg_by y) pc = .ok (.ishl, 1)) : GoOK G y pc (.ishl, pc + 1, x) := go_b2 rfl fun _ _ _ => (fun cx k => lv_ishl cx.1 cx.2.1 d k)
theorem go_ishr (d : decode (rg_by y) pc = .ok (.ishr, 1)) : GoOK G y pc (.ishr, pc + 1, x) := go_b2 rfl fun _ _ _ => (fun cx k => lv_ishr cx.1 cx.2.1 d k)
theorem go_iushr (d : decode (rg_by y) pc = .ok (.iushr, 1)) : GoOK G y pc (.iushr, pc + 1, x) := go_b2 rfl fun _ _ _ => (fun cx k => lv_iushr cx.1 cx.2.1 d rfl k)
theorem go_ladd (d : decode (rg_by y) pc = .ok (.ladd, 1)) : GoOK G y pc (.ladd, pc + 1, x) := go_j2 rfl fun _ _ _ => (fun cx k => lv_ladd cx.1 cx.2.1 d k)
theorem go_lsub (d : decode (rg_by y) pc = .ok (.lsub, 1)) : GoOK G y pc (.lsub, pc + 1, x) := go_j2 rfl fun _ _ _ => (fun cx k => lv_lsub cx.1 cx.2.1 d k)
theorem go_lmul (d : decode (rg_by y) pc = .ok (.lmul, 1)) : GoOK G y pc (.lmul, pc + 1, x) := go_j2 rfl fun _ _ _ => (fun cx k => lv_lmul cx.1 cx.2.1 d k)
theorem go_land (d : decode (rg_by y) pc = .ok (.land, 1)) : GoOK G y pc (.land, pc + 1, x) := go_j2 rfl fun _ _ _ => (fun cx k => lv_land cx.1 cx.2.1 d k)
theorem go_lor (d : decode (rg_by y) pc = .ok (.lor, 1)) : GoOK G y pc (.lor, pc + 1, x) := go_j2 rfl fun _ _ _ => (fun cx k => lv_lor cx.1 cx.2.1 d k)
theorem go_lxor (d : decode (rg_by y) pc = .ok (.lxor, 1)) : GoOK G y pc (.lxor, pc + 1, x) := go_j2 rfl fun _ _ _ => (fun cx k => lv_lxor cx.1 cx.2.1 d k)
theorem go_lshl (d : decode (rg_by y) pc = .ok (.lshl, 1)) : GoOK G y pc (.lshl, pc + 1, x) := go_js rfl fun _ _ _ => (fun cx k => lv_lshl cx.1 cx.2.1 d rfl k)
theorem go_lshr (d : decode (rg_by y) pc = .ok (.lshr, 1)) : GoOK G y pc (.lshr, pc + 1, x) := go_js rfl fun _ _ _ => (fun cx k => lv_lshr cx.1 cx.2.1 d rfl k)
theorem go_lushr (d : decode (rg_by y) pc = .ok (.lushr, 1)) : GoOK G y pc (.lushr, pc + 1, x) := go_js rfl fun _ _ _ => (fun cx k => lv_lushr cx.1 cx.2.1 d rfl k)
theorem go_ineg (d : decode (rg_by y) pc = .ok (.ineg, 1)) : GoOK G y pc (.ineg, pc + 1, x) := go_u1 rfl fun _ _ => (fun cx k => lv_ineg cx.1 cx.2.1 d k)
theorem go_i2b (d : decode (rg_by y) pc = .ok (.i2b, 1)) : GoOK G y pc (.i2b, pc + 1, x) := go_u1 rfl fun _ _ => (fun cx k => lv_i2b cx.1 cx.2.1 d rfl k)
theorem go_i2c (d : decode (rg_by y) pc = .ok (.i2c, 1)) : GoOK G y pc (.i2c, pc + 1, x) := go_u1 rfl fun _ _ => (fun cx k => lv_i2c cx.1 cx.2.1 d rfl k)
theorem go_idiv (d : decode (rg_by y) pc = .ok (.idiv, 1)) : GoOK G y pc (.idiv, pc + 1, x) := go_row fun L st σ pc' L' st' σ' h => by
  have h : rg_dv (pc + 1) L st σ = _ := h
  unfold rg_dv at h
  split at h
  · split at h
    · cases h
    · rename_i hz
      obtain ⟨rfl, rfl, rfl, rfl⟩ := rg_go_inv h
      exact ⟨rfl, rfl, fun cx k => lv_idiv cx.1 cx.2.1 d hz k⟩
  · cases h
theorem go_i2l (d : decode (rg_by y) pc = .ok (.i2l, 1)) : GoOK G y pc (.i2l, pc + 1, x) := go_row fun L st σ pc' L' st' σ' h => by
  simp only [rg_do] at h
  split at h
  · obtain ⟨rfl, rfl, rfl, rfl⟩ := rg_go_inv h
    exact ⟨rfl, rfl, fun cx k => lv_i2l cx.1 cx.2.1 d rfl k⟩
  · cases h
theorem go_l2i (d : decode (rg_by y) pc = .ok (.l2i, 1)) : GoOK G y pc (.l2i, pc + 1, x) := go_row fun L st σ pc' L' st' σ' h => by
  simp only [rg_do] at h
  split at h
  · obtain ⟨rfl, rfl, rfl, rfl⟩ := rg_go_inv h
    exact ⟨rfl, rfl, fun cx k => lv_l2i cx.1 cx.2.1 d rfl k⟩
  · cases h
theorem go_lcmp (d : decode (rg_by y) pc = .ok (.lcmp, 1)) : GoOK G y pc (.lcmp, pc + 1, x) := go_row fun L st σ pc' L' st' σ' h => by
  simp only [rg_do] at h
  split at h
  · obtain ⟨rfl, rfl, rfl, rfl⟩ := rg_go_inv h
    exact ⟨rfl, rfl, fun cx k => W.lcmp cx.1 cx.2.1 d k⟩
  · cases h
theorem isl_cat1 {v : Value} (h : ¬ rg_isl v = true) : v.category = 1 := by cases v <;> simp_all [rg_isl, Value.category]
theorem go_dup (d : decode (rg_by y) pc = .ok (.dup, 1)) : GoOK G y pc (.dup, pc + 1, x) := go_row fun L st σ pc' L' st' σ' h => by
  simp only [rg_do] at h
  split at h
  · split at h
    · cases h
    · rename_i hv
      obtain ⟨rfl, rfl, rfl, rfl⟩ := rg_go_inv h
      exact ⟨rfl, rfl, fun cx k => lv_dup cx.1 cx.2.1 d (isl_cat1 hv) k⟩
  · cases h
theorem go_pop (d : decode (rg_by y) pc = .ok (.pop, 1)) : GoOK G y pc (.pop, pc + 1, x) := go_row fun L st σ pc' L' st' σ' h => by
  simp only [rg_do] at h
  split at h
  · split at h
    · cases h
    · rename_i hv
      obtain ⟨rfl, rfl, rfl, rfl⟩ := rg_go_inv h
      exact ⟨rfl, rfl, fun cx k => lv_pop cx.1 cx.2.1 d (isl_cat1 hv) k⟩
  · cases h
theorem go_dup_x1 (d : decode (rg_by y) pc = .ok (.dup_x1, 1)) : GoOK G y pc (.dup_x1, pc + 1, x) := go_row fun L st σ pc' L' st' σ' h => by
  simp only [rg_do] at h
  split at h
  · split at h
    · cases h
    · rename_i hv
      rw [Bool.or_eq_true, not_or] at hv
      obtain ⟨rfl, rfl, rfl, rfl⟩ := rg_go_inv h
      exact ⟨rfl, rfl, fun cx k => lv_dup_x1 cx.1 cx.2.1 d (isl_cat1 hv.1) (isl_cat1 hv.2) k⟩
  · cases h
theorem go_dup2 (d : decode (rg_by y) pc = .ok (.dup2, 1)) : GoOK G y pc (.dup2, pc + 1, x) := go_row fun L st σ pc' L' st' σ' h => by
  simp only [rg_do] at h
  split at h
  · split at h
    · rename_i hv
      obtain ⟨rfl, rfl, rfl, rfl⟩ := rg_go_inv h
      exact ⟨rfl, rfl, fun cx k => lv_dup2_2 cx.1 cx.2.1 d (rg_isl_cat.mp hv) k⟩
    · rename_i hv
      split at h
      · cases h
      · rename_i hw
        obtain ⟨rfl, rfl, rfl, rfl⟩ := rg_go_inv h
        exact ⟨rfl, rfl, fun cx k => lv_dup2_11 cx.1 cx.2.1 d (isl_cat1 hv) (isl_cat1 hw) k⟩
  · cases h
-- branches
theorem go_goto {off : Int} (d : decode (rg_by y) pc = .ok (.goto off, 3)) (ht : (pc : Int) + off = (rg_tg x : Int)) : GoOK G y pc (.goto off, npc, x) := go_row fun L st σ pc' L' st' σ' h => by
  obtain ⟨rfl, rfl, rfl, rfl⟩ := rg_go_inv (show rg_go (rg_tg x) L st σ = _ from h)
  exact ⟨rfl, rfl, fun cx k => lv_goto cx.1 cx.2.1 d ht k⟩
theorem zI_zero : zI 0 = (0 : Int32) := by decide
theorem i32_nlt {a b : Int32} : ¬ a < b ↔ b ≤ a := by rw [Int32.lt_iff_toInt_lt, Int32.le_iff_toInt_le]; omega
theorem go_if {c : ClassFile.Cond} {off : Int} (d : decode (rg_by y) pc = .ok (.ifCond c off, 3)) (ht : (pc : Int) + off = (rg_tg x : Int)) : GoOK G y pc (.ifCond c off, pc + 3, x) := go_row fun L st σ pc' L' st' σ' h => by
  simp only [rg_do] at h
  split at h
  · unfold rg_cnd at h
    rw [zI_zero] at h
    cases c <;> dsimp only at h <;> split at h <;> rename_i hc <;> obtain ⟨rfl, rfl, rfl, rfl⟩ := rg_go_inv h <;> refine ⟨rfl, rfl, fun cx k => ?_⟩
    · exact lv_if_eq cx.1 cx.2.1 d ht (fun _ => k) (fun z => absurd hc z)
    · exact lv_if_eq cx.1 cx.2.1 d ht (fun z => absurd z hc) (fun _ => k)
    · exact lv_if_ne cx.1 cx.2.1 d ht (fun z => absurd hc z) (fun _ => k)
    · exact lv_if_ne cx.1 cx.2.1 d ht (fun _ => k) (fun z => absurd z hc)
    · exact lv_if_lt cx.1 cx.2.1 d ht (fun _ => k) (fun z => absurd hc z)
    · exact lv_if_lt cx.1 cx.2.1 d ht (fun z => absurd z hc) (fun _ => k)
    · exact lv_if_ge cx.1 cx.2.1 d ht (fun z => absurd hc (i32_nlt.mpr z)) (fun _ => k)
    · exact lv_if_ge cx.1 cx.2.1 d ht (fun _ => k) (fun z => absurd (i32_nlt.mp hc) z)
    · exact lv_if_gt cx.1 cx.2.1 d ht (fun _ => k) (fun z => absurd hc z)
    · exact lv_if_gt cx.1 cx.2.1 d ht (fun z => absurd z hc) (fun _ => k)
    · exact lv_if_le cx.1 cx.2.1 d ht (fun z => absurd hc (i32_nlt.mpr z)) (fun _ => k)
    · exact lv_if_le cx.1 cx.2.1 d ht (fun _ => k) (fun z => absurd (i32_nlt.mp hc) z)
  · cases h
theorem go_icmp {c : ClassFile.Cond} {off : Int} (d : decode (rg_by y) pc = .ok (.if_icmp c off, 3)) (ht : (pc : Int) + off = (rg_tg x : Int)) : GoOK G y pc (.if_icmp c off, pc + 3, x) := go_row fun L st σ pc' L' st' σ' h => by
  simp only [rg_do] at h
  split at h
  · unfold rg_cnd at h
    cases c <;> dsimp only at h <;> split at h <;> rename_i hc <;> obtain ⟨rfl, rfl, rfl, rfl⟩ := rg_go_inv h <;> refine ⟨rfl, rfl, fun cx k => ?_⟩
    · exact lv_icmp_eq cx.1 cx.2.1 d ht (fun _ => k) (fun z => absurd hc z)
    · exact lv_icmp_eq cx.1 cx.2.1 d ht (fun z => absurd z hc) (fun _ => k)
    · exact lv_icmp_ne cx.1 cx.2.1 d ht (fun z => absurd hc z) (fun _ => k)
    · exact lv_icmp_ne cx.1 cx.2.1 d ht (fun _ => k) (fun z => absurd z hc)
    · exact lv_icmp_lt cx.1 cx.2.1 d ht (fun _ => k) (fun z => absurd hc z)
    · exact lv_icmp_lt cx.1 cx.2.1 d ht (fun z => absurd z hc) (fun _ => k)
    · exact lv_icmp_ge cx.1 cx.2.1 d ht (fun z => absurd hc (i32_nlt.mpr z)) (fun _ => k)
    · exact lv_icmp_ge cx.1 cx.2.1 d ht (fun _ => k) (fun z => absurd (i32_nlt.mp hc) z)
    · exact lv_icmp_gt cx.1 cx.2.1 d ht (fun _ => k) (fun z => absurd hc z)
    · exact lv_icmp_gt cx.1 cx.2.1 d ht (fun z => absurd z hc) (fun _ => k)
    · exact lv_icmp_le cx.1 cx.2.1 d ht (fun z => absurd hc (i32_nlt.mpr z)) (fun _ => k)
    · exact lv_icmp_le cx.1 cx.2.1 d ht (fun _ => k) (fun z => absurd (i32_nlt.mp hc) z)
  · cases h
theorem isr_cases {v : Value} (h : rg_isr v = true) : v = .null ∨ ∃ a, v = .ref a := by cases v <;> simp_all [rg_isr]
theorem go_ifnull {off : Int} (d : decode (rg_by y) pc = .ok (.ifnull off, 3)) (ht : (pc : Int) + off = (rg_tg x : Int)) : GoOK G y pc (.ifnull off, pc + 3, x) := go_row fun L st σ pc' L' st' σ' h => by
  have h : rg_nul true (rg_tg x) (pc + 3) L st σ = _ := h
  unfold rg_nul at h
  split at h
  · split at h
    · rename_i hv
      rcases isr_cases hv with rfl | ⟨a, rfl⟩
      · rw [if_pos rfl] at h
        obtain ⟨rfl, rfl, rfl, rfl⟩ := rg_go_inv h
        exact ⟨rfl, rfl, fun cx k => lv_ifnullN cx.1 cx.2.1 d ht k⟩
      · rw [if_neg (by simp)] at h
        obtain ⟨rfl, rfl, rfl, rfl⟩ := rg_go_inv h
        exact ⟨rfl, rfl, fun cx k => lv_ifnull cx.1 cx.2.1 d k⟩
    · cases h
  · cases h
theorem go_ifnonnull {off : Int} (d : decode (rg_by y) pc = .ok (.ifnonnull off, 3)) (ht : (pc : Int) + off = (rg_tg x : Int)) : GoOK G y pc (.ifnonnull off, pc + 3, x) := go_row fun L st σ pc' L' st' σ' h => by
  have h : rg_nul false (rg_tg x) (pc + 3) L st σ = _ := h
  unfold rg_nul at h
  split at h
  · split at h
    · rename_i hv
      rcases isr_cases hv with rfl | ⟨a, rfl⟩
      · rw [if_pos rfl] at h
        obtain ⟨rfl, rfl, rfl, rfl⟩ := rg_go_inv h
        exact ⟨rfl, rfl, fun cx k => lv_ifnonnullN cx.1 cx.2.1 d k⟩
      · rw [if_neg (by simp)] at h
        obtain ⟨rfl, rfl, rfl, rfl⟩ := rg_go_inv h
        exact ⟨rfl, rfl, fun cx k => lv_ifnonnull cx.1 cx.2.1 d ht k⟩
    · cases h
  · cases h
theorem isr_rf {v : Value} (h : rg_isr v = true) : ∃ o, v = va_rf o := by
  rcases isr_cases h with rfl | ⟨a, rfl⟩
  · exact ⟨none, rfl⟩
  · exact ⟨some a, rfl⟩
theorem rf_inj {a b : Option Nat} : va_rf a = va_rf b ↔ a = b := by cases a <;> cases b <;> simp [va_rf]
theorem go_acmp {c : ClassFile.ACond} {off : Int} (d : decode (rg_by y) pc = .ok (.if_acmp c off, 3)) (ht : (pc : Int) + off = (rg_tg x : Int)) : GoOK G y pc (.if_acmp c off, pc + 3, x) := go_row fun L st σ pc' L' st' σ' h => by
  cases c
  · have h : rg_acm true (rg_tg x) (pc + 3) L st σ = _ := h
    unfold rg_acm at h
    split at h
    · split at h
      · rename_i hv
        rw [Bool.and_eq_true] at hv
        obtain ⟨o1, rfl⟩ := isr_rf hv.1
        obtain ⟨o2, rfl⟩ := isr_rf hv.2
        split at h <;> rename_i hc <;> obtain ⟨rfl, rfl, rfl, rfl⟩ := rg_go_inv h <;> refine ⟨rfl, rfl, fun cx k => ?_⟩
        · exact lv_acmp_eq cx.1 cx.2.1 d ht (fun _ => k) (fun z => absurd (rf_inj.mp hc) z)
        · exact lv_acmp_eq cx.1 cx.2.1 d ht (fun z => absurd (rf_inj.mpr z) hc) (fun _ => k)
      · cases h
    · cases h
  · have h : rg_acm false (rg_tg x) (pc + 3) L st σ = _ := h
    unfold rg_acm at h
    split at h
    · split at h
      · rename_i hv
        rw [Bool.and_eq_true] at hv
        obtain ⟨o1, rfl⟩ := isr_rf hv.1
        obtain ⟨o2, rfl⟩ := isr_rf hv.2
        split at h <;> rename_i hc <;> obtain ⟨rfl, rfl, rfl, rfl⟩ := rg_go_inv h <;> refine ⟨rfl, rfl, fun cx k => ?_⟩
        · exact lv_acmp_ne cx.1 cx.2.1 d ht (fun z => absurd (rf_inj.mp hc) z) (fun _ => k)
        · exact lv_acmp_ne cx.1 cx.2.1 d ht (fun _ => k) (fun z => absurd (rf_inj.mpr z) hc)
      · cases h
    · cases h
-- locals
theorem go_lod {k : Value → Bool} {i : Nat} (hdo : rg_do o = rg_lod k i npc) (hr : ∀ v, k v = true → ∀ {p : Program} {l : Launch} {e : Env} {R : Room} {s : State} {m : MethodId} {args : Array Value} {below : List Frame} {meth : Method} {c : Code} {H : Heap} {locs : List Loc} {cells slots : Nat} {Q : State → Prop} {ls : Array Slot} {st : List Value}, CX p y s m args meth c → ls[i]? = some (Slot.val v) → W p l e R s m args below meth c H locs cells slots Q (F0 m npc ls (v :: st)) → W p l e R s m args below meth c H locs cells slots Q (F0 m pc ls st)) : GoOK G y pc o := by
  intro L st σ pc' L' st' σ' hd p l e R s m args below meth c H locs cells slots Q ls cx hK hP hB hL hf hl hc hs kk
  rw [hdo] at hd
  unfold rg_lod at hd
  split at hd
  · rename_i v hv
    split at hd
    · rename_i hk
      obtain ⟨rfl, rfl, rfl, rfl⟩ := rg_go_inv hd
      have kk := kk H ls locs hP hB hL
      rw [Nat.sub_self, Nat.sub_self] at kk
      exact hr v hk cx (hL.2.2.2 _ _ hv) kk
    · cases hd
  · cases hd
theorem isi_int {v : Value} (h : rg_isi v = true) : ∃ z, v = .int z := by cases v <;> simp_all [rg_isi]
theorem isj_long {v : Value} (h : rg_isj v = true) : ∃ z, v = .long z := by cases v <;> simp_all [rg_isj]
theorem go_iload {i : Nat} (d : decode (rg_by y) pc = .ok (.iload i, 2)) : GoOK G y pc (.iload i, pc + 2, x) := go_lod rfl fun v hv => by
  obtain ⟨z, rfl⟩ := isi_int hv
  intro p l e R s m args below meth c H locs cells slots Q ls st cx hl k
  exact lv_iload cx.1 cx.2.1 d hl k
theorem go_iload_n {i : Fin 4} (d : decode (rg_by y) pc = .ok (.iload_n i, 1)) : GoOK G y pc (.iload_n i, pc + 1, x) := go_lod rfl fun v hv => by
  obtain ⟨z, rfl⟩ := isi_int hv
  intro p l e R s m args below meth c H locs cells slots Q ls st cx hl k
  exact lv_iload_n cx.1 cx.2.1 d rfl hl k
theorem go_lload {i : Nat} (d : decode (rg_by y) pc = .ok (.lload i, 2)) : GoOK G y pc (.lload i, pc + 2, x) := go_lod rfl fun v hv => by
  obtain ⟨z, rfl⟩ := isj_long hv
  intro p l e R s m args below meth c H locs cells slots Q ls st cx hl k
  exact lv_lload cx.1 cx.2.1 d hl k
theorem go_lload_n {i : Fin 4} (d : decode (rg_by y) pc = .ok (.lload_n i, 1)) : GoOK G y pc (.lload_n i, pc + 1, x) := go_lod rfl fun v hv => by
  obtain ⟨z, rfl⟩ := isj_long hv
  intro p l e R s m args below meth c H locs cells slots Q ls st cx hl k
  exact lv_lload_n cx.1 cx.2.1 d rfl hl k
theorem go_aload {i : Nat} (d : decode (rg_by y) pc = .ok (.aload i, 2)) : GoOK G y pc (.aload i, pc + 2, x) := go_lod rfl fun v hv => by
  rcases isr_cases hv with rfl | ⟨a, rfl⟩ <;> intro p l e R s m args below meth c H locs cells slots Q ls st cx hl k
  · exact lv_aloadN cx.1 cx.2.1 d hl k
  · exact lv_aload cx.1 cx.2.1 d hl k
theorem go_aload_n {i : Fin 4} (d : decode (rg_by y) pc = .ok (.aload_n i, 1)) : GoOK G y pc (.aload_n i, pc + 1, x) := go_lod rfl fun v hv => by
  rcases isr_cases hv with rfl | ⟨a, rfl⟩ <;> intro p l e R s m args below meth c H locs cells slots Q ls st cx hl k
  · exact lv_aload_nN cx.1 cx.2.1 d rfl hl k
  · exact lv_aload_n cx.1 cx.2.1 d rfl hl k
theorem go_sta {k : Value → Bool} {i : Nat} (hdo : rg_do o = rg_sta k i npc) (hr : ∀ v, k v = true → ∀ {p : Program} {l : Launch} {e : Env} {R : Room} {s : State} {m : MethodId} {args : Array Value} {below : List Frame} {meth : Method} {c : Code} {H : Heap} {locs : List Loc} {cells slots : Nat} {Q : State → Prop} {ls : Array Slot} {st : List Value} {nL : Nat} {lv : List (Nat × Value)}, CX p y s m args meth c → lv_has ls nL lv → i < nL → (∀ ls', lv_has ls' nL ((i, v) :: lv.filter (fun q => !(q.1 == i) && !(q.1 + 1 == i && q.2.category == 2))) → W p l e R s m args below meth c H locs cells slots Q (F0 m npc ls' st)) → W p l e R s m args below meth c H locs cells slots Q (F0 m pc ls (v :: st))) : GoOK G y pc o := by
  intro L st σ pc' L' st' σ' hd p l e R s m args below meth c H locs cells slots Q ls cx hK hP hB hL hf hl hc hs kk
  rw [hdo] at hd
  unfold rg_sta at hd
  split at hd
  · split at hd
    · rename_i hk
      rw [Bool.and_eq_true, decide_eq_true_eq] at hk
      obtain ⟨rfl, rfl, rfl, rfl⟩ := rg_go_inv hd
      rw [Nat.sub_self, Nat.sub_self] at kk
      exact hr _ hk.1 cx hL.has (by rw [← hL.2.2.1]; exact hk.2) fun ls' h' => kk H ls' locs hP hB (hL.sto h')
    · cases hd
  · cases hd
theorem go_istore {i : Nat} (d : decode (rg_by y) pc = .ok (.istore i, 2)) : GoOK G y pc (.istore i, pc + 2, x) := go_sta rfl fun v hv => by
  obtain ⟨z, rfl⟩ := isi_int hv
  intro p l e R s m args below meth c H locs cells slots Q ls st nL lv cx h hi k
  exact lv_istore cx.1 cx.2.1 d h hi rfl k
theorem go_istore_n {i : Fin 4} (d : decode (rg_by y) pc = .ok (.istore_n i, 1)) : GoOK G y pc (.istore_n i, pc + 1, x) := go_sta rfl fun v hv => by
  obtain ⟨z, rfl⟩ := isi_int hv
  intro p l e R s m args below meth c H locs cells slots Q ls st nL lv cx h hi k
  exact lv_istore_n cx.1 cx.2.1 d rfl h hi rfl k
theorem go_astore {i : Nat} (d : decode (rg_by y) pc = .ok (.astore i, 2)) : GoOK G y pc (.astore i, pc + 2, x) := go_sta rfl fun v hv => by
  rcases isr_cases hv with rfl | ⟨a, rfl⟩ <;> intro p l e R s m args below meth c H locs cells slots Q ls st nL lv cx h hi k
  · exact lv_astoreN cx.1 cx.2.1 d h hi rfl k
  · exact lv_astore cx.1 cx.2.1 d h hi rfl k
theorem go_astore_n {i : Fin 4} (d : decode (rg_by y) pc = .ok (.astore_n i, 1)) : GoOK G y pc (.astore_n i, pc + 1, x) := go_sta rfl fun v hv => by
  rcases isr_cases hv with rfl | ⟨a, rfl⟩ <;> intro p l e R s m args below meth c H locs cells slots Q ls st nL lv cx h hi k
  · exact lv_astore_nN cx.1 cx.2.1 d rfl h hi rfl k
  · exact lv_astore_n cx.1 cx.2.1 d rfl h hi rfl k
theorem go_stj {i : Nat} (hdo : rg_do o = rg_stj i npc) (hr : ∀ z : Int64, ∀ {p : Program} {l : Launch} {e : Env} {R : Room} {s : State} {m : MethodId} {args : Array Value} {below : List Frame} {meth : Method} {c : Code} {H : Heap} {locs : List Loc} {cells slots : Nat} {Q : State → Prop} {ls : Array Slot} {st : List Value} {nL : Nat} {lv : List (Nat × Value)}, CX p y s m args meth c → lv_has ls nL lv → i + 1 < nL → (∀ ls', lv_has ls' nL ((i, Value.long z) :: lv.filter (fun q => !(q.1 == i) && (!(q.1 == i + 1) && !(q.1 + 1 == i && q.2.category == 2)))) → W p l e R s m args below meth c H locs cells slots Q (F0 m npc ls' st)) → W p l e R s m args below meth c H locs cells slots Q (F0 m pc ls (.long z :: st))) : GoOK G y pc o := by
  intro L st σ pc' L' st' σ' hd p l e R s m args below meth c H locs cells slots Q ls cx hK hP hB hL hf hl hc hs kk
  rw [hdo] at hd
  unfold rg_stj at hd
  split at hd
  · split at hd
    · rename_i hk
      rw [Bool.and_eq_true, decide_eq_true_eq] at hk
      obtain ⟨rfl, rfl, rfl, rfl⟩ := rg_go_inv hd
      obtain ⟨z, rfl⟩ := isj_long hk.1
      rw [Nat.sub_self, Nat.sub_self] at kk
      exact hr z cx hL.has (by rw [← hL.2.2.1]; exact hk.2) fun ls' h' => kk H ls' locs hP hB (hL.sto2 h')
    · cases hd
  · cases hd
theorem go_lstore {i : Nat} (d : decode (rg_by y) pc = .ok (.lstore i, 2)) : GoOK G y pc (.lstore i, pc + 2, x) := go_stj rfl fun z p l e R s m args below meth c H locs cells slots Q ls st nL lv cx h hi k => lv_lstore cx.1 cx.2.1 d h hi rfl k
theorem go_lstore_n {i : Fin 4} (d : decode (rg_by y) pc = .ok (.lstore_n i, 1)) : GoOK G y pc (.lstore_n i, pc + 1, x) := go_stj rfl fun z p l e R s m args below meth c H locs cells slots Q ls st nL lv cx h hi k => lv_lstore_n cx.1 cx.2.1 d rfl h hi rfl k
theorem go_iinc {i : Nat} {n : Int} (d : decode (rg_by y) pc = .ok (.iinc i n, 3)) : GoOK G y pc (.iinc i n, pc + 3, x) := by
  intro L st σ pc' L' st' σ' hd p l e R s m args below meth c H locs cells slots Q ls cx hK hP hB hL hf hl hc hs kk
  have hd : rg_inc i n (pc + 3) L st σ = _ := hd
  unfold rg_inc at hd
  split at hd
  · rename_i z hz
    obtain ⟨rfl, rfl, rfl, rfl⟩ := rg_go_inv hd
    rw [Nat.sub_self, Nat.sub_self] at kk
    obtain ⟨k0, hk0⟩ := List.getElem?_of_mem (rg_al_mem.mpr hz)
    exact lv_iinc cx.1 cx.2.1 d hL.has hk0 rfl (by rw [← hL.2.2.1]; exact (List.getElem?_eq_some_iff.mp hz).1) rfl fun ls' h' => kk H ls' locs hP hB (hL.sto h')
  · cases hd
end GO
