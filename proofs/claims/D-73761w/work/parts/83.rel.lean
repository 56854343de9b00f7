/-! the abstract machine against the real one: what a state pictures (hp), what is known of the tables (KS), what holds in a method's frame (CX), and that a step of rg_do is a step of the machine (GoOK), kind by kind -/
set_option maxRecDepth 100000
/-- fixed for a whole run: classes and field places; the classes of the arrays by kind; of the lambdas; the heap at the law's start; what is only read of it; the statics -/
abbrev rg_G : Type := va_G × (Nat → ClassId) × (Nat → ClassId) × Heap × (Nat → Option rg_E) × (Nat → Value)
abbrev g_D (G : rg_G) : va_G := G.1
abbrev g_A (G : rg_G) : Nat → ClassId := G.2.1
abbrev g_L (G : rg_G) : Nat → ClassId := G.2.2.1
abbrev g_0 (G : rg_G) : Heap := G.2.2.2.1
abbrev g_r (G : rg_G) : Nat → Option rg_E := G.2.2.2.2.1
abbrev g_s (G : rg_G) : Nat → Value := G.2.2.2.2.2
/-- no monitor is held -/
def rg_mo (H : Heap) (a : Nat) : Prop := ∀ cell : Cell, H[a]? = some cell → cell.monitor = {}
def rg_cell (G : rg_G) (H : Heap) (a : Nat) (e : rg_E) : Prop := match e with
  | .inl (k, x) => k < 7 ∧ H[a]? = some (vp_cell (g_A G k) x)
  | .inr (c, F) => (∃ r, rg_cl[c]? = some r ∧ t_OB a ((g_D G).1 c) r.2.2 ((g_D G).2 c) H F ∧ rg_mo H a) ∨ (910 ≤ c ∧ H[a]? = some { cls := g_L G c, slots := #[F 0], vm := .none })
def hp (G : rg_G) (σ : rg_S) (H : Heap) : Prop := H.size = rg_sz σ ∧ (g_0 G).size ≤ H.size ∧ (∀ q, q < (g_0 G).size → H[q]? = (g_0 G)[q]?) ∧ rg_r σ = g_r G ∧ rg_st σ = g_s G ∧ ∀ a e, rg_h σ a = some e → (g_0 G).size ≤ a ∧ rg_cell G H a e
def vpv (x : (Nat → Int32) ⊕ (Nat → Int64) ⊕ (Nat → UInt32) ⊕ (Nat → UInt64) ⊕ (Nat → Option Nat)) (j : Nat) : Value := match x with
  | .inl f => .int (f j)
  | .inr (.inl f) => .long (f j)
  | .inr (.inr (.inl f)) => .float (f j)
  | .inr (.inr (.inr (.inl f))) => .double (f j)
  | .inr (.inr (.inr (.inr f))) => va_rf (f j)
theorem vp_cell_v (cA : ClassId) (n : Nat) (x) : vp_cell cA (n, x) = arrV cA n (vpv x) := by
  rcases x with f | f | f | f | f <;> rfl
/-- a constant text: an object of String with its bytes and its coder -/
def rg_tx (G : rg_G) (U : State) (a : Nat) (F : Nat → Value) : Prop := (∃ cell : Cell, (g_0 G)[a]? = some cell ∧ cell.vm.isStatics = false ∧ U.vm.findClass "java/lang/String" = some cell.cls) ∧ va_OF "java/lang/String" "value" "[B" (F 0) a (fun _ => False) U (g_0 G) ∧ va_OF "java/lang/String" "coder" "B" (F 1) a (fun _ => False) U (g_0 G)
def rg_ro (G : rg_G) (U : State) (a : Nat) (e : rg_E) : Prop := match e with
  | .inl (k, n, x) => k = 8 ∨ ∃ cell : Cell, (g_0 G)[a]? = some cell ∧ U.isArrayOf cell (rg_ty k) ∧ cell.vm ≠ .unknown ∧ n ≤ cell.slots.size ∧ cell.slots.size.toInt32 = Int32.ofNat n ∧ ∀ j, j < n → cell.slots[j]? = some (vpv x j)
  | .inr (c, F) => (910 ≤ c ∧ (c ≠ 915 ∧ c < 920) ∧ ∃ cell : Cell, (g_0 G)[a]? = some cell ∧ cell.cls = g_L G c ∧ cell.vm = .none) ∨ (c = 26 ∧ rg_tx G U a F) ∨ ∃ (cell : Cell) (r : vw_C), (g_0 G)[a]? = some cell ∧ rg_cl[c]? = some r ∧ cell.vm.isStatics = false ∧ cell.vm ≠ .unknown ∧ U.vm.findClass r.1 = some cell.cls ∧ ∀ k, k < r.2.2 → cell.slots[(g_D G).2 c k]? = some (F k)
def rg_tys (G : rg_G) : List (ClassId × FieldType) := (List.range 7).map fun k => (g_A G k, rg_ty k)
/-- statics that are read: number, class, name, descriptor -/
def rg_sts : List (Nat × String × String × String) := [(0, "java/util/BitSet", "$assertionsDisabled", "Z"), (1, "java/util/ArrayList", "DEFAULTCAPACITY_EMPTY_ELEMENTDATA", "[Ljava/lang/Object;"), (2, "java/util/TreeSet", "PRESENT", "Ljava/lang/Object;"), (3, "java/lang/Integer$IntegerCache", "high", "I"), (4, "java/lang/Integer$IntegerCache", "cache", "[Ljava/lang/Integer;"), (5, "java/lang/String", "COMPACT_STRINGS", "Z"), (6, "jdk/internal/util/Preconditions", "SIOOBE_FORMATTER", "Ljava/util/function/BiFunction;"), (7, Bundle.tN, "UNASSIGNED_STACK", Bundle.steD), (8, Bundle.tN, "SUPPRESSED_SENTINEL", Bundle.listD)]
/-- strings of the constant pools: number, class, place, text -/
def rg_strs : List (Nat × String × Nat × String) := [(100, "RegisterColours$Reader", 58, "v"), (101, "RegisterColours$Reader", 64, "w"), (102, "RegisterColours$Reader", 66, "d"), (103, "RegisterColours$Reader", 68, "in"), (104, "RegisterColours$Reader", 70, "call"), (105, "RegisterColours$Reader", 72, "low"), (106, "RegisterColours$Reader", 74, "high"), (107, "RegisterColours$Reader", 76, "if"), (108, "RegisterColours$Reader", 78, "goto"), (109, "RegisterColours$Reader", 80, "out")]
/-- shapes of the lambdas -/
def sgL (im : String) : Lambda.Shape := { iface := "RegisterColours$Making", name := "of", sam := ⟨[.long, .long], some .long⟩, captured := [], kind := 6, implClass := "RegisterColours", implName := im, implDesc := ⟨[.long, .long], some .long⟩, implItf := false, inst := ⟨[.long, .long], some .long⟩ }
def sgT : Lambda.Shape := { iface := "RegisterColours$Making", name := "of", sam := ⟨[.long, .long], some .long⟩, captured := [.object "RegisterColours"], kind := 5, implClass := "RegisterColours", implName := "times", implDesc := ⟨[.long, .long], some .long⟩, implItf := false, inst := ⟨[.long, .long], some .long⟩ }
def sgF (im : String) : Lambda.Shape := { iface := "RegisterColours$Safety", name := "of", sam := ⟨[.int, .int], some .boolean⟩, captured := [.object "RegisterColours$Graph"], kind := 5, implClass := "RegisterColours$Graph", implName := im, implDesc := ⟨[.int, .int], some .boolean⟩, implItf := false, inst := ⟨[.int, .int], some .boolean⟩ }
def lmX : MethodName := ⟨"RegisterColours", "<init>", "()V"⟩
def lmG : MethodName := ⟨"RegisterColours$Graph", "<init>", "(LRegisterColours$Code;[III)V"⟩
/-- call sites: number, method, place, entry, shape -/
def rg_lams : List (Nat × MethodName × Nat × Nat × Lambda.Shape) := [(910, lmX, 113, 56, sgL "lambda$new$0"), (911, lmX, 121, 60, sgL "lambda$new$1"), (912, lmX, 129, 61, sgL "lambda$new$2"), (913, lmX, 137, 62, sgL "lambda$new$3"), (914, lmX, 145, 63, sgL "lambda$new$4"), (915, lmX, 154, 64, sgT), (916, lmX, 163, 67, sgL "lambda$new$5"), (917, lmX, 172, 68, sgL "lambda$new$6"), (918, lmX, 181, 69, sgL "lambda$new$7"), (920, lmG, 63, 38, sgF "isFewHeavy"), (921, lmG, 72, 42, sgF "isBorneByFixed")]
/-- a call site is linked -/
def LamF (x : MethodName) (pc idx : Nat) (sh : Lambda.Shape) (cK : ClassId) (lk : Linked) (U : State) : Prop := ∃ (m : MethodId) (k : Class) (cf : ClassFile) (i0 p0 : Nat), U.methodNamed? x = some m ∧ U.vm.classes[m.cls]? = some k ∧ k.cf = some cf ∧ Lambda.shapeOf? cf idx = some sh ∧ (k.callSites.find? fun y => y.1 == m.idx && y.2.1 == pc) = some (i0, p0, lk) ∧ Lambda.isMade { classPath := fun _ => none } U.vm m.cls sh cK = true ∧ U.lambdaCallable sh cK = true
theorem LamF.moved {x : MethodName} {pc idx : Nat} {sh : Lambda.Shape} {cK : ClassId} {lk : Linked} {u U : State} (hW : u.WarmedH U.vm) (h : LamF x pc idx sh cK lk u) : LamF x pc idx sh cK lk U := by
  obtain ⟨m, k, cf, i0, p0, h1, h2, h3, h4, h5, h6, h7⟩ := h
  obtain ⟨k', hk', he⟩ := hW.alike.2.2 _ _ h2
  have hm' : U.methodNamed? x = some m := by
    have := State.methodNamed?_setVm (s := u) hW.alike x
    rw [h1] at this
    exact this
  have hcall' : U.lambdaCallable sh cK = true := by
    have hA := hW.alike
    simp only [State.lambdaCallable, hA.findClass, hA.assignable, hA.superclasses, hA.declaredIn] at h7 ⊢
    exact h7
  exact ⟨m, k', cf, i0, p0, hm', hk', by rw [he]; exact h3, h4, by rw [he]; exact h5, Lambda.isMade_warmer hW h6, hcall'⟩
def KL (G : rg_G) (U : State) : Prop := ∀ q ∈ rg_lams, (q.2.2.2.2.captured = [] ∧ ∃ a, g_s G (300 + (q.1 - 910)) = .ref a ∧ LamF q.2.1 q.2.2.1 q.2.2.2.1 q.2.2.2.2 (g_L G q.1) (.constant a) U) ∨ (q.2.2.2.2.captured ≠ [] ∧ LamF q.2.1 q.2.2.1 q.2.2.2.1 q.2.2.2.2 (g_L G q.1) (.makes (g_L G q.1)) U)
theorem KL.moved {G : rg_G} {u U : State} (hW : u.WarmedH U.vm) (h : KL G u) : KL G U := fun q hq => (h q hq).imp (fun z => ⟨z.1, z.2.elim fun a w => ⟨a, w.1, w.2.moved hW⟩⟩) (fun z => ⟨z.1, z.2.moved hW⟩)
/-- what the statics and the strings are -/
def KZ (G : rg_G) (U : State) : Prop := (∀ q ∈ rg_sts, va_Z q.2.1 q.2.2.1 q.2.2.2 (g_s G q.1) (fun _ => False) U (g_0 G)) ∧ (KL G U ∧ (∃ mi, g_s G 310 = .ref mi ∧ va_Mi "[Ljava/lang/Object;" mi U) ∧ vx_Zq Bundle.tN "UNASSIGNED_STACK" Bundle.steD (fun _ => False) U (g_0 G) ∧ vx_Zq Bundle.tN "SUPPRESSED_SENTINEL" Bundle.listD (fun _ => False) U (g_0 G)) ∧ ∀ q ∈ rg_strs, ∃ a, g_s G q.1 = .ref a ∧ vk_R q.2.1 q.2.2.1 q.2.2.2 a U
theorem KZ.moved {G : rg_G} {u U : State} (hW : u.WarmedH U.vm) (h : KZ G u) : KZ G U := by
  refine ⟨fun q hq => (h.1 q hq).moved hW.alike, ⟨h.2.1.1.moved hW, h.2.1.2.1.elim fun mi hm => ⟨mi, hm.1, hm.2.moved hW.alike⟩, vx_Zq.moved hW.alike h.2.1.2.2.1, vx_Zq.moved hW.alike h.2.1.2.2.2⟩, fun q hq => ?_⟩
  obtain ⟨a, h1, h2⟩ := h.2.2 q hq
  exact ⟨a, h1, h2.warm hW⟩
/-- what is known of the tables at a method's start -/
def KS (G : rg_G) (U : State) : Prop := va_K (g_D G) rg_cl (rg_tys G) U ∧ (∀ a e, g_r G a = some e → a < (g_0 G).size ∧ rg_ro G U a e) ∧ (∀ f ∈ rg_facts, f U) ∧ KZ G U
theorem KS.fact {G : rg_G} {U : State} (h : KS G U) {f : State → Prop} (hf : f ∈ rg_facts) : f U := h.2.2.1 f hf
theorem KS.moved {G : rg_G} {u U : State} (hW : u.WarmedH U.vm) (h : KS G u) : KS G U := by
  have hvm := hW.alike
  refine ⟨va_K.moved hvm h.1, fun a e he => ⟨(h.2.1 a e he).1, ?_⟩, fun f hf => rg_facts_mv f hf u U hW (h.2.2.1 f hf), h.2.2.2.moved hW⟩
  have h2 := (h.2.1 a e he).2
  rcases e with ⟨k, n, x⟩ | ⟨c, F⟩
  · rcases h2 with h2 | ⟨cell, h1, h3, h4⟩
    · exact Or.inl h2
    · exact Or.inr ⟨cell, h1, State.isArrayOf_alike hvm h3, h4⟩
  · rcases h2 with h2 | ⟨h2, ⟨cell, h1, h3, h4⟩, h5, h6⟩ | ⟨cell, r, h1, h3, h4, h5, h6, h7⟩
    · exact Or.inl h2
    · exact Or.inr (Or.inl ⟨h2, ⟨cell, h1, h3, by rw [hvm.findClass]; exact h4⟩, h5.moved hvm, h6.moved hvm⟩)
    · exact Or.inr (Or.inr ⟨cell, r, h1, h3, h4, h5, by rw [hvm.findClass]; exact h6, h7⟩)
/-- a method's frame -/
def CX (p : Program) (y : Nat) (s : State) (m : MethodId) (args : Array Value) (meth : Method) (c : Code) : Prop :=
  p.tables.exec = Jvm.exec ∧ c.code = rg_by y ∧ c.maxLocals = rg_ml y ∧ meth.sig.returnType = rg_rt y ∧ meth.locks = false ∧ s.vm.findClass (rg_nm y).cls = some m.cls ∧ (∀ w ∈ lw_all, w.before args s = true) ∧ meth.name = (rg_nm y).name ∧ c.exceptionTable.toList = tableOf (rg_hh y) ∧ s.methodNamed? (rg_nm y) = some m
def LV (ls : Array Slot) (nL : Nat) (L : rg_L) : Prop := ls.size = nL ∧ lv_wf ls ∧ L.length = nL ∧ ∀ (i : Nat) (v : Value), L[i]? = some (some v) → ls[i]? = some (Slot.val v)
def LB (G : rg_G) (locs : List Loc) : Prop := ∀ q ∈ locs, (g_0 G).size ≤ q.base
theorem cl26 : rg_cl[26]? = none := rfl
theorem cl_ne {c : Nat} {r : vw_C} (h : rg_cl[c]? = some r) : c ≠ 26 := fun e => by subst e; cases cl26.symm.trans h
-- ===== the picture kept and changed =====
section HP
variable {G : rg_G} {σ : rg_S} {H H' : Heap} {a n : Nat} {e e0 : rg_E}
theorem rg_cell.kept (h : rg_cell G H a e) (hq : H'[a]? = H[a]?) : rg_cell G H' a e := by
  rcases e with ⟨k, x⟩ | ⟨c, F⟩
  · exact ⟨h.1, hq.trans h.2⟩
  · rcases h with ⟨r, h1, h2, h3⟩ | ⟨h1, h2⟩
    · exact Or.inl ⟨r, h1, h2.kept hq, fun cell hc => h3 cell (hq.symm.trans hc)⟩
    · exact Or.inr ⟨h1, hq.trans h2⟩
theorem rg_cell.lt (h : rg_cell G H a e) : a < H.size := by
  rcases e with ⟨k, x⟩ | ⟨c, F⟩
  · exact (Array.getElem?_eq_some_iff.mp h.2).1
  · rcases h with ⟨r, h1, ⟨cell, h2, -⟩, -⟩ | ⟨h1, h2⟩
    · exact (Array.getElem?_eq_some_iff.mp h2).1
    · exact (Array.getElem?_eq_some_iff.mp h2).1
theorem hp.set (h : hp G σ H) (h0 : rg_h σ a = some e0) (hc : rg_cell G H' a e) (hz : H'.size = H.size) (hq : ∀ q, q ≠ a → H'[q]? = H[q]?) : hp G (rg_set σ a e) H' := by
  obtain ⟨h1, h2, h3, h4, h5, h6⟩ := h
  have ha := (h6 a e0 h0).1
  refine ⟨by rw [hz]; exact h1, by rw [hz]; exact h2, fun q hlt => by rw [hq q (by omega)]; exact h3 q hlt, h4, h5, fun b x hx => ?_⟩
  rw [h_set] at hx
  by_cases hb : b = a
  · subst hb
    rw [if_pos rfl] at hx
    cases hx
    exact ⟨ha, hc⟩
  · rw [if_neg hb] at hx
    exact ⟨(h6 b x hx).1, (h6 b x hx).2.kept (hq b hb)⟩
theorem hp.new (h : hp G σ H) (hc : rg_cell G H' H.size e) (hz : H'.size = H.size + 1) (hq : ∀ q, q < H.size → H'[q]? = H[q]?) : hp G (rg_new σ e n) H' := by
  obtain ⟨h1, h2, h3, h4, h5, h6⟩ := h
  refine ⟨by rw [hz, h1]; rfl, by omega, fun q hlt => by rw [hq q (by omega)]; exact h3 q hlt, h4, h5, fun b x hx => ?_⟩
  rw [h_new] at hx
  by_cases hb : b = rg_sz σ
  · rw [if_pos hb] at hx
    cases hx
    rw [hb, ← h1]
    exact ⟨h2, hc⟩
  · rw [if_neg hb] at hx
    exact ⟨(h6 b x hx).1, (h6 b x hx).2.kept (hq b (h6 b x hx).2.lt)⟩
/-- an array that is read -/
theorem hp.arr {U : State} {k : Nat} {x} (h : hp G σ H) (hK : KS G U) (hr : rg_rd σ a = some (.inl (k, n, x))) (h8 : k ≠ 8) : ∃ cell : Cell, H[a]? = some cell ∧ U.isArrayOf cell (rg_ty k) ∧ cell.vm ≠ .unknown ∧ n ≤ cell.slots.size ∧ cell.slots.size.toInt32 = Int32.ofNat n ∧ ∀ j, j < n → cell.slots[j]? = some (vpv x j) := by
  obtain ⟨h1, h2, h3, h4, h5, h6⟩ := h
  unfold rg_rd at hr
  cases hh : rg_h σ a with
  | some e =>
    rw [hh] at hr
    cases hr
    obtain ⟨-, hk, hc⟩ := h6 a _ hh
    refine ⟨_, hc, ?_, ?_, ?_, ?_, ?_⟩
    · have := (hK.1.2 k (g_A G k, rg_ty k) (by unfold rg_tys; simp [hk])).1 n (vpv x)
      rw [vp_cell_v]; exact this
    · rw [vp_cell_v]; exact fun z => by cases z
    · rw [vp_cell_v, arrV_size]; exact Nat.le_refl _
    · rw [vp_cell_v, arrV_size]
    · intro j hj
      rw [vp_cell_v, arrV_read _ _ hj]
  | none =>
    rw [hh] at hr
    have hr : rg_r σ a = some (.inl (k, n, x)) := hr
    rw [h4] at hr
    obtain ⟨hlt, ho⟩ := hK.2.1 a _ hr
    rcases ho with ho | ⟨cell, q1, q2⟩
    · exact absurd ho h8
    · exact ⟨cell, by rw [h3 a hlt]; exact q1, q2⟩
/-- an object that is read -/
theorem hp.obj {U : State} {c : Nat} {F : Nat → Value} (h : hp G σ H) (hK : KS G U) (hr : rg_rd σ a = some (.inr (c, F))) (hc9 : c < 910) (hc26 : c ≠ 26) : ∃ (cell : Cell) (r : vw_C), H[a]? = some cell ∧ rg_cl[c]? = some r ∧ cell.vm.isStatics = false ∧ cell.vm ≠ .unknown ∧ U.vm.findClass r.1 = some cell.cls ∧ ∀ k, k < r.2.2 → cell.slots[(g_D G).2 c k]? = some (F k) := by
  obtain ⟨h1, h2, h3, h4, h5, h6⟩ := h
  unfold rg_rd at hr
  cases hh : rg_h σ a with
  | some e =>
    rw [hh] at hr
    cases hr
    obtain ⟨-, hc⟩ := h6 a _ hh
    rcases hc with ⟨r, q1, ⟨cell, q2, q3, q4, q5⟩, -⟩ | ⟨q1, -⟩
    · exact ⟨cell, r, q2, q1, by rw [q4]; rfl, by rw [q4]; exact (fun z => by cases z), by rw [q3]; exact (hK.1.1 c r q1).2.1, q5⟩
    · omega
  | none =>
    rw [hh] at hr
    have hr : rg_r σ a = some (.inr (c, F)) := hr
    rw [h4] at hr
    obtain ⟨hlt, ho⟩ := hK.2.1 a _ hr
    rcases ho with ⟨ho, -⟩ | ⟨ho, -⟩ | ⟨cell, r, q1, q2⟩
    · omega
    · exact absurd ho hc26
    · exact ⟨cell, r, by rw [h3 a hlt]; exact q1, q2⟩
/-- the name of a class that may stand for a receiver -/
def rg_cnm (c : Nat) : Option String := if c = 26 then some "java/lang/String" else (rg_cl[c]?).map fun r => r.1
theorem hp.rcv {U : State} {c : Nat} {F : Nat → Value} {nm : String} (h : hp G σ H) (hK : KS G U) (hr : rg_rd σ a = some (.inr (c, F))) (hc9 : c < 910) (hn : rg_cnm c = some nm) : ∃ cell : Cell, H[a]? = some cell ∧ cell.vm.isStatics = false ∧ U.vm.findClass nm = some cell.cls := by
  by_cases h26 : c = 26
  · subst h26
    cases hn
    obtain ⟨h1, h2, h3, h4, h5, h6⟩ := h
    unfold rg_rd at hr
    cases hh : rg_h σ a with
    | some e =>
      rw [hh] at hr
      cases hr
      obtain ⟨-, hc⟩ := h6 a _ hh
      rcases hc with ⟨r, q1, -⟩ | ⟨q1, -⟩
      · cases cl26.symm.trans q1
      · omega
    | none =>
      rw [hh] at hr
      have hr : rg_r σ a = some (.inr (26, F)) := hr
      rw [h4] at hr
      obtain ⟨hlt, ho⟩ := hK.2.1 a _ hr
      rcases ho with ⟨ho, -⟩ | ⟨-, ⟨cell, q1, q2, q3⟩, -⟩ | ⟨cell, r, q1, q2, -⟩
      · omega
      · exact ⟨cell, by rw [h3 a hlt]; exact q1, q2, q3⟩
      · cases cl26.symm.trans q2
  · obtain ⟨cell, r, q1, q2, q3, q4, q5, q6⟩ := h.obj hK hr hc9 h26
    unfold rg_cnm at hn
    rw [if_neg h26, q2] at hn
    cases hn
    exact ⟨cell, q1, q3, q5⟩
/-- a text's fields -/
theorem hp.txt {U : State} {F : Nat → Value} (h : hp G σ H) (hK : KS G U) (hr : rg_rd σ a = some (.inr (26, F))) : (∀ q, q < (g_0 G).size → H[q]? = (g_0 G)[q]?) ∧ va_OF "java/lang/String" "value" "[B" (F 0) a (fun _ => False) U (g_0 G) ∧ va_OF "java/lang/String" "coder" "B" (F 1) a (fun _ => False) U (g_0 G) := by
  obtain ⟨h1, h2, h3, h4, h5, h6⟩ := h
  refine ⟨h3, ?_⟩
  unfold rg_rd at hr
  cases hh : rg_h σ a with
  | some e =>
    rw [hh] at hr
    cases hr
    obtain ⟨-, hc⟩ := h6 a _ hh
    rcases hc with ⟨r, q1, -⟩ | ⟨q1, -⟩
    · cases cl26.symm.trans q1
    · omega
  | none =>
    rw [hh] at hr
    have hr : rg_r σ a = some (.inr (26, F)) := hr
    rw [h4] at hr
    obtain ⟨hlt, ho⟩ := hK.2.1 a _ hr
    rcases ho with ⟨ho, -⟩ | ⟨-, -, q⟩ | ⟨cell, r, q1, q2, -⟩
    · omega
    · exact q
    · cases cl26.symm.trans q2
theorem LB.app {locs : List Loc} {k : Nat} (h : LB G locs) (ha : (g_0 G).size ≤ a) : LB G (locs ++ [⟨a, k⟩]) := by
  intro q hq
  rcases List.mem_append.mp hq with h1 | h1
  · exact h q h1
  · rw [List.mem_singleton.mp h1]; exact ha
end HP
-- ===== locals =====
def rg_al (L : rg_L) : List (Nat × Value) := (List.range L.length).filterMap fun i => (L[i]?.join).map fun v => (i, v)
theorem rg_al_mem {L : rg_L} {i : Nat} {v : Value} : (i, v) ∈ rg_al L ↔ L[i]? = some (some v) := by
  unfold rg_al
  rw [List.mem_filterMap]
  constructor
  · rintro ⟨j, hj, h⟩
    cases hx : L[j]? with
    | none => rw [hx] at h; cases h
    | some z =>
      cases z with
      | none => rw [hx] at h; cases h
      | some w =>
        rw [hx] at h
        cases h
        exact hx
  · intro h
    refine ⟨i, List.mem_range.mpr (List.getElem?_eq_some_iff.mp h).1, ?_⟩
    rw [h]; rfl
theorem LV.has {ls : Array Slot} {nL : Nat} {L : rg_L} (h : LV ls nL L) : lv_has ls nL (rg_al L) := ⟨h.1, h.2.1, fun q hq => h.2.2.2 q.1 q.2 (rg_al_mem.mp hq)⟩
theorem rg_isl_cat {v : Value} : rg_isl v = true ↔ v.category = 2 := by cases v <;> simp [rg_isl, Value.category]
theorem rg_kill_len {L : rg_L} {i : Nat} : (rg_kill L i).length = L.length := by
  unfold rg_kill
  split
  · rfl
  · split
    · rw [List.length_set]
    · rfl
theorem rg_kill_at {L : rg_L} {i j : Nat} {v : Value} (h : (rg_kill L i)[j]? = some (some v)) : L[j]? = some (some v) ∧ ¬ (j + 1 = i ∧ rg_isl v = true) := by
  unfold rg_kill at h
  split at h
  · exact ⟨h, fun z => by omega⟩
  · rename_i k
    split at h
    · rename_i hl
      by_cases hjk : j = k
      · subst hjk
        rw [List.getElem?_set] at h
        split at h
        · split at h <;> cases h
        · rename_i z; exact absurd rfl z
      · rw [List.getElem?_set_ne (Ne.symm hjk)] at h
        exact ⟨h, fun z => hjk (by omega)⟩
    · rename_i hl
      refine ⟨h, fun z => ?_⟩
      have : j = k := by omega
      subst this
      rw [h] at hl
      exact hl z.2
theorem LV.sto {ls ls' : Array Slot} {nL i : Nat} {L : rg_L} {v : Value} (h : LV ls nL L) (h' : lv_has ls' nL ((i, v) :: (rg_al L).filter (fun q => !(q.1 == i) && !(q.1 + 1 == i && q.2.category == 2)))) : LV ls' nL (rg_sto L i v) := by
  refine ⟨h'.1, h'.2.1, by unfold rg_sto; rw [List.length_set, rg_kill_len]; exact h.2.2.1, fun j w hj => ?_⟩
  unfold rg_sto at hj
  by_cases hji : j = i
  · subst hji
    rw [List.getElem?_set] at hj
    split at hj
    · split at hj
      · cases hj
        exact h'.2.2 (j, v) List.mem_cons_self
      · cases hj
    · rename_i z; exact absurd rfl z
  · rw [List.getElem?_set_ne (Ne.symm hji)] at hj
    obtain ⟨h1, h2⟩ := rg_kill_at hj
    refine h'.2.2 (j, w) (List.mem_cons_of_mem _ (List.mem_filter.mpr ⟨rg_al_mem.mpr h1, ?_⟩))
    simp only [Bool.and_eq_true, Bool.not_eq_true', beq_eq_false_iff_ne, ne_eq, Bool.and_eq_false_iff]
    refine ⟨hji, ?_⟩
    by_cases hz : j + 1 = i
    · right
      intro hc
      exact h2 ⟨hz, rg_isl_cat.mpr hc⟩
    · exact Or.inl hz
theorem LV.sto2 {ls ls' : Array Slot} {nL i : Nat} {L : rg_L} {v : Value} (h : LV ls nL L) (h' : lv_has ls' nL ((i, v) :: (rg_al L).filter (fun q => !(q.1 == i) && (!(q.1 == i + 1) && !(q.1 + 1 == i && q.2.category == 2))))) : LV ls' nL (rg_sto2 L i v) := by
  refine ⟨h'.1, h'.2.1, by unfold rg_sto2; rw [List.length_set, List.length_set, rg_kill_len]; exact h.2.2.1, fun j w hj => ?_⟩
  unfold rg_sto2 at hj
  by_cases hji : j = i
  · subst hji
    rw [List.getElem?_set] at hj
    split at hj
    · split at hj
      · cases hj
        exact h'.2.2 (j, v) List.mem_cons_self
      · cases hj
    · rename_i z; exact absurd rfl z
  · rw [List.getElem?_set_ne (Ne.symm hji)] at hj
    by_cases hj1 : j = i + 1
    · subst hj1
      rw [List.getElem?_set] at hj
      split at hj
      · split at hj <;> cases hj
      · rename_i z; exact absurd rfl z
    · rw [List.getElem?_set_ne (Ne.symm hj1)] at hj
      obtain ⟨h1, h2⟩ := rg_kill_at hj
      refine h'.2.2 (j, w) (List.mem_cons_of_mem _ (List.mem_filter.mpr ⟨rg_al_mem.mpr h1, ?_⟩))
      simp only [Bool.and_eq_true, Bool.not_eq_true', beq_eq_false_iff_ne, ne_eq, Bool.and_eq_false_iff]
      refine ⟨hji, hj1, ?_⟩
      by_cases hz : j + 1 = i
      · right
        intro hc
        exact h2 ⟨hz, rg_isl_cat.mpr hc⟩
      · exact Or.inl hz
