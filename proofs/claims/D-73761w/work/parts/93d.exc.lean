/-! Exception.<init> on a fresh Fault or Failed -/
set_option maxRecDepth 100000
section
variable {p : Program} {l : Launch} {e : Env} {R : Room} {s : State} {m : MethodId} {args : Array Value} {below : List Frame} {meth : Method} {c : Code} {locs : List Loc} {cells slots : Nat} {W : State}
def exN : String := "java/lang/Exception"
set_option maxHeartbeats 2000000 in
theorem ex_made (X : Stand p l e R s m args below meth c W locs cells slots) (hexec : p.tables.exec = Jvm.exec) (htr : e.platform.stackTraces = false) {own cls : String} {ic n : Nat}
    (hown : s.vm.findClass own = some m.cls)
    (hthr : ∀ w ∈ Bundle.throwableAtoms, w.before args s = true) (hch : ∀ w ∈ Bundle.chain0Atoms exN [], w.before args s = true)
    (hlk : (Cond.methodLink own ic (Bundle.init0 exN)).before args s = true)
    (hins : (Cond.instantiable cls n).before args s = true)
    (hs0 : (Cond.selects cls Bundle.tFill0 Bundle.tFill0).before args s = true) (hsF : (Cond.selects cls Bundle.tFill Bundle.tFill).before args s = true)
    (hlC : (Cond.lays cls Bundle.tN "cause" "Ljava/lang/Throwable;").before args s = true) (hlS : (Cond.lays cls Bundle.tN "stackTrace" Bundle.steD).before args s = true) (hlP : (Cond.lays cls Bundle.tN "suppressedExceptions" Bundle.listD).before args s = true) (hlB : (Cond.lays cls Bundle.tN "backtrace" "Ljava/lang/Object;").before args s = true)
    (hfB : (Cond.fieldLink Bundle.tN 198 Bundle.tN "backtrace" "Ljava/lang/Object;").before args s = true) (hlT : (Cond.lays Bundle.tN Bundle.tN "backtrace" "Ljava/lang/Object;").before args s = true)
    {u0 sen : RefV} {H0 : Heap} (hZU : va_Z Bundle.tN "UNASSIGNED_STACK" Bundle.steD u0.v (fun _ => False) s H0) (hZN : va_Z Bundle.tN "SUPPRESSED_SENTINEL" Bundle.listD sen.v (fun _ => False) s H0) (hH0 : ∀ q, q < H0.size → W.heap[q]? = H0[q]?)
    {a : Addr} {ce : Cell} {sC sS sP : Nat} (hcls : s.vm.findClass cls = some ce.cls) (hcell : W.heap[a]? = some ce) (hvm : ce.vm = .none) (hmo : ce.monitor = {})
    (hkC : ∀ x, s.fieldFound? Bundle.tN "cause" "Ljava/lang/Throwable;" = some x → x.2.2.2.slot = sC) (hkS : ∀ x, s.fieldFound? Bundle.tN "stackTrace" Bundle.steD = some x → x.2.2.2.slot = sS) (hkP : ∀ x, s.fieldFound? Bundle.tN "suppressedExceptions" Bundle.listD = some x → x.2.2.2.slot = sP)
    (hzC : sC < ce.slots.size) (hzS : sS < ce.slots.size) (hzP : sP < ce.slots.size)
    (hkB : ∀ x, s.fieldFound? Bundle.tN "backtrace" "Ljava/lang/Object;" = some x → ce.slots[x.2.2.2.slot]? = some .null)
    {g : JFrame} (hg : g.method = m) (hsize : g.locals.size = c.maxLocals) {rest : List Value} (hstack : g.stack = .ref a :: rest)
    (hd6 : decode c.code g.pc = .ok (.invokespecial ic, 3))
    (hRframes : 3 < R.frames) (hRlocals : 2 * g.monitorRoom + (rest.map fun v => v.category).sum + (13 * 1 + 41) ≤ R.locals) :
    ∃ (V : State) (L : List Loc), Stand p l e R s m args below meth c (V.setCell a ((((ce.setSlot sC (.ref a)).setSlot sS u0.v).setSlot sP sen.v).setSlot sS u0.v)) (locs ++ L) cells slots ∧ (∀ y ∈ L, y.base = a) ∧ V.heap = W.heap ∧
      ∀ target, Steps p.tables e below ((V.setCell a ((((ce.setSlot sC (.ref a)).setSlot sS u0.v).setSlot sP sen.v).setSlot sS u0.v)).setTop { g with stack := rest, pc := g.pc + 3 }) target → Steps p.tables e below (W.setTop g) target := by
  have howns : e.platform.frameOwnsMonitors = true := by rw [X.admits.platform]
  have hfin : e.platform.finalization = false := by rw [X.admits.platform]
  have hpl : e.platform.magicAccessors = ({} : Platform).magicAccessors := by rw [X.admits.platform]
  obtain ⟨T, Z, L, LZ, Y⟩ := ThrowableC.of_atoms (args := args) howns hfin hpl hthr
  obtain ⟨P1, Ps, hlen, L1, hL, hP1m, hlink1, hlink⟩ := Bundle.chain0 (args := args) hpl Y.init0 [] exN (by decide +kernel) (fun _ h => nomatch h) hch
  obtain ⟨c1, kX, hc1, hk, hord, -, -, -⟩ := Cond.instantiable_spec hins
  cases Option.some.inj (hc1.symm.trans hcls)
  have hsel0 : selectMethod e.platform s.vm ce.cls T.fill0 = .method T.fill0 := by
    obtain ⟨c2, r2, m2, q1, q2, q3, q4, -⟩ := Cond.selects_spec hs0
    cases Option.some.inj (q1.symm.trans hcls)
    cases Option.some.inj (q2.symm.trans (State.methodFound?_of_named Y.fill0 (by decide)))
    cases Option.some.inj (q3.symm.trans Y.fill0)
    rw [Launch.admits_selectMethod X.admits]; exact q4
  have hselF : selectMethod e.platform s.vm ce.cls T.fill = .method T.fill := by
    obtain ⟨c2, r2, m2, q1, q2, q3, q4, -⟩ := Cond.selects_spec hsF
    cases Option.some.inj (q1.symm.trans hcls)
    cases Option.some.inj (q2.symm.trans (State.methodFound?_of_named Y.fill (by decide)))
    cases Option.some.inj (q3.symm.trans Y.fill)
    rw [Launch.admits_selectMethod X.admits]; exact q4
  obtain ⟨ci198, i198, fB, hk198, hg198, ha198, hsB, -, hnB, htB, hffB⟩ := Cond.ownField (t := .object "java/lang/Object") Y.found L.cls (by decide +kernel) hfB hlT e.platform hpl
  obtain ⟨z1, z2, z3, z4, aU, cU, w1, w2, w3, w4, w5, w6, w7, -⟩ := hZU
  cases Option.some.inj (w1.symm.trans Y.unassigned)
  cases Option.some.inj (w4.symm.trans L.statics)
  obtain ⟨y1, y2, y3, y4, aN, cN, v1, v2, v3, v4, v5, v6, v7, -⟩ := hZN
  cases Option.some.inj (v1.symm.trans Y.sentinel)
  cases Option.some.inj (v4.symm.trans L.statics)
  cases Option.some.inj (w5.symm.trans v5)
  have hcellS : W.heap[T.aS]? = some cU := by rw [hH0 _ (Array.getElem?_eq_some_iff.mp w5).1]; exact w5
  have hknownS : cU.vm ≠ .unknown := fun hu => by rw [hu] at w6; cases w6
  have hneS : T.aS ≠ a := fun hu => by
    rw [hu] at hcellS
    cases Option.some.inj (hcellS.symm.trans hcell)
    rw [hvm] at w6
    cases w6
  obtain ⟨tyC, dC, hdC, hdnC⟩ := Cond.laysAt hcls hk Y.cause hlC
  obtain ⟨tyS, dS, hdS, hdnS⟩ := Cond.laysAt hcls hk Y.stack hlS
  obtain ⟨tyP, dP, hdP, hdnP⟩ := Cond.laysAt hcls hk Y.supp hlP
  obtain ⟨tyB, dB, hdB, hdnB⟩ := Cond.laysAt hcls hk hffB hlB
  have bC := Cond.laysApart hdB hdC hdnB hdnC (by rw [hnB, Y.causeName]; decide)
  have bS := Cond.laysApart hdB hdS hdnB hdnS (by rw [hnB, Y.stackName]; decide)
  have bP := Cond.laysApart hdB hdP hdnB hdnP (by rw [hnB, Y.suppName]; decide)
  have eC : T.fCause.slot = sC := hkC _ Y.cause
  have eS : T.fStack.slot = sS := hkS _ Y.stack
  have eP : T.fSupp.slot = sP := hkP _ Y.supp
  have hbt : ce.slots[fB.slot]? = some .null := hkB _ hffB
  have tk : ∀ (f : Field) (v : Value), kX.instanceTypes[f.slot]? = some f.type → f.slot < ce.slots.size → fits f.type v = true → Takes s ce f v := by
    intro f v hty hz hf
    refine ⟨hz, ?_⟩
    simp [State.fitsSlot, State.slotType?, hk, hord, hty, hf, hvm]
  have hskip : SkipFacts T e.platform s (fun u => u) u0 ((preparedCellV T.toThrowableT ce a u0 sen).withEntry W.cur) :=
    ⟨{ ci198 := ci198, i198 := i198, fBack := fB }, ⟨hk198, hg198, ha198, hsB⟩, by
      simpa [preparedCellV, Cell.setSlot, Cell.withEntry, Array.getElem?_setIfInBounds, bC, bS, bP, bC.symm, bS.symm, bP.symm] using hbt, fun _ _ => rfl⟩
  obtain ⟨tm, methC, cdC, kC, vm₁, hnC, -, -, -, -, -, -, -, hW₁, st1⟩ := Steps.initCold (tb := p.tables) (e := e) (below := below) (s := s) (U := W) X.here hexec X.warmed hpl hown (t := Bundle.init0 exN) rfl rfl (Bundle.fit_spec (n := exN) (by decide +kernel)).2
    hlk (hch (.instanceMethod (Bundle.init0 exN)) (by simp [Bundle.chain0Atoms, Bundle.passAtoms])) (bytes := Bundle.five) (maxL := 1) (hch (.code (Bundle.init0 exN) Bundle.five 1 none) (by simp [Bundle.chain0Atoms, Bundle.passAtoms]))
    (f := g) hg (a := a) (rest := rest) hstack hd6
  cases Option.some.inj (hnC.symm.trans hP1m)
  have X₁ := X.noted hW₁
  have hPs : Ps.length = 0 := hlen
  obtain ⟨vm₂, X₂, st2⟩ := X₁.ctorPlainOffV hexec (g := { g with stack := rest }) hg hsize T L Z LZ (P1 :: Ps)
    (fun P hP => by rcases List.mem_cons.mp hP with rfl | hP; exact L1; exact hL P hP) ⟨hlink1, hlink⟩ (u0 := u0) (sen := sen) (self := a) (cell := ce) (cellS := cU)
    hcell (fun _ => by rw [hvm]; exact fun z => by cases z) (by rw [hvm]; exact fun z => by cases z) (by rw [hmo]) (by rw [hmo]) hsel0 hselF hcellS hneS hknownS w7 v7
    (tk _ _ tyC (by rw [eC]; exact hzC) (by rw [Y.causeType]; rfl)) (tk _ _ tyS (by rw [eS]; exact hzS) (by rw [Y.stackType]; exact fits_refV_array _ u0)) (tk _ _ tyP (by rw [eP]; exact hzP) (by rw [Y.suppType]; exact fits_refV_object _ sen)) Y.objLocals hskip htr [] hd6
    (by simp only [List.length_cons, hPs]; omega) (by simp only [List.length_cons, hPs]; exact hRlocals)
  have ee : (preparedCellV T.toThrowableT ce a u0 sen).setSlot T.fStack.slot u0.v = (((ce.setSlot sC (.ref a)).setSlot sS u0.v).setSlot sP sen.v).setSlot sS u0.v := by
    rw [← eC, ← eS, ← eP]
  rw [ee] at X₂ st2
  refine ⟨(W.setVm vm₁).setVm vm₂, _, X₂, fun y hy => ?_, rfl, fun target hwalk => st1 _ (fun acts => ?_)⟩
  · simp only [List.mem_cons, List.not_mem_nil, or_false] at hy
    rcases hy with rfl | rfl | rfl | rfl <;> rfl
  · rw [doInvoke_state]
    exact st2 _ hwalk
end
section
variable {p : Program} {l : Launch} {e : Env} {R : Room} {s : State} {m : MethodId} {args : Array Value} {below : List Frame} {meth : Method} {c : Code} {locs : List Loc} {cells slots : Nat}
theorem ex_back {T S : State} {R' : Room} {k n : Nat} {L : List Loc} (X : Stand p l e R s m args below meth c T locs cells slots) (Y : Stand p l e R' ((T.setVm s.vm).setFrames (.invoking m args :: below)) m args below meth c T [] 0 0) (Z : Stand p l e R' ((T.setVm s.vm).setFrames (.invoking m args :: below)) m args below meth c S L k n) :
    Stand p l e R s m args below meth c S (locs ++ L) (cells + k) (slots + n) := by
  have hW0 : s.WarmedH ((T.setVm s.vm).setFrames (.invoking m args :: below)).vm := State.WarmedH.refl s
  refine { admits := X.admits, cas := X.cas, clock := X.clock, frames := X.frames, room := X.room, hears := X.hears, method := X.method, code := X.code, here := Z.here, tail := Z.tail, warmed := State.WarmedH.trans hW0 Z.warmed, limits := Z.limits.trans (Y.limits.symm.trans X.limits), bytes := Z.bytes.trans (Y.bytes.symm.trans X.bytes), same := ?_ }
  obtain ⟨e1, e2⟩ := Z.same
  rw [State.setFrames_setFrames] at e1
  have h2 : (T.setVm s.vm).sameButNew (S.setVm s.vm) L k n := ⟨e1, e2⟩
  exact X.same.trans h2
end
def exA (cls : String) (n : Nat) : List Cond := Bundle.throwableAtoms ++ (Bundle.chain0Atoms exN [] ++ [.instantiable cls n, .selects cls Bundle.tFill0 Bundle.tFill0, .selects cls Bundle.tFill Bundle.tFill, .lays cls Bundle.tN "cause" "Ljava/lang/Throwable;", .lays cls Bundle.tN "stackTrace" Bundle.steD, .lays cls Bundle.tN "suppressedExceptions" Bundle.listD, .lays cls Bundle.tN "backtrace" "Ljava/lang/Object;", .fieldLink Bundle.tN 198 Bundle.tN "backtrace" "Ljava/lang/Object;", .lays Bundle.tN Bundle.tN "backtrace" "Ljava/lang/Object;"])
def exB (w : Cond) : Prop := w = .laysStatic Bundle.tN "UNASSIGNED_STACK" Bundle.steD ∨ w = .laysStatic Bundle.tN "SUPPRESSED_SENTINEL" Bundle.listD ∨ w = .declares (Bundle.init0 Bundle.tN)
/-- a class of exceptions of ours -/
def EXC (c : Nat) : Prop := c < 910 ∧ ∃ (r : vw_C) (n : Nat), rg_cl[c]? = some r ∧ (∀ w ∈ exA r.1 n, exB w ∨ w ∈ lw_all) ∧ r.2.1 0 = (Bundle.tN, "cause", "Ljava/lang/Throwable;", false) ∧ r.2.1 1 = (Bundle.tN, "stackTrace", Bundle.steD, false) ∧ r.2.1 2 = (Bundle.tN, "suppressedExceptions", Bundle.listD, false) ∧ r.2.1 3 = (Bundle.tN, "backtrace", "Ljava/lang/Object;", false) ∧ 4 ≤ r.2.2
theorem zq_ref {C n d : String} {v : Value} {A : Nat → Prop} {U : State} {H : Heap} (h : va_Z C n d v A U H) (hq : va_Zq C n d A U H) : v.isRef = true := by
  obtain ⟨cf, kf, fi, f, a, cell, h1, h2, h3, h4, h5, h6, h7, -⟩ := h
  rcases hq with ⟨cf', kf', fi', f', a', cell', g1, g2, g3, g4, g5, g6, g7, -⟩ | ⟨t, cf', kf', fi', f', a', cell', g1, g2, g3, g4, g5, g6, g7, -⟩
  all_goals
    cases Option.some.inj (h1.symm.trans g1)
    cases Option.some.inj (h4.symm.trans g4)
    cases Option.some.inj (h5.symm.trans g5)
    cases Option.some.inj (h7.symm.trans g7)
    rfl
section
variable {l : Launch} {G : rg_G} {y pc npc : Nat} {o : rg_op}
set_option maxHeartbeats 2000000 in
theorem call_EX (hIN : rg_IN) (hAP : rg_AP) (hl : l.stackTraces = false) {idx : Nat} (d : decode (rg_by y) pc = .ok (.invokespecial idx, 3)) (hlk : Cond.methodLink (rg_nm y).cls idx (Bundle.init0 exN) ∈ lw_all) (hex : EXC 8 ∧ EXC 22) (hD : va_Nw (.declares (Bundle.init0 Bundle.tN)) ∈ rg_facts) : CallOK l G y pc (.invokespecial idx, pc + 3, [(0, 2), (505, 0)]) := by
  intro L st σ y' as npc rest σ' hd
  obtain ⟨b, h1, h2, rfl, rfl, rfl, rfl, hw⟩ := cal2' (n := 0) (y1 := 505) (z := 0) (t := []) (npc := pc + 3) (L := L) hd
  refine ⟨rfl, ?_⟩
  intro p e R s m args below meth c H locs cells slots ls d' w cx hK hP hB hL hup hc hs hor
  rcases hor with ⟨h5, -⟩ | ⟨-, hf, hlo, hint⟩ | ⟨h5, h6, -⟩
  · omega
  · replace hint : rg_exi [.ref b] σ' = some w := hint
    have h2 : st = .ref b :: rest := h2
    subst h2
    unfold rg_exi at hint
    split at hint
    · rename_i a hab
      cases hab
      split at hint
      · rename_i ci F hh
        split at hint
        · rename_i hcond
          cases hint
          rw [Bool.and_eq_true, Bool.or_eq_true, beq_iff_eq, beq_iff_eq, decide_eq_true_eq] at hcond
          obtain ⟨hci, hF3⟩ := hcond
          have hE : EXC ci := by rcases hci with rfl | rfl; exact hex.1; exact hex.2
          obtain ⟨h9, r, n, hr, hA, t0, t1, t2, t3, h4⟩ := hE
          obtain ⟨gb, hcell⟩ := hP.2.2.2.2.2 b _ hh
          obtain ⟨r', hr', ⟨ce, q1, q2, q3, q4⟩, qm⟩ := hcell.resolve_right fun z => absurd z.1 (by omega)
          cases hr.symm.trans hr'
          obtain ⟨hS, hfc, kC, hkC, hkind⟩ := hK.1.1 ci r hr
          have hap := rg_slots_apart hAP hIN cx.2.2.2.2.2.2.1 hK hr
          have hcl : s.vm.findClass r.1 = some ce.cls := by rw [q2]; exact hfc
          have hZ7 := hK.2.2.2.1 (7, Bundle.tN, "UNASSIGNED_STACK", Bundle.steD) (List.mem_of_getElem? (i := 7) rfl)
          have hZ8 := hK.2.2.2.1 (8, Bundle.tN, "SUPPRESSED_SENTINEL", Bundle.listD) (List.mem_of_getElem? (i := 8) rfl)
          have hq7 := hK.2.2.2.2.1.2.2.1
          have hq8 := hK.2.2.2.2.1.2.2.2
          have e7 := zq_ref hZ7 hq7.1
          have e8 := zq_ref hZ8 hq8.1
          have hslot : ∀ k, k < r.2.2 → ∀ x, s.fieldFound? (r.2.1 k).1 (r.2.1 k).2.1 (r.2.1 k).2.2.1 = some x → x.2.2.2.slot = (g_D G).2 ci k := by
            intro k hk x hx
            obtain ⟨cf, kf, fi, f, hi, hsl⟩ := hS k hk
            have hi' : s.fieldFound? (r.2.1 k).1 (r.2.1 k).2.1 (r.2.1 k).2.2.1 = some (cf, kf, fi, f) := hi
            cases hi'.symm.trans hx
            exact hsl
          have k0 := hslot 0 (by omega)
          have k1 := hslot 1 (by omega)
          have k2 := hslot 2 (by omega)
          have k3 := hslot 3 (by omega)
          rw [t0] at k0
          rw [t1] at k1
          rw [t2] at k2
          rw [t3] at k3
          intro T hT X
          have Y := vx_rebase X (R' := { frames := R.frames, locals := R.locals, cells := 0, slots := 0 }) (Nat.le_refl _) (Nat.le_refl _) (by show cells + 0 ≤ R.cells; omega) (by show slots + 0 ≤ R.slots; omega)
          obtain ⟨s', hs'⟩ : ∃ z, z = (T.setVm s.vm).setFrames (.invoking m args :: below) := ⟨_, rfl⟩
          rw [← hs'] at Y
          have hvm : s'.vm = s.vm := by rw [hs']; rfl
          have hhp : s'.heap = H := by rw [hs', ← hT]; rfl
          have hW0 : s.WarmedH s'.vm := by rw [hvm]; exact State.WarmedH.refl s
          have hwd : ∀ w, w ∈ lw_all → w.before args s' = true := fun w hw => word_at hW0 (good_of_word (List.mem_filter.mp hw).2) (cx.2.2.2.2.2.2.1 w hw)
          have hkeep : ∀ q : Nat, q < (g_0 G).size → ¬ (fun _ => False) q → s'.heap[q]? = (g_0 G)[q]? := fun q hq _ => by rw [hhp]; exact hP.2.2.1 q hq
          have hwa : ∀ w ∈ exA r.1 n, w.before args s' = true := by
            intro w hw
            rcases hA w hw with (rfl | rfl | rfl) | h
            · exact (vx_Zq.moved hW0.alike (hq7.kept hkeep)).2.word
            · exact (vx_Zq.moved hW0.alike (hq8.kept hkeep)).2.word
            · exact va_Nw.use rfl ((hK.fact hD).warmD (U := s') hW0)
            · exact hwd w h
          have hff : ∀ a b c, s'.fieldFound? a b c = s.fieldFound? a b c := fun a b c => by rw [hs']; rfl
          obtain ⟨V, L', Z, hL', hV, st⟩ := ex_made (n := n) (cls := r.1) (own := (rg_nm y).cls) (ic := idx) Y cx.1 ((show e.platform.stackTraces = l.stackTraces by rw [X.admits.platform]).trans hl) (by rw [hvm]; exact cx.2.2.2.2.2.1)
            (fun w hw => hwa w (List.mem_append_left _ hw)) (fun w hw => hwa w (List.mem_append_right _ (List.mem_append_left _ hw))) (hwd _ hlk)
            (hwa _ (List.mem_append_right _ (List.mem_append_right _ (by simp)))) (hwa _ (List.mem_append_right _ (List.mem_append_right _ (by simp)))) (hwa _ (List.mem_append_right _ (List.mem_append_right _ (by simp)))) (hwa _ (List.mem_append_right _ (List.mem_append_right _ (by simp)))) (hwa _ (List.mem_append_right _ (List.mem_append_right _ (by simp)))) (hwa _ (List.mem_append_right _ (List.mem_append_right _ (by simp)))) (hwa _ (List.mem_append_right _ (List.mem_append_right _ (by simp)))) (hwa _ (List.mem_append_right _ (List.mem_append_right _ (by simp)))) (hwa _ (List.mem_append_right _ (List.mem_append_right _ (by simp))))
            (u0 := ⟨g_s G 7, e7⟩) (sen := ⟨g_s G 8, e8⟩) (H0 := g_0 G) (va_Z.moved hW0.alike hZ7) (va_Z.moved hW0.alike hZ8) (fun q hq => by rw [hT]; exact hP.2.2.1 q hq)
            (a := b) (ce := ce) (sC := (g_D G).2 ci 0) (sS := (g_D G).2 ci 1) (sP := (g_D G).2 ci 2) (by rw [hvm]; exact hcl) (by rw [hT]; exact q1) q3 (qm ce q1)
            (fun x hx => k0 x (by rw [← hff]; exact hx)) (fun x hx => k1 x (by rw [← hff]; exact hx)) (fun x hx => k2 x (by rw [← hff]; exact hx))
            (k2_hasslot (q4 0 (by omega))) (k2_hasslot (q4 1 (by omega))) (k2_hasslot (q4 2 (by omega))) (fun x hx => by rw [k3 x (by rw [← hff]; exact hx), q4 3 (by omega), hF3])
            (g := F0 m pc ls (.ref b :: rest)) rfl (hL.1.trans cx.2.2.1.symm) (rest := rest) rfl (by rw [cx.2.1]; exact d) (by show 3 < R.frames; omega) (by rw [rg_w_sum]; show 2 * 0 + rg_w rest + (13 * 1 + 41) ≤ R.locals; omega)
          subst hs'
          have X5 := ex_back X Y Z
          have hlb : b < H.size := (Array.getElem?_eq_some_iff.mp q1).1
          generalize hce : (((ce.setSlot ((g_D G).2 ci 0) (.ref b)).setSlot ((g_D G).2 ci 1) (g_s G 7)).setSlot ((g_D G).2 ci 2) (g_s G 8)).setSlot ((g_D G).2 ci 1) (g_s G 7) = ce' at X5 st Z
          have hheap : (V.setCell b ce').heap = H.setIfInBounds b ce' := by rw [← hT, ← hV]; rfl
          have hsl0 := t_set q4 hap (show 0 < r.2.2 by omega) (.ref b)
          have hsl1 := t_set hsl0 hap (show 1 < r.2.2 by omega) (g_s G 7)
          have hsl2 := t_set hsl1 hap (show 2 < r.2.2 by omega) (g_s G 8)
          have hsl3 := t_set hsl2 hap (show 1 < r.2.2 by omega) (g_s G 7)
          rw [hce] at hsl3
          refine ⟨V.setCell b ce', locs ++ L', ?_, ?_, ?_, Or.inl ⟨none, _, rfl, fun target ht => st target ht⟩⟩
          · rw [hheap]
            refine hP.set hh (Or.inl ⟨r, hr, ⟨ce', by simp [Array.getElem?_setIfInBounds, hlb], by rw [← hce]; exact q2, by rw [← hce]; exact q3, fun k hk => ?_⟩, fun cz hz => ?_⟩) (by simp) (fun q hq => by simp [Array.getElem?_setIfInBounds, Ne.symm hq])
            · rw [hsl3 k hk, hP.2.2.2.2.1]
              congr 1
              by_cases z1 : k = 1
              · subst z1; simp [updV, va_up]
              · by_cases z2 : k = 2
                · subst z2; simp [updV, va_up]
                · by_cases z0 : k = 0
                  · subst z0; simp [updV, va_up]
                  · simp [updV, va_up, z0, z1, z2]
            · rw [show (H.setIfInBounds b ce')[b]? = some ce' by simp [Array.getElem?_setIfInBounds, hlb]] at hz
              cases hz
              rw [← hce]
              exact qm ce q1
          · intro q hq
            rcases List.mem_append.mp hq with h | h
            · exact hB q h
            · rw [hL' q h]; exact gb
          · show Stand p l e R s m args below meth c _ _ (cells + (rg_sz (rg_set σ' b _) - rg_sz σ')) (slots + (rg_sl (rg_set σ' b _) - rg_sl σ'))
            rw [sz_set, sl_set, Nat.sub_self, Nat.sub_self]
            exact X5
        · cases hint
      · cases hint
    · rename_i hno; exact absurd rfl (hno b)
  · omega
end
