/-! a call on a lambda that keeps its object: its forwarder's run -/
set_option maxRecDepth 100000
def LFC_long (σ : Lambda.Shape) (cn : String) : Prop := (σ.file cn).isSome = true ∧ ((layoutMethods (lf_D σ cn)).bind (·[1]?)).isSome = true ∧ (lf_M σ cn).code.isSome = true ∧ (lf_M σ cn).accessFlags = 0x0001 ∧ (lf_M σ cn).code.map (·.maxLocals) = some 5 ∧ (lf_M σ cn).sig.returnType = some .long ∧
  decode (lf_C σ cn) 0 = .ok (.aload_n 0, 1) ∧ decode (lf_C σ cn) 1 = .ok (.getfield (lf_ix σ cn 2), 3) ∧ decode (lf_C σ cn) 4 = .ok (.lload_n 1, 1) ∧ decode (lf_C σ cn) 5 = .ok (.lload_n 3, 1) ∧ decode (lf_C σ cn) 6 = .ok (.invokevirtual (lf_ix σ cn 7), 3) ∧ decode (lf_C σ cn) 9 = .ok (.lreturn, 1) ∧ lf_ref σ cn (lf_ix σ cn 7) = true ∧ lf_fld σ cn (lf_ix σ cn 2) = true ∧ plainName (cn ++ "$$Lambda") = true
def LFC_int (σ : Lambda.Shape) (cn : String) : Prop := (σ.file cn).isSome = true ∧ ((layoutMethods (lf_D σ cn)).bind (·[1]?)).isSome = true ∧ (lf_M σ cn).code.isSome = true ∧ (lf_M σ cn).accessFlags = 0x0001 ∧ (lf_M σ cn).code.map (·.maxLocals) = some 3 ∧ (lf_M σ cn).sig.returnType = some .boolean ∧
  decode (lf_C σ cn) 0 = .ok (.aload_n 0, 1) ∧ decode (lf_C σ cn) 1 = .ok (.getfield (lf_ix σ cn 2), 3) ∧ decode (lf_C σ cn) 4 = .ok (.iload_n 1, 1) ∧ decode (lf_C σ cn) 5 = .ok (.iload_n 2, 1) ∧ decode (lf_C σ cn) 6 = .ok (.invokevirtual (lf_ix σ cn 7), 3) ∧ decode (lf_C σ cn) 9 = .ok (.ireturn, 1) ∧ lf_ref σ cn (lf_ix σ cn 7) = true ∧ lf_fld σ cn (lf_ix σ cn 2) = true ∧ plainName (cn ++ "$$Lambda") = true
section
variable {p : Program} {l : Launch} {e : Env} {R : Room} {s : State} {m : MethodId} {args : Array Value} {below : List Frame} {meth : Method} {c : Code} {T : State} {locs : List Loc} {cells slots : Nat} {G : rg_G}
set_option maxHeartbeats 2000000 in
theorem fw_cap_long (X : Stand p l e R s m args below meth c T locs cells slots) (hexec : p.tables.exec = Jvm.exec) {g : JFrame} (hg : g.method = m) (hsize : g.locals.size = c.maxLocals) {idx cnt : Nat} (hdg : decode c.code g.pc = .ok (.invokeinterface idx cnt, 5))
    (hwd : ∀ w ∈ lw_all, w.before args s = true) (hK : KS G s) {σ0 σ1 : rg_S} (hP : hp G σ0 T.heap)
    {dc cK : ClassId} {dk : Class} {sh : Lambda.Shape} {cn : String} (hd : T.vm.classes[dc]? = some dk) (hdn : dk.name = cn) (hmade : Lambda.isMade { classPath := fun _ => none } T.vm dc sh cK = true) (hL : LFC_long sh cn)
    {y1 d0 : Nat} (hnm : rg_nm y1 = ⟨sh.implClass, sh.implName, sh.implDesc.toString⟩) (mf : MF y1 2) (hh : rg_hh y1 = []) (hst : Cond.instanceMethod (rg_nm y1) ∈ lw_all) {ci0 : Nat} {r0 : vw_C} (hr0 : rg_cl[ci0]? = some r0) (h90 : ci0 < 910) (hse : Cond.selects r0.1 (rg_nm y1) (rg_nm y1) ∈ lw_all) (hob : Cond.instantiable "java/lang/Object" 0 ∈ lw_all)
    {o b : Addr} {F0b : Nat → Value} {cellO : Cell} (hco : T.heap[o]? = some cellO) (hcv : cellO.vm = .none) (hcs : cellO.slots = #[.ref b]) (hrd : rg_rd σ0 b = some (.inr (ci0, F0b))) {x0 x1 : Int64} {z : Int64} (hct : CT l G d0 y1 [.ref b, .long x0, .long x1] σ0 (.inl (some (.long z), σ1)))
    (hframes : d0 + 3 ≤ R.frames) (hlocals : 64 * (d0 + 2) + 3200 ≤ R.locals) (hw : 2 * g.monitorRoom + (g.stack.map fun v => v.category).sum ≤ 8) (hcells : cells + (rg_sz σ1 - rg_sz σ0) ≤ R.cells) (hslots : slots + (rg_sl σ1 - rg_sl σ0) ≤ R.slots) :
    ∃ (T' : State) (L : List Loc), hp G σ1 T'.heap ∧ (∀ q ∈ L, frG G q.base) ∧ Stand p l e R s m args below meth c T' (locs ++ L) (cells + (rg_sz σ1 - rg_sz σ0)) (slots + (rg_sl σ1 - rg_sl σ0)) ∧
      ∀ acts, Steps p.tables e below (doInvoke e (T.setTop g) acts ⟨cK, 1⟩ ([.ref o, .long x0, .long x1] : List Value).toArray).1 (T'.setTop { g with pc := g.pc + 5, stack := .long z :: g.stack }) := by
  obtain ⟨l1, l2, l3, l4, l5, l6, d0', d1', d4', d5', d6', d9', l7, l8, l9⟩ := hL
  obtain ⟨k, tk, ok, file, methk, ck, t, object, iface, target, found, lay, ⟨hk, hkn, hko, hfile, hpool⟩, ⟨hmk, hck, hbytes, hmlS, hlk, hfl, hretS⟩, ⟨htoy, htk, hlook⟩, -, ⟨o1, o2, o3, o4⟩, hfs, hres⟩ := lf_made hd hdn hmade l1 l2 l3 l4
  have hml : ck.maxLocals = 5 := by rw [l5] at hmlS; exact (Option.some.inj hmlS).symm
  have hretk : methk.sig.returnType = some .long := hretS.trans l6
  have hpk : T.plainMethod ⟨cK, 1⟩ := fun k' hk' => by
    cases hk.symm.trans hk'
    rw [hkn, l9]; rfl
  obtain ⟨m1, m2, m3, m4, m5, m6, m7⟩ := mf
  obtain ⟨Y₀, hin⟩ := X.into hg hsize hdg ([.ref o, .long x0, .long x1] : List Value).toArray (R' := { frames := d0 + 2, locals := 64 * (d0 + 1) + 3200 + 40, cells := rg_sz σ1 - rg_sz σ0, slots := rg_sl σ1 - rg_sl σ0 }) hmk hck hlk hpk (by show d0 + 2 + 1 ≤ R.frames; omega) (by rw [hml]; show _ + (5 + 11) + (64 * (d0 + 1) + 3200 + 40) ≤ R.locals; omega) hcells hslots
  generalize hU : (T.setTop g).pushFrame (.java (entryFrame ⟨cK, 1⟩ ([.ref o, .long x0, .long x1] : List Value).toArray ck.maxLocals)) = U at Y₀ hin
  have hvm : U.vm = T.vm := by rw [← hU]; rfl
  have hhp : U.heap = T.heap := by rw [← hU]; rfl
  have hWT : s.WarmedH T.vm := X.warmed
  have hwT : ∀ w ∈ lw_all, w.before args T = true := fun w hw => word_at hWT (good_of_word (List.mem_filter.mp hw).2) (hwd w hw)
  have hcode := hwT _ m3
  unfold rg_cw at hcode
  rw [if_pos hh] at hcode
  obtain ⟨mt, hnamed⟩ := Cond.code_named hcode
  obtain ⟨metht, cM, hmt, -, -, -, -, -, -, hsigM⟩ := Cond.code_spec hnamed hcode
  obtain ⟨mt2, methM2, hn2, hm2, hstatic, habs⟩ := Cond.instanceMethod_spec (hwT _ hst)
  cases hnamed.symm.trans hn2
  cases hmt.symm.trans hm2
  obtain ⟨cB, r2, m2', q1, q2, q3, q4, kP, hkP, hkPi⟩ := Cond.selects_spec (hwT _ hse)
  cases (State.methodFound?_of_named hnamed ⟨m5, m6⟩).symm.trans q2
  cases hnamed.symm.trans q3
  have hselP : selectMethod e.platform T.vm cB mt = .method mt := by rw [Launch.admits_selectMethod X.admits]; exact q4
  obtain ⟨cellB, hcB, hoB, hclB⟩ := hP.rcv (U := T) (hK.moved hWT) hrd h90 (cnm_of hr0)
  cases q1.symm.trans hclB
  obtain ⟨cO, kO, hfO, hkO, -, -, -, hsz⟩ := Cond.instantiable_spec (hwT _ hob)
  cases hfO.symm.trans o1
  cases hkO.symm.trans o2
  rw [hsz] at o3
  have hfld : ∃ (c2 nt2 : Nat) (name ds : String) (f0 : Field), (lf_D sh cn).constantPool[lf_ix sh cn 2]? = some (.fieldref c2 nt2) ∧ (lf_D sh cn).constantPool.nameAndType? nt2 = some (name, ds) ∧ lay.1.findIdx? (·.name == name) = some 0 ∧ lay.1[0]? = some f0 ∧ f0.slot = 0 ∧ f0.isStatic = false := by
    unfold lf_fld at l8
    split at l8
    · rename_i c2 nt2 e1
      split at l8
      · rename_i name ds e2
        split at l8
        · rename_i lay' e3
          cases o3.symm.trans e3
          rw [Bool.and_eq_true, Bool.and_eq_true, decide_eq_true_eq] at l8
          obtain ⟨⟨e4, e5⟩, -⟩ := l8
          split at e5
          · rename_i f0 e6
            rw [Bool.and_eq_true, decide_eq_true_eq, Bool.not_eq_true'] at e5
            exact ⟨c2, nt2, name, ds, f0, e1, e2, e4, e6, e5.1, e5.2⟩
          · cases e5
        · cases l8
      · cases l8
    · cases l8
  obtain ⟨c2, nt2, fname, fds, f0, f1, f2, f3, f4, f5, f6⟩ := hfld
  obtain ⟨kt, hkt, hktn⟩ := className_of_methodNamed hnamed
  have hinit : kt.init = .initialized := Cond.initialized_spec (findClass_of_methodNamed hnamed) hkt (hwT _ m4)
  have hpolyA : ∀ (kx : Class), kx.name = (rg_nm y1).cls → ∀ x, signaturePolymorphic kx x = false := fun kx hn x => by simp [signaturePolymorphic, hn, m5, m6]
  have hfnd := State.methodFound?_of_named hnamed ⟨m5, m6⟩
  rw [hnm] at hfnd
  simp only [State.methodFound?, htoy, htk, Option.bind_eq_bind, Option.bind_some] at hfnd
  rw [hlook] at hfnd
  have htg : target = mt := Option.some.inj hfnd
  obtain ⟨ci, nt, n, p1, p2, p3, p4, p5, p6⟩ := lf_ref_spec l7
  have hready : U.vm.methodReady cK (lf_ix sh cn 7) mt := by
    rw [hvm]
    exact ⟨k, hk, hres _ _ (by rw [← htg]; exact Lambda.resolvedOf_method p1 p2 htoy htk p3 hlook)⟩
  obtain ⟨tk2, htk2, htkn⟩ := Vm.findClass_spec htoy
  cases htk.symm.trans htk2
  have hnamesC : namesAClass U cK (lf_ix sh cn 7) := ⟨k, file, ci, nt, t, tk, by rw [hvm]; exact hk, hfile, by rw [hpool]; exact p1, by rw [hvm]; exact ⟨k, hk, hres _ _ (Lambda.resolvedOf_class p4 p6 p5 htoy)⟩, by rw [hvm]; exact htk, by
    cases hkt.symm.trans hkP
    have e1 := findClass_of_methodNamed hnamed
    rw [hnm] at e1
    cases htoy.symm.trans e1
    cases htk.symm.trans hkt
    exact hkPi⟩
  have hfr : U.vm.fieldReady cK (lf_ix sh cn 2) cK f0 := by
    rw [hvm]
    exact ⟨k, 0, k, hk, hres _ _ (Lambda.resolvedOf_field f1 f2 f3), hk, hfs 0 f0 f4⟩
  have hpar : metht.sig.parameters.length = 2 := by rw [hsigM] at m7; exact Option.some.inj m7
  have hW0 : s.WarmedH (T.calling g ⟨cK, 1⟩ ([.ref o, .long x0, .long x1] : List Value).toArray).vm := hWT
  have hBk := vx_back (len := 3) (below := .java g :: below) (sargs := ([.ref o, .long x0, .long x1] : List Value).toArray) (p := p) (e := e) (W9 := 8) (bytes := rg_by y1) (maxL := rg_ml y1) (ret := rg_rt y1) (R := { frames := d0 + 2, locals := 64 * (d0 + 1) + 3200 + 40, cells := rg_sz σ1 - rg_sz σ0, slots := rg_sl σ1 - rg_sl σ0 }) (s := T.calling g ⟨cK, 1⟩ ([.ref o, .long x0, .long x1] : List Value).toArray) hct PcR.blind rfl rfl (Nat.le_refl _) (show 8 + (rg_ml y1 + 11) + (64 * d0 + 3200) ≤ 64 * (d0 + 1) + 3200 + 40 by omega)
    (pay_in (args := args) (fun w hw => word_at hW0 (good_of_word (List.mem_filter.mp hw).2) (hwd w hw)) (ws_good m3)) (by unfold rg_ws rg_cw; rw [if_pos hh]; exact List.mem_cons_self) (fun a' V hV => word_at hV (Or.inl (by first | rfl | simp [Cond.onTables, Cond.keeps, Cond.steady])) (word_at (a' := args) hW0 (Or.inl (by first | rfl | simp [Cond.onTables, Cond.keeps, Cond.steady])) (hwd _ m4)))
  obtain ⟨ls, hls, hl0, hl1, hl3, hlz⟩ : ∃ ls : Array Slot, entryFrame ⟨cK, 1⟩ ([.ref o, .long x0, .long x1] : List Value).toArray ck.maxLocals = F0 ⟨cK, 1⟩ 0 ls [] ∧ ls[0]? = some (.val (.ref o)) ∧ ls[1]? = some (.val (.long x0)) ∧ ls[3]? = some (.val (.long x1)) ∧ ls.size = ck.maxLocals := by
    have hlv := LV.entry (as := [.ref o, .long x0, .long x1]) (n := 5) (by simp [rg_args, rg_isl])
    rw [hml]
    exact ⟨_, lg_entry_eq _ _ _, hlv.2.2.2 0 _ rfl, hlv.2.2.2 1 _ rfl, hlv.2.2.2 3 _ rfl, hlv.1⟩
  rw [hls] at hin
  have hs : U.topJava?.isSome := Y₀.here.top
  rcases hBk ⟨cK, 1⟩ methk ck ⟨U, [], 0, 0⟩ (F0 ⟨cK, 1⟩ 6 ls []) (.invokevirtual (lf_ix sh cn 7)) mt ([.ref b, .long x0, .long x1] : List Value).toArray Y₀ rfl hlz (by rw [hbytes]; exact d6') (by show 2 * 0 + 0 ≤ 8; omega) (by
      have := State.methodNamed?_setVm (s := T) (vm' := U.vm) (by rw [hvm]; exact State.WarmedH.refl T |>.alike) (rg_nm y1)
      rw [hnamed] at this
      exact this) ⟨Nat.le_of_eq (Nat.zero_add _), Nat.le_of_eq (Nat.zero_add _), rfl, hK.moved (U := U) (by rw [hvm]; exact hWT), by rw [hhp]; exact hP⟩ with ⟨v, ⟨BU, Bl, Bc, Bs⟩, X2, ⟨g', mk, t2, L, e1, e2, ⟨v', σ', hr, hv, hh2⟩, h1, hL2, h2, h3⟩, st⟩ | ⟨q, ⟨BU, Bl, Bc, Bs⟩, X2, ⟨g', mk, t2, L, E, ce, e1, e2, ⟨σ', c9, k9, hr, -⟩, -⟩, -⟩
  · dsimp only [Pt.U, Pt.locs, Pt.cells, Pt.slots] at X2 e1 e2 h1 h2 h3 st
    cases hr
    cases hv
    have h1 : Bl = L := h1
    subst h1; subst h2; subst h3
    obtain ⟨fs, hleave, -, hended, hWe, hsame⟩ := X2.leave (v := some (.long z)) (fun h => by rw [hretk] at h; cases h) hlk
    obtain ⟨T', X', hW', -, ht⟩ := X.outOf hg hdg hended hWe hsame
    refine ⟨T', Bl, ?_, hL2, by rw [Nat.zero_add, Nat.zero_add] at X'; exact X', fun acts => ?_⟩
    · have h9 : (BU.setFrames fs).heap = T'.heap := by rw [ht]; rfl
      rw [← h9]
      show hp G _ BU.heap
      rw [e1]
      exact hh2
    · rw [hin acts]
      show Steps p.tables e below _ (T'.setTop { g with pc := g.pc + 5, stack := (some (Value.long z)).toList ++ g.stack })
      rw [← ht]
      refine Steps.weaken (mid := [.java g]) ?_
      jvm_step Y₀.here [hexec, hbytes, d0', hl0, Value.isRef]
      jvm_step Y₀.here [hexec, hbytes, d1', getfield.wp_ready (e := e) (s := U) (f := { method := ⟨cK, 1⟩, pc := 1, locals := ls, stack := [.ref o], locked := none }) (a := o) (rest := []) (cell := cellO) (v := .ref b) hs hfr f6 rfl (by rw [hhp]; exact hco) (by rw [hcv]; exact fun z => by cases z) (by rw [f5, hcs]; rfl)]
      jvm_step Y₀.here [hexec, hbytes, d4', hl1]
      jvm_step Y₀.here [hexec, hbytes, d5', hl3]
      jvm_step Y₀.here [hexec, hbytes, d6', invokevirtual.wp_ready (e := e) (s := U) (r := mt) (m := mt) (k := kt) (mk := kt) (rmeth := metht) (meth := metht) (cell := cellB) (a := b) (args := [.long x0, .long x1]) (rest := [])
        (f := { method := ⟨cK, 1⟩, pc := 6, locals := ls, stack := [.long x1, .long x0, .ref b], locked := none }) hs hnamesC hready (by rw [hvm]; exact hkt) (by rw [hvm]; exact hmt) (hpolyA kt hktn metht) hstatic hpar.symm rfl (by rw [hhp]; exact hcB) (fun z h => by rw [h] at hoB; cases hoB) (by rw [hvm]; exact hselP) (by rw [hvm]; exact hmt) habs (by rw [hvm]; exact hkt) (by cases hkt.symm.trans hkP; exact hkPi)]
      intro acts'
      rw [doInvoke_state]
      refine st.trans ?_
      show Steps p.tables e (.java g :: below) (BU.setTop { method := ⟨cK, 1⟩, pc := 9, locals := ls, stack := [.long z], locked := none }) _
      jvm_step X2.here [X2.here.top, hexec, hbytes, d9', (show BU.vm.method? ⟨cK, 1⟩ = some methk from X2.method'), hretk, narrow]
      intro acts''
      rw [hleave { method := ⟨cK, 1⟩, pc := 9, locals := ls, stack := [], locked := none } acts'' rfl rfl rfl]
      exact Steps.refl _
  · cases hr
set_option maxHeartbeats 2000000 in
theorem fw_cap_int (X : Stand p l e R s m args below meth c T locs cells slots) (hexec : p.tables.exec = Jvm.exec) {g : JFrame} (hg : g.method = m) (hsize : g.locals.size = c.maxLocals) {idx cnt : Nat} (hdg : decode c.code g.pc = .ok (.invokeinterface idx cnt, 5))
    (hwd : ∀ w ∈ lw_all, w.before args s = true) (hK : KS G s) {σ0 σ1 : rg_S} (hP : hp G σ0 T.heap)
    {dc cK : ClassId} {dk : Class} {sh : Lambda.Shape} {cn : String} (hd : T.vm.classes[dc]? = some dk) (hdn : dk.name = cn) (hmade : Lambda.isMade { classPath := fun _ => none } T.vm dc sh cK = true) (hL : LFC_int sh cn)
    {y1 d0 : Nat} (hnm : rg_nm y1 = ⟨sh.implClass, sh.implName, sh.implDesc.toString⟩) (mf : MF y1 2) (hh : rg_hh y1 = []) (hst : Cond.instanceMethod (rg_nm y1) ∈ lw_all) {ci0 : Nat} {r0 : vw_C} (hr0 : rg_cl[ci0]? = some r0) (h90 : ci0 < 910) (hse : Cond.selects r0.1 (rg_nm y1) (rg_nm y1) ∈ lw_all) (hob : Cond.instantiable "java/lang/Object" 0 ∈ lw_all)
    {o b : Addr} {F0b : Nat → Value} {cellO : Cell} (hco : T.heap[o]? = some cellO) (hcv : cellO.vm = .none) (hcs : cellO.slots = #[.ref b]) (hrd : rg_rd σ0 b = some (.inr (ci0, F0b))) {x0 x1 : Int32} {z : Int32} (hz : narrow .boolean (.int z) = .int z) (hct : CT l G d0 y1 [.ref b, .int x0, .int x1] σ0 (.inl (some (.int z), σ1)))
    (hframes : d0 + 3 ≤ R.frames) (hlocals : 64 * (d0 + 2) + 3200 ≤ R.locals) (hw : 2 * g.monitorRoom + (g.stack.map fun v => v.category).sum ≤ 8) (hcells : cells + (rg_sz σ1 - rg_sz σ0) ≤ R.cells) (hslots : slots + (rg_sl σ1 - rg_sl σ0) ≤ R.slots) :
    ∃ (T' : State) (L : List Loc), hp G σ1 T'.heap ∧ (∀ q ∈ L, frG G q.base) ∧ Stand p l e R s m args below meth c T' (locs ++ L) (cells + (rg_sz σ1 - rg_sz σ0)) (slots + (rg_sl σ1 - rg_sl σ0)) ∧
      ∀ acts, Steps p.tables e below (doInvoke e (T.setTop g) acts ⟨cK, 1⟩ ([.ref o, .int x0, .int x1] : List Value).toArray).1 (T'.setTop { g with pc := g.pc + 5, stack := .int z :: g.stack }) := by
  obtain ⟨l1, l2, l3, l4, l5, l6, d0', d1', d4', d5', d6', d9', l7, l8, l9⟩ := hL
  obtain ⟨k, tk, ok, file, methk, ck, t, object, iface, target, found, lay, ⟨hk, hkn, hko, hfile, hpool⟩, ⟨hmk, hck, hbytes, hmlS, hlk, hfl, hretS⟩, ⟨htoy, htk, hlook⟩, -, ⟨o1, o2, o3, o4⟩, hfs, hres⟩ := lf_made hd hdn hmade l1 l2 l3 l4
  have hml : ck.maxLocals = 3 := by rw [l5] at hmlS; exact (Option.some.inj hmlS).symm
  have hretk : methk.sig.returnType = some .boolean := hretS.trans l6
  have hpk : T.plainMethod ⟨cK, 1⟩ := fun k' hk' => by
    cases hk.symm.trans hk'
    rw [hkn, l9]; rfl
  obtain ⟨m1, m2, m3, m4, m5, m6, m7⟩ := mf
  obtain ⟨Y₀, hin⟩ := X.into hg hsize hdg ([.ref o, .int x0, .int x1] : List Value).toArray (R' := { frames := d0 + 2, locals := 64 * (d0 + 1) + 3200 + 40, cells := rg_sz σ1 - rg_sz σ0, slots := rg_sl σ1 - rg_sl σ0 }) hmk hck hlk hpk (by show d0 + 2 + 1 ≤ R.frames; omega) (by rw [hml]; show _ + (3 + 11) + (64 * (d0 + 1) + 3200 + 40) ≤ R.locals; omega) hcells hslots
  generalize hU : (T.setTop g).pushFrame (.java (entryFrame ⟨cK, 1⟩ ([.ref o, .int x0, .int x1] : List Value).toArray ck.maxLocals)) = U at Y₀ hin
  have hvm : U.vm = T.vm := by rw [← hU]; rfl
  have hhp : U.heap = T.heap := by rw [← hU]; rfl
  have hWT : s.WarmedH T.vm := X.warmed
  have hwT : ∀ w ∈ lw_all, w.before args T = true := fun w hw => word_at hWT (good_of_word (List.mem_filter.mp hw).2) (hwd w hw)
  have hcode := hwT _ m3
  unfold rg_cw at hcode
  rw [if_pos hh] at hcode
  obtain ⟨mt, hnamed⟩ := Cond.code_named hcode
  obtain ⟨metht, cM, hmt, -, -, -, -, -, -, hsigM⟩ := Cond.code_spec hnamed hcode
  obtain ⟨mt2, methM2, hn2, hm2, hstatic, habs⟩ := Cond.instanceMethod_spec (hwT _ hst)
  cases hnamed.symm.trans hn2
  cases hmt.symm.trans hm2
  obtain ⟨cB, r2, m2', q1, q2, q3, q4, kP, hkP, hkPi⟩ := Cond.selects_spec (hwT _ hse)
  cases (State.methodFound?_of_named hnamed ⟨m5, m6⟩).symm.trans q2
  cases hnamed.symm.trans q3
  have hselP : selectMethod e.platform T.vm cB mt = .method mt := by rw [Launch.admits_selectMethod X.admits]; exact q4
  obtain ⟨cellB, hcB, hoB, hclB⟩ := hP.rcv (U := T) (hK.moved hWT) hrd h90 (cnm_of hr0)
  cases q1.symm.trans hclB
  obtain ⟨cO, kO, hfO, hkO, -, -, -, hsz⟩ := Cond.instantiable_spec (hwT _ hob)
  cases hfO.symm.trans o1
  cases hkO.symm.trans o2
  rw [hsz] at o3
  have hfld : ∃ (c2 nt2 : Nat) (name ds : String) (f0 : Field), (lf_D sh cn).constantPool[lf_ix sh cn 2]? = some (.fieldref c2 nt2) ∧ (lf_D sh cn).constantPool.nameAndType? nt2 = some (name, ds) ∧ lay.1.findIdx? (·.name == name) = some 0 ∧ lay.1[0]? = some f0 ∧ f0.slot = 0 ∧ f0.isStatic = false := by
    unfold lf_fld at l8
    split at l8
    · rename_i c2 nt2 e1
      split at l8
      · rename_i name ds e2
        split at l8
        · rename_i lay' e3
          cases o3.symm.trans e3
          rw [Bool.and_eq_true, Bool.and_eq_true, decide_eq_true_eq] at l8
          obtain ⟨⟨e4, e5⟩, -⟩ := l8
          split at e5
          · rename_i f0 e6
            rw [Bool.and_eq_true, decide_eq_true_eq, Bool.not_eq_true'] at e5
            exact ⟨c2, nt2, name, ds, f0, e1, e2, e4, e6, e5.1, e5.2⟩
          · cases e5
        · cases l8
      · cases l8
    · cases l8
  obtain ⟨c2, nt2, fname, fds, f0, f1, f2, f3, f4, f5, f6⟩ := hfld
  obtain ⟨kt, hkt, hktn⟩ := className_of_methodNamed hnamed
  have hinit : kt.init = .initialized := Cond.initialized_spec (findClass_of_methodNamed hnamed) hkt (hwT _ m4)
  have hpolyA : ∀ (kx : Class), kx.name = (rg_nm y1).cls → ∀ x, signaturePolymorphic kx x = false := fun kx hn x => by simp [signaturePolymorphic, hn, m5, m6]
  have hfnd := State.methodFound?_of_named hnamed ⟨m5, m6⟩
  rw [hnm] at hfnd
  simp only [State.methodFound?, htoy, htk, Option.bind_eq_bind, Option.bind_some] at hfnd
  rw [hlook] at hfnd
  have htg : target = mt := Option.some.inj hfnd
  obtain ⟨ci, nt, n, p1, p2, p3, p4, p5, p6⟩ := lf_ref_spec l7
  have hready : U.vm.methodReady cK (lf_ix sh cn 7) mt := by
    rw [hvm]
    exact ⟨k, hk, hres _ _ (by rw [← htg]; exact Lambda.resolvedOf_method p1 p2 htoy htk p3 hlook)⟩
  obtain ⟨tk2, htk2, htkn⟩ := Vm.findClass_spec htoy
  cases htk.symm.trans htk2
  have hnamesC : namesAClass U cK (lf_ix sh cn 7) := ⟨k, file, ci, nt, t, tk, by rw [hvm]; exact hk, hfile, by rw [hpool]; exact p1, by rw [hvm]; exact ⟨k, hk, hres _ _ (Lambda.resolvedOf_class p4 p6 p5 htoy)⟩, by rw [hvm]; exact htk, by
    cases hkt.symm.trans hkP
    have e1 := findClass_of_methodNamed hnamed
    rw [hnm] at e1
    cases htoy.symm.trans e1
    cases htk.symm.trans hkt
    exact hkPi⟩
  have hfr : U.vm.fieldReady cK (lf_ix sh cn 2) cK f0 := by
    rw [hvm]
    exact ⟨k, 0, k, hk, hres _ _ (Lambda.resolvedOf_field f1 f2 f3), hk, hfs 0 f0 f4⟩
  have hpar : metht.sig.parameters.length = 2 := by rw [hsigM] at m7; exact Option.some.inj m7
  have hW0 : s.WarmedH (T.calling g ⟨cK, 1⟩ ([.ref o, .int x0, .int x1] : List Value).toArray).vm := hWT
  have hBk := vx_back (len := 3) (below := .java g :: below) (sargs := ([.ref o, .int x0, .int x1] : List Value).toArray) (p := p) (e := e) (W9 := 8) (bytes := rg_by y1) (maxL := rg_ml y1) (ret := rg_rt y1) (R := { frames := d0 + 2, locals := 64 * (d0 + 1) + 3200 + 40, cells := rg_sz σ1 - rg_sz σ0, slots := rg_sl σ1 - rg_sl σ0 }) (s := T.calling g ⟨cK, 1⟩ ([.ref o, .int x0, .int x1] : List Value).toArray) hct PcR.blind rfl rfl (Nat.le_refl _) (show 8 + (rg_ml y1 + 11) + (64 * d0 + 3200) ≤ 64 * (d0 + 1) + 3200 + 40 by omega)
    (pay_in (args := args) (fun w hw => word_at hW0 (good_of_word (List.mem_filter.mp hw).2) (hwd w hw)) (ws_good m3)) (by unfold rg_ws rg_cw; rw [if_pos hh]; exact List.mem_cons_self) (fun a' V hV => word_at hV (Or.inl (by first | rfl | simp [Cond.onTables, Cond.keeps, Cond.steady])) (word_at (a' := args) hW0 (Or.inl (by first | rfl | simp [Cond.onTables, Cond.keeps, Cond.steady])) (hwd _ m4)))
  obtain ⟨ls, hls, hl0, hl1, hl3, hlz⟩ : ∃ ls : Array Slot, entryFrame ⟨cK, 1⟩ ([.ref o, .int x0, .int x1] : List Value).toArray ck.maxLocals = F0 ⟨cK, 1⟩ 0 ls [] ∧ ls[0]? = some (.val (.ref o)) ∧ ls[1]? = some (.val (.int x0)) ∧ ls[2]? = some (.val (.int x1)) ∧ ls.size = ck.maxLocals := by
    have hlv := LV.entry (as := [.ref o, .int x0, .int x1]) (n := 3) (by simp [rg_args, rg_isl])
    rw [hml]
    exact ⟨_, lg_entry_eq _ _ _, hlv.2.2.2 0 _ rfl, hlv.2.2.2 1 _ rfl, hlv.2.2.2 2 _ rfl, hlv.1⟩
  rw [hls] at hin
  have hs : U.topJava?.isSome := Y₀.here.top
  rcases hBk ⟨cK, 1⟩ methk ck ⟨U, [], 0, 0⟩ (F0 ⟨cK, 1⟩ 6 ls []) (.invokevirtual (lf_ix sh cn 7)) mt ([.ref b, .int x0, .int x1] : List Value).toArray Y₀ rfl hlz (by rw [hbytes]; exact d6') (by show 2 * 0 + 0 ≤ 8; omega) (by
      have := State.methodNamed?_setVm (s := T) (vm' := U.vm) (by rw [hvm]; exact State.WarmedH.refl T |>.alike) (rg_nm y1)
      rw [hnamed] at this
      exact this) ⟨Nat.le_of_eq (Nat.zero_add _), Nat.le_of_eq (Nat.zero_add _), rfl, hK.moved (U := U) (by rw [hvm]; exact hWT), by rw [hhp]; exact hP⟩ with ⟨v, ⟨BU, Bl, Bc, Bs⟩, X2, ⟨g', mk, t2, L, e1, e2, ⟨v', σ', hr, hv, hh2⟩, h1, hL2, h2, h3⟩, st⟩ | ⟨q, ⟨BU, Bl, Bc, Bs⟩, X2, ⟨g', mk, t2, L, E, ce, e1, e2, ⟨σ', c9, k9, hr, -⟩, -⟩, -⟩
  · dsimp only [Pt.U, Pt.locs, Pt.cells, Pt.slots] at X2 e1 e2 h1 h2 h3 st
    cases hr
    cases hv
    have h1 : Bl = L := h1
    subst h1; subst h2; subst h3
    obtain ⟨fs, hleave, -, hended, hWe, hsame⟩ := X2.leave (v := some (.int z)) (fun h => by rw [hretk] at h; cases h) hlk
    obtain ⟨T', X', hW', -, ht⟩ := X.outOf hg hdg hended hWe hsame
    refine ⟨T', Bl, ?_, hL2, by rw [Nat.zero_add, Nat.zero_add] at X'; exact X', fun acts => ?_⟩
    · have h9 : (BU.setFrames fs).heap = T'.heap := by rw [ht]; rfl
      rw [← h9]
      show hp G _ BU.heap
      rw [e1]
      exact hh2
    · rw [hin acts]
      show Steps p.tables e below _ (T'.setTop { g with pc := g.pc + 5, stack := (some (Value.int z)).toList ++ g.stack })
      rw [← ht]
      refine Steps.weaken (mid := [.java g]) ?_
      jvm_step Y₀.here [hexec, hbytes, d0', hl0, Value.isRef]
      jvm_step Y₀.here [hexec, hbytes, d1', getfield.wp_ready (e := e) (s := U) (f := { method := ⟨cK, 1⟩, pc := 1, locals := ls, stack := [.ref o], locked := none }) (a := o) (rest := []) (cell := cellO) (v := .ref b) hs hfr f6 rfl (by rw [hhp]; exact hco) (by rw [hcv]; exact fun z => by cases z) (by rw [f5, hcs]; rfl)]
      jvm_step Y₀.here [hexec, hbytes, d4', hl1]
      jvm_step Y₀.here [hexec, hbytes, d5', hl3]
      jvm_step Y₀.here [hexec, hbytes, d6', invokevirtual.wp_ready (e := e) (s := U) (r := mt) (m := mt) (k := kt) (mk := kt) (rmeth := metht) (meth := metht) (cell := cellB) (a := b) (args := [.int x0, .int x1]) (rest := [])
        (f := { method := ⟨cK, 1⟩, pc := 6, locals := ls, stack := [.int x1, .int x0, .ref b], locked := none }) hs hnamesC hready (by rw [hvm]; exact hkt) (by rw [hvm]; exact hmt) (hpolyA kt hktn metht) hstatic hpar.symm rfl (by rw [hhp]; exact hcB) (fun z h => by rw [h] at hoB; cases hoB) (by rw [hvm]; exact hselP) (by rw [hvm]; exact hmt) habs (by rw [hvm]; exact hkt) (by cases hkt.symm.trans hkP; exact hkPi)]
      intro acts'
      rw [doInvoke_state]
      refine st.trans ?_
      show Steps p.tables e (.java g :: below) (BU.setTop { method := ⟨cK, 1⟩, pc := 9, locals := ls, stack := [.int z], locked := none }) _
      jvm_step X2.here [X2.here.top, hexec, hbytes, d9', (show BU.vm.method? ⟨cK, 1⟩ = some methk from X2.method'), hretk, hz]
      intro acts''
      rw [hleave { method := ⟨cK, 1⟩, pc := 9, locals := ls, stack := [], locked := none } acts'' rfl rfl rfl]
      exact Steps.refl _
  · cases hr
end
