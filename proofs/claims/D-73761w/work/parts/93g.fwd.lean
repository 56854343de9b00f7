/-! a call on a lambda: its forwarder's run -/
set_option maxRecDepth 100000
/-- what is known of a forwarder of a static method -/
def LFS (σ : Lambda.Shape) (cn : String) : Prop := (σ.file cn).isSome = true ∧ ((layoutMethods (lf_D σ cn)).bind (·[1]?)).isSome = true ∧ (lf_M σ cn).code.isSome = true ∧ (lf_M σ cn).accessFlags = 0x0001 ∧ (lf_M σ cn).code.map (·.maxLocals) = some 5 ∧ (lf_M σ cn).sig.returnType = some .long ∧
  decode (lf_C σ cn) 0 = .ok (.lload_n 1, 1) ∧ decode (lf_C σ cn) 1 = .ok (.lload_n 3, 1) ∧ decode (lf_C σ cn) 2 = .ok (.invokestatic (lf_ix σ cn 3), 3) ∧ decode (lf_C σ cn) 5 = .ok (.lreturn, 1) ∧ lf_ref σ cn (lf_ix σ cn 3) = true ∧ plainName (cn ++ "$$Lambda") = true
theorem lf_ref_spec {σ : Lambda.Shape} {cn : String} {ix : Nat} (h : lf_ref σ cn ix = true) : ∃ ci nt n, (lf_D σ cn).constantPool[ix]? = some (.methodref ci nt) ∧ (lf_D σ cn).constantPool.className? ci = some σ.implClass ∧ (lf_D σ cn).constantPool.nameAndType? nt = some (σ.implName, σ.implDesc.toString) ∧ (lf_D σ cn).constantPool[ci]? = some (.class_ n) ∧ (lf_D σ cn).constantPool.string? n = some σ.implClass ∧ ci ≠ (lf_D σ cn).thisClass := by
  unfold lf_ref at h
  split at h
  · rename_i ci nt h1
    rw [Bool.and_eq_true, Bool.and_eq_true, decide_eq_true_eq, decide_eq_true_eq] at h
    obtain ⟨⟨h2, h3⟩, h4⟩ := h
    split at h4
    · rename_i n h5
      rw [Bool.and_eq_true, decide_eq_true_eq, decide_eq_true_eq] at h4
      exact ⟨ci, nt, n, h1, h2, h3, h5, h4.1, h4.2⟩
    · cases h4
  · cases h
section
variable {p : Program} {l : Launch} {e : Env} {R : Room} {s : State} {m : MethodId} {args : Array Value} {below : List Frame} {meth : Method} {c : Code} {T : State} {locs : List Loc} {cells slots : Nat} {G : rg_G}
set_option maxHeartbeats 2000000 in
theorem fw_static (X : Stand p l e R s m args below meth c T locs cells slots) (hexec : p.tables.exec = Jvm.exec) {g : JFrame} (hg : g.method = m) (hsize : g.locals.size = c.maxLocals) {idx cnt : Nat} (hdg : decode c.code g.pc = .ok (.invokeinterface idx cnt, 5))
    (hwd : ∀ w ∈ lw_all, w.before args s = true) (hK : KS G s) {σ0 σ1 : rg_S} (hP : hp G σ0 T.heap)
    {dc cK : ClassId} {dk : Class} {sh : Lambda.Shape} {cn : String} (hd : T.vm.classes[dc]? = some dk) (hdn : dk.name = cn) (hmade : Lambda.isMade { classPath := fun _ => none } T.vm dc sh cK = true) (hL : LFS sh cn)
    {y1 d0 : Nat} (hnm : rg_nm y1 = ⟨sh.implClass, sh.implName, sh.implDesc.toString⟩) (mf : MF y1 2) (hh : rg_hh y1 = []) (hst : Cond.static (rg_nm y1) ∈ lw_all)
    {o : Addr} {x0 x1 z : Int64} (hct : CT l G d0 y1 [.long x0, .long x1] σ0 (.inl (some (.long z), σ1)))
    (hframes : d0 + 3 ≤ R.frames) (hlocals : 64 * (d0 + 2) + 3200 ≤ R.locals) (hw : 2 * g.monitorRoom + (g.stack.map fun v => v.category).sum ≤ 8) (hcells : cells + (rg_sz σ1 - rg_sz σ0) ≤ R.cells) (hslots : slots + (rg_sl σ1 - rg_sl σ0) ≤ R.slots) :
    ∃ (T' : State) (L : List Loc), hp G σ1 T'.heap ∧ (∀ q ∈ L, frG G q.base) ∧ Stand p l e R s m args below meth c T' (locs ++ L) (cells + (rg_sz σ1 - rg_sz σ0)) (slots + (rg_sl σ1 - rg_sl σ0)) ∧
      ∀ acts, Steps p.tables e below (doInvoke e (T.setTop g) acts ⟨cK, 1⟩ ([.ref o, .long x0, .long x1] : List Value).toArray).1 (T'.setTop { g with pc := g.pc + 5, stack := .long z :: g.stack }) := by
  obtain ⟨l1, l2, l3, l4, l5, l6, d0', d1', d2', d5', l7, l8⟩ := hL
  obtain ⟨k, tk, ok, file, methk, ck, t, object, iface, target, found, lay, ⟨hk, hkn, hko, hfile, hpool⟩, ⟨hmk, hck, hbytes, hmlS, hlk, hfl, hretS⟩, ⟨htoy, htk, hlook⟩, -, -, -, hres⟩ := lf_made hd hdn hmade l1 l2 l3 l4
  have hml : ck.maxLocals = 5 := by rw [l5] at hmlS; exact (Option.some.inj hmlS).symm
  have hretk : methk.sig.returnType = some .long := hretS.trans l6
  have hpk : T.plainMethod ⟨cK, 1⟩ := fun k' hk' => by
    cases hk.symm.trans hk'
    rw [hkn, l8]; rfl
  obtain ⟨m1, m2, m3, m4, m5, m6, m7⟩ := mf
  obtain ⟨Y₀, hin⟩ := X.into hg hsize hdg ([.ref o, .long x0, .long x1] : List Value).toArray (R' := { frames := d0 + 2, locals := 64 * (d0 + 1) + 3200 + 40, cells := rg_sz σ1 - rg_sz σ0, slots := rg_sl σ1 - rg_sl σ0 }) hmk hck hlk hpk (by show d0 + 2 + 1 ≤ R.frames; omega) (by rw [hml]; show _ + (5 + 11) + (64 * (d0 + 1) + 3200 + 40) ≤ R.locals; omega) hcells hslots
  generalize hU : (T.setTop g).pushFrame (.java (entryFrame ⟨cK, 1⟩ ([.ref o, .long x0, .long x1] : List Value).toArray ck.maxLocals)) = U at Y₀ hin
  have hvm : U.vm = T.vm := by rw [← hU]; rfl
  have hhp : U.heap = T.heap := by rw [← hU]; rfl
  have hWT : s.WarmedH T.vm := X.warmed
  have hwT : ∀ w ∈ lw_all, w.before args T = true := fun w hw => word_at hWT (good_of_word (List.mem_filter.mp hw).2) (hwd w hw)
  have hcode := hwT _ m3
  unfold rg_cw at hcode
  rw [if_pos hh] at hcode
  obtain ⟨mt, hnamed⟩ := Cond.code_named hcode
  obtain ⟨metht, cM, hmt, -, -, -, -, -, -, hsigM⟩ := Cond.code_spec hnamed hcode
  have hstatic : metht.isStatic = true := Cond.static_spec hnamed hmt (hwT _ hst)
  obtain ⟨kt, hkt, hktn⟩ := className_of_methodNamed hnamed
  have hinit : kt.init = .initialized := Cond.initialized_spec (findClass_of_methodNamed hnamed) hkt (hwT _ m4)
  have hpolyA : ∀ (kx : Class), kx.name = (rg_nm y1).cls → ∀ x, signaturePolymorphic kx x = false := fun kx hn x => by simp [signaturePolymorphic, hn, m5, m6]
  have hfnd := State.methodFound?_of_named hnamed ⟨m5, m6⟩
  rw [hnm] at hfnd
  simp only [State.methodFound?, htoy, htk, Option.bind_eq_bind, Option.bind_some] at hfnd
  rw [hlook] at hfnd
  have htg : target = mt := Option.some.inj hfnd
  obtain ⟨ci, nt, n, p1, p2, p3, p4, p5, p6⟩ := lf_ref_spec l7
  have hready : U.vm.methodReady cK (lf_ix sh cn 3) mt := by
    rw [hvm]
    exact ⟨k, hk, hres _ _ (by rw [← htg]; exact Lambda.resolvedOf_method p1 p2 htoy htk p3 hlook)⟩
  obtain ⟨tk2, htk2, htkn⟩ := Vm.findClass_spec htoy
  cases htk.symm.trans htk2
  obtain ⟨bb, hmem⟩ := memberRef_ask' (e := e) (vm := U.vm) (d := cK) (index := lf_ix sh cn 3) (by rw [hvm]; exact hk) hfile (Or.inl (by rw [hpool]; exact p1)) (by rw [hpool]; exact p3)
  have href : plainRef U e cK (lf_ix sh cn 3) := by
    refine ⟨ci, _, _, bb, t, tk, hmem, ?_, by rw [hvm]; exact htk, ?_⟩
    · rw [hvm]; exact ⟨k, hk, hres _ _ (Lambda.resolvedOf_class p4 p6 p5 htoy)⟩
    · simp only [hpolyA tk (by rw [htkn, hnm]), Bool.and_false]
      simp
  have hpar : metht.sig.parameters.length = 2 := by rw [hsigM] at m7; exact Option.some.inj m7
  have hW0 : s.WarmedH (T.calling g ⟨cK, 1⟩ ([.ref o, .long x0, .long x1] : List Value).toArray).vm := hWT
  have hBk := vx_back (len := 3) (below := .java g :: below) (sargs := ([.ref o, .long x0, .long x1] : List Value).toArray) (p := p) (e := e) (W9 := 8) (bytes := rg_by y1) (maxL := rg_ml y1) (ret := rg_rt y1) (R := { frames := d0 + 2, locals := 64 * (d0 + 1) + 3200 + 40, cells := rg_sz σ1 - rg_sz σ0, slots := rg_sl σ1 - rg_sl σ0 }) (s := T.calling g ⟨cK, 1⟩ ([.ref o, .long x0, .long x1] : List Value).toArray) hct PcR.blind rfl rfl (Nat.le_refl _) (show 8 + (rg_ml y1 + 11) + (64 * d0 + 3200) ≤ 64 * (d0 + 1) + 3200 + 40 by omega)
    (pay_in (args := args) (fun w hw => word_at hW0 (good_of_word (List.mem_filter.mp hw).2) (hwd w hw)) (ws_good m3)) (by unfold rg_ws rg_cw; rw [if_pos hh]; exact List.mem_cons_self) (fun a' V hV => word_at hV (Or.inl (by first | rfl | simp [Cond.onTables, Cond.keeps, Cond.steady])) (word_at (a' := args) hW0 (Or.inl (by first | rfl | simp [Cond.onTables, Cond.keeps, Cond.steady])) (hwd _ m4)))
  obtain ⟨ls, hls, hl1, hl3, hlz⟩ : ∃ ls : Array Slot, entryFrame ⟨cK, 1⟩ ([.ref o, .long x0, .long x1] : List Value).toArray ck.maxLocals = F0 ⟨cK, 1⟩ 0 ls [] ∧ ls[1]? = some (.val (.long x0)) ∧ ls[3]? = some (.val (.long x1)) ∧ ls.size = ck.maxLocals := by
    have hlv := LV.entry (as := [.ref o, .long x0, .long x1]) (n := 5) (by simp [rg_args, rg_isl])
    rw [hml]
    exact ⟨_, lg_entry_eq _ _ _, hlv.2.2.2 1 _ rfl, hlv.2.2.2 3 _ rfl, hlv.1⟩
  rw [hls] at hin
  have hs : U.topJava?.isSome := Y₀.here.top
  rcases hBk ⟨cK, 1⟩ methk ck ⟨U, [], 0, 0⟩ (F0 ⟨cK, 1⟩ 2 ls []) (.invokestatic (lf_ix sh cn 3)) mt ([.long x0, .long x1] : List Value).toArray Y₀ rfl hlz (by rw [hbytes]; exact d2') (by show 2 * 0 + 0 ≤ 8; omega) (by
      have := State.methodNamed?_setVm (s := T) (vm' := U.vm) (by rw [hvm]; exact State.WarmedH.refl T |>.alike) (rg_nm y1)
      rw [hnamed] at this
      exact this) ⟨Nat.le_of_eq (Nat.zero_add _), Nat.le_of_eq (Nat.zero_add _), rfl, hK.moved (U := U) (by rw [hvm]; exact hWT), by rw [hhp]; exact hP⟩ with ⟨v, ⟨BU, Bl, Bc, Bs⟩, X2, ⟨g', mk, t2, L, e1, e2, ⟨v', σ', hr, hv, hh2⟩, h1, hL2, h2, h3⟩, st⟩ | ⟨q, ⟨BU, Bl, Bc, Bs⟩, X2, ⟨g', mk, t2, L, E, ce, e1, e2, ⟨σ', c9, k9, hr, -⟩, -⟩, -⟩
  · dsimp only [Pt.U, Pt.locs, Pt.cells, Pt.slots] at X2 e1 e2 h1 h2 h3 st
    cases hr
    cases hv
    have h1 : Bl = L := h1
    subst h1; subst h2; subst h3
    obtain ⟨fs, hleave, -, hended, hWe, hsame⟩ := X2.leave (v := some (.long z)) (fun h => by rw [hretk] at h; cases h) hlk
    obtain ⟨T', X', hW', -, ht⟩ := X.outOf hg hdg hended hWe hsame
    refine ⟨T', Bl, ?_, hL2, by rw [Nat.zero_add, Nat.zero_add] at X'; exact X', fun acts => ?_⟩
    · have h9 : (BU.setFrames fs).heap = T'.heap := by rw [ht]; rfl
      rw [← h9]
      show hp G _ BU.heap
      rw [e1]
      exact hh2
    · rw [hin acts]
      show Steps p.tables e below _ (T'.setTop { g with pc := g.pc + 5, stack := (some (Value.long z)).toList ++ g.stack })
      rw [← ht]
      refine Steps.weaken (mid := [.java g]) ?_
      jvm_step Y₀.here [hexec, hbytes, d0', hl1]
      jvm_step Y₀.here [hexec, hbytes, d1', hl3]
      jvm_step Y₀.here [hexec, hbytes, d2', invokestatic.wp_ready (e := e) (s := U) (m := mt) (k := kt) (meth := metht) (args := [.long x0, .long x1]) (rest := [])
        (f := { method := ⟨cK, 1⟩, pc := 2, locals := ls, stack := [.long x1, .long x0], locked := none }) hs href hready (by rw [hvm]; exact hkt) (by rw [hvm]; exact hmt) (hpolyA kt hktn metht) hstatic hinit hpar.symm rfl]
      intro acts'
      rw [doInvoke_state]
      refine st.trans ?_
      show Steps p.tables e (.java g :: below) (BU.setTop { method := ⟨cK, 1⟩, pc := 5, locals := ls, stack := [.long z], locked := none }) _
      jvm_step X2.here [X2.here.top, hexec, hbytes, d5', (show BU.vm.method? ⟨cK, 1⟩ = some methk from X2.method'), hretk, narrow]
      intro acts''
      rw [hleave { method := ⟨cK, 1⟩, pc := 5, locals := ls, stack := [], locked := none } acts'' rfl rfl rfl]
      exact Steps.refl _
  · cases hr
end
