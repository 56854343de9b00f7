/-! calls on lambdas: the rows -/
set_option maxRecDepth 100000
section
variable {p : Program} {l : Launch} {e : Env} {R : Room} {s : State} {m : MethodId} {args : Array Value} {below : List Frame} {meth : Method} {c : Code} {H : Heap} {locs : List Loc} {cells slots : Nat} {G : rg_G} {T : State}
/-- the invocation of a lambda's method -/
theorem lam_inv (X : Stand p l e R s m args below meth c T locs cells slots) (hexec : p.tables.exec = Jvm.exec) {own : String} (hown : s.vm.findClass own = some m.cls) (hwd : ∀ w ∈ lw_all, w.before args s = true) (hK : KS G s)
    {n pc0 idx0 idx cnt : Nat} {x0 : MethodName} {sh : Lambda.Shape} {cn : String} (hq : (n, x0, pc0, idx0, sh) ∈ rg_lams) (hcn : x0.cls = cn)
    (h1 : (sh.file cn).isSome = true) (h2 : ((layoutMethods (lf_D sh cn)).bind (·[1]?)).isSome = true) (h3 : (lf_M sh cn).code.isSome = true) (h4 : (lf_M sh cn).accessFlags = 0x0001)
    (hl : Cond.methodLink own idx ⟨sh.iface, sh.name, sh.sam.toString⟩ ∈ lw_all) (hde : va_Nw (.declares ⟨sh.iface, sh.name, sh.sam.toString⟩) ∈ rg_facts) (hif : va_Nw (.interfaceMethod sh.iface sh.iface sh.name sh.sam.toString) ∈ rg_facts) (hne : sh.iface ≠ "java/lang/invoke/MethodHandle" ∧ sh.iface ≠ "java/lang/invoke/VarHandle") (hpn : (parseMethodDescriptor sh.sam.toString).map (fun d => d.parameters.length) = some 2)
    {b : Addr} {cell : Cell} (hcell : T.heap[b]? = some cell) (hst : cell.vm.isStatics = false) (hcl : cell.cls = g_L G n)
    {g : JFrame} (hg : g.method = m) {v0 v1 : Value} {rest : List Value} (hstack : g.stack = v1 :: v0 :: .ref b :: rest) (hdg : decode c.code g.pc = .ok (.invokeinterface idx cnt, 5)) :
    ∃ (vm' : Vm) (dc : ClassId) (dk : Class), Stand p l e R s m args below meth c (T.setVm vm') locs cells slots ∧ vm'.classes[dc]? = some dk ∧ dk.name = cn ∧ Lambda.isMade { classPath := fun _ => none } vm' dc sh (g_L G n) = true ∧
      ∀ target, (∀ acts, Steps p.tables e below (doInvoke e ((T.setVm vm').setTop { g with stack := rest }) acts ⟨g_L G n, 1⟩ ([.ref b, v0, v1] : List Value).toArray).1 target) → Steps p.tables e below (T.setTop g) target := by
  have hLf : ∃ lk, LamF x0 pc0 idx0 sh (g_L G n) lk s := by
    rcases hK.2.2.2.2.1.1 _ hq with ⟨-, a, -, h⟩ | ⟨-, h⟩
    · exact ⟨_, h⟩
    · exact ⟨_, h⟩
  obtain ⟨lk, hLf⟩ := hLf
  have hLf0 := hLf
  obtain ⟨m0, k1, cf, i0, p0, g1, g2, g3, g4, g5, g6, g7⟩ := hLf
  have hdn : k1.name = cn := by
    obtain ⟨k0, e1, e2⟩ := className_of_methodNamed g1
    cases g2.symm.trans e1
    rw [← hcn]; exact e2
  obtain ⟨dk', kK, ok, tk, file, cfK, object, iface, t, lay, methods, target, found, z1, hkK, z3, z4, z5, hi, z7, z8, z9, z10, z11, z12, hfound, -, -, -, -, -, -, -, -, -, -, hsel⟩ := Lambda.isMade_spec g6
  obtain ⟨kK2, tk2, ok2, file2, methk, ck, t2, object2, iface2, target2, found2, lay2, -, ⟨hmk, -, -, -, -, hfl, -⟩, -⟩ := lf_made g2 hdn g6 h1 h2 h3 h4
  obtain ⟨r0, r, hn, hrm, hstR, hsigR⟩ := Cond.declares_spec (va_Nw.use (A := args) rfl (hK.fact hde))
  obtain ⟨cL, kL, r1, hcL, hkL, hiL, hfoundL, hn1⟩ := Cond.interfaceMethod_spec (va_Nw.use (A := args) rfl (hK.fact hif))
  cases hn.symm.trans hn1
  have hr0cls : r0.cls = cL := Option.some.inj ((findClass_of_methodNamed hn).symm.trans hcL)
  obtain ⟨hnameR, hdescR⟩ := name_of_methodNamed hn hrm
  have hfr : found = r0 := by
    cases hi.symm.trans hcL
    simp only [State.methodFound?, hcL, hkL, hiL, Option.bind_eq_bind, Option.bind_some] at hfoundL
    rw [hfound] at hfoundL
    exact Option.some.inj hfoundL
  obtain ⟨i2, hi2, hasg, hway⟩ := State.lambdaCallable_spec g7
  cases hi2.symm.trans hcL
  obtain ⟨vm', X', st⟩ := X.invokeinterface hexec (own := own) (index := idx) (count := cnt) hown (hwd _ hl) hn hrm hstR (by rw [hr0cls]; exact hkL) hiL hne (a := b) (cell := cell) (kcell := kK) hcell (fun z h => by rw [h] at hst; cases hst) (by rw [hcl]; exact hkK) (by rw [hcl, hr0cls]; exact hasg)
    (m' := ⟨g_L G n, 1⟩) (meth' := methk) (by rw [Launch.admits_selectMethod X.admits, hcl, ← hfr]; exact hsel) hmk (by rw [hcl, hnameR, hdescR]; exact hway) (by rw [hfl]; decide) (by simp [Method.isAbstract, hfl, hasFlag, Acc.abstract]) (g := g) hg (argsL := [v0, v1]) (rest := rest) (by rw [hsigR] at hpn; exact (Option.some.inj hpn).symm) hstack hdg
  have hLm : LamF x0 pc0 idx0 sh (g_L G n) lk (T.setVm vm') := hLf0.moved X'.warmed
  obtain ⟨m2, k2, cf2, i2', p2, j1, j2, j3, j4, j5, j6, j7⟩ := hLm
  refine ⟨vm', m2.cls, k2, X', j2, ?_, j6, st⟩
  obtain ⟨k0, e1, e2⟩ := className_of_methodNamed j1
  cases j2.symm.trans e1
  rw [← hcn]; exact e2
end
/-- a lambda that keeps nothing, and its forwarder -/
def LCS (n y' : Nat) : Prop := ∃ (im : String) (pc0 idx0 y1 : Nat), 910 ≤ n ∧ (n, lmX, pc0, idx0, sgL im) ∈ rg_lams ∧ LFS (sgL im) "RegisterColours" ∧ rg_ml y' = 5 ∧ rg_hds y' = [(0, 100, 0, [])] ∧ y1 < 480 ∧ fwcode y' [(.lload_n 1, 1, []), (.lload_n 3, 2, []), (.invokestatic 0, 3, [(2, 0), (y1, 0)]), (.lreturn, 4, [])] ∧ rg_nm y1 = ⟨"RegisterColours", im, (sgL im).implDesc.toString⟩ ∧ MF y1 2 ∧ rg_hh y1 = [] ∧ Cond.static (rg_nm y1) ∈ lw_all
def LCT (n y' : Nat) : Prop := ∃ (pc0 idx0 y1 ci : Nat) (r : vw_C), n = 915 ∧ (n, lmX, pc0, idx0, sgT) ∈ rg_lams ∧ rg_ml y' = 5 ∧ rg_hds y' = [(0, 100, 0, [])] ∧ y1 < 480 ∧ fwcode y' [(.aload_n 0, 1, []), (.getfield 0, 2, [(n, 0)]), (.lload_n 1, 3, []), (.lload_n 3, 4, []), (.invokevirtual 0, 5, [(2, 1), (ci, y1)]), (.lreturn, 6, [])] ∧ rg_nm y1 = ⟨"RegisterColours", "times", sgT.implDesc.toString⟩ ∧ MF y1 2 ∧ rg_hh y1 = [] ∧ Cond.instanceMethod (rg_nm y1) ∈ lw_all ∧ rg_cl[ci]? = some r ∧ ci < 910 ∧ Cond.selects r.1 (rg_nm y1) (rg_nm y1) ∈ lw_all
def LCF (n y' : Nat) : Prop := ∃ (im : String) (pc0 idx0 y1 ci : Nat) (r : vw_C), 920 ≤ n ∧ (n, lmG, pc0, idx0, sgF im) ∈ rg_lams ∧ LFC_int (sgF im) "RegisterColours$Graph" ∧ rg_ml y' = 3 ∧ rg_hds y' = [(0, 100, 0, [])] ∧ y1 < 480 ∧ fwcode y' [(.aload_n 0, 1, []), (.getfield 0, 2, [(n, 0)]), (.iload_n 1, 3, []), (.iload_n 2, 4, []), (.invokevirtual 0, 5, [(2, 1), (ci, y1)]), (.ireturn, 6, [(1, 0)])] ∧ rg_nm y1 = ⟨"RegisterColours$Graph", im, (sgF im).implDesc.toString⟩ ∧ MF y1 2 ∧ rg_hh y1 = [] ∧ Cond.instanceMethod (rg_nm y1) ∈ lw_all ∧ rg_cl[ci]? = some r ∧ ci < 910 ∧ Cond.selects r.1 (rg_nm y1) (rg_nm y1) ∈ lw_all
section
variable {l : Launch} {G : rg_G} {y pc : Nat}
/-- the cell of a lambda that keeps something -/
theorem lam_own {σ : rg_S} {H : Heap} {s : State} {o n : Nat} {F : Nat → Value} (hP : hp G σ H) (hK : KS G s) (hrd : rg_rd σ o = some (.inr (n, F))) (hn : n = 915 ∨ 920 ≤ n) : H[o]? = some { cls := g_L G n, slots := #[F 0], vm := .none } := by
  obtain ⟨h1, h2, h3, h4, h5, h6⟩ := hP
  unfold rg_rd at hrd
  cases hh : rg_h σ o with
  | some e =>
    rw [hh] at hrd
    cases hrd
    obtain ⟨-, hc⟩ := h6 o _ hh
    rcases hc with ⟨r, q1, -⟩ | ⟨q1, q2⟩
    · exact absurd (List.getElem?_eq_some_iff.mp q1).1 (by unfold rg_cl; simp; omega)
    · exact q2
  | none =>
    rw [hh] at hrd
    have hr : rg_r σ o = some (.inr (n, F)) := hrd
    rw [h4] at hr
    obtain ⟨hlt, ho⟩ := hK.2.1 o _ hr
    rcases ho with ⟨-, ⟨q1, q2⟩, -⟩ | ⟨q1, -⟩ | ⟨cell, r, q1, q2, -⟩
    · omega
    · omega
    · exact absurd (List.getElem?_eq_some_iff.mp q2).1 (by unfold rg_cl; simp; omega)
set_option maxHeartbeats 2000000 in
theorem call_L {idx cnt : Nat} {t : List (Nat × Nat)} {If ds : String} (d : decode (rg_by y) pc = .ok (.invokeinterface idx cnt, 5)) (hl : Cond.methodLink (rg_nm y).cls idx ⟨If, "of", ds⟩ ∈ lw_all) (hde : va_Nw (.declares ⟨If, "of", ds⟩) ∈ rg_facts) (hif : va_Nw (.interfaceMethod If If "of" ds) ∈ rg_facts) (hne : If ≠ "java/lang/invoke/MethodHandle" ∧ If ≠ "java/lang/invoke/VarHandle") (hpn : (parseMethodDescriptor ds).map (fun d => d.parameters.length) = some 2) (hob : Cond.instantiable "java/lang/Object" 0 ∈ lw_all)
    (hx : ∀ q ∈ t, 480 ≤ q.2 ∧ q.2 < 500 ∧ ((If = "RegisterColours$Making" ∧ ds = "(JJ)J" ∧ (LCS q.1 q.2 ∨ LCT q.1 q.2)) ∨ (If = "RegisterColours$Safety" ∧ ds = "(II)Z" ∧ LCF q.1 q.2))) : CallOK l G y pc (.invokeinterface idx cnt, pc + 5, (2, 1) :: t) := by
  intro L st σ y' as npc rest σ' hd
  obtain ⟨b, ci, F, h1, h2, hrd, hlk, rfl, rfl, rfl, hw⟩ := cal1 (n := 2) (t := t) (npc := pc + 5) (L := L) hd
  refine ⟨rfl, ?_⟩
  intro p e R s m args below meth c H locs cells slots ls d' w cx hK hP hB hL hup hc hs hor
  obtain ⟨hy8, hy5, hcase⟩ := lk_all (P := fun ci y' => 480 ≤ y' ∧ y' < 500 ∧ ((If = "RegisterColours$Making" ∧ ds = "(JJ)J" ∧ (LCS ci y' ∨ LCT ci y')) ∨ (If = "RegisterColours$Safety" ∧ ds = "(II)Z" ∧ LCF ci y'))) hx hlk
  rcases hor with ⟨h5, -⟩ | ⟨h5, -⟩ | ⟨-, -, hf, hlo, n, hrun, hCT⟩
  · omega
  · omega
  rcases st with _ | ⟨v1, _ | ⟨v0, st⟩⟩
  · exact absurd h1 (by simp)
  · exact absurd h1 (by simp)
  have h2 : st = .ref b :: rest := h2
  subst h2
  replace hrun : rg_ex n d' y' 0 (rg_pad (rg_ml y') (rg_args [.ref b, v0, v1])) [] σ' = some w := hrun
  have hcx := cx.2.2.2.2.2.2.1
  intro T hT X
  have hwr : 2 * (F0 m pc ls rest).monitorRoom + ((F0 m pc ls rest).stack.map fun v => v.category).sum ≤ 8 := by
    show 2 * 0 + (rest.map fun v => v.category).sum ≤ 8
    rw [rg_w_sum]; omega
  rcases hcase with ⟨rfl, rfl, hcase | hcase⟩ | ⟨rfl, rfl, hcase⟩
  · obtain ⟨im, pc0, idx0, y1, hn, hq, hL1, hm5, hhd, hy1, hcode, hnm, mf, hh, hst⟩ := hcase
    obtain ⟨d0, x0, x1, z, σ1, rfl, rfl, rfl, hlen, hrun1, rfl⟩ := fwS_run hm5 hhd (by omega) hcode hrun
    obtain ⟨cell, q1, q2, q3⟩ := hP.any hK hrd (by omega)
    have hcg : clsId G ci = g_L G ci := by unfold clsId; rw [if_neg (by omega)]
    obtain ⟨vm', dc, dk, X', e1, e2, e3, st⟩ := lam_inv X cx.1 cx.2.2.2.2.2.1 hcx hK hq rfl hL1.1 hL1.2.1 hL1.2.2.1 hL1.2.2.2.1 hl hde hif hne hpn (by rw [hT]; exact q1) q2 (by rw [q3, hcg]) (g := F0 m pc ls (.long x1 :: .long x0 :: .ref b :: rest)) rfl rfl (by rw [cx.2.1]; exact d)
    obtain ⟨T', L', f1, f2, f3, f4⟩ := fw_static X' cx.1 (g := F0 m pc ls rest) rfl (hL.1.trans cx.2.2.1.symm) (by rw [cx.2.1]; exact d) hcx hK (σ0 := σ') (by show hp G σ' T.heap; rw [hT]; exact hP) e1 e2 e3 hL1 hnm mf hh hst (o := b) (hCT hy1 hlen hrun1) (by omega) (by omega) hwr hc hs
    refine ⟨T', locs ++ L', f1, fun q hq => (List.mem_append.mp hq).elim (hB q) (f2 q), f3, Or.inl ⟨some (.long z), σ1, rfl, fun target ht => st target fun acts => (f4 acts).trans ht⟩⟩
  · obtain ⟨pc0, idx0, y1, c1, r, hn, hq, hm5, hhd, hy1, hcode, hnm, mf, hh, hin, hr, h9, hse⟩ := hcase
    obtain ⟨d0, b1, Fb, x0, x1, z, σ1, rfl, hF, hrb, rfl, rfl, hlen, hrun1, rfl⟩ := fwC_long_run hm5 hhd (by omega) hrd hcode hrun
    have hL1 := lfc_T
    have q1 := lam_own hP hK hrd (Or.inl hn)
    obtain ⟨vm', dc, dk, X', e1, e2, e3, st⟩ := lam_inv X cx.1 cx.2.2.2.2.2.1 hcx hK hq rfl hL1.1 hL1.2.1 hL1.2.2.1 hL1.2.2.2.1 hl hde hif hne hpn (by rw [hT]; exact q1) rfl rfl (g := F0 m pc ls (.long x1 :: .long x0 :: .ref b :: rest)) rfl rfl (by rw [cx.2.1]; exact d)
    obtain ⟨T', L', f1, f2, f3, f4⟩ := fw_cap_long X' cx.1 (g := F0 m pc ls rest) rfl (hL.1.trans cx.2.2.1.symm) (by rw [cx.2.1]; exact d) hcx hK (σ0 := σ') (by show hp G σ' T.heap; rw [hT]; exact hP) e1 e2 e3 hL1 hnm mf hh hin hr h9 hse hob (o := b) (b := b1) (by show T.heap[b]? = _; rw [hT]; exact q1) rfl (by rw [hF]) hrb (hCT hy1 hlen hrun1) (by omega) (by omega) hwr hc hs
    refine ⟨T', locs ++ L', f1, fun q hq => (List.mem_append.mp hq).elim (hB q) (f2 q), f3, Or.inl ⟨some (.long z), σ1, rfl, fun target ht => st target fun acts => (f4 acts).trans ht⟩⟩
  · obtain ⟨im, pc0, idx0, y1, c1, r, hn, hq, hL1, hm5, hhd, hy1, hcode, hnm, mf, hh, hin, hr, h9, hse⟩ := hcase
    obtain ⟨d0, b1, Fb, x0, x1, z, σ1, rfl, hF, hrb, rfl, rfl, hlen, hrun1, rfl, hz⟩ := fwC_int_run hm5 hhd (by omega) hrd hcode hrun
    have q1 := lam_own hP hK hrd (Or.inr hn)
    obtain ⟨vm', dc, dk, X', e1, e2, e3, st⟩ := lam_inv X cx.1 cx.2.2.2.2.2.1 hcx hK hq rfl hL1.1 hL1.2.1 hL1.2.2.1 hL1.2.2.2.1 hl hde hif hne hpn (by rw [hT]; exact q1) rfl rfl (g := F0 m pc ls (.int x1 :: .int x0 :: .ref b :: rest)) rfl rfl (by rw [cx.2.1]; exact d)
    obtain ⟨T', L', f1, f2, f3, f4⟩ := fw_cap_int X' cx.1 (g := F0 m pc ls rest) rfl (hL.1.trans cx.2.2.1.symm) (by rw [cx.2.1]; exact d) hcx hK (σ0 := σ') (by show hp G σ' T.heap; rw [hT]; exact hP) e1 e2 e3 hL1 hnm mf hh hin hr h9 hse hob (o := b) (b := b1) (by show T.heap[b]? = _; rw [hT]; exact q1) rfl (by rw [hF]) hrb (isb_nar hz) (hCT hy1 hlen hrun1) (by omega) (by omega) hwr hc hs
    refine ⟨T', locs ++ L', f1, fun q hq => (List.mem_append.mp hq).elim (hB q) (f2 q), f3, Or.inl ⟨some (.int z), σ1, rfl, fun target ht => st target fun acts => (f4 acts).trans ht⟩⟩
end
