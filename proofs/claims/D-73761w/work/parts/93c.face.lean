/-! calls through an interface that inherits the method (NavigableMap's of Map); Exception.<init>; arraycopy; getClass -/
set_option maxRecDepth 100000
section
variable {p : Program} {l : Launch} {e : Env} {R : Room} {s : State} {m : MethodId} {args : Array Value} {below : List Frame} {meth : Method} {c : Code} {H : Heap} {locs : List Loc} {cells slots : Nat} {Q : State → Prop}
theorem vx_callIU {T : State} (X : Stand p l e R s m args below meth c T locs cells slots) (hexec : p.tables.exec = Jvm.exec) {own C : String} {index count : Nat} {x y : MethodName} {bytes : ByteArray} {maxL : Nat} {ret : Option FieldType}
    (hown : s.vm.findClass own = some m.cls) (hlink : (Cond.methodLink own index x).before args s = true) {J : String} (hdecl : (Cond.declares ⟨J, x.name, x.desc⟩).before args s = true) (hface : (Cond.interfaceMethod x.cls J x.name x.desc).before args s = true) (hpubO : (Cond.publicMethod ⟨J, x.name, x.desc⟩).before args s = true) (hxo : x.cls ≠ J)
    (hsel : (Cond.selects C ⟨J, x.name, x.desc⟩ y).before args s = true) (hinst : (Cond.instanceMethod y).before args s = true) (hpub : (Cond.publicMethod y).before args s = true) (hunh : (Cond.unhidden C x.name x.desc).before args s = true)
    (hcast : (Cond.castable C x.cls).before args s = true) (hcode : (Cond.code y bytes maxL ret).before args s = true) (hJ : J ≠ "java/lang/invoke/MethodHandle" ∧ J ≠ "java/lang/invoke/VarHandle") (hx : x.cls ≠ "java/lang/invoke/MethodHandle" ∧ x.cls ≠ "java/lang/invoke/VarHandle")
    {W9 : Nat} {Pre : Pt → Array Value → Prop} {Post : Pt → Array Value → Option Value → Pt → Prop} {PostX : Pt → Array Value → Addr → Pt → Prop} (hK : vx_Back l R p e below s args y 5 W9 Pre Post PostX)
    {b : Addr} {cellB : Cell} {kB : Class} (hcell : T.heap[b]? = some cellB) (hobj : cellB.vm.isStatics = false) (hcls : s.vm.findClass C = some cellB.cls) (hkB : s.vm.classes[cellB.cls]? = some kB)
    {g : JFrame} (hg : g.method = m) (hsize : g.locals.size = c.maxLocals) {argsL rest : List Value} (hlen : ∀ sig, parseMethodDescriptor x.desc = some sig → argsL.length = sig.parameters.length)
    (hstack : g.stack = argsL.reverse ++ .ref b :: rest) (hW : 2 * g.monitorRoom + (rest.map fun v => v.category).sum ≤ W9) (hdg : decode c.code g.pc = .ok (.invokeinterface index count, 5))
    (hpre : ∀ vm₁, s.WarmedH vm₁ → Pre ⟨T.setVm vm₁, locs, cells, slots⟩ (Value.ref b :: argsL).toArray) :
    (∃ (v : Option Value) (vm₁ : Vm) (B : Pt), s.WarmedH vm₁ ∧ Stand p l e R s m args below meth c B.U B.locs B.cells B.slots ∧ Post ⟨T.setVm vm₁, locs, cells, slots⟩ (Value.ref b :: argsL).toArray v B ∧
      ∀ target, Steps p.tables e below (B.U.setTop { g with pc := g.pc + 5, stack := v.toList ++ rest }) target → Steps p.tables e below (T.setTop g) target) ∨
    (∃ (q : Addr) (vm₁ : Vm) (B : Pt), s.WarmedH vm₁ ∧ Stand p l e R s m args below meth c B.U B.locs B.cells B.slots ∧ PostX ⟨T.setVm vm₁, locs, cells, slots⟩ (Value.ref b :: argsL).toArray q B ∧
      Steps p.tables e below (T.setTop g) ((B.U.setTop { g with stack := rest }).pushFrame (.throwing q))) := by
  obtain ⟨r0, r, hn, hrm, hstR, hsigR⟩ := Cond.declares_spec hdecl
  obtain ⟨cL, kL, r1, hcL, hkL, hiL, hfoundL, hn1⟩ := Cond.interfaceMethod_spec hface
  cases hn.symm.trans hn1
  obtain ⟨hnameR, hdescR⟩ := name_of_methodNamed hn hrm
  obtain ⟨mk, methM, hnamed, hmethM, -, habM⟩ := Cond.instanceMethod_spec hinst
  have q5 : s.methodFound? J x.name x.desc = some r0 := State.methodFound?_of_named hn hJ
  obtain ⟨c2, r2, m2, q1, q2, q3, q4, -⟩ := Cond.selects_spec hsel
  cases hcls.symm.trans q1
  cases q5.symm.trans q2
  cases hnamed.symm.trans q3
  have hselP : selectMethod e.platform s.vm cellB.cls r0 = .method mk := by rw [Launch.admits_selectMethod X.admits]; exact q4
  have hpubM : hasFlag methM.accessFlags Acc.public_ = true := Cond.publicMethod_spec hnamed hmethM hpub
  have hway : ((cellB.cls :: s.vm.superclasses cellB.cls).any fun k => (declaredIn s.vm r.name r.desc k).any fun (_, z) => z.isPrivate || z.isStatic) = false := by
    rw [hnameR, hdescR]; exact Cond.unhidden_spec hcls hunh
  obtain ⟨c3, t3, w1, w2, w3⟩ := Cond.castable_spec hcast
  cases hcls.symm.trans w1
  cases hcL.symm.trans w2
  obtain ⟨vm₁, X₁, hstep₁⟩ := X.invokeinterfaceUp hexec hown hlink hface hdecl hpubO hxo hx hcL (a := b) (cell := cellB) (kcell := kB) hcell
    (fun z h => by rw [h] at hobj; cases hobj) hkB w3 hn hrm hselP hmethM hway hpubM habM (g := g) hg (argsL := argsL) (rest := rest) (hlen _ hsigR) hstack hdg
  rcases hK m meth c ⟨T.setVm vm₁, locs, cells, slots⟩ { g with stack := rest } (.invokeinterface index count) mk (Value.ref b :: argsL).toArray X₁ hg hsize hdg hW (X₁.named hnamed) (hpre vm₁ X₁.warmed) with ⟨v, B, X', hpost, hsteps⟩ | ⟨q, B, X', hpost, hsteps⟩
  · exact Or.inl ⟨v, vm₁, B, X₁.warmed, X', hpost, fun target h => hstep₁ _ fun acts => by rw [doInvoke_state]; exact hsteps.trans h⟩
  · exact Or.inr ⟨q, vm₁, B, X₁.warmed, X', hpost, hstep₁ _ fun acts => by rw [doInvoke_state]; exact hsteps⟩
end
def IFU (y idx n ci y1 : Nat) (x : MethodName) (J : String) : Prop := ci < 910 ∧ MF y1 n ∧ rg_hh y1 = [] ∧ Cond.instanceMethod (rg_nm y1) ∈ lw_all ∧ va_Nw (.methodLink (rg_nm y).cls idx x) ∈ rg_facts ∧ (J ≠ "java/lang/invoke/MethodHandle" ∧ J ≠ "java/lang/invoke/VarHandle") ∧ (x.cls ≠ "java/lang/invoke/MethodHandle" ∧ x.cls ≠ "java/lang/invoke/VarHandle") ∧ x.cls ≠ J ∧ (parseMethodDescriptor x.desc).map (fun d => d.parameters.length) = some n ∧
  ∃ r, rg_cl[ci]? = some r ∧ Cond.selects r.1 ⟨J, x.name, x.desc⟩ (rg_nm y1) ∈ lw_all ∧ va_IFU r.1 x J (rg_nm y1) ∈ rg_facts
section
variable {l : Launch} {G : rg_G} {y pc npc : Nat} {o : rg_op}
theorem call_FU {idx cnt n : Nat} {t : List (Nat × Nat)} {x : MethodName} {J : String} (d : decode (rg_by y) pc = .ok (.invokeinterface idx cnt, 5)) (hx : ∀ q ∈ t, IFU y idx n q.1 q.2 x J) : CallOK l G y pc (.invokeinterface idx cnt, pc + 5, (n, 1) :: t) := by
  intro L st σ y' as npc rest σ' hd
  obtain ⟨b, ci, F, h1, h2, hrd, hlk, rfl, rfl, rfl, hw⟩ := cal1 (n := n) (t := t) (npc := pc + 5) (L := L) hd
  refine ⟨rfl, ?_⟩
  intro p e R s m args below meth c H locs cells slots ls d' w cx hK hP hB hL hup hc hs hor
  obtain ⟨h9, mf, hh, hi, hl, hJ, n1, hxo, n3, r, hr, hsel, hif⟩ := lk_all (P := fun ci y1 => IFU y idx n ci y1 x J) hx hlk
  rcases hor with ⟨-, hf, hlo, hct⟩ | ⟨h5, -⟩ | ⟨h5, -⟩
  · have hst : st = (st.take n).reverse.reverse ++ .ref b :: rest := by rw [← h2]; exact rg_st_eq.symm
    have mf2 := mf
    obtain ⟨m1, m2, m3, m4, m5, m6, m7⟩ := mf2
    obtain ⟨f1, f2, f3, f4, f5, f6⟩ := hK.fact hif
    have hcode := cx.2.2.2.2.2.2.1 _ m3
    unfold rg_cw at hcode
    rw [if_pos hh] at hcode
    obtain ⟨hfc, kB, hkB, -⟩ := (hK.1.1 ci r hr).2
    obtain ⟨hblind, ⟨cellB, hcB, hoB, hclB⟩, hPc⟩ := pre_V (as := (st.take n).reverse) hK hP hrd h9 (cnm_of hr)
    have hcB2 : cellB.cls = (g_D G).1 ci := (Option.some.inj (hfc.symm.trans hclB)).symm
    rw [← hcB2] at hkB
    have hBk := vx_back (len := 5) (below := below) (sargs := args) (p := p) (e := e) (W9 := 8) (bytes := rg_by y') (maxL := rg_ml y') (ret := rg_rt y') (R := R) hct hblind rfl rfl hf (show 8 + (rg_ml y' + 11) + (64 * d' + 3200) ≤ R.locals by omega) (pay_in cx.2.2.2.2.2.2.1 (ws_good m3)) (by unfold rg_ws rg_cw; rw [if_pos hh]; exact List.mem_cons_self) (fun a' U hW => word_at hW (Or.inl (by first | rfl | simp [Cond.onTables, Cond.keeps, Cond.steady])) (cx.2.2.2.2.2.2.1 _ m4))
    refine runW_of5 hB (as := (Value.ref b :: (st.take n).reverse).toArray) ?_
    intro T hT X
    rcases vx_callIU X cx.1 (C := r.1) (bytes := rg_by y') (maxL := rg_ml y') (ret := rg_rt y') cx.2.2.2.2.2.1 (va_Nw.use rfl (hK.fact hl)) (va_Nw.use rfl f1) (va_Nw.use rfl f2) (va_Nw.use rfl f3) hxo (cx.2.2.2.2.2.2.1 _ hsel) (cx.2.2.2.2.2.2.1 _ hi) (va_Nw.use rfl f4) (va_Nw.use rfl f5) (va_Nw.use rfl f6) hcode hJ n1 hBk (by rw [hT]; exact hcB) hoB hclB hkB (g := F0 m pc ls st) rfl (hL.1.trans cx.2.2.1.symm) (argsL := (st.take n).reverse) (rest := rest) (fun sig h => by rw [h] at n3; exact (rg_len_eq h1).trans (Option.some.inj n3).symm) hst (rg_wok hw) (by rw [cx.2.1]; exact d)
      (fun vm₁ hW₁ => ⟨hc, hs, hPc (T.setVm vm₁) hT hW₁⟩) with ⟨v, vm₁, ⟨U', l2, c2, s2⟩, hW₁, X', ⟨g', mk, t, L, e1, e2, hq, h1, hL, h2, h3⟩, st⟩ | ⟨q, vm₁, ⟨U', l2, c2, s2⟩, hW₁, X', ⟨g', mk, t, L, E, ce, e1, e2, hq, hce, hcv, hcl, h1, hL, h2, h3⟩, st⟩
    · dsimp only [Pt.U, Pt.locs, Pt.cells, Pt.slots] at X' e1 e2 h1 h2 h3 st
      subst h1; subst h2; subst h3
      exact Or.inl ⟨v, (T.setVm vm₁).calling g' mk _, t, U', L, hT, X', hL, e1, e2, hq, st⟩
    · dsimp only [Pt.U, Pt.locs, Pt.cells, Pt.slots] at X' e1 e2 h1 h2 h3 st hcl
      subst h1; subst h2; subst h3
      exact Or.inr ⟨q, (T.setVm vm₁).calling g' mk _, t, U', L, E, ce, hT, X', hL, e1, e2, hq, hce, hcv, vx_cls hW₁ hcl, st⟩
  · exact absurd mf.1 (by omega)
  · exact absurd mf.1 (by omega)
end
section
variable {G : rg_G} {y pc npc : Nat} {p : Program} {l : Launch} {e : Env} {R : Room} {s : State} {m : MethodId} {args : Array Value} {below : List Frame} {meth : Method} {c : Code} {H : Heap} {locs : List Loc} {cells slots : Nat} {ls : Array Slot} {st rest : List Value} {σ σ' : rg_S} {v : Option Value}
/-- a call that is one row -/
theorem runW_row (h : ∀ Q : State → Prop, (∀ (H' : Heap) (locs' : List Loc), hp G σ' H' → LB G locs' → W p l e R s m args below meth c H' locs' (cells + (rg_sz σ' - rg_sz σ)) (slots + (rg_sl σ' - rg_sl σ)) Q (F0 m npc ls (v.toList ++ rest))) → W p l e R s m args below meth c H locs cells slots Q (F0 m pc ls st)) : RunW G p l e R s m args below meth c H locs cells slots (F0 m pc ls st) npc rest σ (.inl (v, σ')) := by
  intro T hT X
  obtain ⟨t, h1, T', locs', h2, h3, X', rfl⟩ := h (fun t => ∃ (T' : State) (locs' : List Loc), hp G σ' T'.heap ∧ LB G locs' ∧ Stand p l e R s m args below meth c T' locs' (cells + (rg_sz σ' - rg_sz σ)) (slots + (rg_sl σ' - rg_sl σ)) ∧ t = T'.setTop (F0 m npc ls (v.toList ++ rest)))
    (fun H' locs' g1 g2 T' hT' X' => ⟨_, Steps.refl _, T', locs', by rw [hT']; exact g1, g2, X', rfl⟩) T hT X
  exact ⟨T', locs', h2, h3, X', Or.inl ⟨v, σ', rfl, fun target ht => h1.trans ht⟩⟩
theorem nn_toInt {z : Int32} (hz : ¬ z < 0) : z.toInt = (z.toNatClampNeg : Int) := by
  have hz0 : (0 : Int) ≤ z.toInt := by
    have := Int32.not_lt.mp hz
    simpa using Int32.le_iff_toInt_le.mp this
  show z.toInt = ((z.toInt.toNat : Nat) : Int)
  omega
/-- an array cell that is copied into -/
theorem ac_run (hK : KS G s) (hP : hp G σ H) (hB : LB G locs) (cx : CX p y s m args meth c) (hL1 : ls.size = rg_ml y) {idx : Nat} (hlink : Cond.methodLink (rg_nm y).cls idx arraycopyName ∈ lw_all) (hn : Cond.native arraycopyName ∈ lw_all) (hst : Cond.static arraycopyName ∈ lw_all) (hi : Cond.initialized "java/lang/System" ∈ lw_all) (d : decode (rg_by y) pc = .ok (.invokestatic idx, 3))
    {a b : Nat} {k n0 n1 : Nat} {z0 z1 z2} {sp dp n : Int32} (hh0 : rg_h σ a = some (.inl (k, n0, z0))) (hh1 : rg_h σ b = some (.inl (k, n1, z1))) (h1 : ¬ sp < 0) (h2 : ¬ dp < 0) (h3 : ¬ n < 0) (h4 : sp.toNatClampNeg + n.toNatClampNeg ≤ n0) (h5 : dp.toNatClampNeg + n.toNatClampNeg ≤ n1)
    (hvals : ∀ T : State, T.heap = H → ∀ vm', s.vm.Alike vm' → ∀ dComp : ClassId, (∃ kA, s.vm.classes[g_A G k]? = some kA ∧ kA.kind = .array dComp (rg_ty k)) → ∀ i, i < n.toNatClampNeg → fits (rg_ty k) (vpv z0 (sp.toNatClampNeg + i)) = true ∧ (T.setVm vm').takes dComp (vpv z0 (sp.toNatClampNeg + i)))
    (he : copied (vp_cell (g_A G k) (n0, z0)) (vp_cell (g_A G k) (n1, z1)) sp dp n = vp_cell (g_A G k) (n1, z2))
    (hR : 1 ≤ R.frames) (hw : rg_w rest ≤ 8) (hlo : 3456 ≤ R.locals) :
    RunW G p l e R s m args below meth c H locs cells slots (F0 m pc ls (.int n :: .int dp :: .ref b :: .int sp :: .ref a :: rest)) (pc + 3) rest σ (.inl (none, rg_set σ b (.inl (k, n1, z2)))) := by
  obtain ⟨ga, gk, gc, -⟩ := hP.own hK hh0
  obtain ⟨gb, -, gd, -⟩ := hP.own hK hh1
  rw [← vp_cell_v] at gc gd
  have hA := (hK.1.2 k (g_A G k, rg_ty k) (by unfold rg_tys; simp [gk])).1
  obtain ⟨-, k0, hk0, cm0, hkk0⟩ := hA n0 (vpv z0)
  intro T hT X
  obtain ⟨vm', X', step⟩ := X.arraycopy cx.1 cx.2.2.2.2.2.1 (cx.2.2.2.2.2.2.1 _ hlink) (cx.2.2.2.2.2.2.1 _ hn) (cx.2.2.2.2.2.2.1 _ hst) (cx.2.2.2.2.2.2.1 _ hi) (src := a) (dst := b) (cs := vp_cell (g_A G k) (n0, z0)) (cd := vp_cell (g_A G k) (n1, z1)) (srcPos := sp) (destPos := dp) (n := n) (by rw [hT]; exact gc) (by rw [hT]; exact gd)
    (fun _ h => by rw [vp_cell_v] at h; cases h) (fun _ h => by rw [vp_cell_v] at h; cases h) (fun h => by rw [vp_cell_v] at h; cases h) (fun h => by rw [vp_cell_v] at h; cases h) (by rw [vp_cell_v]; exact hk0) (by rw [vp_cell_v]; exact hk0) hkk0 hkk0 (by simp) h1 h2 h3
    (by rw [nn_toInt h1, nn_toInt h3, vp_cell_v, arrV_size]; omega)
    (by rw [nn_toInt h2, nn_toInt h3, vp_cell_v, arrV_size]; omega)
    (fun vm₁ hal i hi => by
      have e : (vp_cell (g_A G k) (n0, z0)).slots.getD (sp.toNatClampNeg + i) .null = vpv z0 (sp.toNatClampNeg + i) := by
        rw [vp_cell_v, Array.getD_eq_getD_getElem?, arrV_read _ _ (by omega)]
        rfl
      rw [e]
      exact hvals T hT vm₁ hal cm0 ⟨k0, hk0, hkk0⟩ i hi)
    (g := F0 m pc ls (.int n :: .int dp :: .ref b :: .int sp :: .ref a :: rest)) rfl (hL1.trans cx.2.2.1.symm) (rest := rest) rfl (by rw [cx.2.1]; exact d) hR (by
      rw [rg_w_sum]
      have hw9 : nativeFrameWords "java/lang/System" "arraycopy" 5 ≤ 1000 := by decide
      show 2 * 0 + _ + _ ≤ _
      omega)
  rw [he] at X' step
  have hl : b < H.size := (Array.getElem?_eq_some_iff.mp gd).1
  have hheap : ((T.setVm vm').setCell b (vp_cell (g_A G k) (n1, z2))).heap = H.setIfInBounds b (vp_cell (g_A G k) (n1, z2)) := by rw [← hT]; rfl
  refine ⟨(T.setVm vm').setCell b (vp_cell (g_A G k) (n1, z2)), locs ++ ((vp_cell (g_A G k) (n0, z0)).stretch sp.toNatClampNeg n.toNatClampNeg).zipIdx.map (fun q => ⟨b, dp.toNatClampNeg + q.2⟩), ?_, ?_, ?_, Or.inl ⟨none, _, rfl, step⟩⟩
  · rw [hheap]
    exact hP.set hh1 ⟨gk, by simp [Array.getElem?_setIfInBounds, hl]⟩ (by simp) (fun q hq => by simp [Array.getElem?_setIfInBounds, Ne.symm hq])
  · intro q hq
    rcases List.mem_append.mp hq with h | h
    · exact hB q h
    · obtain ⟨z, -, hz⟩ := List.mem_map.mp h
      rw [← hz]
      exact gb
  · show Stand p l e R s m args below meth c _ _ (cells + (rg_sz (rg_set σ b _) - rg_sz σ)) (slots + (rg_sl (rg_set σ b _) - rg_sl σ))
    rw [sz_set, sl_set, Nat.sub_self, Nat.sub_self]
    exact X'
end
section
variable {l : Launch} {G : rg_G} {y pc npc : Nat} {o : rg_op}
theorem okq_at {σ : rg_S} {f : Nat → Option Nat} {sp n i q : Nat} (h : rg_okq σ f sp n = true) (hi : i < n) (hq : f (sp + i) = some q) : ∃ c F, rg_rd σ q = some (.inr (c, F)) ∧ rg_obj.contains c = true := by
  have h1 := List.all_eq_true.mp h i (List.mem_range.mpr hi)
  rw [hq] at h1
  dsimp only at h1
  unfold rg_cls at h1
  generalize rg_rd σ q = zz at h1 ⊢
  rcases zz with _ | z | ⟨c, F⟩
  · cases h1
  · cases h1
  · exact ⟨c, F, rfl, h1⟩
theorem call_AC {idx : Nat} (d : decode (rg_by y) pc = .ok (.invokestatic idx, 3)) (hl : Cond.methodLink (rg_nm y).cls idx arraycopyName ∈ lw_all) (hn : Cond.native arraycopyName ∈ lw_all) (hst : Cond.static arraycopyName ∈ lw_all) (hi : Cond.initialized "java/lang/System" ∈ lw_all) (hasg : ∀ c, rg_obj.contains c = true → AsgOK G 4 c) : CallOK l G y pc (.invokestatic idx, pc + 3, [(5, 0), (506, 0)]) := by
  intro L st σ y' as npc rest σ' hd
  obtain ⟨h1, rfl, rfl, rfl, rfl, rfl, hw⟩ := cal0 (n := 5) (y1 := 506) (z := 0) (t := []) (npc := pc + 3) (L := L) hd
  refine ⟨rfl, ?_⟩
  intro p e R s m args below meth c H locs cells slots ls d' w cx hK hP hB hL hup hc hs hor
  rcases hor with ⟨h5, -⟩ | ⟨-, hf, hlo, hint⟩ | ⟨h5, h6, -⟩
  · omega
  · replace hint : rg_acp (st.take 5).reverse σ' = some w := hint
    have hste : (st.take 5).reverse.reverse ++ st.drop 5 = st := rg_st_eq
    unfold rg_acp at hint
    split at hint
    · rename_i a sp b dp n hsp
      rw [hsp] at hste
      rw [← hste]
      split at hint
      · rename_i k m0 f hh0
        split at hint
        · rename_i k2 m2 g hh1
          split at hint
          · rename_i hcond
            simp only [Bool.and_eq_true, beq_iff_eq, decide_eq_true_eq] at hcond
            obtain ⟨⟨⟨⟨⟨⟨⟨hab, rfl⟩, rfl⟩, q1⟩, q2⟩, q3⟩, q4⟩, q5⟩ := hcond
            cases hint
            exact ac_run hK hP hB cx hL.1 hl hn hst hi d hh0 hh1 q1 q2 q3 q4 q5 (fun T hT vm' hal dComp _ i hi => ⟨rfl, trivial⟩) (va_copied (fun z => .long z) (g_A G 1) (g_A G 1) f g q4) (by omega) hw hlo
          · cases hint
        · cases hint
      · rename_i k m0 f hh0
        split at hint
        · rename_i k2 m2 g hh1
          split at hint
          · rename_i hcond
            simp only [Bool.and_eq_true, beq_iff_eq, decide_eq_true_eq] at hcond
            obtain ⟨⟨⟨⟨⟨⟨⟨⟨hab, rfl⟩, rfl⟩, q1⟩, q2⟩, q3⟩, q4⟩, q5⟩, q6⟩ := hcond
            cases hint
            refine ac_run hK hP hB cx hL.1 hl hn hst hi d hh0 hh1 q1 q2 q3 q4 q5 (fun T hT vm' hal dComp hkA i hi => ?_) (by rw [vp_cell_q, vp_cell_q, vp_cell_q]; exact va_copied (fun z => va_rf z) (g_A G 4) (g_A G 4) f g q4) (by omega) hw hlo
            show fits (rg_ty 4) (va_rf (f (sp.toNatClampNeg + i))) = true ∧ (T.setVm vm').takes dComp (va_rf (f (sp.toNatClampNeg + i)))
            cases hy : f (sp.toNatClampNeg + i) with
            | none => exact ⟨rfl, trivial⟩
            | some q =>
              obtain ⟨cq, F, hrd, hco⟩ := okq_at q6 hi hy
              obtain ⟨-, h26, hao⟩ := hasg cq hco
              obtain ⟨cellV, g1, g2, g3⟩ := hP.any hK hrd h26
              obtain ⟨kv, a1, a2⟩ := hao s hK
              obtain ⟨kA, hkA1, hkA2⟩ := hkA
              obtain ⟨kA', comp, r1, r2, r3, -⟩ := (hK.1.2 4 (g_A G 4, rg_ty 4) (by unfold rg_tys; simp)).2
              cases hkA1.symm.trans r1
              cases hkA2.symm.trans r2
              obtain ⟨kE, hkE, -⟩ := Vm.findClass_spec r3
              obtain ⟨kC', hkC', -⟩ := hal.2.2 _ _ a1
              obtain ⟨kE', hkE', -⟩ := hal.2.2 _ _ hkE
              refine ⟨rfl, cellV, (show T.heap[q]? = some cellV by rw [hT]; exact g1), (fun z h => by rw [h] at g2; cases g2), ⟨kC', by rw [g3]; exact hkC'⟩, ⟨kE', hkE'⟩, ?_⟩
              show vm'.assignable _ _ = true
              rw [hal.assignable, g3]
              exact a2 _ _ rfl r3
          · cases hint
        · cases hint
      · cases hint
    · cases hint
  · omega
theorem cal2' {n y1 z npc npc' y' : Nat} {L : rg_L} {t : List (Nat × Nat)} {st as rest : List Value} {σ σ' : rg_S} (h : rg_cal ((n, 2) :: (y1, z) :: t) npc L st σ = some (.inr (.inl (y', as, npc', rest, σ')))) : ∃ b, n ≤ st.length ∧ st.drop n = .ref b :: rest ∧ y' = y1 ∧ as = .ref b :: (st.take n).reverse ∧ npc' = npc ∧ σ' = σ ∧ rg_w rest ≤ 8 := cal2 h
theorem call_GC {idx : Nat} (d : decode (rg_by y) pc = .ok (.invokevirtual idx, 3)) (hl : Cond.methodLink (rg_nm y).cls idx ⟨"java/lang/Object", "getClass", "()Ljava/lang/Class;"⟩ ∈ lw_all) (hde : va_Dc ∈ rg_facts) (hse : Cond.selects "[Ljava/lang/Object;" ⟨"java/lang/Object", "getClass", "()Ljava/lang/Class;"⟩ ⟨"java/lang/Object", "getClass", "()Ljava/lang/Class;"⟩ ∈ lw_all) (hin : Cond.instanceMethod ⟨"java/lang/Object", "getClass", "()Ljava/lang/Class;"⟩ ∈ lw_all) (hna : Cond.native ⟨"java/lang/Object", "getClass", "()Ljava/lang/Class;"⟩ ∈ lw_all) : CallOK l G y pc (.invokevirtual idx, pc + 3, [(0, 2), (507, 0)]) := by
  intro L st σ y' as npc rest σ' hd
  obtain ⟨b, h1, h2, rfl, rfl, rfl, rfl, hw⟩ := cal2' (n := 0) (y1 := 507) (z := 0) (t := []) (npc := pc + 3) (L := L) hd
  refine ⟨rfl, ?_⟩
  intro p e R s m args below meth c H locs cells slots ls d' w cx hK hP hB hL hup hc hs hor
  rcases hor with ⟨h5, -⟩ | ⟨-, hf, hlo, hint⟩ | ⟨h5, h6, -⟩
  · omega
  · replace hint : rg_gcl [.ref b] σ' = some w := hint
    have h2 : st = .ref b :: rest := h2
    subst h2
    unfold rg_gcl at hint
    split at hint
    · rename_i a hab
      cases hab
      split at hint
      · rename_i k n z hh
        split at hint
        · rename_i hk
          cases hint
          rw [beq_iff_eq] at hk
          subst hk
          obtain ⟨ga, gk, gc, -⟩ := hP.own hK hh
          obtain ⟨mi, e1, e2⟩ := hK.2.2.2.2.1.2.1
          have hra := (hK.1.2 4 (g_A G 4, rg_ty 4) (by unfold rg_tys; simp)).2
          refine runW_row fun Q kk => ?_
          have kk := kk H locs hP hB
          rw [Nat.sub_self, Nat.sub_self, hP.2.2.2.2.1, e1] at kk
          refine va_getC cx.1 cx.2.1 (cx.2.2.1.trans hL.1.symm) cx.2.2.2.2.2.1 (cx.2.2.2.2.2.2.1 _ hl) (va_Dc.use (hK.fact hde)) (cx.2.2.2.2.2.2.1 _ hse) (cx.2.2.2.2.2.2.1 _ hin) (cx.2.2.2.2.2.2.1 _ hna) e2 ⟨_, gc, rfl, va_nmO hra rfl⟩ (by omega) (by rw [rg_w_sum]; omega) d kk
        · cases hint
      · cases hint
    · rename_i hno; exact absurd rfl (hno b)
  · omega
end
