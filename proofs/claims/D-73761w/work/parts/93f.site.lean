/-! call sites of lambdas: the rows invokedynamic; lambdas in arrays -/
set_option maxRecDepth 100000
section
variable {α : Type} {r : α}
theorem iv_dyn {x : Option CpInfo} {f : Nat → Nat → Option α} (h : (match x with | some (.invokeDynamic b nt) => f b nt | _ => none) = some r) : ∃ b nt, x = some (.invokeDynamic b nt) ∧ f b nt = some r := by
  split at h
  · exact ⟨_, _, rfl, h⟩
  · cases h
theorem iv_mh6 {x : Option CpInfo} {f : Nat → Option α} (h : (match x with | some (.methodHandle 6 y) => f y | _ => none) = some r) : ∃ y, f y = some r := by
  split at h
  · exact ⟨_, h⟩
  · cases h
theorem iv_arr {x : Array Nat} {f : Nat → Nat → Nat → Option α} (h : (match x with | #[a, b, c] => f a b c | _ => none) = some r) : ∃ a b c, f a b c = some r := by
  obtain ⟨L⟩ := x
  match L, h with
  | [], h => cases h
  | [_], h => cases h
  | [_, _], h => cases h
  | [a, b, c], h => exact ⟨a, b, c, h⟩
  | _ :: _ :: _ :: _ :: _, h => cases h
theorem iv_mt {x : Option CpInfo} {f : Nat → Option α} (h : (match x with | some (.methodType y) => f y | _ => none) = some r) : ∃ y, f y = some r := by
  split at h
  · exact ⟨_, h⟩
  · cases h
theorem iv_mh {x : Option CpInfo} {f : Nat → Nat → Option α} (h : (match x with | some (.methodHandle y z) => f y z | _ => none) = some r) : ∃ y z, f y z = some r := by
  split at h
  · exact ⟨_, _, h⟩
  · cases h
theorem iv_ob {x : Option FieldType} {f : String → Option α} (h : (match x with | some (.object y) => f y | _ => none) = some r) : ∃ y, f y = some r := by
  split at h
  · exact ⟨_, h⟩
  · cases h
end
theorem shp_site {cf : ClassFile} {index : Nat} {σ : Lambda.Shape} (h : Lambda.shapeOf? cf index = some σ) :
    ∃ (b nt : Nat) (desc : String) (site : MethodDescriptor), cf.constantPool[index]? = some (.invokeDynamic b nt) ∧ cf.constantPool.nameAndType? nt = some (σ.name, desc) ∧ parseMethodDescriptor desc = some site ∧ site.parameters = σ.captured := by
  unfold Lambda.shapeOf? at h
  obtain ⟨b, nt, hc, h⟩ := iv_dyn h
  obtain ⟨_, -, h⟩ := Option.bind_eq_some_iff.mp h
  obtain ⟨_, -, h⟩ := Option.bind_eq_some_iff.mp h
  obtain ⟨_, h⟩ := iv_mh6 h
  obtain ⟨_, -, h⟩ := Option.bind_eq_some_iff.mp h
  obtain ⟨_, _, _, h⟩ := iv_arr h
  obtain ⟨_, h⟩ := iv_mt h
  obtain ⟨_, _, h⟩ := iv_mh h
  obtain ⟨_, h⟩ := iv_mt h
  obtain ⟨⟨name, desc⟩, hnt, h⟩ := Option.bind_eq_some_iff.mp h
  obtain ⟨site, hsite, h⟩ := Option.bind_eq_some_iff.mp h
  obtain ⟨_, h⟩ := iv_ob h
  obtain ⟨⟨_, _, _, _⟩, -, h⟩ := Option.bind_eq_some_iff.mp h
  obtain ⟨_, -, h⟩ := Option.bind_eq_some_iff.mp h
  obtain ⟨_, -, h⟩ := Option.bind_eq_some_iff.mp h
  obtain ⟨_, -, h⟩ := Option.bind_eq_some_iff.mp h
  obtain ⟨_, -, h⟩ := Option.bind_eq_some_iff.mp h
  obtain ⟨_, -, h⟩ := Option.bind_eq_some_iff.mp h
  cases h
  exact ⟨b, nt, desc, site, hc, hnt, hsite, rfl⟩
section
variable {l : Launch} {G : rg_G} {y pc : Nat}
/-- a site that keeps nothing -/
theorem go_dynC {n idx : Nat} {sh : Lambda.Shape} (hq : (n, rg_nm y, pc, idx, sh) ∈ rg_lams) (hcap : sh.captured = []) (d : decode (rg_by y) pc = .ok (.invokedynamic idx, 5)) : GoOK G y pc (.invokedynamic idx, pc + 5, [(300 + (n - 910), 0)]) := by
  intro L st σ pc' L' st' σ' hd p l e R s m args below meth c H locs cells slots Q ls cx hK hP hB hL hf hl hc hs kk
  replace hd : (if rg_w st ≤ 8 then rg_go (pc + 5) L (rg_st σ (300 + (n - 910)) :: st) σ else none) = _ := hd
  split at hd
  · rename_i hw
    obtain ⟨rfl, rfl, rfl, rfl⟩ := rg_go_inv hd
    rw [Nat.sub_self, Nat.sub_self] at kk
    obtain ⟨-, a, ha, m', k, cf, i0, p0, g1, g2, g3, g4, g5, g6, g7⟩ := (hK.2.2.2.2.1.1 _ hq).resolve_right fun z => z.1 hcap
    obtain ⟨-, -, -, -, -, -, -, -, -, hnm⟩ := id cx
    cases hnm.symm.trans g1
    intro T hT X
    obtain ⟨t, b1, b2⟩ := kk H ls locs hP hB hL T hT X
    rw [hP.2.2.2.2.1, ha] at b1
    exact ⟨t, X.lambdaConstant cx.1 (g := F0 m pc ls st) rfl (hL.1.trans cx.2.2.1.symm) (by rw [cx.2.1]; exact d) g2 g5 (by rw [X.admits.platform, rg_w_sum]; show 2 * 0 + rg_w st + 3072 ≤ R.locals; omega) b1, b2⟩
  · cases hd
/-- a site that keeps one reference -/
theorem go_dynM {n idx : Nat} {sh : Lambda.Shape} {C cn : String} (hq : (n, rg_nm y, pc, idx, sh) ∈ rg_lams) (hn : 910 ≤ n) (hcap : sh.captured = [.object C]) (hcn : (rg_nm y).cls = cn) (d : decode (rg_by y) pc = .ok (.invokedynamic idx, 5)) (hob : Cond.instantiable "java/lang/Object" 0 ∈ lw_all)
    (h1 : (sh.file cn).isSome = true) (h2 : ((layoutMethods (lf_D sh cn)).bind (·[1]?)).isSome = true) (h3 : (lf_M sh cn).code.isSome = true) (h4 : (lf_M sh cn).accessFlags = 0x0001) (h5 : (layoutFields (lf_D sh cn) 0).map (·.2.1) = some #[.object C]) : GoOK G y pc (.invokedynamic idx, pc + 5, [(n, 1)]) := by
  intro L st σ pc' L' st' σ' hd p l e R s m args below meth c H locs cells slots Q ls cx hK hP hB hL hf hl hc hs kk
  replace hd : (match st with
    | v :: r => if rg_isr v && decide (rg_w r ≤ 8) then rg_go (pc + 5) L (.ref (rg_sz σ) :: r) (rg_new σ (.inr (n, rg_f [v])) 1) else none
    | _ => none) = some (.inl (pc', L', st', σ')) := hd
  split at hd
  · rename_i v r
    split at hd
    · rename_i hvw
      rw [Bool.and_eq_true, decide_eq_true_eq] at hvw
      obtain ⟨hv, hw⟩ := hvw
      obtain ⟨rfl, rfl, rfl, rfl⟩ := rg_go_inv hd
      rw [sz_new_sub, sl_new_sub] at kk
      rw [sz_new_sub] at hc
      rw [sl_new_sub] at hs
      obtain ⟨-, m', k, cf, i0, p0, g1, g2, g3, g4, g5, g6, g7⟩ := (hK.2.2.2.2.1.1 _ hq).resolve_left fun z => by
        have := z.1
        rw [show (n, rg_nm y, pc, idx, sh).2.2.2.2.captured = sh.captured from rfl, hcap] at this
        cases this
      obtain ⟨-, -, -, -, -, -, -, -, -, hnm⟩ := id cx
      cases hnm.symm.trans g1
      have hdn : k.name = cn := by
        obtain ⟨k0, e1, e2⟩ := className_of_methodNamed g1
        cases g2.symm.trans e1
        rw [← hcn]; exact e2
      obtain ⟨kc, tk, ok, file, b, ck, t, object, iface, target, found, lay, ⟨f1, f2, f3, f4, f5⟩, -, -, -, ⟨o1, o2, o3, o4⟩, -, -⟩ := lf_made g2 hdn g6 h1 h2 h3 h4
      obtain ⟨cO, kO, hfO, hkO, -, -, -, hsz⟩ := Cond.instantiable_spec (cx.2.2.2.2.2.2.1 _ hob)
      cases hfO.symm.trans o1
      cases hkO.symm.trans o2
      have hemp : ok.instanceTypes = #[] := Array.eq_empty_of_size_eq_zero hsz
      rw [hsz] at o3
      rw [o3] at h5
      have hit : kc.instanceTypes = #[.object C] := by
        have h6 : lay.2.1 = #[.object C] := Option.some.inj h5
        rw [o4, hemp, h6]; simp
      obtain ⟨bs, nt, desc, site, s1, s2, s3, s4⟩ := shp_site g4
      have hnar : narrow (.object C) v = v := by rcases isr_cases hv with rfl | ⟨a, rfl⟩ <;> rfl
      have hsl : ((kc.instanceTypes.toList.zip [v]).map fun (t, v) => narrow t v) = [v] := by rw [hit]; simp [hnar]
      intro T hT X
      obtain ⟨X1, st1⟩ := X.lambdaMakes cx.1 (g := F0 m pc ls (v :: r)) rfl (hL.1.trans cx.2.2.1.symm) (by rw [cx.2.1]; exact d) (vals := [v]) (rest := r) g2 g5 g3 s1 s2 (parseLong_of_parse s3) (by rw [s4]; show [v].length = sh.captured.length; rw [hcap]; rfl) rfl f1
        (by rw [X.admits.platform, rg_w_sum]; show 2 * 0 + ((if rg_isl v then 2 else 1) + rg_w r) + 3072 ≤ R.locals; split <;> omega) hc (by rw [hsl]; exact hs)
        (fun i w hw => by
          rw [hsl] at hw
          cases i with
          | zero =>
            simp at hw; subst hw
            rcases isr_cases hv with rfl | ⟨a, rfl⟩ <;> simp [State.fitsSlot, State.slotType?, f1, f3, hit, fits]
          | succ j => simp at hw)
      rw [hsl] at X1 st1
      have hth : (T.pushCell { cls := g_L G n, slots := [v].toArray, vm := .none }).heap = H.push { cls := g_L G n, slots := [v].toArray, vm := .none } := by rw [← hT]; rfl
      have hTs : T.heap.size = rg_sz σ := by rw [hT]; exact hP.1
      obtain ⟨t, b1, b2⟩ := kk (H.push { cls := g_L G n, slots := [v].toArray, vm := .none }) ls locs (hP.new (Or.inr ⟨hn, by simp [rg_f]⟩) (by simp) (fun q hq => by simp [Array.getElem?_push, Nat.ne_of_lt hq])) hB hL _ hth X1
      refine ⟨t, st1 t ?_, b2⟩
      rw [hTs]
      exact b1
    · cases hd
  · cases hd
/-- a lambda in an array of its interface -/
theorem asg_lam {n idx pc0 : Nat} {x : MethodName} {sh : Lambda.Shape} {k : Nat} (hq : (n, x, pc0, idx, sh) ∈ rg_lams) (hn : 910 ≤ n) (h4 : 4 ≤ k) (hk : rg_ty k = .object sh.iface) : AsgOK G k n := by
  refine ⟨h4, by omega, fun s hK => ?_⟩
  have hc : clsId G n = g_L G n := by unfold clsId; rw [if_neg (by omega)]
  rw [hc]
  have hL : ∃ lk, LamF x pc0 idx sh (g_L G n) lk s := by
    rcases hK.2.2.2.2.1.1 _ hq with ⟨-, a, -, h⟩ | ⟨-, h⟩
    · exact ⟨_, h⟩
    · exact ⟨_, h⟩
  obtain ⟨lk, m, k1, cf, i0, p0, g1, g2, g3, g4, g5, g6, g7⟩ := hL
  obtain ⟨_, kv, _, _, _, _, _, _, _, _, _, _, _, -, hkv, -⟩ := Lambda.isMade_spec g6
  obtain ⟨i, hi, ha, -⟩ := State.lambdaCallable_spec g7
  refine ⟨kv, hkv, fun comp E hE hcomp => ?_⟩
  rw [hk] at hE
  cases hE
  cases hi.symm.trans hcomp
  exact ha
end
