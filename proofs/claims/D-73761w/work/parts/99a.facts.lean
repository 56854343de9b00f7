/-! what the tables say at the law's start. Printed by gen/print_start.py -/
set_option maxRecDepth 100000
theorem sel_priv {C : String} {y z : MethodName} {s : State} {args : Array Value} (hz : (Cond.selects C z z).before args s = true) (hzy : z.cls = y.cls) (hpriv : (Cond.privateMethod y).before args s = true) (hinst : (Cond.instanceMethod y).before args s = true) (hy : y.cls ≠ "java/lang/invoke/MethodHandle" ∧ y.cls ≠ "java/lang/invoke/VarHandle") : (Cond.selects C y y).before args s = true := by
  obtain ⟨c2, r2, m2, q1, q2, q3, q4, kP, hkP, hkPi⟩ := Cond.selects_spec hz
  obtain ⟨mk, methM, hnamed, hmethM, -, -⟩ := Cond.instanceMethod_spec hinst
  have hfound := State.methodFound?_of_named hnamed hy
  have hcls : mk.cls = m2.cls := by
    have e1 := findClass_of_methodNamed hnamed
    have e2 := findClass_of_methodNamed q3
    rw [hzy] at e2
    exact Option.some.inj (e1.symm.trans e2)
  have hsel : selectMethod {} s.vm c2 mk = .method mk := selectMethod_private hmethM (Cond.privateMethod_at hpriv mk methM hnamed hmethM)
  simp only [Cond.before, Cond.holds, Cond.value, q1, hfound, hnamed, hsel, hcls, hkP]
  simp; exact hkPi
theorem facts_at {s : State} {b : Nat} (hts : ∀ w ∈ lw_tbl, w.before #[Value.ref b] s = true) (hnw : ∀ w ∈ flatC (Jvm.Cond.and given_1 narrow_1), w.before #[Value.ref b] s = true) : ∀ f ∈ rg_facts, f s := by
  unfold rg_facts
  refine List.forall_mem_cons.mpr ⟨va_Nw.of rfl (hts _ q383), ?_⟩
  refine List.forall_mem_cons.mpr ⟨va_Nw.of rfl (hts _ q399), ?_⟩
  refine List.forall_mem_cons.mpr ⟨va_Nw.of rfl (hts _ q391), ?_⟩
  refine List.forall_mem_cons.mpr ⟨va_Nw.of rfl (hts _ q412), ?_⟩
  refine List.forall_mem_cons.mpr ⟨va_Nw.of rfl (hts _ q912), ?_⟩
  refine List.forall_mem_cons.mpr ⟨va_Nw.of rfl (hts _ q914), ?_⟩
  refine List.forall_mem_cons.mpr ⟨va_Nw.of rfl (hts _ q1028), ?_⟩
  refine List.forall_mem_cons.mpr ⟨va_Nw.of rfl (hts _ q1019), ?_⟩
  refine List.forall_mem_cons.mpr ⟨va_Nw.of rfl (hts _ q568), ?_⟩
  refine List.forall_mem_cons.mpr ⟨va_Nw.of rfl (hts _ q407), ?_⟩
  refine List.forall_mem_cons.mpr ⟨va_Nw.of rfl (hts _ q575), ?_⟩
  refine List.forall_mem_cons.mpr ⟨va_Nw.of rfl (hts _ q1023), ?_⟩
  refine List.forall_mem_cons.mpr ⟨va_Nw.of rfl (hts _ q1235), ?_⟩
  refine List.forall_mem_cons.mpr ⟨va_Nw.of rfl (hts _ q1216), ?_⟩
  refine List.forall_mem_cons.mpr ⟨va_Nw.of rfl (hts _ q572), ?_⟩
  refine List.forall_mem_cons.mpr ⟨va_Nw.of rfl (hts _ q1220), ?_⟩
  refine List.forall_mem_cons.mpr ⟨va_Nw.of rfl (hts _ q1226), ?_⟩
  refine List.forall_mem_cons.mpr ⟨va_Nw.of rfl (hts _ q1026), ?_⟩
  refine List.forall_mem_cons.mpr ⟨va_Nw.of rfl (hts _ q1030), ?_⟩
  refine List.forall_mem_cons.mpr ⟨va_Nw.of rfl (hts _ q1032), ?_⟩
  refine List.forall_mem_cons.mpr ⟨va_Nw.of rfl (hts _ q1034), ?_⟩
  refine List.forall_mem_cons.mpr ⟨va_Nw.of rfl (hts _ q1229), ?_⟩
  refine List.forall_mem_cons.mpr ⟨va_Nw.of rfl (hts _ q1038), ?_⟩
  refine List.forall_mem_cons.mpr ⟨va_Nw.of rfl (hts _ q1036), ?_⟩
  refine List.forall_mem_cons.mpr ⟨va_Nw.of rfl (hts _ q1211), ?_⟩
  refine List.forall_mem_cons.mpr ⟨va_Nw.of rfl (hts _ q1222), ?_⟩
  refine List.forall_mem_cons.mpr ⟨va_Nw.of rfl (hts _ q409), ?_⟩
  refine List.forall_mem_cons.mpr ⟨va_Nw.of rfl (hts _ q397), ?_⟩
  refine List.forall_mem_cons.mpr ⟨va_Nw.of rfl (hts _ q404), ?_⟩
  refine List.forall_mem_cons.mpr ⟨va_Nw.of rfl (hts _ q379), ?_⟩
  refine List.forall_mem_cons.mpr ⟨va_Nw.of rfl (hts _ q387), ?_⟩
  refine List.forall_mem_cons.mpr ⟨va_Nw.of rfl (hts _ q1018), ?_⟩
  refine List.forall_mem_cons.mpr ⟨va_Nw.of rfl (hts _ q1022), ?_⟩
  refine List.forall_mem_cons.mpr ⟨va_Nw.of rfl (hts _ q566), ?_⟩
  refine List.forall_mem_cons.mpr ⟨va_Nw.of rfl (hts _ q398), ?_⟩
  refine List.forall_mem_cons.mpr ⟨va_Nw.of rfl (hts _ q406), ?_⟩
  refine List.forall_mem_cons.mpr ⟨va_Nw.of rfl (hts _ q382), ?_⟩
  refine List.forall_mem_cons.mpr ⟨va_Nw.of rfl (hts _ q414), ?_⟩
  refine List.forall_mem_cons.mpr ⟨va_Nw.of rfl (hts _ q655), ?_⟩
  refine List.forall_mem_cons.mpr ⟨va_Nw.of rfl (hts _ q390), ?_⟩
  refine List.forall_mem_cons.mpr ⟨va_Nw.of rfl (hts _ q1234), ?_⟩
  refine List.forall_mem_cons.mpr ⟨va_Nw.of rfl (hts _ q1214), ?_⟩
  refine List.forall_mem_cons.mpr ⟨va_Nw.of rfl (hts _ q1209), ?_⟩
  refine List.forall_mem_cons.mpr ⟨va_Nw.of rfl (hts _ q415), ?_⟩
  refine List.forall_mem_cons.mpr ⟨va_Nw.of rfl (hts _ q645), ?_⟩
  refine List.forall_mem_cons.mpr ⟨va_Nw.of rfl (hts _ q644), ?_⟩
  refine List.forall_mem_cons.mpr ⟨va_Nw.of rfl (hts _ q1027), ?_⟩
  refine List.forall_mem_cons.mpr ⟨va_Nw.of rfl (hts _ q1035), ?_⟩
  refine List.forall_mem_cons.mpr ⟨va_Nw.of rfl (hts _ q1236), ?_⟩
  refine List.forall_mem_cons.mpr ⟨va_Nw.of rfl (hts _ q1017), ?_⟩
  refine List.forall_mem_cons.mpr ⟨va_Nw.of rfl (hts _ q1021), ?_⟩
  refine List.forall_mem_cons.mpr ⟨va_Nw.of rfl (hts _ q1031), ?_⟩
  refine List.forall_mem_cons.mpr ⟨va_Nw.of rfl (hts _ q1033), ?_⟩
  refine List.forall_mem_cons.mpr ⟨va_Nw.of rfl (hts _ q1995), ?_⟩
  refine List.forall_mem_cons.mpr ⟨va_Nw.of rfl (hts _ q1037), ?_⟩
  refine List.forall_mem_cons.mpr ⟨va_Nw.of rfl (hts _ q1225), ?_⟩
  refine List.forall_mem_cons.mpr ⟨va_Nw.of rfl (hts _ q1215), ?_⟩
  refine List.forall_mem_cons.mpr ⟨va_Nw.of rfl (hts _ q1025), ?_⟩
  refine List.forall_mem_cons.mpr ⟨va_Nw.of rfl (hts _ q565), ?_⟩
  refine List.forall_mem_cons.mpr ⟨va_Nw.of rfl (hts _ q386), ?_⟩
  refine List.forall_mem_cons.mpr ⟨va_Nw.of rfl (hts _ q378), ?_⟩
  refine List.forall_mem_cons.mpr ⟨va_Nw.of rfl (hts _ q410), ?_⟩
  refine List.forall_mem_cons.mpr ⟨va_Nw.of rfl (hts _ q1029), ?_⟩
  refine List.forall_mem_cons.mpr ⟨va_Nw.of rfl (hts _ q394), ?_⟩
  refine List.forall_mem_cons.mpr ⟨va_Nw.of rfl (hts _ q402), ?_⟩
  refine List.forall_mem_cons.mpr ⟨va_Nw.of rfl (hts _ q1991), ?_⟩
  refine List.forall_mem_cons.mpr ⟨va_Nw.of rfl (hts _ q1993), ?_⟩
  refine List.forall_mem_cons.mpr ⟨va_Nw.of rfl (hts _ q564), ?_⟩
  refine List.forall_mem_cons.mpr ⟨va_Nw.of rfl (hts _ q396), ?_⟩
  refine List.forall_mem_cons.mpr ⟨va_Nw.of rfl (hts _ q574), ?_⟩
  refine List.forall_mem_cons.mpr ⟨va_Nw.of rfl (hts _ q403), ?_⟩
  refine List.forall_mem_cons.mpr ⟨va_Nw.of rfl (hts _ q381), ?_⟩
  refine List.forall_mem_cons.mpr ⟨va_Nw.of rfl (hts _ q389), ?_⟩
  refine List.forall_mem_cons.mpr ⟨va_Nw.of rfl (hts _ q570), ?_⟩
  refine List.forall_mem_cons.mpr ⟨va_Nw.of rfl (hts _ q1325), ?_⟩
  refine List.forall_mem_cons.mpr ⟨va_Nw.of rfl (hts _ q1327), ?_⟩
  refine List.forall_mem_cons.mpr ⟨va_Nw.of rfl (hts _ q1323), ?_⟩
  refine List.forall_mem_cons.mpr ⟨va_Nw.of rfl (hts _ q1321), ?_⟩
  refine List.forall_mem_cons.mpr ⟨va_Nw.of rfl (hts _ q567), ?_⟩
  refine List.forall_mem_cons.mpr ⟨va_Nw.of rfl (hts _ q384), ?_⟩
  refine List.forall_mem_cons.mpr ⟨va_Nw.of rfl (hts _ q400), ?_⟩
  refine List.forall_mem_cons.mpr ⟨va_Nw.of rfl (hts _ q405), ?_⟩
  refine List.forall_mem_cons.mpr ⟨va_Nw.of rfl (hts _ q413), ?_⟩
  refine List.forall_mem_cons.mpr ⟨va_Nw.of rfl (hts _ q392), ?_⟩
  refine List.forall_mem_cons.mpr ⟨va_Nw.of rfl (hts _ q673), ?_⟩
  refine List.forall_mem_cons.mpr ⟨va_Nw.of rfl (hts _ q672), ?_⟩
  refine List.forall_mem_cons.mpr ⟨va_Nw.of rfl (hts _ q656), ?_⟩
  refine List.forall_mem_cons.mpr ⟨va_Nw.of rfl (hts _ q663), ?_⟩
  refine List.forall_mem_cons.mpr ⟨va_Nw.of rfl (hts _ q669), ?_⟩
  refine List.forall_mem_cons.mpr ⟨va_Nw.of rfl (hts _ q1016), ?_⟩
  refine List.forall_mem_cons.mpr ⟨va_Nw.of rfl (hts _ q1020), ?_⟩
  refine List.forall_mem_cons.mpr ⟨va_Nw.of rfl (hts _ q1210), ?_⟩
  refine List.forall_mem_cons.mpr ⟨va_Nw.of rfl (hts _ q1233), ?_⟩
  refine List.forall_mem_cons.mpr ⟨va_Nw.of rfl (hts _ q1213), ?_⟩
  refine List.forall_mem_cons.mpr ⟨va_Nw.of rfl (hts _ q380), ?_⟩
  refine List.forall_mem_cons.mpr ⟨va_Nw.of rfl (hts _ q388), ?_⟩
  refine List.forall_mem_cons.mpr ⟨va_Nw.of rfl (hts _ q411), ?_⟩
  refine List.forall_mem_cons.mpr ⟨va_Nw.of rfl (hts _ q395), ?_⟩
  refine List.forall_mem_cons.mpr ⟨va_Nw.of rfl (hts _ q654), ?_⟩
  refine List.forall_mem_cons.mpr ⟨va_Nw.of rfl (hts _ q1381), ?_⟩
  refine List.forall_mem_cons.mpr ⟨va_Nw.of rfl (hts _ q260), ?_⟩
  refine List.forall_mem_cons.mpr ⟨va_Nw.of rfl (hts _ q1071), ?_⟩
  refine List.forall_mem_cons.mpr ⟨va_Nw.of rfl (hts _ q3118), ?_⟩
  refine List.forall_mem_cons.mpr ⟨va_Nw.of rfl (hts _ q3120), ?_⟩
  refine List.forall_mem_cons.mpr ⟨va_Nw.of rfl (hts _ q3131), ?_⟩
  refine List.forall_mem_cons.mpr ⟨va_Nw.of rfl (hts _ q3135), ?_⟩
  refine List.forall_mem_cons.mpr ⟨va_Nw.of rfl (hts _ q616), ?_⟩
  refine List.forall_mem_cons.mpr ⟨va_Nw.of rfl (hts _ q745), ?_⟩
  refine List.forall_mem_cons.mpr ⟨⟨va_Nw.of rfl (hts _ q1606), va_Nw.of rfl (hts _ q1605), va_Nw.of rfl (hts _ q1611), va_Nw.of rfl (hts _ q1609), va_Nw.of rfl (hts _ q1607)⟩, ?_⟩
  refine List.forall_mem_cons.mpr ⟨⟨va_Nw.of rfl (hts _ q1606), va_Nw.of rfl (hts _ q1605), va_Nw.of rfl (hts _ q1617), va_Nw.of rfl (hts _ q1615), va_Nw.of rfl (hts _ q1613)⟩, ?_⟩
  refine List.forall_mem_cons.mpr ⟨⟨va_Nw.of rfl (hts _ q1622), va_Nw.of rfl (hts _ q1621), va_Nw.of rfl (hts _ q1626), va_Nw.of rfl (hts _ q1624), va_Nw.of rfl (hts _ q1607)⟩, ?_⟩
  refine List.forall_mem_cons.mpr ⟨⟨va_Nw.of rfl (hts _ q1622), va_Nw.of rfl (hts _ q1621), va_Nw.of rfl (hts _ q1635), va_Nw.of rfl (hts _ q1633), va_Nw.of rfl (hts _ q1613)⟩, ?_⟩
  refine List.forall_mem_cons.mpr ⟨va_Nw.of rfl (hts _ q482), ?_⟩
  refine List.forall_mem_cons.mpr ⟨va_Nw.of rfl (hts _ q789), ?_⟩
  refine List.forall_mem_cons.mpr ⟨va_Nw.of rfl (hts _ q952), ?_⟩
  refine List.forall_mem_cons.mpr ⟨va_Nw.of rfl (hts _ q1012), ?_⟩
  refine List.forall_mem_cons.mpr ⟨va_Nw.of rfl (hts _ q1093), ?_⟩
  refine List.forall_mem_cons.mpr ⟨va_Nw.of rfl (hts _ q1953), ?_⟩
  refine List.forall_mem_cons.mpr ⟨va_Nw.of rfl (hts _ q1281), ?_⟩
  refine List.forall_mem_cons.mpr ⟨va_Nw.of rfl (hts _ q2141), ?_⟩
  refine List.forall_mem_cons.mpr ⟨⟨va_Nw.of rfl (hts _ q1361), va_Nw.of rfl (hts _ q1360), va_Nw.of rfl (hts _ q1366), va_Nw.of rfl (hts _ q1364), va_Nw.of rfl (hts _ q1362)⟩, ?_⟩
  refine List.forall_mem_cons.mpr ⟨⟨va_Nw.of rfl (hts _ q1380), va_Nw.of rfl (hts _ q1379), va_Nw.of rfl (hts _ q1385), va_Nw.of rfl (hts _ q1383), va_Nw.of rfl (hts _ q1381)⟩, ?_⟩
  refine List.forall_mem_cons.mpr ⟨⟨va_Nw.of rfl (hts _ q1828), va_Nw.of rfl (hts _ q1827), va_Nw.of rfl (hts _ q1832), va_Nw.of rfl (hts _ q1830), va_Nw.of rfl (hts _ q1562)⟩, ?_⟩
  refine List.forall_mem_cons.mpr ⟨⟨va_Nw.of rfl (hts _ q1847), va_Nw.of rfl (hts _ q1846), va_Nw.of rfl (hts _ q1852), va_Nw.of rfl (hts _ q1850), va_Nw.of rfl (hts _ q1848)⟩, ?_⟩
  refine List.forall_mem_cons.mpr ⟨va_Nw.of rfl (hnw _ (by decide +kernel)), ?_⟩
  refine List.forall_mem_cons.mpr ⟨⟨va_Nw.of rfl (hts _ q1561), va_Nw.of rfl (hnw _ (by decide +kernel)), va_Nw.of rfl (hts _ q1560), va_Nw.of rfl (hts _ q1565), va_Nw.of rfl (hts _ q1564), va_Nw.of rfl (hts _ q1562)⟩, ?_⟩
  refine List.forall_mem_cons.mpr ⟨va_Nw.of rfl (hnw _ (by decide +kernel)), ?_⟩
  refine List.forall_mem_cons.mpr ⟨⟨va_Nw.of rfl (hts _ q1713), va_Nw.of rfl (hnw _ (by decide +kernel)), va_Nw.of rfl (hts _ q1712), va_Nw.of rfl (hts _ q1717), va_Nw.of rfl (hts _ q1715), va_Nw.of rfl (hts _ q1562)⟩, ?_⟩
  refine List.forall_mem_cons.mpr ⟨va_Nw.of rfl (hnw _ (by decide +kernel)), ?_⟩
  refine List.forall_mem_cons.mpr ⟨⟨va_Nw.of rfl (hts _ q1806), va_Nw.of rfl (hnw _ (by decide +kernel)), va_Nw.of rfl (hts _ q1805), va_Nw.of rfl (hts _ q1810), va_Nw.of rfl (hts _ q1808), va_Nw.of rfl (hts _ q1562)⟩, ?_⟩
  refine List.forall_mem_cons.mpr ⟨va_Nw.of rfl (hnw _ (by decide +kernel)), ?_⟩
  refine List.forall_mem_cons.mpr ⟨⟨va_Nw.of rfl (hts _ q1908), va_Nw.of rfl (hnw _ (by decide +kernel)), va_Nw.of rfl (hts _ q1907), va_Nw.of rfl (hts _ q1912), va_Nw.of rfl (hts _ q1910), va_Nw.of rfl (hts _ q1562)⟩, ?_⟩
  refine List.forall_mem_cons.mpr ⟨va_Nw.of rfl (hnw _ (by decide +kernel)), ?_⟩
  refine List.forall_mem_cons.mpr ⟨⟨va_Nw.of rfl (hts _ q2348), va_Nw.of rfl (hnw _ (by decide +kernel)), va_Nw.of rfl (hts _ q2347), va_Nw.of rfl (hts _ q2352), va_Nw.of rfl (hts _ q2350), va_Nw.of rfl (hts _ q1562)⟩, ?_⟩
  refine List.forall_mem_cons.mpr ⟨va_Nw.of rfl (hnw _ (by decide +kernel)), ?_⟩
  refine List.forall_mem_cons.mpr ⟨va_Nw.of rfl (sel_priv (z := ⟨"RegisterColours$Machine", "tells", "(I)I"⟩) (hts _ (lw_all_tbl q2117)) rfl (hts _ q2129) (hts _ (lw_all_tbl q2130)) (by decide)), ?_⟩
  refine List.forall_mem_cons.mpr ⟨va_Nw.of rfl (sel_priv (z := ⟨"RegisterColours$Machine", "tells", "(I)I"⟩) (hts _ (lw_all_tbl q2116)) rfl (hts _ q2129) (hts _ (lw_all_tbl q2130)) (by decide)), ?_⟩
  refine List.forall_mem_cons.mpr ⟨va_Nw.of rfl (hts _ q2161), ?_⟩
  refine List.forall_mem_cons.mpr ⟨va_Nw.of rfl (hts _ q2133), ?_⟩
  refine List.forall_mem_cons.mpr ⟨va_Nw.of rfl (hts _ q2143), ?_⟩
  refine List.forall_mem_cons.mpr ⟨va_Nw.of rfl (sel_priv (z := ⟨"RegisterColours$Machine", "tells", "(I)I"⟩) (hts _ (lw_all_tbl q2117)) rfl (hts _ q2157) (hts _ (lw_all_tbl q2158)) (by decide)), ?_⟩
  refine List.forall_mem_cons.mpr ⟨va_Nw.of rfl (sel_priv (z := ⟨"RegisterColours$Machine", "tells", "(I)I"⟩) (hts _ (lw_all_tbl q2116)) rfl (hts _ q2157) (hts _ (lw_all_tbl q2158)) (by decide)), ?_⟩
  refine List.forall_mem_cons.mpr ⟨va_Nw.of rfl (sel_priv (z := ⟨"RegisterColours$Machine", "tells", "(I)I"⟩) (hts _ (lw_all_tbl q2117)) rfl (hts _ q2171) (hts _ (lw_all_tbl q2172)) (by decide)), ?_⟩
  refine List.forall_mem_cons.mpr ⟨va_Nw.of rfl (sel_priv (z := ⟨"RegisterColours$Machine", "tells", "(I)I"⟩) (hts _ (lw_all_tbl q2116)) rfl (hts _ q2171) (hts _ (lw_all_tbl q2172)) (by decide)), ?_⟩
  refine List.forall_mem_cons.mpr ⟨va_Nw.of rfl (hts _ q2175), ?_⟩
  refine List.forall_mem_cons.mpr ⟨va_Nw.of rfl (hts _ q2190), ?_⟩
  refine List.forall_mem_cons.mpr ⟨va_Nw.of rfl (hts _ q1543), ?_⟩
  refine List.forall_mem_cons.mpr ⟨va_Nw.of rfl (hts _ q1816), ?_⟩
  refine List.forall_mem_cons.mpr ⟨va_Dc.of (hts _ q3148), ?_⟩
  refine List.forall_mem_cons.mpr ⟨va_Nw.of rfl (hts _ q2188), ?_⟩
  refine List.forall_mem_cons.mpr ⟨va_Nw.of rfl (hts _ q2187), ?_⟩
  refine List.forall_mem_cons.mpr ⟨va_Nw.of rfl (hts _ q1655), ?_⟩
  refine List.forall_mem_cons.mpr ⟨va_Nw.of rfl (hts _ q1654), ?_⟩
  refine List.forall_mem_cons.mpr ⟨va_Nw.of rfl (hts _ q871), ?_⟩
  refine List.forall_mem_cons.mpr ⟨va_AO.of (hts _ q362), ?_⟩
  refine List.forall_mem_cons.mpr ⟨va_AO.of (hts _ q1131), ?_⟩
  refine List.forall_mem_cons.mpr ⟨va_AO.of (hts _ q592), ?_⟩
  exact fun f h => absurd h List.not_mem_nil
theorem inst_at : ∀ c r, rg_cl[c]? = some r → ∃ n, Cond.instantiable r.1 n ∈ lw_all := by
  intro c r hr
  match c, hr with
  | 0, hr =>
    have e : ("RegisterColours", rg_T0, 24) = r := Option.some.inj hr
    subst e
    exact ⟨_, q237⟩
  | 1, hr =>
    have e : ("RegisterColoursModel", rg_T1, 73) = r := Option.some.inj hr
    subst e
    exact ⟨_, q2390⟩
  | 2, hr =>
    have e : ("java/util/ArrayList", rg_T2, 3) = r := Option.some.inj hr
    subst e
    exact ⟨_, q245⟩
  | 3, hr =>
    have e : ("java/util/BitSet", rg_T3, 3) = r := Option.some.inj hr
    subst e
    exact ⟨_, q451⟩
  | 4, hr =>
    have e : ("RegisterColours$Step", rg_T4, 5) = r := Option.some.inj hr
    subst e
    exact ⟨_, q372⟩
  | 5, hr =>
    have e : ("RegisterColours$Code", rg_T5, 6) = r := Option.some.inj hr
    subst e
    exact ⟨_, q443⟩
  | 6, hr =>
    have e : ("RegisterColours$Proof", rg_T6, 7) = r := Option.some.inj hr
    subst e
    exact ⟨_, q615⟩
  | 7, hr =>
    have e : ("RegisterColours$Reader", rg_T7, 7) = r := Option.some.inj hr
    subst e
    exact ⟨_, q744⟩
  | 8, hr =>
    have e : ("RegisterColours$Fault", rg_T8, 6) = r := Option.some.inj hr
    subst e
    exact ⟨_, q867⟩
  | 9, hr =>
    have e : ("RegisterColours$Allocating", rg_T9, 7) = r := Option.some.inj hr
    subst e
    exact ⟨_, q1005⟩
  | 10, hr =>
    have e : ("RegisterColours$Left", rg_T10, 9) = r := Option.some.inj hr
    subst e
    exact ⟨_, q1011⟩
  | 11, hr =>
    have e : ("java/util/TreeMap", rg_T11, 9) = r := Option.some.inj hr
    subst e
    exact ⟨_, q1059⟩
  | 12, hr =>
    have e : ("RegisterColours$Graph", rg_T12, 15) = r := Option.some.inj hr
    subst e
    exact ⟨_, q1121⟩
  | 13, hr =>
    have e : ("java/lang/Integer", rg_T13, 1) = r := Option.some.inj hr
    subst e
    exact ⟨_, q1693⟩
  | 14, hr =>
    have e : ("java/util/PriorityQueue", rg_T14, 4) = r := Option.some.inj hr
    subst e
    exact ⟨_, q1278⟩
  | 15, hr =>
    have e : ("RegisterColours$ByWeight", rg_T15, 0) = r := Option.some.inj hr
    subst e
    exact ⟨_, q1280⟩
  | 16, hr =>
    have e : ("RegisterColours$Move", rg_T16, 4) = r := Option.some.inj hr
    subst e
    exact ⟨_, q1315⟩
  | 17, hr =>
    have e : ("java/util/ArrayList$Itr", rg_T17, 4) = r := Option.some.inj hr
    subst e
    exact ⟨_, q1585⟩
  | 18, hr =>
    have e : ("java/util/TreeSet", rg_T18, 1) = r := Option.some.inj hr
    subst e
    exact ⟨_, q1669⟩
  | 19, hr =>
    have e : ("java/util/TreeMap$Entry", rg_T19, 6) = r := Option.some.inj hr
    subst e
    exact ⟨_, q1737⟩
  | 20, hr =>
    have e : ("java/util/TreeMap$KeySet", rg_T20, 1) = r := Option.some.inj hr
    subst e
    exact ⟨_, q1835⟩
  | 21, hr =>
    have e : ("java/util/TreeMap$KeyIterator", rg_T21, 4) = r := Option.some.inj hr
    subst e
    exact ⟨_, q1860⟩
  | 22, hr =>
    have e : ("RegisterColours$Failed", rg_T22, 4) = r := Option.some.inj hr
    subst e
    exact ⟨_, q1945⟩
  | 23, hr =>
    have e : ("RegisterColours$Home", rg_T23, 3) = r := Option.some.inj hr
    subst e
    exact ⟨_, q1985⟩
  | 24, hr =>
    have e : ("RegisterColours$ByValues", rg_T24, 8) = r := Option.some.inj hr
    subst e
    exact ⟨_, q2052⟩
  | 25, hr =>
    have e : ("RegisterColours$ByRegisters", rg_T25, 11) = r := Option.some.inj hr
    subst e
    exact ⟨_, q2086⟩
  | n + 26, hr => exact absurd (List.getElem?_eq_some_iff.mp hr).1 (show ¬ (n + 26 < 26) by omega)
section
variable {G : rg_G}
theorem cast_self {C : String} {c : ClassId} {s : State} {args : Array Value} (h : s.vm.findClass C = some c) : (Cond.castable C C).before args s = true := by
  simp [Cond.before, Cond.holds, Cond.value, h, va_asg]
theorem hnd_16 : HndOK G 16 := by
  intro p l e R s m args below meth c H locs cells slots ls rest Q pc q ci k ce cx hK hk hce hcv hcl
  have ht : c.exceptionTable.toList = tableOf [(10, 38, 45, 157), (10, 38, 71, 0), (45, 64, 71, 0)] := cx.2.2.2.2.2.2.2.2.1
  refine ⟨fun h hh kk => ?_, fun h1 h2 x hx => ?_⟩
  · replace hh : rg_hd pc ci [(10, 38, 45, [8]), (10, 38, 71, []), (45, 64, 71, [])] = some h := hh
    simp only [rg_hd, List.contains_cons, List.contains_nil, Bool.or_false, Bool.and_false, Bool.false_eq_true, if_false, ite_eq_left_iff, reduceCtorEq, imp_false, Bool.not_eq_true] at hh
    split at hh
    · rename_i hc
      rw [Bool.and_eq_true, Bool.and_eq_true, decide_eq_true_eq, decide_eq_true_eq, beq_iff_eq] at hc
      obtain ⟨⟨c1, c2⟩, rfl⟩ := hc
      cases hh
      cases hk
      exact vx_catch cx.2.2.2.2.2.1 [] ⟨10, 38, 45, 157⟩ _ ht (fun z hz => nomatch hz) (by simp [covers, c1, c2]) (by decide) (cx.2.2.2.2.2.2.1 _ q742) (cast_self hcl) hce hcv hcl kk
    · cases hh
  · rw [ht] at hx
    replace h2 : rg_cov pc [(10, 38, 45, [8]), (10, 38, 71, []), (45, 64, 71, [])] = false := h2
    simp only [tableOf, List.map_cons, List.map_nil, List.mem_cons, List.not_mem_nil, or_false] at hx
    simp only [rg_cov, List.any_cons, List.any_nil, Bool.or_false, Bool.or_eq_false_iff] at h2
    rcases hx with rfl | rfl | rfl
    · exact h2.1
    · exact h2.2.1
    · exact h2.2.2
theorem hnd_23 : HndOK G 23 := by
  intro p l e R s m args below meth c H locs cells slots ls rest Q pc q ci k ce cx hK hk hce hcv hcl
  have ht : c.exceptionTable.toList = tableOf [(0, 37, 38, 186)] := cx.2.2.2.2.2.2.2.2.1
  refine ⟨fun h hh kk => ?_, fun h1 h2 x hx => ?_⟩
  · replace hh : rg_hd pc ci [(0, 37, 38, [22])] = some h := hh
    unfold rg_hd at hh
    split at hh
    · rename_i hc
      rw [Bool.and_eq_true, Bool.and_eq_true, decide_eq_true_eq, decide_eq_true_eq] at hc
      obtain ⟨⟨c1, c2⟩, c3⟩ := hc
      have c3 : ci = 22 := by simpa using c3
      subst c3
      cases hh
      cases hk
      exact vx_catch cx.2.2.2.2.2.1 [] ⟨0, 37, 38, 186⟩ _ ht (fun z hz => nomatch hz) (by simp [covers, c1, c2]) (by decide) (cx.2.2.2.2.2.2.1 _ q1003) (cast_self hcl) hce hcv hcl kk
    · cases hh
  · rw [ht] at hx
    replace h2 : rg_cov pc [(0, 37, 38, [22])] = false := h2
    simp only [tableOf, List.map_cons, List.map_nil, List.mem_cons, List.not_mem_nil, or_false] at hx
    simp only [rg_cov, List.any_cons, List.any_nil, Bool.or_false] at h2
    rw [hx]
    exact h2
theorem hnd_all : ∀ y, y < 480 → HndOK G y := by
  intro y hy
  by_cases h1 : y = 16
  · subst h1; exact hnd_16
  · by_cases h2 : y = 23
    · subst h2; exact hnd_23
    · obtain ⟨a, b⟩ := hnd_no y hy h1 h2
      exact hnd_nil (List.isEmpty_iff.mp a) (List.isEmpty_iff.mp b)
end
