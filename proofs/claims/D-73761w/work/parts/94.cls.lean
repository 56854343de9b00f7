/-! the classes with their words; fields, callees. Printed by gen/print_rows.py -/
set_option maxRecDepth 100000
theorem pd0 : parseFieldDescriptor "I" = some (.int) := by decide +kernel
theorem pd1 : parseFieldDescriptor "J" = some (.long) := by decide +kernel
theorem pd2 : parseFieldDescriptor "LRegisterColours$Code;" = some (.object "RegisterColours$Code") := by decide +kernel
theorem pd3 : parseFieldDescriptor "LRegisterColours$Graph;" = some (.object "RegisterColours$Graph") := by decide +kernel
theorem pd4 : parseFieldDescriptor "LRegisterColours$Left;" = some (.object "RegisterColours$Left") := by decide +kernel
theorem pd5 : parseFieldDescriptor "LRegisterColours$Proof;" = some (.object "RegisterColours$Proof") := by decide +kernel
theorem pd6 : parseFieldDescriptor "LRegisterColours;" = some (.object "RegisterColours") := by decide +kernel
theorem pd7 : parseFieldDescriptor "Ljava/lang/Object;" = some (.object "java/lang/Object") := by decide +kernel
theorem pd8 : parseFieldDescriptor "Ljava/lang/Throwable;" = some (.object "java/lang/Throwable") := by decide +kernel
theorem pd9 : parseFieldDescriptor "Ljava/util/ArrayList;" = some (.object "java/util/ArrayList") := by decide +kernel
theorem pd10 : parseFieldDescriptor "Ljava/util/BitSet;" = some (.object "java/util/BitSet") := by decide +kernel
theorem pd11 : parseFieldDescriptor "Ljava/util/Collection;" = some (.object "java/util/Collection") := by decide +kernel
theorem pd12 : parseFieldDescriptor "Ljava/util/Comparator;" = some (.object "java/util/Comparator") := by decide +kernel
theorem pd13 : parseFieldDescriptor "Ljava/util/List;" = some (.object "java/util/List") := by decide +kernel
theorem pd14 : parseFieldDescriptor "Ljava/util/NavigableMap;" = some (.object "java/util/NavigableMap") := by decide +kernel
theorem pd15 : parseFieldDescriptor "Ljava/util/Set;" = some (.object "java/util/Set") := by decide +kernel
theorem pd16 : parseFieldDescriptor "Ljava/util/TreeMap$Entry;" = some (.object "java/util/TreeMap$Entry") := by decide +kernel
theorem pd17 : parseFieldDescriptor "Ljava/util/TreeMap$EntrySet;" = some (.object "java/util/TreeMap$EntrySet") := by decide +kernel
theorem pd18 : parseFieldDescriptor "Ljava/util/TreeMap$KeySet;" = some (.object "java/util/TreeMap$KeySet") := by decide +kernel
theorem pd19 : parseFieldDescriptor "Ljava/util/TreeMap;" = some (.object "java/util/TreeMap") := by decide +kernel
theorem pd20 : parseFieldDescriptor "Z" = some (.boolean) := by decide +kernel
theorem pd21 : parseFieldDescriptor "[B" = some (.array .byte) := by decide +kernel
theorem pd22 : parseFieldDescriptor "[I" = some (.array .int) := by decide +kernel
theorem pd23 : parseFieldDescriptor "[J" = some (.array .long) := by decide +kernel
theorem pd24 : parseFieldDescriptor "[LRegisterColours$Making;" = some (.array (.object "RegisterColours$Making")) := by decide +kernel
theorem pd25 : parseFieldDescriptor "[LRegisterColours$Safety;" = some (.array (.object "RegisterColours$Safety")) := by decide +kernel
theorem pd26 : parseFieldDescriptor "[Ljava/lang/Object;" = some (.array (.object "java/lang/Object")) := by decide +kernel
theorem pd27 : parseFieldDescriptor "[Ljava/lang/StackTraceElement;" = some (.array (.object "java/lang/StackTraceElement")) := by decide +kernel
theorem pd28 : parseFieldDescriptor "[Z" = some (.array .boolean) := by decide +kernel
theorem rg_in0 : ∀ w ∈ u_ws "RegisterColours" rg_T0 24, w ∈ lw_all := by
  intro w hw
  obtain ⟨k, hk, rfl⟩ := List.mem_map.mp hw
  replace hk := List.mem_range.mp hk
  match k, hk with
  | 0, _ => exact q676
  | 1, _ => exact q678
  | 2, _ => exact q680
  | 3, _ => exact q682
  | 4, _ => exact q684
  | 5, _ => exact q686
  | 6, _ => exact q688
  | 7, _ => exact q690
  | 8, _ => exact q692
  | 9, _ => exact q694
  | 10, _ => exact q696
  | 11, _ => exact q698
  | 12, _ => exact q700
  | 13, _ => exact q702
  | 14, _ => exact q704
  | 15, _ => exact q706
  | 16, _ => exact q708
  | 17, _ => exact q710
  | 18, _ => exact q712
  | 19, _ => exact q714
  | 20, _ => exact q716
  | 21, _ => exact q718
  | 22, _ => exact q720
  | 23, _ => exact q722
  | k + 24, hk => exact absurd hk (by omega)
theorem rg_in1 : ∀ w ∈ u_ws "RegisterColoursModel" rg_T1 73, w ∈ lw_all := by
  intro w hw
  obtain ⟨k, hk, rfl⟩ := List.mem_map.mp hw
  replace hk := List.mem_range.mp hk
  match k, hk with
  | 0, _ => exact q2469
  | 1, _ => exact q2471
  | 2, _ => exact q2473
  | 3, _ => exact q2475
  | 4, _ => exact q2477
  | 5, _ => exact q2479
  | 6, _ => exact q2481
  | 7, _ => exact q2483
  | 8, _ => exact q2485
  | 9, _ => exact q2487
  | 10, _ => exact q2489
  | 11, _ => exact q2491
  | 12, _ => exact q2493
  | 13, _ => exact q2495
  | 14, _ => exact q2497
  | 15, _ => exact q2499
  | 16, _ => exact q2501
  | 17, _ => exact q2503
  | 18, _ => exact q2505
  | 19, _ => exact q2507
  | 20, _ => exact q2509
  | 21, _ => exact q2511
  | 22, _ => exact q2513
  | 23, _ => exact q2515
  | 24, _ => exact q2517
  | 25, _ => exact q2519
  | 26, _ => exact q2521
  | 27, _ => exact q2523
  | 28, _ => exact q2525
  | 29, _ => exact q2527
  | 30, _ => exact q2529
  | 31, _ => exact q2531
  | 32, _ => exact q2533
  | 33, _ => exact q2535
  | 34, _ => exact q2537
  | 35, _ => exact q2539
  | 36, _ => exact q2541
  | 37, _ => exact q2543
  | 38, _ => exact q2545
  | 39, _ => exact q2547
  | 40, _ => exact q2549
  | 41, _ => exact q2551
  | 42, _ => exact q2553
  | 43, _ => exact q2555
  | 44, _ => exact q2557
  | 45, _ => exact q2559
  | 46, _ => exact q2561
  | 47, _ => exact q2563
  | 48, _ => exact q2565
  | 49, _ => exact q2567
  | 50, _ => exact q2569
  | 51, _ => exact q2571
  | 52, _ => exact q2573
  | 53, _ => exact q2575
  | 54, _ => exact q2577
  | 55, _ => exact q2579
  | 56, _ => exact q2581
  | 57, _ => exact q2583
  | 58, _ => exact q2585
  | 59, _ => exact q2587
  | 60, _ => exact q2589
  | 61, _ => exact q2591
  | 62, _ => exact q2593
  | 63, _ => exact q2595
  | 64, _ => exact q2597
  | 65, _ => exact q2599
  | 66, _ => exact q2601
  | 67, _ => exact q2603
  | 68, _ => exact q2605
  | 69, _ => exact q2607
  | 70, _ => exact q2609
  | 71, _ => exact q2611
  | 72, _ => exact q2613
  | k + 73, hk => exact absurd hk (by omega)
theorem rg_in2 : ∀ w ∈ u_ws "java/util/ArrayList" rg_T2 3, w ∈ lw_all := by
  intro w hw
  obtain ⟨k, hk, rfl⟩ := List.mem_map.mp hw
  replace hk := List.mem_range.mp hk
  match k, hk with
  | 0, _ => exact q270
  | 1, _ => exact q266
  | 2, _ => exact q268
  | k + 3, hk => exact absurd hk (by omega)
theorem rg_in3 : ∀ w ∈ u_ws "java/util/BitSet" rg_T3 3, w ∈ lw_all := by
  intro w hw
  obtain ⟨k, hk, rfl⟩ := List.mem_map.mp hw
  replace hk := List.mem_range.mp hk
  match k, hk with
  | 0, _ => exact q466
  | 1, _ => exact q468
  | 2, _ => exact q470
  | k + 3, hk => exact absurd hk (by omega)
theorem rg_in4 : ∀ w ∈ u_ws "RegisterColours$Step" rg_T4 5, w ∈ lw_all := by
  intro w hw
  obtain ⟨k, hk, rfl⟩ := List.mem_map.mp hw
  replace hk := List.mem_range.mp hk
  match k, hk with
  | 0, _ => exact q416
  | 1, _ => exact q418
  | 2, _ => exact q420
  | 3, _ => exact q422
  | 4, _ => exact q424
  | k + 5, hk => exact absurd hk (by omega)
theorem rg_in5 : ∀ w ∈ u_ws "RegisterColours$Code" rg_T5 6, w ∈ lw_all := by
  intro w hw
  obtain ⟨k, hk, rfl⟩ := List.mem_map.mp hw
  replace hk := List.mem_range.mp hk
  match k, hk with
  | 0, _ => exact q578
  | 1, _ => exact q580
  | 2, _ => exact q582
  | 3, _ => exact q584
  | 4, _ => exact q586
  | 5, _ => exact q588
  | k + 6, hk => exact absurd hk (by omega)
theorem rg_in6 : ∀ w ∈ u_ws "RegisterColours$Proof" rg_T6 7, w ∈ lw_all := by
  intro w hw
  obtain ⟨k, hk, rfl⟩ := List.mem_map.mp hw
  replace hk := List.mem_range.mp hk
  match k, hk with
  | 0, _ => exact q627
  | 1, _ => exact q629
  | 2, _ => exact q631
  | 3, _ => exact q633
  | 4, _ => exact q635
  | 5, _ => exact q637
  | 6, _ => exact q639
  | k + 7, hk => exact absurd hk (by omega)
theorem rg_in7 : ∀ w ∈ u_ws "RegisterColours$Reader" rg_T7 7, w ∈ lw_all := by
  intro w hw
  obtain ⟨k, hk, rfl⟩ := List.mem_map.mp hw
  replace hk := List.mem_range.mp hk
  match k, hk with
  | 0, _ => exact q758
  | 1, _ => exact q760
  | 2, _ => exact q762
  | 3, _ => exact q764
  | 4, _ => exact q766
  | 5, _ => exact q768
  | 6, _ => exact q770
  | k + 7, hk => exact absurd hk (by omega)
theorem rg_in8 : ∀ w ∈ u_ws "RegisterColours$Fault" rg_T8 6, w ∈ lw_all := by
  intro w hw
  obtain ⟨k, hk, rfl⟩ := List.mem_map.mp hw
  replace hk := List.mem_range.mp hk
  match k, hk with
  | 0, _ => exact q875
  | 1, _ => exact q877
  | 2, _ => exact q879
  | 3, _ => exact q883
  | 4, _ => exact q919
  | 5, _ => exact q921
  | k + 6, hk => exact absurd hk (by omega)
theorem rg_in9 : ∀ w ∈ u_ws "RegisterColours$Allocating" rg_T9 7, w ∈ lw_all := by
  intro w hw
  obtain ⟨k, hk, rfl⟩ := List.mem_map.mp hw
  replace hk := List.mem_range.mp hk
  match k, hk with
  | 0, _ => exact q1101
  | 1, _ => exact q1103
  | 2, _ => exact q1105
  | 3, _ => exact q1107
  | 4, _ => exact q1109
  | 5, _ => exact q1111
  | 6, _ => exact q1113
  | k + 7, hk => exact absurd hk (by omega)
theorem rg_in10 : ∀ w ∈ u_ws "RegisterColours$Left" rg_T10 9, w ∈ lw_all := by
  intro w hw
  obtain ⟨k, hk, rfl⟩ := List.mem_map.mp hw
  replace hk := List.mem_range.mp hk
  match k, hk with
  | 0, _ => exact q1039
  | 1, _ => exact q1041
  | 2, _ => exact q1043
  | 3, _ => exact q1045
  | 4, _ => exact q1047
  | 5, _ => exact q1049
  | 6, _ => exact q1051
  | 7, _ => exact q1053
  | 8, _ => exact q1055
  | k + 9, hk => exact absurd hk (by omega)
theorem rg_in11 : ∀ w ∈ u_ws "java/util/TreeMap" rg_T11 9, w ∈ lw_all := by
  intro w hw
  obtain ⟨k, hk, rfl⟩ := List.mem_map.mp hw
  replace hk := List.mem_range.mp hk
  match k, hk with
  | 0, _ => exact q1088
  | 1, _ => exact q1090
  | 2, _ => exact q1074
  | 3, _ => exact q1076
  | 4, _ => exact q1078
  | 5, _ => exact q1080
  | 6, _ => exact q1082
  | 7, _ => exact q1084
  | 8, _ => exact q1086
  | k + 9, hk => exact absurd hk (by omega)
theorem rg_in12 : ∀ w ∈ u_ws "RegisterColours$Graph" rg_T12 15, w ∈ lw_all := by
  intro w hw
  obtain ⟨k, hk, rfl⟩ := List.mem_map.mp hw
  replace hk := List.mem_range.mp hk
  match k, hk with
  | 0, _ => exact q1238
  | 1, _ => exact q1240
  | 2, _ => exact q1242
  | 3, _ => exact q1244
  | 4, _ => exact q1246
  | 5, _ => exact q1248
  | 6, _ => exact q1250
  | 7, _ => exact q1252
  | 8, _ => exact q1254
  | 9, _ => exact q1256
  | 10, _ => exact q1258
  | 11, _ => exact q1260
  | 12, _ => exact q1262
  | 13, _ => exact q1264
  | 14, _ => exact q1266
  | k + 15, hk => exact absurd hk (by omega)
theorem rg_in13 : ∀ w ∈ u_ws "java/lang/Integer" rg_T13 1, w ∈ lw_all := by
  intro w hw
  obtain ⟨k, hk, rfl⟩ := List.mem_map.mp hw
  replace hk := List.mem_range.mp hk
  match k, hk with
  | 0, _ => exact q1702
  | k + 1, hk => exact absurd hk (by omega)
theorem rg_in14 : ∀ w ∈ u_ws "java/util/PriorityQueue" rg_T14 4, w ∈ lw_all := by
  intro w hw
  obtain ⟨k, hk, rfl⟩ := List.mem_map.mp hw
  replace hk := List.mem_range.mp hk
  match k, hk with
  | 0, _ => exact q1301
  | 1, _ => exact q1303
  | 2, _ => exact q1305
  | 3, _ => exact q1307
  | k + 4, hk => exact absurd hk (by omega)
theorem rg_in15 : ∀ w ∈ u_ws "RegisterColours$ByWeight" rg_T15 0, w ∈ lw_all := fun w hw => absurd hw (by simp [u_ws])
theorem rg_in16 : ∀ w ∈ u_ws "RegisterColours$Move" rg_T16 4, w ∈ lw_all := by
  intro w hw
  obtain ⟨k, hk, rfl⟩ := List.mem_map.mp hw
  replace hk := List.mem_range.mp hk
  match k, hk with
  | 0, _ => exact q1328
  | 1, _ => exact q1330
  | 2, _ => exact q1332
  | 3, _ => exact q1334
  | k + 4, hk => exact absurd hk (by omega)
theorem rg_in17 : ∀ w ∈ u_ws "java/util/ArrayList$Itr" rg_T17 4, w ∈ lw_all := by
  intro w hw
  obtain ⟨k, hk, rfl⟩ := List.mem_map.mp hw
  replace hk := List.mem_range.mp hk
  match k, hk with
  | 0, _ => exact q1594
  | 1, _ => exact q1596
  | 2, _ => exact q1598
  | 3, _ => exact q1600
  | k + 4, hk => exact absurd hk (by omega)
theorem rg_in18 : ∀ w ∈ u_ws "java/util/TreeSet" rg_T18 1, w ∈ lw_all := by
  intro w hw
  obtain ⟨k, hk, rfl⟩ := List.mem_map.mp hw
  replace hk := List.mem_range.mp hk
  match k, hk with
  | 0, _ => exact q1683
  | k + 1, hk => exact absurd hk (by omega)
theorem rg_in19 : ∀ w ∈ u_ws "java/util/TreeMap$Entry" rg_T19 6, w ∈ lw_all := by
  intro w hw
  obtain ⟨k, hk, rfl⟩ := List.mem_map.mp hw
  replace hk := List.mem_range.mp hk
  match k, hk with
  | 0, _ => exact q1753
  | 1, _ => exact q1755
  | 2, _ => exact q1757
  | 3, _ => exact q1759
  | 4, _ => exact q1761
  | 5, _ => exact q1763
  | k + 6, hk => exact absurd hk (by omega)
theorem rg_in20 : ∀ w ∈ u_ws "java/util/TreeMap$KeySet" rg_T20 1, w ∈ lw_all := by
  intro w hw
  obtain ⟨k, hk, rfl⟩ := List.mem_map.mp hw
  replace hk := List.mem_range.mp hk
  match k, hk with
  | 0, _ => exact q1841
  | k + 1, hk => exact absurd hk (by omega)
theorem rg_in21 : ∀ w ∈ u_ws "java/util/TreeMap$KeyIterator" rg_T21 4, w ∈ lw_all := by
  intro w hw
  obtain ⟨k, hk, rfl⟩ := List.mem_map.mp hw
  replace hk := List.mem_range.mp hk
  match k, hk with
  | 0, _ => exact q1876
  | 1, _ => exact q1878
  | 2, _ => exact q1880
  | 3, _ => exact q1882
  | k + 4, hk => exact absurd hk (by omega)
theorem rg_in22 : ∀ w ∈ u_ws "RegisterColours$Failed" rg_T22 4, w ∈ lw_all := by
  intro w hw
  obtain ⟨k, hk, rfl⟩ := List.mem_map.mp hw
  replace hk := List.mem_range.mp hk
  match k, hk with
  | 0, _ => exact q1948
  | 1, _ => exact q1949
  | 2, _ => exact q1950
  | 3, _ => exact q1952
  | k + 4, hk => exact absurd hk (by omega)
theorem rg_in23 : ∀ w ∈ u_ws "RegisterColours$Home" rg_T23 3, w ∈ lw_all := by
  intro w hw
  obtain ⟨k, hk, rfl⟩ := List.mem_map.mp hw
  replace hk := List.mem_range.mp hk
  match k, hk with
  | 0, _ => exact q1996
  | 1, _ => exact q1998
  | 2, _ => exact q2000
  | k + 3, hk => exact absurd hk (by omega)
theorem rg_in24 : ∀ w ∈ u_ws "RegisterColours$ByValues" rg_T24 8, w ∈ lw_all := by
  intro w hw
  obtain ⟨k, hk, rfl⟩ := List.mem_map.mp hw
  replace hk := List.mem_range.mp hk
  match k, hk with
  | 0, _ => exact q2072
  | 1, _ => exact q2074
  | 2, _ => exact q2076
  | 3, _ => exact q2078
  | 4, _ => exact q2080
  | 5, _ => exact q2082
  | 6, _ => exact q2068
  | 7, _ => exact q2070
  | k + 8, hk => exact absurd hk (by omega)
theorem rg_in25 : ∀ w ∈ u_ws "RegisterColours$ByRegisters" rg_T25 11, w ∈ lw_all := by
  intro w hw
  obtain ⟨k, hk, rfl⟩ := List.mem_map.mp hw
  replace hk := List.mem_range.mp hk
  match k, hk with
  | 0, _ => exact q2106
  | 1, _ => exact q2107
  | 2, _ => exact q2108
  | 3, _ => exact q2109
  | 4, _ => exact q2110
  | 5, _ => exact q2111
  | 6, _ => exact q2096
  | 7, _ => exact q2098
  | 8, _ => exact q2100
  | 9, _ => exact q2102
  | 10, _ => exact q2104
  | k + 11, hk => exact absurd hk (by omega)
theorem rg_in_all : rg_IN := by
  intro c r hr
  match c, hr with
  | 0, hr =>
    have e : ("RegisterColours", rg_T0, 24) = r := Option.some.inj hr
    subst e
    exact rg_in0
  | 1, hr =>
    have e : ("RegisterColoursModel", rg_T1, 73) = r := Option.some.inj hr
    subst e
    exact rg_in1
  | 2, hr =>
    have e : ("java/util/ArrayList", rg_T2, 3) = r := Option.some.inj hr
    subst e
    exact rg_in2
  | 3, hr =>
    have e : ("java/util/BitSet", rg_T3, 3) = r := Option.some.inj hr
    subst e
    exact rg_in3
  | 4, hr =>
    have e : ("RegisterColours$Step", rg_T4, 5) = r := Option.some.inj hr
    subst e
    exact rg_in4
  | 5, hr =>
    have e : ("RegisterColours$Code", rg_T5, 6) = r := Option.some.inj hr
    subst e
    exact rg_in5
  | 6, hr =>
    have e : ("RegisterColours$Proof", rg_T6, 7) = r := Option.some.inj hr
    subst e
    exact rg_in6
  | 7, hr =>
    have e : ("RegisterColours$Reader", rg_T7, 7) = r := Option.some.inj hr
    subst e
    exact rg_in7
  | 8, hr =>
    have e : ("RegisterColours$Fault", rg_T8, 6) = r := Option.some.inj hr
    subst e
    exact rg_in8
  | 9, hr =>
    have e : ("RegisterColours$Allocating", rg_T9, 7) = r := Option.some.inj hr
    subst e
    exact rg_in9
  | 10, hr =>
    have e : ("RegisterColours$Left", rg_T10, 9) = r := Option.some.inj hr
    subst e
    exact rg_in10
  | 11, hr =>
    have e : ("java/util/TreeMap", rg_T11, 9) = r := Option.some.inj hr
    subst e
    exact rg_in11
  | 12, hr =>
    have e : ("RegisterColours$Graph", rg_T12, 15) = r := Option.some.inj hr
    subst e
    exact rg_in12
  | 13, hr =>
    have e : ("java/lang/Integer", rg_T13, 1) = r := Option.some.inj hr
    subst e
    exact rg_in13
  | 14, hr =>
    have e : ("java/util/PriorityQueue", rg_T14, 4) = r := Option.some.inj hr
    subst e
    exact rg_in14
  | 15, hr =>
    have e : ("RegisterColours$ByWeight", rg_T15, 0) = r := Option.some.inj hr
    subst e
    exact rg_in15
  | 16, hr =>
    have e : ("RegisterColours$Move", rg_T16, 4) = r := Option.some.inj hr
    subst e
    exact rg_in16
  | 17, hr =>
    have e : ("java/util/ArrayList$Itr", rg_T17, 4) = r := Option.some.inj hr
    subst e
    exact rg_in17
  | 18, hr =>
    have e : ("java/util/TreeSet", rg_T18, 1) = r := Option.some.inj hr
    subst e
    exact rg_in18
  | 19, hr =>
    have e : ("java/util/TreeMap$Entry", rg_T19, 6) = r := Option.some.inj hr
    subst e
    exact rg_in19
  | 20, hr =>
    have e : ("java/util/TreeMap$KeySet", rg_T20, 1) = r := Option.some.inj hr
    subst e
    exact rg_in20
  | 21, hr =>
    have e : ("java/util/TreeMap$KeyIterator", rg_T21, 4) = r := Option.some.inj hr
    subst e
    exact rg_in21
  | 22, hr =>
    have e : ("RegisterColours$Failed", rg_T22, 4) = r := Option.some.inj hr
    subst e
    exact rg_in22
  | 23, hr =>
    have e : ("RegisterColours$Home", rg_T23, 3) = r := Option.some.inj hr
    subst e
    exact rg_in23
  | 24, hr =>
    have e : ("RegisterColours$ByValues", rg_T24, 8) = r := Option.some.inj hr
    subst e
    exact rg_in24
  | 25, hr =>
    have e : ("RegisterColours$ByRegisters", rg_T25, 11) = r := Option.some.inj hr
    subst e
    exact rg_in25
  | n + 26, hr => exact absurd (List.getElem?_eq_some_iff.mp hr).1 (show ¬ (n + 26 < 26) by omega)
def rg_apB (T : u_T) (N : Nat) : Bool := (List.range N).all fun a => (List.range N).all fun b => decide (a = b) || decide ((T a).2.1 ≠ (T b).2.1) || ((T a).2.2.2 && (T b).2.2.2 && decide ((T a).1 ≠ (T b).1))
theorem rg_ap_of {T : u_T} {N : Nat} (ty : Nat → FieldType) (h : ∀ k, k < N → parseFieldDescriptor (T k).2.2.1 = some (ty k)) (hb : rg_apB T N = true) : (∀ k, k < N → ∃ ty, parseFieldDescriptor (T k).2.2.1 = some ty) ∧ ∀ a, a < N → ∀ b, b < N → a ≠ b → (T a).2.1 ≠ (T b).2.1 ∨ ((T a).2.2.2 = true ∧ (T b).2.2.2 = true ∧ (T a).1 ≠ (T b).1) := by
  refine ⟨fun k hk => ⟨_, h k hk⟩, fun a ha b hb' hne => ?_⟩
  have h1 := List.all_eq_true.mp (List.all_eq_true.mp hb a (List.mem_range.mpr ha)) b (List.mem_range.mpr hb')
  simp only [Bool.or_eq_true, Bool.and_eq_true, decide_eq_true_eq] at h1
  rcases h1 with (h1 | h1) | h1
  · exact absurd h1 hne
  · exact Or.inl h1
  · exact Or.inr ⟨h1.1.1, h1.1.2, h1.2⟩
theorem rg_pf0 : ∀ k, k < 24 → parseFieldDescriptor (rg_T0 k).2.2.1 = some (rg_y0 k) := by decide +kernel
theorem rg_ap0 : rg_apB rg_T0 24 = true := by decide +kernel
theorem rg_pf1 : ∀ k, k < 73 → parseFieldDescriptor (rg_T1 k).2.2.1 = some (rg_y1 k) := by decide +kernel
theorem rg_ap1 : rg_apB rg_T1 73 = true := by decide +kernel
theorem rg_pf2 : ∀ k, k < 3 → parseFieldDescriptor (rg_T2 k).2.2.1 = some (rg_y2 k) := by decide +kernel
theorem rg_ap2 : rg_apB rg_T2 3 = true := by decide +kernel
theorem rg_pf3 : ∀ k, k < 3 → parseFieldDescriptor (rg_T3 k).2.2.1 = some (rg_y3 k) := by decide +kernel
theorem rg_ap3 : rg_apB rg_T3 3 = true := by decide +kernel
theorem rg_pf4 : ∀ k, k < 5 → parseFieldDescriptor (rg_T4 k).2.2.1 = some (rg_y4 k) := by decide +kernel
theorem rg_ap4 : rg_apB rg_T4 5 = true := by decide +kernel
theorem rg_pf5 : ∀ k, k < 6 → parseFieldDescriptor (rg_T5 k).2.2.1 = some (rg_y5 k) := by decide +kernel
theorem rg_ap5 : rg_apB rg_T5 6 = true := by decide +kernel
theorem rg_pf6 : ∀ k, k < 7 → parseFieldDescriptor (rg_T6 k).2.2.1 = some (rg_y6 k) := by decide +kernel
theorem rg_ap6 : rg_apB rg_T6 7 = true := by decide +kernel
theorem rg_pf7 : ∀ k, k < 7 → parseFieldDescriptor (rg_T7 k).2.2.1 = some (rg_y7 k) := by decide +kernel
theorem rg_ap7 : rg_apB rg_T7 7 = true := by decide +kernel
theorem rg_pf8 : ∀ k, k < 6 → parseFieldDescriptor (rg_T8 k).2.2.1 = some (rg_y8 k) := by decide +kernel
theorem rg_ap8 : rg_apB rg_T8 6 = true := by decide +kernel
theorem rg_pf9 : ∀ k, k < 7 → parseFieldDescriptor (rg_T9 k).2.2.1 = some (rg_y9 k) := by decide +kernel
theorem rg_ap9 : rg_apB rg_T9 7 = true := by decide +kernel
theorem rg_pf10 : ∀ k, k < 9 → parseFieldDescriptor (rg_T10 k).2.2.1 = some (rg_y10 k) := by decide +kernel
theorem rg_ap10 : rg_apB rg_T10 9 = true := by decide +kernel
theorem rg_pf11 : ∀ k, k < 9 → parseFieldDescriptor (rg_T11 k).2.2.1 = some (rg_y11 k) := by decide +kernel
theorem rg_ap11 : rg_apB rg_T11 9 = true := by decide +kernel
theorem rg_pf12 : ∀ k, k < 15 → parseFieldDescriptor (rg_T12 k).2.2.1 = some (rg_y12 k) := by decide +kernel
theorem rg_ap12 : rg_apB rg_T12 15 = true := by decide +kernel
theorem rg_pf13 : ∀ k, k < 1 → parseFieldDescriptor (rg_T13 k).2.2.1 = some (rg_y13 k) := by decide +kernel
theorem rg_ap13 : rg_apB rg_T13 1 = true := by decide +kernel
theorem rg_pf14 : ∀ k, k < 4 → parseFieldDescriptor (rg_T14 k).2.2.1 = some (rg_y14 k) := by decide +kernel
theorem rg_ap14 : rg_apB rg_T14 4 = true := by decide +kernel
theorem rg_pf15 : ∀ k, k < 0 → parseFieldDescriptor (rg_T15 k).2.2.1 = some (rg_y15 k) := by decide +kernel
theorem rg_ap15 : rg_apB rg_T15 0 = true := by decide +kernel
theorem rg_pf16 : ∀ k, k < 4 → parseFieldDescriptor (rg_T16 k).2.2.1 = some (rg_y16 k) := by decide +kernel
theorem rg_ap16 : rg_apB rg_T16 4 = true := by decide +kernel
theorem rg_pf17 : ∀ k, k < 4 → parseFieldDescriptor (rg_T17 k).2.2.1 = some (rg_y17 k) := by decide +kernel
theorem rg_ap17 : rg_apB rg_T17 4 = true := by decide +kernel
theorem rg_pf18 : ∀ k, k < 1 → parseFieldDescriptor (rg_T18 k).2.2.1 = some (rg_y18 k) := by decide +kernel
theorem rg_ap18 : rg_apB rg_T18 1 = true := by decide +kernel
theorem rg_pf19 : ∀ k, k < 6 → parseFieldDescriptor (rg_T19 k).2.2.1 = some (rg_y19 k) := by decide +kernel
theorem rg_ap19 : rg_apB rg_T19 6 = true := by decide +kernel
theorem rg_pf20 : ∀ k, k < 1 → parseFieldDescriptor (rg_T20 k).2.2.1 = some (rg_y20 k) := by decide +kernel
theorem rg_ap20 : rg_apB rg_T20 1 = true := by decide +kernel
theorem rg_pf21 : ∀ k, k < 4 → parseFieldDescriptor (rg_T21 k).2.2.1 = some (rg_y21 k) := by decide +kernel
theorem rg_ap21 : rg_apB rg_T21 4 = true := by decide +kernel
theorem rg_pf22 : ∀ k, k < 4 → parseFieldDescriptor (rg_T22 k).2.2.1 = some (rg_y22 k) := by decide +kernel
theorem rg_ap22 : rg_apB rg_T22 4 = true := by decide +kernel
theorem rg_pf23 : ∀ k, k < 3 → parseFieldDescriptor (rg_T23 k).2.2.1 = some (rg_y23 k) := by decide +kernel
theorem rg_ap23 : rg_apB rg_T23 3 = true := by decide +kernel
theorem rg_pf24 : ∀ k, k < 8 → parseFieldDescriptor (rg_T24 k).2.2.1 = some (rg_y24 k) := by decide +kernel
theorem rg_ap24 : rg_apB rg_T24 8 = true := by decide +kernel
theorem rg_pf25 : ∀ k, k < 11 → parseFieldDescriptor (rg_T25 k).2.2.1 = some (rg_y25 k) := by decide +kernel
theorem rg_ap25 : rg_apB rg_T25 11 = true := by decide +kernel
theorem rg_ap_all : rg_AP := by
  intro c r hr
  match c, hr with
  | 0, hr =>
    have e : ("RegisterColours", rg_T0, 24) = r := Option.some.inj hr
    subst e
    exact rg_ap_of _ rg_pf0 rg_ap0
  | 1, hr =>
    have e : ("RegisterColoursModel", rg_T1, 73) = r := Option.some.inj hr
    subst e
    exact rg_ap_of _ rg_pf1 rg_ap1
  | 2, hr =>
    have e : ("java/util/ArrayList", rg_T2, 3) = r := Option.some.inj hr
    subst e
    exact rg_ap_of _ rg_pf2 rg_ap2
  | 3, hr =>
    have e : ("java/util/BitSet", rg_T3, 3) = r := Option.some.inj hr
    subst e
    exact rg_ap_of _ rg_pf3 rg_ap3
  | 4, hr =>
    have e : ("RegisterColours$Step", rg_T4, 5) = r := Option.some.inj hr
    subst e
    exact rg_ap_of _ rg_pf4 rg_ap4
  | 5, hr =>
    have e : ("RegisterColours$Code", rg_T5, 6) = r := Option.some.inj hr
    subst e
    exact rg_ap_of _ rg_pf5 rg_ap5
  | 6, hr =>
    have e : ("RegisterColours$Proof", rg_T6, 7) = r := Option.some.inj hr
    subst e
    exact rg_ap_of _ rg_pf6 rg_ap6
  | 7, hr =>
    have e : ("RegisterColours$Reader", rg_T7, 7) = r := Option.some.inj hr
    subst e
    exact rg_ap_of _ rg_pf7 rg_ap7
  | 8, hr =>
    have e : ("RegisterColours$Fault", rg_T8, 6) = r := Option.some.inj hr
    subst e
    exact rg_ap_of _ rg_pf8 rg_ap8
  | 9, hr =>
    have e : ("RegisterColours$Allocating", rg_T9, 7) = r := Option.some.inj hr
    subst e
    exact rg_ap_of _ rg_pf9 rg_ap9
  | 10, hr =>
    have e : ("RegisterColours$Left", rg_T10, 9) = r := Option.some.inj hr
    subst e
    exact rg_ap_of _ rg_pf10 rg_ap10
  | 11, hr =>
    have e : ("java/util/TreeMap", rg_T11, 9) = r := Option.some.inj hr
    subst e
    exact rg_ap_of _ rg_pf11 rg_ap11
  | 12, hr =>
    have e : ("RegisterColours$Graph", rg_T12, 15) = r := Option.some.inj hr
    subst e
    exact rg_ap_of _ rg_pf12 rg_ap12
  | 13, hr =>
    have e : ("java/lang/Integer", rg_T13, 1) = r := Option.some.inj hr
    subst e
    exact rg_ap_of _ rg_pf13 rg_ap13
  | 14, hr =>
    have e : ("java/util/PriorityQueue", rg_T14, 4) = r := Option.some.inj hr
    subst e
    exact rg_ap_of _ rg_pf14 rg_ap14
  | 15, hr =>
    have e : ("RegisterColours$ByWeight", rg_T15, 0) = r := Option.some.inj hr
    subst e
    exact rg_ap_of _ rg_pf15 rg_ap15
  | 16, hr =>
    have e : ("RegisterColours$Move", rg_T16, 4) = r := Option.some.inj hr
    subst e
    exact rg_ap_of _ rg_pf16 rg_ap16
  | 17, hr =>
    have e : ("java/util/ArrayList$Itr", rg_T17, 4) = r := Option.some.inj hr
    subst e
    exact rg_ap_of _ rg_pf17 rg_ap17
  | 18, hr =>
    have e : ("java/util/TreeSet", rg_T18, 1) = r := Option.some.inj hr
    subst e
    exact rg_ap_of _ rg_pf18 rg_ap18
  | 19, hr =>
    have e : ("java/util/TreeMap$Entry", rg_T19, 6) = r := Option.some.inj hr
    subst e
    exact rg_ap_of _ rg_pf19 rg_ap19
  | 20, hr =>
    have e : ("java/util/TreeMap$KeySet", rg_T20, 1) = r := Option.some.inj hr
    subst e
    exact rg_ap_of _ rg_pf20 rg_ap20
  | 21, hr =>
    have e : ("java/util/TreeMap$KeyIterator", rg_T21, 4) = r := Option.some.inj hr
    subst e
    exact rg_ap_of _ rg_pf21 rg_ap21
  | 22, hr =>
    have e : ("RegisterColours$Failed", rg_T22, 4) = r := Option.some.inj hr
    subst e
    exact rg_ap_of _ rg_pf22 rg_ap22
  | 23, hr =>
    have e : ("RegisterColours$Home", rg_T23, 3) = r := Option.some.inj hr
    subst e
    exact rg_ap_of _ rg_pf23 rg_ap23
  | 24, hr =>
    have e : ("RegisterColours$ByValues", rg_T24, 8) = r := Option.some.inj hr
    subst e
    exact rg_ap_of _ rg_pf24 rg_ap24
  | 25, hr =>
    have e : ("RegisterColours$ByRegisters", rg_T25, 11) = r := Option.some.inj hr
    subst e
    exact rg_ap_of _ rg_pf25 rg_ap25
  | n + 26, hr => exact absurd (List.getElem?_eq_some_iff.mp hr).1 (show ¬ (n + 26 < 26) by omega)
theorem fmz {α : Type} {P : α → Prop} : ∀ q ∈ ([] : List α), P q := fun _ h => nomatch h
theorem fmk {α : Type} {P : α → Prop} {a : α} {l : List α} (h : P a) (t : ∀ q ∈ l, P q) : ∀ q ∈ a :: l, P q := List.forall_mem_cons.mpr ⟨h, t⟩
theorem mf_of {y n : Nat} {nm : MethodName} {b : ByteArray} {L : Nat} {r : Option FieldType} (h1 : y < 480) (h2 : rg_ml y ≤ 45) (hh : rg_hh y = []) (e1 : rg_nm y = nm) (e2 : rg_by y = b) (e3 : rg_ml y = L) (e4 : rg_rt y = r) (q : Cond.code nm b L r ∈ lw_all) (qi : Cond.initialized nm.cls ∈ lw_all) (hd : nm.cls ≠ "java/lang/invoke/MethodHandle" ∧ nm.cls ≠ "java/lang/invoke/VarHandle" ∧ (parseMethodDescriptor nm.desc).map (fun d => d.parameters.length) = some n) : MF y n := by
  subst e1 e2 e3 e4
  exact ⟨h1, h2, by unfold rg_cw; rw [if_pos hh]; exact q, qi, hd.1, hd.2.1, hd.2.2⟩
theorem mf_ofW {y n : Nat} {nm : MethodName} {b : ByteArray} {L : Nat} {r : Option FieldType} {hs : List (Nat × Nat × Nat × Nat)} (h1 : y < 480) (h2 : rg_ml y ≤ 45) (hh : rg_hh y ≠ []) (e1 : rg_nm y = nm) (e2 : rg_by y = b) (e3 : rg_ml y = L) (e4 : rg_rt y = r) (e5 : rg_hh y = hs) (q : Cond.codeWith nm b L r hs ∈ lw_all) (qi : Cond.initialized nm.cls ∈ lw_all) (hd : nm.cls ≠ "java/lang/invoke/MethodHandle" ∧ nm.cls ≠ "java/lang/invoke/VarHandle" ∧ (parseMethodDescriptor nm.desc).map (fun d => d.parameters.length) = some n) : MF y n := by
  subst e1 e2 e3 e4 e5
  exact ⟨h1, h2, by unfold rg_cw; rw [if_neg hh]; exact q, qi, hd.1, hd.2.1, hd.2.2⟩
theorem mf1 : MF 1 0 := mf_of (by decide) (by decide) rfl rfl rfl rfl rfl q240 q186 (by decide +kernel)
theorem mf2 : MF 2 0 := mf_of (by decide) (by decide) rfl rfl rfl rfl rfl q277 q186 (by decide +kernel)
theorem mf3 : MF 3 3 := mf_of (by decide) (by decide) rfl rfl rfl rfl rfl q484 q186 (by decide +kernel)
theorem mf4 : MF 4 2 := mf_of (by decide) (by decide) rfl rfl rfl rfl rfl q594 q186 (by decide +kernel)
theorem mf5 : MF 5 2 := mf_of (by decide) (by decide) rfl rfl rfl rfl rfl q596 q186 (by decide +kernel)
theorem mf6 : MF 6 2 := mf_of (by decide) (by decide) rfl rfl rfl rfl rfl q598 q186 (by decide +kernel)
theorem mf7 : MF 7 2 := mf_of (by decide) (by decide) rfl rfl rfl rfl rfl q600 q186 (by decide +kernel)
theorem mf8 : MF 8 2 := mf_of (by decide) (by decide) rfl rfl rfl rfl rfl q602 q186 (by decide +kernel)
theorem mf9 : MF 9 2 := mf_of (by decide) (by decide) rfl rfl rfl rfl rfl q605 q186 (by decide +kernel)
theorem mf10 : MF 10 2 := mf_of (by decide) (by decide) rfl rfl rfl rfl rfl q607 q186 (by decide +kernel)
theorem mf11 : MF 11 2 := mf_of (by decide) (by decide) rfl rfl rfl rfl rfl q611 q186 (by decide +kernel)
theorem mf12 : MF 12 2 := mf_of (by decide) (by decide) rfl rfl rfl rfl rfl q613 q186 (by decide +kernel)
theorem mf13 : MF 13 5 := mf_of (by decide) (by decide) rfl rfl rfl rfl rfl q728 q186 (by decide +kernel)
theorem mf14 : MF 14 1 := mf_of (by decide) (by decide) rfl rfl rfl rfl rfl q732 q186 (by decide +kernel)
theorem mf15 : MF 15 1 := mf_of (by decide) (by decide) rfl rfl rfl rfl rfl q736 q186 (by decide +kernel)
theorem mf16 : MF 16 0 := mf_ofW (by decide) (by decide) (by decide) rfl rfl rfl rfl rfl q741 q186 (by decide +kernel)
theorem mf17 : MF 17 1 := mf_of (by decide) (by decide) rfl rfl rfl rfl rfl q954 q186 (by decide +kernel)
theorem mf18 : MF 18 0 := mf_of (by decide) (by decide) rfl rfl rfl rfl rfl q981 q186 (by decide +kernel)
theorem mf19 : MF 19 1 := mf_of (by decide) (by decide) rfl rfl rfl rfl rfl q985 q186 (by decide +kernel)
theorem mf20 : MF 20 2 := mf_of (by decide) (by decide) rfl rfl rfl rfl rfl q989 q186 (by decide +kernel)
theorem mf21 : MF 21 2 := mf_of (by decide) (by decide) rfl rfl rfl rfl rfl q994 q186 (by decide +kernel)
theorem mf22 : MF 22 2 := mf_of (by decide) (by decide) rfl rfl rfl rfl rfl q998 q186 (by decide +kernel)
theorem mf23 : MF 23 0 := mf_ofW (by decide) (by decide) (by decide) rfl rfl rfl rfl rfl q1002 q186 (by decide +kernel)
theorem mf24 : MF 24 2 := mf_of (by decide) (by decide) rfl rfl rfl rfl rfl q2050 q186 (by decide +kernel)
theorem mf25 : MF 25 0 := mf_of (by decide) (by decide) rfl rfl rfl rfl rfl q2202 q186 (by decide +kernel)
theorem mf26 : MF 26 3 := mf_of (by decide) (by decide) rfl rfl rfl rfl rfl q2251 q186 (by decide +kernel)
theorem mf27 : MF 27 2 := mf_of (by decide) (by decide) rfl rfl rfl rfl rfl q2254 q186 (by decide +kernel)
theorem mf28 : MF 28 1 := mf_of (by decide) (by decide) rfl rfl rfl rfl rfl q2258 q186 (by decide +kernel)
theorem mf29 : MF 29 2 := mf_of (by decide) (by decide) rfl rfl rfl rfl rfl q2262 q186 (by decide +kernel)
theorem mf30 : MF 30 1 := mf_of (by decide) (by decide) rfl rfl rfl rfl rfl q2266 q186 (by decide +kernel)
theorem mf31 : MF 31 2 := mf_of (by decide) (by decide) rfl rfl rfl rfl rfl q2272 q186 (by decide +kernel)
theorem mf32 : MF 32 0 := mf_of (by decide) (by decide) rfl rfl rfl rfl rfl q2276 q186 (by decide +kernel)
theorem mf33 : MF 33 2 := mf_of (by decide) (by decide) rfl rfl rfl rfl rfl q2286 q186 (by decide +kernel)
theorem mf34 : MF 34 2 := mf_of (by decide) (by decide) rfl rfl rfl rfl rfl q2291 q186 (by decide +kernel)
theorem mf35 : MF 35 1 := mf_of (by decide) (by decide) rfl rfl rfl rfl rfl q2295 q186 (by decide +kernel)
theorem mf36 : MF 36 1 := mf_of (by decide) (by decide) rfl rfl rfl rfl rfl q2299 q186 (by decide +kernel)
theorem mf37 : MF 37 1 := mf_of (by decide) (by decide) rfl rfl rfl rfl rfl q2303 q186 (by decide +kernel)
theorem mf38 : MF 38 1 := mf_of (by decide) (by decide) rfl rfl rfl rfl rfl q2313 q186 (by decide +kernel)
theorem mf39 : MF 39 3 := mf_of (by decide) (by decide) rfl rfl rfl rfl rfl q2318 q186 (by decide +kernel)
theorem mf40 : MF 40 1 := mf_of (by decide) (by decide) rfl rfl rfl rfl rfl q2325 q186 (by decide +kernel)
theorem mf41 : MF 41 0 := mf_of (by decide) (by decide) rfl rfl rfl rfl rfl q2329 q186 (by decide +kernel)
theorem mf42 : MF 42 2 := mf_of (by decide) (by decide) rfl rfl rfl rfl rfl q2337 q186 (by decide +kernel)
theorem mf43 : MF 43 0 := mf_of (by decide) (by decide) rfl rfl rfl rfl rfl q2359 q186 (by decide +kernel)
theorem mf44 : MF 44 0 := mf_of (by decide) (by decide) rfl rfl rfl rfl rfl q2363 q186 (by decide +kernel)
theorem mf45 : MF 45 1 := mf_of (by decide) (by decide) rfl rfl rfl rfl rfl q2367 q186 (by decide +kernel)
theorem mf46 : MF 46 2 := mf_of (by decide) (by decide) rfl rfl rfl rfl rfl q2370 q186 (by decide +kernel)
theorem mf47 : MF 47 1 := mf_of (by decide) (by decide) rfl rfl rfl rfl rfl q2374 q186 (by decide +kernel)
theorem mf48 : MF 48 0 := mf_of (by decide) (by decide) rfl rfl rfl rfl rfl q2378 q186 (by decide +kernel)
theorem mf49 : MF 49 0 := mf_of (by decide) (by decide) rfl rfl rfl rfl rfl q2382 q186 (by decide +kernel)
theorem mf50 : MF 50 0 := mf_of (by decide) (by decide) rfl rfl rfl rfl rfl q2387 q186 (by decide +kernel)
theorem mf51 : MF 51 5 := mf_of (by decide) (by decide) rfl rfl rfl rfl rfl q375 q196 (by decide +kernel)
theorem mf52 : MF 52 0 := mf_of (by decide) (by decide) rfl rfl rfl rfl rfl q431 q196 (by decide +kernel)
theorem mf53 : MF 53 1 := mf_of (by decide) (by decide) rfl rfl rfl rfl rfl q435 q196 (by decide +kernel)
theorem mf54 : MF 54 3 := mf_of (by decide) (by decide) rfl rfl rfl rfl rfl q2042 q196 (by decide +kernel)
theorem mf55 : MF 55 2 := mf_of (by decide) (by decide) rfl rfl rfl rfl rfl q446 q197 (by decide +kernel)
theorem mf56 : MF 56 1 := mf_of (by decide) (by decide) rfl rfl rfl rfl rfl q478 q197 (by decide +kernel)
theorem mf57 : MF 57 0 := mf_of (by decide) (by decide) rfl rfl rfl rfl rfl q488 q197 (by decide +kernel)
theorem mf58 : MF 58 1 := mf_of (by decide) (by decide) rfl rfl rfl rfl rfl q493 q197 (by decide +kernel)
theorem mf59 : MF 59 1 := mf_of (by decide) (by decide) rfl rfl rfl rfl rfl q528 q197 (by decide +kernel)
theorem mf60 : MF 60 1 := mf_of (by decide) (by decide) rfl rfl rfl rfl rfl q618 q201 (by decide +kernel)
theorem mf61 : MF 61 1 := mf_of (by decide) (by decide) rfl rfl rfl rfl rfl q2206 q201 (by decide +kernel)
theorem mf62 : MF 62 1 := mf_of (by decide) (by decide) rfl rfl rfl rfl rfl q2212 q201 (by decide +kernel)
theorem mf63 : MF 63 1 := mf_of (by decide) (by decide) rfl rfl rfl rfl rfl q2218 q201 (by decide +kernel)
theorem mf64 : MF 64 1 := mf_of (by decide) (by decide) rfl rfl rfl rfl rfl q2222 q201 (by decide +kernel)
theorem mf65 : MF 65 1 := mf_of (by decide) (by decide) rfl rfl rfl rfl rfl q2225 q201 (by decide +kernel)
theorem mf66 : MF 66 1 := mf_of (by decide) (by decide) rfl rfl rfl rfl rfl q2229 q201 (by decide +kernel)
theorem mf67 : MF 67 1 := mf_of (by decide) (by decide) rfl rfl rfl rfl rfl q2234 q201 (by decide +kernel)
theorem mf68 : MF 68 1 := mf_of (by decide) (by decide) rfl rfl rfl rfl rfl q2238 q201 (by decide +kernel)
theorem mf69 : MF 69 1 := mf_of (by decide) (by decide) rfl rfl rfl rfl rfl q2242 q201 (by decide +kernel)
theorem mf70 : MF 70 2 := mf_of (by decide) (by decide) rfl rfl rfl rfl rfl q2247 q201 (by decide +kernel)
theorem mf71 : MF 71 0 := mf_of (by decide) (by decide) rfl rfl rfl rfl rfl q2393 q202 (by decide +kernel)
theorem mf72 : MF 72 2 := mf_of (by decide) (by decide) rfl rfl rfl rfl rfl q2619 q202 (by decide +kernel)
theorem mf73 : MF 73 2 := mf_of (by decide) (by decide) rfl rfl rfl rfl rfl q2623 q202 (by decide +kernel)
theorem mf74 : MF 74 3 := mf_of (by decide) (by decide) rfl rfl rfl rfl rfl q2627 q202 (by decide +kernel)
theorem mf75 : MF 75 2 := mf_of (by decide) (by decide) rfl rfl rfl rfl rfl q2631 q202 (by decide +kernel)
theorem mf76 : MF 76 0 := mf_of (by decide) (by decide) rfl rfl rfl rfl rfl q2635 q202 (by decide +kernel)
theorem mf77 : MF 77 2 := mf_of (by decide) (by decide) rfl rfl rfl rfl rfl q2639 q202 (by decide +kernel)
theorem mf78 : MF 78 2 := mf_of (by decide) (by decide) rfl rfl rfl rfl rfl q2643 q202 (by decide +kernel)
theorem mf79 : MF 79 0 := mf_of (by decide) (by decide) rfl rfl rfl rfl rfl q2647 q202 (by decide +kernel)
theorem mf80 : MF 80 1 := mf_of (by decide) (by decide) rfl rfl rfl rfl rfl q2651 q202 (by decide +kernel)
theorem mf81 : MF 81 1 := mf_of (by decide) (by decide) rfl rfl rfl rfl rfl q2655 q202 (by decide +kernel)
theorem mf82 : MF 82 2 := mf_of (by decide) (by decide) rfl rfl rfl rfl rfl q2659 q202 (by decide +kernel)
theorem mf83 : MF 83 2 := mf_of (by decide) (by decide) rfl rfl rfl rfl rfl q2663 q202 (by decide +kernel)
theorem mf84 : MF 84 2 := mf_of (by decide) (by decide) rfl rfl rfl rfl rfl q2667 q202 (by decide +kernel)
theorem mf85 : MF 85 2 := mf_of (by decide) (by decide) rfl rfl rfl rfl rfl q2671 q202 (by decide +kernel)
theorem mf86 : MF 86 3 := mf_of (by decide) (by decide) rfl rfl rfl rfl rfl q2675 q202 (by decide +kernel)
theorem mf87 : MF 87 2 := mf_of (by decide) (by decide) rfl rfl rfl rfl rfl q2679 q202 (by decide +kernel)
theorem mf88 : MF 88 2 := mf_of (by decide) (by decide) rfl rfl rfl rfl rfl q2683 q202 (by decide +kernel)
theorem mf89 : MF 89 3 := mf_of (by decide) (by decide) rfl rfl rfl rfl rfl q2687 q202 (by decide +kernel)
theorem mf90 : MF 90 3 := mf_of (by decide) (by decide) rfl rfl rfl rfl rfl q2691 q202 (by decide +kernel)
theorem mf91 : MF 91 1 := mf_of (by decide) (by decide) rfl rfl rfl rfl rfl q2696 q202 (by decide +kernel)
theorem mf92 : MF 92 2 := mf_of (by decide) (by decide) rfl rfl rfl rfl rfl q2700 q202 (by decide +kernel)
theorem mf93 : MF 93 2 := mf_of (by decide) (by decide) rfl rfl rfl rfl rfl q2704 q202 (by decide +kernel)
theorem mf94 : MF 94 2 := mf_of (by decide) (by decide) rfl rfl rfl rfl rfl q2708 q202 (by decide +kernel)
theorem mf95 : MF 95 2 := mf_of (by decide) (by decide) rfl rfl rfl rfl rfl q2712 q202 (by decide +kernel)
theorem mf96 : MF 96 3 := mf_of (by decide) (by decide) rfl rfl rfl rfl rfl q2716 q202 (by decide +kernel)
theorem mf97 : MF 97 2 := mf_of (by decide) (by decide) rfl rfl rfl rfl rfl q2720 q202 (by decide +kernel)
theorem mf98 : MF 98 1 := mf_of (by decide) (by decide) rfl rfl rfl rfl rfl q2724 q202 (by decide +kernel)
theorem mf99 : MF 99 2 := mf_of (by decide) (by decide) rfl rfl rfl rfl rfl q2728 q202 (by decide +kernel)
theorem mf100 : MF 100 3 := mf_of (by decide) (by decide) rfl rfl rfl rfl rfl q2732 q202 (by decide +kernel)
theorem mf101 : MF 101 2 := mf_of (by decide) (by decide) rfl rfl rfl rfl rfl q2736 q202 (by decide +kernel)
theorem mf102 : MF 102 0 := mf_of (by decide) (by decide) rfl rfl rfl rfl rfl q2740 q202 (by decide +kernel)
theorem mf103 : MF 103 1 := mf_of (by decide) (by decide) rfl rfl rfl rfl rfl q2744 q202 (by decide +kernel)
theorem mf104 : MF 104 2 := mf_of (by decide) (by decide) rfl rfl rfl rfl rfl q2748 q202 (by decide +kernel)
theorem mf105 : MF 105 1 := mf_of (by decide) (by decide) rfl rfl rfl rfl rfl q2752 q202 (by decide +kernel)
theorem mf106 : MF 106 1 := mf_of (by decide) (by decide) rfl rfl rfl rfl rfl q2756 q202 (by decide +kernel)
theorem mf107 : MF 107 2 := mf_of (by decide) (by decide) rfl rfl rfl rfl rfl q2760 q202 (by decide +kernel)
theorem mf108 : MF 108 1 := mf_of (by decide) (by decide) rfl rfl rfl rfl rfl q2764 q202 (by decide +kernel)
theorem mf109 : MF 109 2 := mf_of (by decide) (by decide) rfl rfl rfl rfl rfl q2768 q202 (by decide +kernel)
theorem mf110 : MF 110 2 := mf_of (by decide) (by decide) rfl rfl rfl rfl rfl q2772 q202 (by decide +kernel)
theorem mf111 : MF 111 0 := mf_of (by decide) (by decide) rfl rfl rfl rfl rfl q2776 q202 (by decide +kernel)
theorem mf112 : MF 112 0 := mf_of (by decide) (by decide) rfl rfl rfl rfl rfl q2780 q202 (by decide +kernel)
theorem mf113 : MF 113 2 := mf_of (by decide) (by decide) rfl rfl rfl rfl rfl q2784 q202 (by decide +kernel)
theorem mf114 : MF 114 0 := mf_of (by decide) (by decide) rfl rfl rfl rfl rfl q2788 q202 (by decide +kernel)
theorem mf115 : MF 115 1 := mf_of (by decide) (by decide) rfl rfl rfl rfl rfl q2792 q202 (by decide +kernel)
theorem mf116 : MF 116 1 := mf_of (by decide) (by decide) rfl rfl rfl rfl rfl q2796 q202 (by decide +kernel)
theorem mf117 : MF 117 0 := mf_of (by decide) (by decide) rfl rfl rfl rfl rfl q2800 q202 (by decide +kernel)
theorem mf118 : MF 118 1 := mf_of (by decide) (by decide) rfl rfl rfl rfl rfl q2804 q202 (by decide +kernel)
theorem mf119 : MF 119 1 := mf_of (by decide) (by decide) rfl rfl rfl rfl rfl q2808 q202 (by decide +kernel)
theorem mf120 : MF 120 1 := mf_of (by decide) (by decide) rfl rfl rfl rfl rfl q2812 q202 (by decide +kernel)
theorem mf121 : MF 121 0 := mf_of (by decide) (by decide) rfl rfl rfl rfl rfl q2816 q202 (by decide +kernel)
theorem mf122 : MF 122 1 := mf_of (by decide) (by decide) rfl rfl rfl rfl rfl q2820 q202 (by decide +kernel)
theorem mf123 : MF 123 1 := mf_of (by decide) (by decide) rfl rfl rfl rfl rfl q2824 q202 (by decide +kernel)
theorem mf124 : MF 124 1 := mf_of (by decide) (by decide) rfl rfl rfl rfl rfl q2828 q202 (by decide +kernel)
theorem mf125 : MF 125 1 := mf_of (by decide) (by decide) rfl rfl rfl rfl rfl q2832 q202 (by decide +kernel)
theorem mf126 : MF 126 6 := mf_of (by decide) (by decide) rfl rfl rfl rfl rfl q2836 q202 (by decide +kernel)
theorem mf127 : MF 127 1 := mf_of (by decide) (by decide) rfl rfl rfl rfl rfl q2840 q202 (by decide +kernel)
theorem mf128 : MF 128 1 := mf_of (by decide) (by decide) rfl rfl rfl rfl rfl q2844 q202 (by decide +kernel)
theorem mf129 : MF 129 2 := mf_of (by decide) (by decide) rfl rfl rfl rfl rfl q2848 q202 (by decide +kernel)
theorem mf130 : MF 130 2 := mf_of (by decide) (by decide) rfl rfl rfl rfl rfl q2852 q202 (by decide +kernel)
theorem mf131 : MF 131 1 := mf_of (by decide) (by decide) rfl rfl rfl rfl rfl q2856 q202 (by decide +kernel)
theorem mf132 : MF 132 5 := mf_of (by decide) (by decide) rfl rfl rfl rfl rfl q2860 q202 (by decide +kernel)
theorem mf133 : MF 133 1 := mf_of (by decide) (by decide) rfl rfl rfl rfl rfl q2864 q202 (by decide +kernel)
theorem mf134 : MF 134 1 := mf_of (by decide) (by decide) rfl rfl rfl rfl rfl q2868 q202 (by decide +kernel)
theorem mf135 : MF 135 0 := mf_of (by decide) (by decide) rfl rfl rfl rfl rfl q2872 q202 (by decide +kernel)
theorem mf136 : MF 136 0 := mf_of (by decide) (by decide) rfl rfl rfl rfl rfl q2876 q202 (by decide +kernel)
theorem mf137 : MF 137 0 := mf_of (by decide) (by decide) rfl rfl rfl rfl rfl q2880 q202 (by decide +kernel)
theorem mf138 : MF 138 1 := mf_of (by decide) (by decide) rfl rfl rfl rfl rfl q2884 q202 (by decide +kernel)
theorem mf139 : MF 139 1 := mf_of (by decide) (by decide) rfl rfl rfl rfl rfl q2888 q202 (by decide +kernel)
theorem mf140 : MF 140 2 := mf_of (by decide) (by decide) rfl rfl rfl rfl rfl q2892 q202 (by decide +kernel)
theorem mf141 : MF 141 1 := mf_of (by decide) (by decide) rfl rfl rfl rfl rfl q2896 q202 (by decide +kernel)
theorem mf142 : MF 142 1 := mf_of (by decide) (by decide) rfl rfl rfl rfl rfl q2900 q202 (by decide +kernel)
theorem mf143 : MF 143 0 := mf_of (by decide) (by decide) rfl rfl rfl rfl rfl q2904 q202 (by decide +kernel)
theorem mf144 : MF 144 1 := mf_of (by decide) (by decide) rfl rfl rfl rfl rfl q2908 q202 (by decide +kernel)
theorem mf145 : MF 145 1 := mf_of (by decide) (by decide) rfl rfl rfl rfl rfl q2912 q202 (by decide +kernel)
theorem mf146 : MF 146 0 := mf_of (by decide) (by decide) rfl rfl rfl rfl rfl q2916 q202 (by decide +kernel)
theorem mf147 : MF 147 1 := mf_of (by decide) (by decide) rfl rfl rfl rfl rfl q2920 q202 (by decide +kernel)
theorem mf148 : MF 148 2 := mf_of (by decide) (by decide) rfl rfl rfl rfl rfl q2924 q202 (by decide +kernel)
theorem mf149 : MF 149 1 := mf_of (by decide) (by decide) rfl rfl rfl rfl rfl q2928 q202 (by decide +kernel)
theorem mf150 : MF 150 1 := mf_of (by decide) (by decide) rfl rfl rfl rfl rfl q2932 q202 (by decide +kernel)
theorem mf151 : MF 151 0 := mf_of (by decide) (by decide) rfl rfl rfl rfl rfl q2936 q202 (by decide +kernel)
theorem mf152 : MF 152 5 := mf_of (by decide) (by decide) rfl rfl rfl rfl rfl q2940 q202 (by decide +kernel)
theorem mf153 : MF 153 0 := mf_of (by decide) (by decide) rfl rfl rfl rfl rfl q2944 q202 (by decide +kernel)
theorem mf154 : MF 154 1 := mf_of (by decide) (by decide) rfl rfl rfl rfl rfl q2948 q202 (by decide +kernel)
theorem mf155 : MF 155 0 := mf_of (by decide) (by decide) rfl rfl rfl rfl rfl q2952 q202 (by decide +kernel)
theorem mf156 : MF 156 1 := mf_of (by decide) (by decide) rfl rfl rfl rfl rfl q2956 q202 (by decide +kernel)
theorem mf157 : MF 157 2 := mf_of (by decide) (by decide) rfl rfl rfl rfl rfl q2960 q202 (by decide +kernel)
theorem mf158 : MF 158 2 := mf_of (by decide) (by decide) rfl rfl rfl rfl rfl q2964 q202 (by decide +kernel)
theorem mf159 : MF 159 2 := mf_of (by decide) (by decide) rfl rfl rfl rfl rfl q2968 q202 (by decide +kernel)
theorem mf160 : MF 160 2 := mf_of (by decide) (by decide) rfl rfl rfl rfl rfl q2972 q202 (by decide +kernel)
theorem mf161 : MF 161 1 := mf_of (by decide) (by decide) rfl rfl rfl rfl rfl q2977 q202 (by decide +kernel)
theorem mf162 : MF 162 3 := mf_of (by decide) (by decide) rfl rfl rfl rfl rfl q2983 q202 (by decide +kernel)
theorem mf163 : MF 163 2 := mf_of (by decide) (by decide) rfl rfl rfl rfl rfl q2987 q202 (by decide +kernel)
theorem mf164 : MF 164 0 := mf_of (by decide) (by decide) rfl rfl rfl rfl rfl q2991 q202 (by decide +kernel)
theorem mf165 : MF 165 1 := mf_of (by decide) (by decide) rfl rfl rfl rfl rfl q2995 q202 (by decide +kernel)
theorem mf166 : MF 166 1 := mf_of (by decide) (by decide) rfl rfl rfl rfl rfl q2999 q202 (by decide +kernel)
theorem mf167 : MF 167 1 := mf_of (by decide) (by decide) rfl rfl rfl rfl rfl q3003 q202 (by decide +kernel)
theorem mf168 : MF 168 1 := mf_of (by decide) (by decide) rfl rfl rfl rfl rfl q3007 q202 (by decide +kernel)
theorem mf169 : MF 169 1 := mf_of (by decide) (by decide) rfl rfl rfl rfl rfl q3011 q202 (by decide +kernel)
theorem mf170 : MF 170 3 := mf_of (by decide) (by decide) rfl rfl rfl rfl rfl q3015 q202 (by decide +kernel)
theorem mf171 : MF 171 2 := mf_of (by decide) (by decide) rfl rfl rfl rfl rfl q3019 q202 (by decide +kernel)
theorem mf172 : MF 172 3 := mf_of (by decide) (by decide) rfl rfl rfl rfl rfl q3023 q202 (by decide +kernel)
theorem mf173 : MF 173 2 := mf_of (by decide) (by decide) rfl rfl rfl rfl rfl q3027 q202 (by decide +kernel)
theorem mf174 : MF 174 1 := mf_of (by decide) (by decide) rfl rfl rfl rfl rfl q3031 q202 (by decide +kernel)
theorem mf175 : MF 175 2 := mf_of (by decide) (by decide) rfl rfl rfl rfl rfl q3035 q202 (by decide +kernel)
theorem mf176 : MF 176 2 := mf_of (by decide) (by decide) rfl rfl rfl rfl rfl q3039 q202 (by decide +kernel)
theorem mf177 : MF 177 1 := mf_of (by decide) (by decide) rfl rfl rfl rfl rfl q3043 q202 (by decide +kernel)
theorem mf178 : MF 178 0 := mf_of (by decide) (by decide) rfl rfl rfl rfl rfl q3047 q202 (by decide +kernel)
theorem mf179 : MF 179 1 := mf_of (by decide) (by decide) rfl rfl rfl rfl rfl q3051 q202 (by decide +kernel)
theorem mf180 : MF 180 1 := mf_of (by decide) (by decide) rfl rfl rfl rfl rfl q3055 q202 (by decide +kernel)
theorem mf181 : MF 181 2 := mf_of (by decide) (by decide) rfl rfl rfl rfl rfl q3059 q202 (by decide +kernel)
theorem mf182 : MF 182 0 := mf_of (by decide) (by decide) rfl rfl rfl rfl rfl q3063 q202 (by decide +kernel)
theorem mf183 : MF 183 0 := mf_of (by decide) (by decide) rfl rfl rfl rfl rfl q3067 q202 (by decide +kernel)
theorem mf184 : MF 184 2 := mf_of (by decide) (by decide) rfl rfl rfl rfl rfl q3071 q202 (by decide +kernel)
theorem mf185 : MF 185 1 := mf_of (by decide) (by decide) rfl rfl rfl rfl rfl q3075 q202 (by decide +kernel)
theorem mf186 : MF 186 0 := mf_of (by decide) (by decide) rfl rfl rfl rfl rfl q3079 q202 (by decide +kernel)
theorem mf187 : MF 187 0 := mf_of (by decide) (by decide) rfl rfl rfl rfl rfl q3083 q202 (by decide +kernel)
theorem mf188 : MF 188 0 := mf_of (by decide) (by decide) rfl rfl rfl rfl rfl q3087 q202 (by decide +kernel)
theorem mf189 : MF 189 0 := mf_of (by decide) (by decide) rfl rfl rfl rfl rfl q3091 q202 (by decide +kernel)
theorem mf190 : MF 190 1 := mf_of (by decide) (by decide) rfl rfl rfl rfl rfl q3096 q202 (by decide +kernel)
theorem mf191 : MF 191 1 := mf_of (by decide) (by decide) rfl rfl rfl rfl rfl q3100 q202 (by decide +kernel)
theorem mf192 : MF 192 3 := mf_of (by decide) (by decide) rfl rfl rfl rfl rfl q3104 q202 (by decide +kernel)
theorem mf193 : MF 193 1 := mf_of (by decide) (by decide) rfl rfl rfl rfl rfl q747 q203 (by decide +kernel)
theorem mf194 : MF 194 0 := mf_of (by decide) (by decide) rfl rfl rfl rfl rfl q776 q203 (by decide +kernel)
theorem mf195 : MF 195 0 := mf_of (by decide) (by decide) rfl rfl rfl rfl rfl q780 q203 (by decide +kernel)
theorem mf196 : MF 196 0 := mf_of (by decide) (by decide) rfl rfl rfl rfl rfl q784 q203 (by decide +kernel)
theorem mf197 : MF 197 2 := mf_of (by decide) (by decide) rfl rfl rfl rfl rfl q788 q203 (by decide +kernel)
theorem mf198 : MF 198 0 := mf_of (by decide) (by decide) rfl rfl rfl rfl rfl q793 q203 (by decide +kernel)
theorem mf199 : MF 199 1 := mf_of (by decide) (by decide) rfl rfl rfl rfl rfl q798 q203 (by decide +kernel)
theorem mf200 : MF 200 0 := mf_of (by decide) (by decide) rfl rfl rfl rfl rfl q857 q203 (by decide +kernel)
theorem mf201 : MF 201 1 := mf_of (by decide) (by decide) rfl rfl rfl rfl rfl q861 q203 (by decide +kernel)
theorem mf202 : MF 202 0 := mf_of (by decide) (by decide) rfl rfl rfl rfl rfl q865 q203 (by decide +kernel)
theorem mf203 : MF 203 0 := mf_of (by decide) (by decide) rfl rfl rfl rfl rfl q935 q203 (by decide +kernel)
theorem mf204 : MF 204 1 := mf_of (by decide) (by decide) rfl rfl rfl rfl rfl q939 q203 (by decide +kernel)
theorem mf205 : MF 205 2 := mf_of (by decide) (by decide) rfl rfl rfl rfl rfl q943 q203 (by decide +kernel)
theorem mf206 : MF 206 1 := mf_of (by decide) (by decide) rfl rfl rfl rfl rfl q947 q203 (by decide +kernel)
theorem mf207 : MF 207 1 := mf_of (by decide) (by decide) rfl rfl rfl rfl rfl q951 q203 (by decide +kernel)
theorem mf208 : MF 208 2 := mf_of (by decide) (by decide) rfl rfl rfl rfl rfl q960 q203 (by decide +kernel)
theorem mf209 : MF 209 2 := mf_of (by decide) (by decide) rfl rfl rfl rfl rfl q964 q203 (by decide +kernel)
theorem mf210 : MF 210 1 := mf_of (by decide) (by decide) rfl rfl rfl rfl rfl q967 q203 (by decide +kernel)
theorem mf211 : MF 211 1 := mf_of (by decide) (by decide) rfl rfl rfl rfl rfl q970 q203 (by decide +kernel)
theorem mf212 : MF 212 0 := mf_of (by decide) (by decide) rfl rfl rfl rfl rfl q974 q203 (by decide +kernel)
theorem mf213 : MF 213 2 := mf_of (by decide) (by decide) rfl rfl rfl rfl rfl q906 q209 (by decide +kernel)
theorem mf214 : MF 214 3 := mf_of (by decide) (by decide) rfl rfl rfl rfl rfl q1008 q210 (by decide +kernel)
theorem mf215 : MF 215 1 := mf_of (by decide) (by decide) rfl rfl rfl rfl rfl q1119 q210 (by decide +kernel)
theorem mf216 : MF 216 3 := mf_of (by decide) (by decide) rfl rfl rfl rfl rfl q1962 q210 (by decide +kernel)
theorem mf217 : MF 217 3 := mf_of (by decide) (by decide) rfl rfl rfl rfl rfl q1977 q210 (by decide +kernel)
theorem mf218 : MF 218 2 := mf_of (by decide) (by decide) rfl rfl rfl rfl rfl q1982 q210 (by decide +kernel)
theorem mf219 : MF 219 2 := mf_of (by decide) (by decide) rfl rfl rfl rfl rfl q2007 q210 (by decide +kernel)
theorem mf220 : MF 220 2 := mf_of (by decide) (by decide) rfl rfl rfl rfl rfl q2012 q210 (by decide +kernel)
theorem mf221 : MF 221 3 := mf_of (by decide) (by decide) rfl rfl rfl rfl rfl q2020 q210 (by decide +kernel)
theorem mf222 : MF 222 2 := mf_of (by decide) (by decide) rfl rfl rfl rfl rfl q2024 q210 (by decide +kernel)
theorem mf223 : MF 223 3 := mf_of (by decide) (by decide) rfl rfl rfl rfl rfl q2032 q210 (by decide +kernel)
theorem mf224 : MF 224 1 := mf_of (by decide) (by decide) rfl rfl rfl rfl rfl q2036 q210 (by decide +kernel)
theorem mf225 : MF 225 0 := mf_of (by decide) (by decide) rfl rfl rfl rfl rfl q1014 q211 (by decide +kernel)
theorem mf226 : MF 226 4 := mf_of (by decide) (by decide) rfl rfl rfl rfl rfl q1124 q214 (by decide +kernel)
theorem mf227 : MF 227 2 := mf_of (by decide) (by decide) rfl rfl rfl rfl rfl q1134 q214 (by decide +kernel)
theorem mf228 : MF 228 2 := mf_of (by decide) (by decide) rfl rfl rfl rfl rfl q1152 q214 (by decide +kernel)
theorem mf229 : MF 229 2 := mf_of (by decide) (by decide) rfl rfl rfl rfl rfl q1160 q214 (by decide +kernel)
theorem mf230 : MF 230 2 := mf_of (by decide) (by decide) rfl rfl rfl rfl rfl q1164 q214 (by decide +kernel)
theorem mf231 : MF 231 1 := mf_of (by decide) (by decide) rfl rfl rfl rfl rfl q1167 q214 (by decide +kernel)
theorem mf232 : MF 232 1 := mf_of (by decide) (by decide) rfl rfl rfl rfl rfl q1171 q214 (by decide +kernel)
theorem mf233 : MF 233 2 := mf_of (by decide) (by decide) rfl rfl rfl rfl rfl q1174 q214 (by decide +kernel)
theorem mf234 : MF 234 2 := mf_of (by decide) (by decide) rfl rfl rfl rfl rfl q1178 q214 (by decide +kernel)
theorem mf235 : MF 235 2 := mf_of (by decide) (by decide) rfl rfl rfl rfl rfl q1184 q214 (by decide +kernel)
theorem mf236 : MF 236 0 := mf_of (by decide) (by decide) rfl rfl rfl rfl rfl q1189 q214 (by decide +kernel)
theorem mf237 : MF 237 2 := mf_of (by decide) (by decide) rfl rfl rfl rfl rfl q1195 q214 (by decide +kernel)
theorem mf238 : MF 238 1 := mf_of (by decide) (by decide) rfl rfl rfl rfl rfl q1200 q214 (by decide +kernel)
theorem mf239 : MF 239 2 := mf_of (by decide) (by decide) rfl rfl rfl rfl rfl q1206 q214 (by decide +kernel)
theorem mf240 : MF 240 0 := mf_of (by decide) (by decide) rfl rfl rfl rfl rfl q1272 q214 (by decide +kernel)
theorem mf241 : MF 241 0 := mf_of (by decide) (by decide) rfl rfl rfl rfl rfl q1276 q214 (by decide +kernel)
theorem mf242 : MF 242 1 := mf_of (by decide) (by decide) rfl rfl rfl rfl rfl q1313 q214 (by decide +kernel)
theorem mf243 : MF 243 1 := mf_of (by decide) (by decide) rfl rfl rfl rfl rfl q1649 q214 (by decide +kernel)
theorem mf244 : MF 244 2 := mf_of (by decide) (by decide) rfl rfl rfl rfl rfl q1659 q214 (by decide +kernel)
theorem mf245 : MF 245 0 := mf_of (by decide) (by decide) rfl rfl rfl rfl rfl q1667 q214 (by decide +kernel)
theorem mf246 : MF 246 2 := mf_of (by decide) (by decide) rfl rfl rfl rfl rfl q1820 q214 (by decide +kernel)
theorem mf247 : MF 247 2 := mf_of (by decide) (by decide) rfl rfl rfl rfl rfl q1901 q214 (by decide +kernel)
theorem mf248 : MF 248 0 := mf_of (by decide) (by decide) rfl rfl rfl rfl rfl q1934 q214 (by decide +kernel)
theorem mf249 : MF 249 1 := mf_of (by decide) (by decide) rfl rfl rfl rfl rfl q1938 q214 (by decide +kernel)
theorem mf250 : MF 250 1 := mf_of (by decide) (by decide) rfl rfl rfl rfl rfl q1942 q214 (by decide +kernel)
theorem mf251 : MF 251 0 := mf_of (by decide) (by decide) rfl rfl rfl rfl rfl q1283 q218 (by decide +kernel)
theorem mf252 : MF 252 2 := mf_of (by decide) (by decide) rfl rfl rfl rfl rfl q1367 q218 (by decide +kernel)
theorem mf253 : MF 253 2 := mf_of (by decide) (by decide) rfl rfl rfl rfl rfl q1372 q218 (by decide +kernel)
theorem mf254 : MF 254 4 := mf_of (by decide) (by decide) rfl rfl rfl rfl rfl q1318 q219 (by decide +kernel)
theorem mf255 : MF 255 0 := mf_of (by decide) (by decide) rfl rfl rfl rfl rfl q1955 q231 (by decide +kernel)
theorem mf256 : MF 256 3 := mf_of (by decide) (by decide) rfl rfl rfl rfl rfl q1988 q232 (by decide +kernel)
theorem mf257 : MF 257 2 := mf_of (by decide) (by decide) rfl rfl rfl rfl rfl q2058 q233 (by decide +kernel)
theorem mf258 : MF 258 1 := mf_of (by decide) (by decide) rfl rfl rfl rfl rfl q2118 q233 (by decide +kernel)
theorem mf259 : MF 259 0 := mf_of (by decide) (by decide) rfl rfl rfl rfl rfl q2124 q233 (by decide +kernel)
theorem mf260 : MF 260 1 := mf_of (by decide) (by decide) rfl rfl rfl rfl rfl q2131 q233 (by decide +kernel)
theorem mf261 : MF 261 0 := mf_of (by decide) (by decide) rfl rfl rfl rfl rfl q2159 q233 (by decide +kernel)
theorem mf262 : MF 262 1 := mf_of (by decide) (by decide) rfl rfl rfl rfl rfl q2173 q233 (by decide +kernel)
theorem mf263 : MF 263 1 := mf_of (by decide) (by decide) rfl rfl rfl rfl rfl q2055 q234 (by decide +kernel)
theorem mf264 : MF 264 1 := mf_of (by decide) (by decide) rfl rfl rfl rfl rfl q2140 q234 (by decide +kernel)
theorem mf265 : MF 265 2 := mf_of (by decide) (by decide) rfl rfl rfl rfl rfl q2155 q234 (by decide +kernel)
theorem mf266 : MF 266 1 := mf_of (by decide) (by decide) rfl rfl rfl rfl rfl q2169 q234 (by decide +kernel)
theorem mf267 : MF 267 1 := mf_of (by decide) (by decide) rfl rfl rfl rfl rfl q2184 q234 (by decide +kernel)
theorem mf268 : MF 268 0 := mf_of (by decide) (by decide) rfl rfl rfl rfl rfl q2197 q234 (by decide +kernel)
theorem mf269 : MF 269 2 := mf_of (by decide) (by decide) rfl rfl rfl rfl rfl q2089 q235 (by decide +kernel)
theorem mf270 : MF 270 1 := mf_of (by decide) (by decide) rfl rfl rfl rfl rfl q2137 q235 (by decide +kernel)
theorem mf271 : MF 271 2 := mf_of (by decide) (by decide) rfl rfl rfl rfl rfl q2147 q235 (by decide +kernel)
theorem mf272 : MF 272 1 := mf_of (by decide) (by decide) rfl rfl rfl rfl rfl q2151 q235 (by decide +kernel)
theorem mf273 : MF 273 1 := mf_of (by decide) (by decide) rfl rfl rfl rfl rfl q2165 q235 (by decide +kernel)
theorem mf274 : MF 274 1 := mf_of (by decide) (by decide) rfl rfl rfl rfl rfl q2179 q235 (by decide +kernel)
theorem mf275 : MF 275 0 := mf_of (by decide) (by decide) rfl rfl rfl rfl rfl q2194 q235 (by decide +kernel)
theorem mf276 : MF 276 0 := mf_of (by decide) (by decide) rfl rfl rfl rfl rfl q254 q187 (by decide +kernel)
theorem mf277 : MF 277 0 := mf_of (by decide) (by decide) rfl rfl rfl rfl rfl q1541 q187 (by decide +kernel)
theorem mf278 : MF 278 0 := mf_of (by decide) (by decide) rfl rfl rfl rfl rfl q251 q188 (by decide +kernel)
theorem mf279 : MF 279 0 := mf_of (by decide) (by decide) rfl rfl rfl rfl rfl q248 q189 (by decide +kernel)
theorem mf280 : MF 280 0 := mf_of (by decide) (by decide) rfl rfl rfl rfl rfl q281 q189 (by decide +kernel)
theorem mf281 : MF 281 1 := mf_of (by decide) (by decide) rfl rfl rfl rfl rfl q285 q189 (by decide +kernel)
theorem mf282 : MF 282 1 := mf_of (by decide) (by decide) rfl rfl rfl rfl rfl q295 q189 (by decide +kernel)
theorem mf283 : MF 283 1 := mf_of (by decide) (by decide) rfl rfl rfl rfl rfl q300 q189 (by decide +kernel)
theorem mf284 : MF 284 3 := mf_of (by decide) (by decide) rfl rfl rfl rfl rfl q304 q189 (by decide +kernel)
theorem mf285 : MF 285 0 := mf_of (by decide) (by decide) rfl rfl rfl rfl rfl q308 q189 (by decide +kernel)
theorem mf286 : MF 286 1 := mf_of (by decide) (by decide) rfl rfl rfl rfl rfl q312 q189 (by decide +kernel)
theorem mf287 : MF 287 2 := mf_of (by decide) (by decide) rfl rfl rfl rfl rfl q441 q189 (by decide +kernel)
theorem mf288 : MF 288 0 := mf_of (by decide) (by decide) rfl rfl rfl rfl rfl q1583 q189 (by decide +kernel)
theorem mf289 : MF 289 2 := mf_of (by decide) (by decide) rfl rfl rfl rfl rfl q288 q190 (by decide +kernel)
theorem mf290 : MF 290 1 := mf_of (by decide) (by decide) rfl rfl rfl rfl rfl q1768 q190 (by decide +kernel)
theorem mf291 : MF 291 3 := mf_of (by decide) (by decide) rfl rfl rfl rfl rfl q291 q191 (by decide +kernel)
theorem mf292 : MF 292 3 := mf_of (by decide) (by decide) rfl rfl rfl rfl rfl q315 q192 (by decide +kernel)
theorem mf293 : MF 293 2 := mf_of (by decide) (by decide) rfl rfl rfl rfl rfl q318 q193 (by decide +kernel)
theorem mf294 : MF 294 2 := mf_of (by decide) (by decide) rfl rfl rfl rfl rfl q366 q193 (by decide +kernel)
theorem mf295 : MF 295 2 := mf_of (by decide) (by decide) rfl rfl rfl rfl rfl q325 q194 (by decide +kernel)
theorem mf296 : MF 296 3 := mf_of (by decide) (by decide) rfl rfl rfl rfl rfl q360 q194 (by decide +kernel)
theorem mf297 : MF 297 2 := mf_of (by decide) (by decide) rfl rfl rfl rfl rfl q510 q194 (by decide +kernel)
theorem mf298 : MF 298 0 := mf_of (by decide) (by decide) rfl rfl rfl rfl rfl q454 q198 (by decide +kernel)
theorem mf299 : MF 299 1 := mf_of (by decide) (by decide) rfl rfl rfl rfl rfl q459 q198 (by decide +kernel)
theorem mf300 : MF 300 1 := mf_of (by decide) (by decide) rfl rfl rfl rfl rfl q462 q198 (by decide +kernel)
theorem mf301 : MF 301 0 := mf_of (by decide) (by decide) rfl rfl rfl rfl rfl q497 q198 (by decide +kernel)
theorem mf302 : MF 302 1 := mf_of (by decide) (by decide) rfl rfl rfl rfl rfl q501 q198 (by decide +kernel)
theorem mf303 : MF 303 1 := mf_of (by decide) (by decide) rfl rfl rfl rfl rfl q506 q198 (by decide +kernel)
theorem mf304 : MF 304 0 := mf_of (by decide) (by decide) rfl rfl rfl rfl rfl q522 q198 (by decide +kernel)
theorem mf305 : MF 305 2 := mf_of (by decide) (by decide) rfl rfl rfl rfl rfl q532 q198 (by decide +kernel)
theorem mf306 : MF 306 2 := mf_of (by decide) (by decide) rfl rfl rfl rfl rfl q535 q198 (by decide +kernel)
theorem mf307 : MF 307 1 := mf_of (by decide) (by decide) rfl rfl rfl rfl rfl q539 q198 (by decide +kernel)
theorem mf308 : MF 308 1 := mf_of (by decide) (by decide) rfl rfl rfl rfl rfl q544 q198 (by decide +kernel)
theorem mf309 : MF 309 1 := mf_of (by decide) (by decide) rfl rfl rfl rfl rfl q548 q198 (by decide +kernel)
theorem mf310 : MF 310 0 := mf_of (by decide) (by decide) rfl rfl rfl rfl rfl q552 q198 (by decide +kernel)
theorem mf311 : MF 311 0 := mf_of (by decide) (by decide) rfl rfl rfl rfl rfl q556 q198 (by decide +kernel)
theorem mf312 : MF 312 1 := mf_of (by decide) (by decide) rfl rfl rfl rfl rfl q1141 q198 (by decide +kernel)
theorem mf313 : MF 313 1 := mf_of (by decide) (by decide) rfl rfl rfl rfl rfl q1156 q198 (by decide +kernel)
theorem mf314 : MF 314 1 := mf_of (by decide) (by decide) rfl rfl rfl rfl rfl q1663 q198 (by decide +kernel)
theorem mf315 : MF 315 0 := mf_of (by decide) (by decide) rfl rfl rfl rfl rfl q1699 q199 (by decide +kernel)
theorem mf316 : MF 316 1 := mf_of (by decide) (by decide) rfl rfl rfl rfl rfl q559 q200 (by decide +kernel)
theorem mf317 : MF 317 1 := mf_of (by decide) (by decide) rfl rfl rfl rfl rfl q1144 q200 (by decide +kernel)
theorem mf318 : MF 318 0 := mf_of (by decide) (by decide) rfl rfl rfl rfl rfl q802 q204 (by decide +kernel)
theorem mf319 : MF 319 0 := mf_of (by decide) (by decide) rfl rfl rfl rfl rfl q806 q204 (by decide +kernel)
theorem mf320 : MF 320 1 := mf_of (by decide) (by decide) rfl rfl rfl rfl rfl q812 q204 (by decide +kernel)
theorem mf321 : MF 321 0 := mf_of (by decide) (by decide) rfl rfl rfl rfl rfl q816 q204 (by decide +kernel)
theorem mf322 : MF 322 2 := mf_of (by decide) (by decide) rfl rfl rfl rfl rfl q822 q204 (by decide +kernel)
theorem mf323 : MF 323 2 := mf_of (by decide) (by decide) rfl rfl rfl rfl rfl q819 q205 (by decide +kernel)
theorem mf324 : MF 324 0 := mf_of (by decide) (by decide) rfl rfl rfl rfl rfl q1065 q212 (by decide +kernel)
theorem mf325 : MF 325 0 := mf_of (by decide) (by decide) rfl rfl rfl rfl rfl q1811 q212 (by decide +kernel)
theorem mf326 : MF 326 0 := mf_of (by decide) (by decide) rfl rfl rfl rfl rfl q1062 q213 (by decide +kernel)
theorem mf327 : MF 327 0 := mf_of (by decide) (by decide) rfl rfl rfl rfl rfl q1555 q213 (by decide +kernel)
theorem mf328 : MF 328 1 := mf_of (by decide) (by decide) rfl rfl rfl rfl rfl q1645 q213 (by decide +kernel)
theorem mf329 : MF 329 2 := mf_of (by decide) (by decide) rfl rfl rfl rfl rfl q1718 q213 (by decide +kernel)
theorem mf330 : MF 330 3 := mf_of (by decide) (by decide) rfl rfl rfl rfl rfl q1722 q213 (by decide +kernel)
theorem mf331 : MF 331 2 := mf_of (by decide) (by decide) rfl rfl rfl rfl rfl q1726 q213 (by decide +kernel)
theorem mf332 : MF 332 2 := mf_of (by decide) (by decide) rfl rfl rfl rfl rfl q1730 q213 (by decide +kernel)
theorem mf333 : MF 333 4 := mf_of (by decide) (by decide) rfl rfl rfl rfl rfl q1772 q213 (by decide +kernel)
theorem mf334 : MF 334 1 := mf_of (by decide) (by decide) rfl rfl rfl rfl rfl q1776 q213 (by decide +kernel)
theorem mf335 : MF 335 1 := mf_of (by decide) (by decide) rfl rfl rfl rfl rfl q1779 q213 (by decide +kernel)
theorem mf336 : MF 336 1 := mf_of (by decide) (by decide) rfl rfl rfl rfl rfl q1782 q213 (by decide +kernel)
theorem mf337 : MF 337 1 := mf_of (by decide) (by decide) rfl rfl rfl rfl rfl q1785 q213 (by decide +kernel)
theorem mf338 : MF 338 1 := mf_of (by decide) (by decide) rfl rfl rfl rfl rfl q1788 q213 (by decide +kernel)
theorem mf339 : MF 339 2 := mf_of (by decide) (by decide) rfl rfl rfl rfl rfl q1791 q213 (by decide +kernel)
theorem mf340 : MF 340 1 := mf_of (by decide) (by decide) rfl rfl rfl rfl rfl q1795 q213 (by decide +kernel)
theorem mf341 : MF 341 1 := mf_of (by decide) (by decide) rfl rfl rfl rfl rfl q1799 q213 (by decide +kernel)
theorem mf342 : MF 342 0 := mf_of (by decide) (by decide) rfl rfl rfl rfl rfl q1833 q213 (by decide +kernel)
theorem mf343 : MF 343 0 := mf_of (by decide) (by decide) rfl rfl rfl rfl rfl q1858 q213 (by decide +kernel)
theorem mf344 : MF 344 0 := mf_of (by decide) (by decide) rfl rfl rfl rfl rfl q1864 q213 (by decide +kernel)
theorem mf345 : MF 345 1 := mf_of (by decide) (by decide) rfl rfl rfl rfl rfl q1913 q213 (by decide +kernel)
theorem mf346 : MF 346 1 := mf_of (by decide) (by decide) rfl rfl rfl rfl rfl q1917 q213 (by decide +kernel)
theorem mf347 : MF 347 1 := mf_of (by decide) (by decide) rfl rfl rfl rfl rfl q1921 q213 (by decide +kernel)
theorem mf348 : MF 348 1 := mf_of (by decide) (by decide) rfl rfl rfl rfl rfl q1925 q213 (by decide +kernel)
theorem mf349 : MF 349 1 := mf_of (by decide) (by decide) rfl rfl rfl rfl rfl q1930 q213 (by decide +kernel)
theorem mf350 : MF 350 0 := mf_of (by decide) (by decide) rfl rfl rfl rfl rfl q1966 q213 (by decide +kernel)
theorem mf351 : MF 351 1 := mf_of (by decide) (by decide) rfl rfl rfl rfl rfl q2028 q213 (by decide +kernel)
theorem mf352 : MF 352 1 := mf_of (by decide) (by decide) rfl rfl rfl rfl rfl q2353 q213 (by decide +kernel)
theorem mf353 : MF 353 1 := mf_of (by decide) (by decide) rfl rfl rfl rfl rfl q1147 q215 (by decide +kernel)
theorem mf354 : MF 354 1 := mf_of (by decide) (by decide) rfl rfl rfl rfl rfl q1386 q215 (by decide +kernel)
theorem mf355 : MF 355 1 := mf_of (by decide) (by decide) rfl rfl rfl rfl rfl q1391 q215 (by decide +kernel)
theorem mf356 : MF 356 2 := mf_of (by decide) (by decide) rfl rfl rfl rfl rfl q1394 q215 (by decide +kernel)
theorem mf357 : MF 357 1 := mf_of (by decide) (by decide) rfl rfl rfl rfl rfl q1688 q215 (by decide +kernel)
theorem mf358 : MF 358 1 := mf_of (by decide) (by decide) rfl rfl rfl rfl rfl q1696 q215 (by decide +kernel)
theorem mf359 : MF 359 0 := mf_of (by decide) (by decide) rfl rfl rfl rfl rfl q1897 q215 (by decide +kernel)
theorem mf360 : MF 360 0 := mf_of (by decide) (by decide) rfl rfl rfl rfl rfl q1294 q216 (by decide +kernel)
theorem mf361 : MF 361 1 := mf_of (by decide) (by decide) rfl rfl rfl rfl rfl q1288 q217 (by decide +kernel)
theorem mf362 : MF 362 2 := mf_of (by decide) (by decide) rfl rfl rfl rfl rfl q1291 q217 (by decide +kernel)
theorem mf363 : MF 363 1 := mf_of (by decide) (by decide) rfl rfl rfl rfl rfl q1340 q217 (by decide +kernel)
theorem mf364 : MF 364 1 := mf_of (by decide) (by decide) rfl rfl rfl rfl rfl q1344 q217 (by decide +kernel)
theorem mf365 : MF 365 1 := mf_of (by decide) (by decide) rfl rfl rfl rfl rfl q1348 q217 (by decide +kernel)
theorem mf366 : MF 366 2 := mf_of (by decide) (by decide) rfl rfl rfl rfl rfl q1354 q217 (by decide +kernel)
theorem mf367 : MF 367 4 := mf_of (by decide) (by decide) rfl rfl rfl rfl rfl q1357 q217 (by decide +kernel)
theorem mf368 : MF 368 3 := mf_of (by decide) (by decide) rfl rfl rfl rfl rfl q1375 q217 (by decide +kernel)
theorem mf369 : MF 369 0 := mf_of (by decide) (by decide) rfl rfl rfl rfl rfl q1548 q217 (by decide +kernel)
theorem mf370 : MF 370 0 := mf_of (by decide) (by decide) rfl rfl rfl rfl rfl q1573 q217 (by decide +kernel)
theorem mf371 : MF 371 4 := mf_of (by decide) (by decide) rfl rfl rfl rfl rfl q1576 q217 (by decide +kernel)
theorem mf372 : MF 372 5 := mf_of (by decide) (by decide) rfl rfl rfl rfl rfl q1579 q217 (by decide +kernel)
theorem mf373 : MF 373 1 := mf_of (by decide) (by decide) rfl rfl rfl rfl rfl q1588 q222 (by decide +kernel)
theorem mf374 : MF 374 0 := mf_of (by decide) (by decide) rfl rfl rfl rfl rfl q1612 q222 (by decide +kernel)
theorem mf375 : MF 375 0 := mf_of (by decide) (by decide) rfl rfl rfl rfl rfl q1627 q222 (by decide +kernel)
theorem mf376 : MF 376 0 := mf_of (by decide) (by decide) rfl rfl rfl rfl rfl q1631 q222 (by decide +kernel)
theorem mf377 : MF 377 0 := mf_of (by decide) (by decide) rfl rfl rfl rfl rfl q1680 q223 (by decide +kernel)
theorem mf378 : MF 378 0 := mf_of (by decide) (by decide) rfl rfl rfl rfl rfl q1568 q224 (by decide +kernel)
theorem mf379 : MF 379 0 := mf_of (by decide) (by decide) rfl rfl rfl rfl rfl q1672 q224 (by decide +kernel)
theorem mf380 : MF 380 1 := mf_of (by decide) (by decide) rfl rfl rfl rfl rfl q1677 q224 (by decide +kernel)
theorem mf381 : MF 381 1 := mf_of (by decide) (by decide) rfl rfl rfl rfl rfl q1708 q224 (by decide +kernel)
theorem mf382 : MF 382 0 := mf_of (by decide) (by decide) rfl rfl rfl rfl rfl q1803 q224 (by decide +kernel)
theorem mf383 : MF 383 0 := mf_of (by decide) (by decide) rfl rfl rfl rfl rfl q1824 q224 (by decide +kernel)
theorem mf384 : MF 384 1 := mf_of (by decide) (by decide) rfl rfl rfl rfl rfl q1905 q224 (by decide +kernel)
theorem mf385 : MF 385 1 := mf_of (by decide) (by decide) rfl rfl rfl rfl rfl q2345 q224 (by decide +kernel)
theorem mf386 : MF 386 3 := mf_of (by decide) (by decide) rfl rfl rfl rfl rfl q1740 q226 (by decide +kernel)
theorem mf387 : MF 387 0 := mf_of (by decide) (by decide) rfl rfl rfl rfl rfl q1558 q228 (by decide +kernel)
theorem mf388 : MF 388 1 := mf_of (by decide) (by decide) rfl rfl rfl rfl rfl q1838 q228 (by decide +kernel)
theorem mf389 : MF 389 0 := mf_of (by decide) (by decide) rfl rfl rfl rfl rfl q1853 q228 (by decide +kernel)
theorem mf390 : MF 390 0 := mf_of (by decide) (by decide) rfl rfl rfl rfl rfl q1618 q229 (by decide +kernel)
theorem mf391 : MF 391 0 := mf_of (by decide) (by decide) rfl rfl rfl rfl rfl q1642 q229 (by decide +kernel)
theorem mf392 : MF 392 2 := mf_of (by decide) (by decide) rfl rfl rfl rfl rfl q1870 q229 (by decide +kernel)
theorem mf393 : MF 393 0 := mf_of (by decide) (by decide) rfl rfl rfl rfl rfl q1636 q230 (by decide +kernel)
theorem mf394 : MF 394 2 := mf_of (by decide) (by decide) rfl rfl rfl rfl rfl q1867 q230 (by decide +kernel)
theorem nw0 : NewOK 0 24 [(3, 0), (0, 0), (0, 0), (0, 0), (3, 0), (3, 0), (0, 0), (0, 0), (0, 0), (0, 0), (0, 0), (0, 0), (0, 0), (0, 0), (3, 0), (3, 0), (3, 0), (3, 0), (3, 0), (3, 0), (3, 0), (3, 0), (2, 0), (3, 0)] "RegisterColours" := ⟨q237, q186, _, rg_y0, rfl, rfl, rg_pf0, by decide +kernel⟩
theorem nw1 : NewOK 1 73 [(0, 0), (0, 0), (0, 0), (0, 0), (3, 0), (3, 0), (3, 0), (3, 0), (3, 0), (3, 0), (3, 0), (3, 0), (3, 0), (3, 0), (3, 0), (0, 0), (3, 0), (0, 0), (0, 0), (3, 0), (3, 0), (3, 0), (0, 0), (3, 0), (3, 0), (3, 0), (0, 0), (0, 0), (0, 0), (0, 0), (0, 0), (3, 0), (2, 0), (2, 0), (3, 0), (3, 0), (3, 0), (3, 0), (3, 0), (0, 0), (0, 0), (0, 0), (0, 0), (0, 0), (3, 0), (0, 0), (0, 0), (0, 0), (0, 0), (0, 0), (0, 0), (3, 0), (3, 0), (3, 0), (0, 0), (3, 0), (3, 0), (3, 0), (3, 0), (3, 0), (0, 0), (0, 0), (0, 0), (0, 0), (3, 0), (3, 0), (3, 0), (3, 0), (0, 0), (2, 0), (3, 0), (0, 0), (2, 0)] "RegisterColoursModel" := ⟨q2390, q202, _, rg_y1, rfl, rfl, rg_pf1, by decide +kernel⟩
theorem nw2 : NewOK 2 3 [(0, 0), (3, 0), (0, 0)] "java/util/ArrayList" := ⟨q245, q189, _, rg_y2, rfl, rfl, rg_pf2, by decide +kernel⟩
theorem nw6 : NewOK 6 7 [(3, 0), (3, 0), (3, 0), (3, 0), (3, 0), (3, 0), (3, 0)] "RegisterColours$Proof" := ⟨q615, q201, _, rg_y6, rfl, rfl, rg_pf6, by decide +kernel⟩
theorem nw4 : NewOK 4 5 [(0, 0), (0, 0), (0, 0), (0, 0), (0, 0)] "RegisterColours$Step" := ⟨q372, q196, _, rg_y4, rfl, rfl, rg_pf4, by decide +kernel⟩
theorem nw5 : NewOK 5 6 [(3, 0), (0, 0), (3, 0), (3, 0), (3, 0), (3, 0)] "RegisterColours$Code" := ⟨q443, q197, _, rg_y5, rfl, rfl, rg_pf5, by decide +kernel⟩
theorem nw7 : NewOK 7 7 [(3, 0), (3, 0), (0, 0), (0, 0), (0, 0), (0, 0), (3, 0)] "RegisterColours$Reader" := ⟨q744, q203, _, rg_y7, rfl, rfl, rg_pf7, by decide +kernel⟩
theorem nw9 : NewOK 9 7 [(3, 0), (0, 0), (0, 0), (0, 0), (3, 0), (3, 0), (0, 0)] "RegisterColours$Allocating" := ⟨q1005, q210, _, rg_y9, rfl, rfl, rg_pf9, by decide +kernel⟩
theorem nw24 : NewOK 24 8 [(3, 0), (0, 0), (0, 0), (0, 0), (0, 0), (3, 0), (3, 0), (3, 0)] "RegisterColours$ByValues" := ⟨q2052, q234, _, rg_y24, rfl, rfl, rg_pf24, by decide +kernel⟩
theorem nw25 : NewOK 25 11 [(3, 0), (0, 0), (0, 0), (0, 0), (0, 0), (3, 0), (3, 0), (3, 0), (3, 0), (3, 0), (3, 0)] "RegisterColours$ByRegisters" := ⟨q2086, q235, _, rg_y25, rfl, rfl, rg_pf25, by decide +kernel⟩
theorem nw12 : NewOK 12 15 [(3, 0), (3, 0), (3, 0), (0, 0), (0, 0), (3, 0), (3, 0), (3, 0), (3, 0), (3, 0), (0, 0), (3, 0), (3, 0), (3, 0), (0, 0)] "RegisterColours$Graph" := ⟨q1121, q214, _, rg_y12, rfl, rfl, rg_pf12, by decide +kernel⟩
theorem nw3 : NewOK 3 3 [(3, 0), (0, 0), (2, 0)] "java/util/BitSet" := ⟨q451, q198, _, rg_y3, rfl, rfl, rg_pf3, by decide +kernel⟩
theorem nw18 : NewOK 18 1 [(3, 0)] "java/util/TreeSet" := ⟨q1669, q224, _, rg_y18, rfl, rfl, rg_pf18, by decide +kernel⟩
theorem nw8 : NewOK 8 8 [(3, 0), (3, 0), (3, 0), (3, 0), (0, 0), (0, 0)] "RegisterColours$Fault" := ⟨q867, q209, _, rg_y8, rfl, rfl, rg_pf8, by decide +kernel⟩
theorem nw10 : NewOK 10 9 [(3, 0), (3, 0), (3, 0), (0, 0), (0, 0), (0, 0), (0, 0), (0, 0), (1, 0)] "RegisterColours$Left" := ⟨q1011, q211, _, rg_y10, rfl, rfl, rg_pf10, by decide +kernel⟩
theorem nw11 : NewOK 11 9 [(3, 0), (3, 0), (3, 0), (3, 0), (0, 0), (0, 0), (3, 0), (3, 0), (3, 0)] "java/util/TreeMap" := ⟨q1059, q213, _, rg_y11, rfl, rfl, rg_pf11, by decide +kernel⟩
theorem nw22 : NewOK 22 6 [(3, 0), (3, 0), (3, 0), (3, 0)] "RegisterColours$Failed" := ⟨q1945, q231, _, rg_y22, rfl, rfl, rg_pf22, by decide +kernel⟩
theorem nw23 : NewOK 23 3 [(0, 0), (0, 0), (2, 0)] "RegisterColours$Home" := ⟨q1985, q232, _, rg_y23, rfl, rfl, rg_pf23, by decide +kernel⟩
theorem nw14 : NewOK 14 4 [(3, 0), (0, 0), (3, 0), (0, 0)] "java/util/PriorityQueue" := ⟨q1278, q217, _, rg_y14, rfl, rfl, rg_pf14, by decide +kernel⟩
theorem nw15 : NewOK 15 0 [] "RegisterColours$ByWeight" := ⟨q1280, q218, _, rg_y15, rfl, rfl, rg_pf15, by decide +kernel⟩
theorem nw16 : NewOK 16 4 [(0, 0), (0, 0), (0, 0), (0, 0)] "RegisterColours$Move" := ⟨q1315, q219, _, rg_y16, rfl, rfl, rg_pf16, by decide +kernel⟩
theorem nw17 : NewOK 17 4 [(0, 0), (0, 0), (0, 0), (3, 0)] "java/util/ArrayList$Itr" := ⟨q1585, q222, _, rg_y17, rfl, rfl, rg_pf17, by decide +kernel⟩
theorem nw19 : NewOK 19 6 [(3, 0), (3, 0), (3, 0), (3, 0), (3, 0), (2, 0)] "java/util/TreeMap$Entry" := ⟨q1737, q226, _, rg_y19, rfl, rfl, rg_pf19, by decide +kernel⟩
theorem nw20 : NewOK 20 1 [(3, 0)] "java/util/TreeMap$KeySet" := ⟨q1835, q228, _, rg_y20, rfl, rfl, rg_pf20, by decide +kernel⟩
theorem nw21 : NewOK 21 4 [(3, 0), (3, 0), (0, 0), (3, 0)] "java/util/TreeMap$KeyIterator" := ⟨q1860, q230, _, rg_y21, rfl, rfl, rg_pf21, by decide +kernel⟩
theorem nw13 : NewOK 13 1 [(0, 0)] "java/lang/Integer" := ⟨q1693, q215, _, rg_y13, rfl, rfl, rg_pf13, by decide +kernel⟩
theorem aas4 {G : rg_G} : ∀ k c, (k, c) ∈ ([(4, 4), (4, 3), (4, 16), (4, 13)] : List (Nat × Nat)) → AsgOK G k c := by
  intro k c h
  simp only [List.mem_cons, List.not_mem_nil, or_false, Prod.mk.injEq] at h
  rcases h with ⟨rfl, rfl⟩ | ⟨rfl, rfl⟩ | ⟨rfl, rfl⟩ | ⟨rfl, rfl⟩
  · exact asg4 (by decide) rfl rf102
  · exact asg4 (by decide) rfl rf103
  · exact asg4 (by decide) rfl rf104
  · exact asg4 (by decide) rfl rf105
theorem fk0_0 : FK "RegisterColours" "tape" "[B" 0 0 := ⟨by decide, _, rfl, by decide, rfl, rfl, Or.inl rfl⟩
theorem fk0_3 : FK "RegisterColours" "faultPlace" "I" 0 3 := ⟨by decide, _, rfl, by decide, rfl, rfl, Or.inl rfl⟩
theorem fk0_4 : FK "RegisterColours" "lines" "Ljava/util/ArrayList;" 0 4 := ⟨by decide, _, rfl, by decide, rfl, rfl, Or.inl rfl⟩
theorem fk0_6 : FK "RegisterColours" "limitA" "I" 0 6 := ⟨by decide, _, rfl, by decide, rfl, rfl, Or.inl rfl⟩
theorem fk0_7 : FK "RegisterColours" "limitB" "I" 0 7 := ⟨by decide, _, rfl, by decide, rfl, rfl, Or.inl rfl⟩
theorem fk0_8 : FK "RegisterColours" "clobbered" "I" 0 8 := ⟨by decide, _, rfl, by decide, rfl, rfl, Or.inl rfl⟩
theorem fk0_14 : FK "RegisterColours" "input" "[I" 0 14 := ⟨by decide, _, rfl, by decide, rfl, rfl, Or.inl rfl⟩
theorem fk0_15 : FK "RegisterColours" "keptInput" "[I" 0 15 := ⟨by decide, _, rfl, by decide, rfl, rfl, Or.inl rfl⟩
theorem fk0_16 : FK "RegisterColours" "painted" "[I" 0 16 := ⟨by decide, _, rfl, by decide, rfl, rfl, Or.inl rfl⟩
theorem fk0_17 : FK "RegisterColours" "keptPainted" "[I" 0 17 := ⟨by decide, _, rfl, by decide, rfl, rfl, Or.inl rfl⟩
theorem fk0_20 : FK "RegisterColours" "code" "LRegisterColours$Code;" 0 20 := ⟨by decide, _, rfl, by decide, rfl, rfl, Or.inl rfl⟩
theorem fk0_21 : FK "RegisterColours" "makings" "[LRegisterColours$Making;" 0 21 := ⟨by decide, _, rfl, by decide, rfl, rfl, Or.inl rfl⟩
theorem fk0_23 : FK "RegisterColours" "proof" "LRegisterColours$Proof;" 0 23 := ⟨by decide, _, rfl, by decide, rfl, rfl, Or.inl rfl⟩
theorem fk4_0 : FK "RegisterColours$Step" "kind" "I" 4 0 := ⟨by decide, _, rfl, by decide, rfl, rfl, Or.inl rfl⟩
theorem fk4_2 : FK "RegisterColours$Step" "a" "I" 4 2 := ⟨by decide, _, rfl, by decide, rfl, rfl, Or.inl rfl⟩
theorem fk4_1 : FK "RegisterColours$Step" "makes" "I" 4 1 := ⟨by decide, _, rfl, by decide, rfl, rfl, Or.inl rfl⟩
theorem fk4_4 : FK "RegisterColours$Step" "n" "I" 4 4 := ⟨by decide, _, rfl, by decide, rfl, rfl, Or.inl rfl⟩
theorem fk0_22 : FK "RegisterColours" "isWide" "Z" 0 22 := ⟨by decide, _, rfl, by decide, rfl, rfl, Or.inl rfl⟩
theorem fk0_1 : FK "RegisterColours" "taped" "I" 0 1 := ⟨by decide, _, rfl, by decide, rfl, rfl, Or.inl rfl⟩
theorem fk0_2 : FK "RegisterColours" "faultKind" "I" 0 2 := ⟨by decide, _, rfl, by decide, rfl, rfl, Or.inl rfl⟩
theorem fk8_4 : FK "RegisterColours$Fault" "kind" "I" 8 4 := ⟨by decide, _, rfl, by decide, rfl, rfl, Or.inl rfl⟩
theorem fk8_5 : FK "RegisterColours$Fault" "place" "I" 8 5 := ⟨by decide, _, rfl, by decide, rfl, rfl, Or.inl rfl⟩
theorem fk0_18 : FK "RegisterColours" "left" "LRegisterColours$Left;" 0 18 := ⟨by decide, _, rfl, by decide, rfl, rfl, Or.inl rfl⟩
theorem fk0_9 : FK "RegisterColours" "inputs" "I" 0 9 := ⟨by decide, _, rfl, by decide, rfl, rfl, Or.inl rfl⟩
theorem fk10_3 : FK "RegisterColours$Left" "rounds" "I" 10 3 := ⟨by decide, _, rfl, by decide, rfl, rfl, Or.inl rfl⟩
theorem fk10_0 : FK "RegisterColours$Left" "code" "LRegisterColours$Code;" 10 0 := ⟨by decide, _, rfl, by decide, rfl, rfl, Or.inl rfl⟩
theorem fk5_0 : FK "RegisterColours$Code" "steps" "Ljava/util/ArrayList;" 5 0 := ⟨by decide, _, rfl, by decide, rfl, rfl, Or.inl rfl⟩
theorem fk4_3 : FK "RegisterColours$Step" "b" "I" 4 3 := ⟨by decide, _, rfl, by decide, rfl, rfl, Or.inl rfl⟩
theorem fk5_3 : FK "RegisterColours$Code" "weight" "[I" 5 3 := ⟨by decide, _, rfl, by decide, rfl, rfl, Or.inl rfl⟩
theorem fk10_1 : FK "RegisterColours$Left" "graph" "LRegisterColours$Graph;" 10 1 := ⟨by decide, _, rfl, by decide, rfl, rfl, Or.inl rfl⟩
theorem fk12_13 : FK "RegisterColours$Graph" "colour" "[I" 12 13 := ⟨by decide, _, rfl, by decide, rfl, rfl, Or.inl rfl⟩
theorem fk12_2 : FK "RegisterColours$Graph" "node" "[I" 12 2 := ⟨by decide, _, rfl, by decide, rfl, rfl, Or.inl rfl⟩
theorem fk5_2 : FK "RegisterColours$Code" "live" "Ljava/util/ArrayList;" 5 2 := ⟨by decide, _, rfl, by decide, rfl, rfl, Or.inl rfl⟩
theorem fk12_5 : FK "RegisterColours$Graph" "there" "Ljava/util/BitSet;" 12 5 := ⟨by decide, _, rfl, by decide, rfl, rfl, Or.inl rfl⟩
theorem fk12_8 : FK "RegisterColours$Graph" "cost" "[J" 12 8 := ⟨by decide, _, rfl, by decide, rfl, rfl, Or.inl rfl⟩
theorem fk10_2 : FK "RegisterColours$Left" "spilled" "[I" 10 2 := ⟨by decide, _, rfl, by decide, rfl, rfl, Or.inl rfl⟩
theorem fk10_4 : FK "RegisterColours$Left" "slots" "I" 10 4 := ⟨by decide, _, rfl, by decide, rfl, rfl, Or.inl rfl⟩
theorem fk10_5 : FK "RegisterColours$Left" "nodes" "I" 10 5 := ⟨by decide, _, rfl, by decide, rfl, rfl, Or.inl rfl⟩
theorem fk10_6 : FK "RegisterColours$Left" "anew" "I" 10 6 := ⟨by decide, _, rfl, by decide, rfl, rfl, Or.inl rfl⟩
theorem fk12_10 : FK "RegisterColours$Graph" "merged" "I" 12 10 := ⟨by decide, _, rfl, by decide, rfl, rfl, Or.inl rfl⟩
theorem fk10_8 : FK "RegisterColours$Left" "cost" "J" 10 8 := ⟨by decide, _, rfl, by decide, rfl, rfl, Or.inl rfl⟩
theorem fk10_7 : FK "RegisterColours$Left" "optimistic" "I" 10 7 := ⟨by decide, _, rfl, by decide, rfl, rfl, Or.inl rfl⟩
theorem fk12_1 : FK "RegisterColours$Graph" "kindOf" "[I" 12 1 := ⟨by decide, _, rfl, by decide, rfl, rfl, Or.inl rfl⟩
theorem fk12_6 : FK "RegisterColours$Graph" "beside" "Ljava/util/ArrayList;" 12 6 := ⟨by decide, _, rfl, by decide, rfl, rfl, Or.inl rfl⟩
theorem fk0_5 : FK "RegisterColours" "keptLines" "Ljava/util/ArrayList;" 0 5 := ⟨by decide, _, rfl, by decide, rfl, rfl, Or.inl rfl⟩
theorem fk0_10 : FK "RegisterColours" "keptA" "I" 0 10 := ⟨by decide, _, rfl, by decide, rfl, rfl, Or.inl rfl⟩
theorem fk0_11 : FK "RegisterColours" "keptB" "I" 0 11 := ⟨by decide, _, rfl, by decide, rfl, rfl, Or.inl rfl⟩
theorem fk0_12 : FK "RegisterColours" "keptClobbered" "I" 0 12 := ⟨by decide, _, rfl, by decide, rfl, rfl, Or.inl rfl⟩
theorem fk0_13 : FK "RegisterColours" "keptInputs" "I" 0 13 := ⟨by decide, _, rfl, by decide, rfl, rfl, Or.inl rfl⟩
theorem fk0_19 : FK "RegisterColours" "keptLeft" "LRegisterColours$Left;" 0 19 := ⟨by decide, _, rfl, by decide, rfl, rfl, Or.inl rfl⟩
theorem fk5_4 : FK "RegisterColours$Code" "madeHere" "Ljava/util/BitSet;" 5 4 := ⟨by decide, _, rfl, by decide, rfl, rfl, Or.inl rfl⟩
theorem fk5_5 : FK "RegisterColours$Code" "behindHere" "Ljava/util/BitSet;" 5 5 := ⟨by decide, _, rfl, by decide, rfl, rfl, Or.inl rfl⟩
theorem fk5_1 : FK "RegisterColours$Code" "clobbered" "I" 5 1 := ⟨by decide, _, rfl, by decide, rfl, rfl, Or.inl rfl⟩
theorem fk6_6 : FK "RegisterColours$Proof" "this$0" "LRegisterColours;" 6 6 := ⟨by decide, _, rfl, by decide, rfl, rfl, Or.inl rfl⟩
theorem fk6_0 : FK "RegisterColours$Proof" "known" "[J" 6 0 := ⟨by decide, _, rfl, by decide, rfl, rfl, Or.inl rfl⟩
theorem fk6_1 : FK "RegisterColours$Proof" "state" "[J" 6 1 := ⟨by decide, _, rfl, by decide, rfl, rfl, Or.inl rfl⟩
theorem fk6_2 : FK "RegisterColours$Proof" "had" "[J" 6 2 := ⟨by decide, _, rfl, by decide, rfl, rfl, Or.inl rfl⟩
theorem fk6_3 : FK "RegisterColours$Proof" "isKnown" "[Z" 6 3 := ⟨by decide, _, rfl, by decide, rfl, rfl, Or.inl rfl⟩
theorem fk6_4 : FK "RegisterColours$Proof" "run" "LRegisterColours$Code;" 6 4 := ⟨by decide, _, rfl, by decide, rfl, rfl, Or.inl rfl⟩
theorem fk6_5 : FK "RegisterColours$Proof" "g" "LRegisterColours$Graph;" 6 5 := ⟨by decide, _, rfl, by decide, rfl, rfl, Or.inl rfl⟩
theorem fk1_1 : FK "RegisterColoursModel" "registers" "I" 1 1 := ⟨by decide, _, rfl, by decide, rfl, rfl, Or.inl rfl⟩
theorem fk1_2 : FK "RegisterColoursModel" "others" "I" 1 2 := ⟨by decide, _, rfl, by decide, rfl, rfl, Or.inl rfl⟩
theorem fk1_3 : FK "RegisterColoursModel" "clobbered" "I" 1 3 := ⟨by decide, _, rfl, by decide, rfl, rfl, Or.inl rfl⟩
theorem fk1_4 : FK "RegisterColoursModel" "steps" "[I" 1 4 := ⟨by decide, _, rfl, by decide, rfl, rfl, Or.inl rfl⟩
theorem fk1_5 : FK "RegisterColoursModel" "many" "[I" 1 5 := ⟨by decide, _, rfl, by decide, rfl, rfl, Or.inl rfl⟩
theorem fk1_6 : FK "RegisterColoursModel" "madeClass" "[I" 1 6 := ⟨by decide, _, rfl, by decide, rfl, rfl, Or.inl rfl⟩
theorem fk1_7 : FK "RegisterColoursModel" "leftClass" "[I" 1 7 := ⟨by decide, _, rfl, by decide, rfl, rfl, Or.inl rfl⟩
theorem fk1_8 : FK "RegisterColoursModel" "lives" "[I" 1 8 := ⟨by decide, _, rfl, by decide, rfl, rfl, Or.inl rfl⟩
theorem fk1_9 : FK "RegisterColoursModel" "behind" "[I" 1 9 := ⟨by decide, _, rfl, by decide, rfl, rfl, Or.inl rfl⟩
theorem fk1_10 : FK "RegisterColoursModel" "edges" "[I" 1 10 := ⟨by decide, _, rfl, by decide, rfl, rfl, Or.inl rfl⟩
theorem fk1_11 : FK "RegisterColoursModel" "costs" "[I" 1 11 := ⟨by decide, _, rfl, by decide, rfl, rfl, Or.inl rfl⟩
theorem fk1_12 : FK "RegisterColoursModel" "isThere" "[Z" 1 12 := ⟨by decide, _, rfl, by decide, rfl, rfl, Or.inl rfl⟩
theorem fk1_13 : FK "RegisterColoursModel" "nodeOf" "[I" 1 13 := ⟨by decide, _, rfl, by decide, rfl, rfl, Or.inl rfl⟩
theorem fk1_14 : FK "RegisterColoursModel" "isIn" "[Z" 1 14 := ⟨by decide, _, rfl, by decide, rfl, rfl, Or.inl rfl⟩
theorem fk1_16 : FK "RegisterColoursModel" "moves" "[I" 1 16 := ⟨by decide, _, rfl, by decide, rfl, rfl, Or.inl rfl⟩
theorem fk1_19 : FK "RegisterColoursModel" "laid" "[I" 1 19 := ⟨by decide, _, rfl, by decide, rfl, rfl, Or.inl rfl⟩
theorem fk1_20 : FK "RegisterColoursModel" "wasHeavy" "[Z" 1 20 := ⟨by decide, _, rfl, by decide, rfl, rfl, Or.inl rfl⟩
theorem fk1_21 : FK "RegisterColoursModel" "colours" "[I" 1 21 := ⟨by decide, _, rfl, by decide, rfl, rfl, Or.inl rfl⟩
theorem fk1_23 : FK "RegisterColoursModel" "spills" "[I" 1 23 := ⟨by decide, _, rfl, by decide, rfl, rfl, Or.inl rfl⟩
theorem fk1_24 : FK "RegisterColoursModel" "spillNumber" "[I" 1 24 := ⟨by decide, _, rfl, by decide, rfl, rfl, Or.inl rfl⟩
theorem fk1_25 : FK "RegisterColoursModel" "everSpilled" "[I" 1 25 := ⟨by decide, _, rfl, by decide, rfl, rfl, Or.inl rfl⟩
theorem fk1_31 : FK "RegisterColoursModel" "firstOf" "[I" 1 31 := ⟨by decide, _, rfl, by decide, rfl, rfl, Or.inl rfl⟩
theorem fk1_34 : FK "RegisterColoursModel" "leftColour" "[I" 1 34 := ⟨by decide, _, rfl, by decide, rfl, rfl, Or.inl rfl⟩
theorem fk1_35 : FK "RegisterColoursModel" "leftSpilled" "[I" 1 35 := ⟨by decide, _, rfl, by decide, rfl, rfl, Or.inl rfl⟩
theorem fk1_36 : FK "RegisterColoursModel" "leftNode" "[I" 1 36 := ⟨by decide, _, rfl, by decide, rfl, rfl, Or.inl rfl⟩
theorem fk1_37 : FK "RegisterColoursModel" "leftTold" "[I" 1 37 := ⟨by decide, _, rfl, by decide, rfl, rfl, Or.inl rfl⟩
theorem fk1_38 : FK "RegisterColoursModel" "tape" "[I" 1 38 := ⟨by decide, _, rfl, by decide, rfl, rfl, Or.inl rfl⟩
theorem fk1_44 : FK "RegisterColoursModel" "words" "[I" 1 44 := ⟨by decide, _, rfl, by decide, rfl, rfl, Or.inl rfl⟩
theorem fk1_48 : FK "RegisterColoursModel" "faultPlace" "I" 1 48 := ⟨by decide, _, rfl, by decide, rfl, rfl, Or.inl rfl⟩
theorem fk1_51 : FK "RegisterColoursModel" "lineRow" "[I" 1 51 := ⟨by decide, _, rfl, by decide, rfl, rfl, Or.inl rfl⟩
theorem fk1_52 : FK "RegisterColoursModel" "draftRow" "[I" 1 52 := ⟨by decide, _, rfl, by decide, rfl, rfl, Or.inl rfl⟩
theorem fk1_53 : FK "RegisterColoursModel" "stepOfLine" "[I" 1 53 := ⟨by decide, _, rfl, by decide, rfl, rfl, Or.inl rfl⟩
theorem fk1_55 : FK "RegisterColoursModel" "inputs" "[I" 1 55 := ⟨by decide, _, rfl, by decide, rfl, rfl, Or.inl rfl⟩
theorem fk1_56 : FK "RegisterColoursModel" "values" "[J" 1 56 := ⟨by decide, _, rfl, by decide, rfl, rfl, Or.inl rfl⟩
theorem fk1_57 : FK "RegisterColoursModel" "holdsA" "[I" 1 57 := ⟨by decide, _, rfl, by decide, rfl, rfl, Or.inl rfl⟩
theorem fk1_58 : FK "RegisterColoursModel" "holdsB" "[I" 1 58 := ⟨by decide, _, rfl, by decide, rfl, rfl, Or.inl rfl⟩
theorem fk1_59 : FK "RegisterColoursModel" "slots" "[J" 1 59 := ⟨by decide, _, rfl, by decide, rfl, rfl, Or.inl rfl⟩
theorem fk1_64 : FK "RegisterColoursModel" "held" "[I" 1 64 := ⟨by decide, _, rfl, by decide, rfl, rfl, Or.inl rfl⟩
theorem fk1_65 : FK "RegisterColoursModel" "heldThen" "[I" 1 65 := ⟨by decide, _, rfl, by decide, rfl, rfl, Or.inl rfl⟩
theorem fk1_66 : FK "RegisterColoursModel" "isReached" "[Z" 1 66 := ⟨by decide, _, rfl, by decide, rfl, rfl, Or.inl rfl⟩
theorem fk1_67 : FK "RegisterColoursModel" "painted" "[I" 1 67 := ⟨by decide, _, rfl, by decide, rfl, rfl, Or.inl rfl⟩
theorem fk1_70 : FK "RegisterColoursModel" "images" "[I" 1 70 := ⟨by decide, _, rfl, by decide, rfl, rfl, Or.inl rfl⟩
theorem fk1_0 : FK "RegisterColoursModel" "told" "I" 1 0 := ⟨by decide, _, rfl, by decide, rfl, rfl, Or.inl rfl⟩
theorem fk1_33 : FK "RegisterColoursModel" "isLeft" "Z" 1 33 := ⟨by decide, _, rfl, by decide, rfl, rfl, Or.inl rfl⟩
theorem fk1_26 : FK "RegisterColoursModel" "slotMany" "I" 1 26 := ⟨by decide, _, rfl, by decide, rfl, rfl, Or.inl rfl⟩
theorem fk1_27 : FK "RegisterColoursModel" "spilledMany" "I" 1 27 := ⟨by decide, _, rfl, by decide, rfl, rfl, Or.inl rfl⟩
theorem fk1_28 : FK "RegisterColoursModel" "anewMany" "I" 1 28 := ⟨by decide, _, rfl, by decide, rfl, rfl, Or.inl rfl⟩
theorem fk1_29 : FK "RegisterColoursModel" "spilledCost" "I" 1 29 := ⟨by decide, _, rfl, by decide, rfl, rfl, Or.inl rfl⟩
theorem fk1_22 : FK "RegisterColoursModel" "luckyMany" "I" 1 22 := ⟨by decide, _, rfl, by decide, rfl, rfl, Or.inl rfl⟩
theorem fk1_30 : FK "RegisterColoursModel" "valueMany" "I" 1 30 := ⟨by decide, _, rfl, by decide, rfl, rfl, Or.inl rfl⟩
theorem fk1_15 : FK "RegisterColoursModel" "moveMany" "I" 1 15 := ⟨by decide, _, rfl, by decide, rfl, rfl, Or.inl rfl⟩
theorem fk1_17 : FK "RegisterColoursModel" "mergedMany" "I" 1 17 := ⟨by decide, _, rfl, by decide, rfl, rfl, Or.inl rfl⟩
theorem fk1_18 : FK "RegisterColoursModel" "laidMany" "I" 1 18 := ⟨by decide, _, rfl, by decide, rfl, rfl, Or.inl rfl⟩
theorem fk1_32 : FK "RegisterColoursModel" "isTooMuch" "Z" 1 32 := ⟨by decide, _, rfl, by decide, rfl, rfl, Or.inl rfl⟩
theorem fk1_39 : FK "RegisterColoursModel" "taped" "I" 1 39 := ⟨by decide, _, rfl, by decide, rfl, rfl, Or.inl rfl⟩
theorem fk1_47 : FK "RegisterColoursModel" "faultKind" "I" 1 47 := ⟨by decide, _, rfl, by decide, rfl, rfl, Or.inl rfl⟩
theorem fk1_45 : FK "RegisterColoursModel" "readFault" "I" 1 45 := ⟨by decide, _, rfl, by decide, rfl, rfl, Or.inl rfl⟩
theorem fk1_46 : FK "RegisterColoursModel" "readPlace" "I" 1 46 := ⟨by decide, _, rfl, by decide, rfl, rfl, Or.inl rfl⟩
theorem fk1_49 : FK "RegisterColoursModel" "lineMany" "I" 1 49 := ⟨by decide, _, rfl, by decide, rfl, rfl, Or.inl rfl⟩
theorem fk1_50 : FK "RegisterColoursModel" "readMany" "I" 1 50 := ⟨by decide, _, rfl, by decide, rfl, rfl, Or.inl rfl⟩
theorem fk1_40 : FK "RegisterColoursModel" "spot" "I" 1 40 := ⟨by decide, _, rfl, by decide, rfl, rfl, Or.inl rfl⟩
theorem fk1_42 : FK "RegisterColoursModel" "token" "I" 1 42 := ⟨by decide, _, rfl, by decide, rfl, rfl, Or.inl rfl⟩
theorem fk1_41 : FK "RegisterColoursModel" "from" "I" 1 41 := ⟨by decide, _, rfl, by decide, rfl, rfl, Or.inl rfl⟩
theorem fk1_43 : FK "RegisterColoursModel" "value" "I" 1 43 := ⟨by decide, _, rfl, by decide, rfl, rfl, Or.inl rfl⟩
theorem fk1_54 : FK "RegisterColoursModel" "inputMany" "I" 1 54 := ⟨by decide, _, rfl, by decide, rfl, rfl, Or.inl rfl⟩
theorem fk1_60 : FK "RegisterColoursModel" "taken" "I" 1 60 := ⟨by decide, _, rfl, by decide, rfl, rfl, Or.inl rfl⟩
theorem fk1_61 : FK "RegisterColoursModel" "outMany" "I" 1 61 := ⟨by decide, _, rfl, by decide, rfl, rfl, Or.inl rfl⟩
theorem fk1_62 : FK "RegisterColoursModel" "outSum" "I" 1 62 := ⟨by decide, _, rfl, by decide, rfl, rfl, Or.inl rfl⟩
theorem fk1_63 : FK "RegisterColoursModel" "doneMany" "I" 1 63 := ⟨by decide, _, rfl, by decide, rfl, rfl, Or.inl rfl⟩
theorem fk1_68 : FK "RegisterColoursModel" "fewest" "I" 1 68 := ⟨by decide, _, rfl, by decide, rfl, rfl, Or.inl rfl⟩
theorem fk1_69 : FK "RegisterColoursModel" "hasImage" "Z" 1 69 := ⟨by decide, _, rfl, by decide, rfl, rfl, Or.inl rfl⟩
theorem fk1_72 : FK "RegisterColoursModel" "isTaking" "Z" 1 72 := ⟨by decide, _, rfl, by decide, rfl, rfl, Or.inl rfl⟩
theorem fk1_71 : FK "RegisterColoursModel" "imaged" "I" 1 71 := ⟨by decide, _, rfl, by decide, rfl, rfl, Or.inl rfl⟩
theorem fk7_6 : FK "RegisterColours$Reader" "this$0" "LRegisterColours;" 7 6 := ⟨by decide, _, rfl, by decide, rfl, rfl, Or.inl rfl⟩
theorem fk7_0 : FK "RegisterColours$Reader" "lines" "Ljava/util/ArrayList;" 7 0 := ⟨by decide, _, rfl, by decide, rfl, rfl, Or.inl rfl⟩
theorem fk7_1 : FK "RegisterColours$Reader" "gotoAt" "[I" 7 1 := ⟨by decide, _, rfl, by decide, rfl, rfl, Or.inl rfl⟩
theorem fk7_4 : FK "RegisterColours$Reader" "token" "I" 7 4 := ⟨by decide, _, rfl, by decide, rfl, rfl, Or.inl rfl⟩
theorem fk7_3 : FK "RegisterColours$Reader" "start" "I" 7 3 := ⟨by decide, _, rfl, by decide, rfl, rfl, Or.inl rfl⟩
theorem fk7_2 : FK "RegisterColours$Reader" "at" "I" 7 2 := ⟨by decide, _, rfl, by decide, rfl, rfl, Or.inl rfl⟩
theorem fk7_5 : FK "RegisterColours$Reader" "value" "I" 7 5 := ⟨by decide, _, rfl, by decide, rfl, rfl, Or.inl rfl⟩
theorem fk9_0 : FK "RegisterColours$Allocating" "left" "LRegisterColours$Left;" 9 0 := ⟨by decide, _, rfl, by decide, rfl, rfl, Or.inl rfl⟩
theorem fk9_4 : FK "RegisterColours$Allocating" "kindOf" "[I" 9 4 := ⟨by decide, _, rfl, by decide, rfl, rfl, Or.inl rfl⟩
theorem fk9_5 : FK "RegisterColours$Allocating" "homes" "Ljava/util/TreeMap;" 9 5 := ⟨by decide, _, rfl, by decide, rfl, rfl, Or.inl rfl⟩
theorem fk9_6 : FK "RegisterColours$Allocating" "values" "I" 9 6 := ⟨by decide, _, rfl, by decide, rfl, rfl, Or.inl rfl⟩
theorem fk9_1 : FK "RegisterColours$Allocating" "limitA" "I" 9 1 := ⟨by decide, _, rfl, by decide, rfl, rfl, Or.inl rfl⟩
theorem fk9_2 : FK "RegisterColours$Allocating" "limitB" "I" 9 2 := ⟨by decide, _, rfl, by decide, rfl, rfl, Or.inl rfl⟩
theorem fk9_3 : FK "RegisterColours$Allocating" "clobbered" "I" 9 3 := ⟨by decide, _, rfl, by decide, rfl, rfl, Or.inl rfl⟩
theorem fk12_14 : FK "RegisterColours$Graph" "optimistic" "I" 12 14 := ⟨by decide, _, rfl, by decide, rfl, rfl, Or.inl rfl⟩
theorem fk23_2 : FK "RegisterColours$Home" "isMadeAnew" "Z" 23 2 := ⟨by decide, _, rfl, by decide, rfl, rfl, Or.inl rfl⟩
theorem fk23_0 : FK "RegisterColours$Home" "slot" "I" 23 0 := ⟨by decide, _, rfl, by decide, rfl, rfl, Or.inl rfl⟩
theorem fk23_1 : FK "RegisterColours$Home" "number" "I" 23 1 := ⟨by decide, _, rfl, by decide, rfl, rfl, Or.inl rfl⟩
theorem fk12_7 : FK "RegisterColours$Graph" "around" "Ljava/util/BitSet;" 12 7 := ⟨by decide, _, rfl, by decide, rfl, rfl, Or.inl rfl⟩
theorem fk12_9 : FK "RegisterColours$Graph" "safety" "[LRegisterColours$Safety;" 12 9 := ⟨by decide, _, rfl, by decide, rfl, rfl, Or.inl rfl⟩
theorem fk12_11 : FK "RegisterColours$Graph" "laid" "Ljava/util/ArrayList;" 12 11 := ⟨by decide, _, rfl, by decide, rfl, rfl, Or.inl rfl⟩
theorem fk12_12 : FK "RegisterColours$Graph" "heavyLaid" "Ljava/util/BitSet;" 12 12 := ⟨by decide, _, rfl, by decide, rfl, rfl, Or.inl rfl⟩
theorem fk12_0 : FK "RegisterColours$Graph" "code" "LRegisterColours$Code;" 12 0 := ⟨by decide, _, rfl, by decide, rfl, rfl, Or.inl rfl⟩
theorem fk12_3 : FK "RegisterColours$Graph" "limitA" "I" 12 3 := ⟨by decide, _, rfl, by decide, rfl, rfl, Or.inl rfl⟩
theorem fk12_4 : FK "RegisterColours$Graph" "limitB" "I" 12 4 := ⟨by decide, _, rfl, by decide, rfl, rfl, Or.inl rfl⟩
theorem fk16_2 : FK "RegisterColours$Move" "x" "I" 16 2 := ⟨by decide, _, rfl, by decide, rfl, rfl, Or.inl rfl⟩
theorem fk16_3 : FK "RegisterColours$Move" "y" "I" 16 3 := ⟨by decide, _, rfl, by decide, rfl, rfl, Or.inl rfl⟩
theorem fk16_1 : FK "RegisterColours$Move" "weight" "I" 16 1 := ⟨by decide, _, rfl, by decide, rfl, rfl, Or.inl rfl⟩
theorem fk16_0 : FK "RegisterColours$Move" "step" "I" 16 0 := ⟨by decide, _, rfl, by decide, rfl, rfl, Or.inl rfl⟩
theorem fk25_5 : FK "RegisterColours$Machine" "this$0" "LRegisterColours;" 25 5 := ⟨by decide, _, rfl, by decide, rfl, rfl, Or.inl rfl⟩
theorem fk24_5 : FK "RegisterColours$Machine" "this$0" "LRegisterColours;" 24 5 := ⟨by decide, _, rfl, by decide, rfl, rfl, Or.inl rfl⟩
theorem fk25_0 : FK "RegisterColours$Machine" "run" "LRegisterColours$Code;" 25 0 := ⟨by decide, _, rfl, by decide, rfl, rfl, Or.inl rfl⟩
theorem fk24_0 : FK "RegisterColours$Machine" "run" "LRegisterColours$Code;" 24 0 := ⟨by decide, _, rfl, by decide, rfl, rfl, Or.inl rfl⟩
theorem fk25_3 : FK "RegisterColours$Machine" "steps" "I" 25 3 := ⟨by decide, _, rfl, by decide, rfl, rfl, Or.inl rfl⟩
theorem fk24_3 : FK "RegisterColours$Machine" "steps" "I" 24 3 := ⟨by decide, _, rfl, by decide, rfl, rfl, Or.inl rfl⟩
theorem fk25_1 : FK "RegisterColours$Machine" "outs" "I" 25 1 := ⟨by decide, _, rfl, by decide, rfl, rfl, Or.inl rfl⟩
theorem fk24_1 : FK "RegisterColours$Machine" "outs" "I" 24 1 := ⟨by decide, _, rfl, by decide, rfl, rfl, Or.inl rfl⟩
theorem fk25_2 : FK "RegisterColours$Machine" "number" "I" 25 2 := ⟨by decide, _, rfl, by decide, rfl, rfl, Or.inl rfl⟩
theorem fk24_2 : FK "RegisterColours$Machine" "number" "I" 24 2 := ⟨by decide, _, rfl, by decide, rfl, rfl, Or.inl rfl⟩
theorem fk25_4 : FK "RegisterColours$Machine" "read" "I" 25 4 := ⟨by decide, _, rfl, by decide, rfl, rfl, Or.inl rfl⟩
theorem fk24_4 : FK "RegisterColours$Machine" "read" "I" 24 4 := ⟨by decide, _, rfl, by decide, rfl, rfl, Or.inl rfl⟩
theorem fk24_7 : FK "RegisterColours$ByValues" "this$0" "LRegisterColours;" 24 7 := ⟨by decide, _, rfl, by decide, rfl, rfl, Or.inl rfl⟩
theorem fk24_6 : FK "RegisterColours$ByValues" "value" "[J" 24 6 := ⟨by decide, _, rfl, by decide, rfl, rfl, Or.inl rfl⟩
theorem fk25_10 : FK "RegisterColours$ByRegisters" "this$0" "LRegisterColours;" 25 10 := ⟨by decide, _, rfl, by decide, rfl, rfl, Or.inl rfl⟩
theorem fk25_6 : FK "RegisterColours$ByRegisters" "a" "[I" 25 6 := ⟨by decide, _, rfl, by decide, rfl, rfl, Or.inl rfl⟩
theorem fk25_7 : FK "RegisterColours$ByRegisters" "b" "[I" 25 7 := ⟨by decide, _, rfl, by decide, rfl, rfl, Or.inl rfl⟩
theorem fk25_8 : FK "RegisterColours$ByRegisters" "slots" "[J" 25 8 := ⟨by decide, _, rfl, by decide, rfl, rfl, Or.inl rfl⟩
theorem fk25_9 : FK "RegisterColours$ByRegisters" "g" "LRegisterColours$Graph;" 25 9 := ⟨by decide, _, rfl, by decide, rfl, rfl, Or.inl rfl⟩
theorem fk2_0 : FK "java/util/AbstractList" "modCount" "I" 2 0 := ⟨by decide, _, rfl, by decide, rfl, rfl, Or.inl rfl⟩
theorem fk2_1 : FK "java/util/ArrayList" "elementData" "[Ljava/lang/Object;" 2 1 := ⟨by decide, _, rfl, by decide, rfl, rfl, Or.inl rfl⟩
theorem fk2_2 : FK "java/util/ArrayList" "size" "I" 2 2 := ⟨by decide, _, rfl, by decide, rfl, rfl, Or.inl rfl⟩
theorem fk2_0_184 : FK "java/util/ArrayList" "modCount" "I" 2 0 := ⟨by decide, _, rfl, by decide, rfl, rfl, Or.inr q264⟩
theorem fk3_1 : FK "java/util/BitSet" "wordsInUse" "I" 3 1 := ⟨by decide, _, rfl, by decide, rfl, rfl, Or.inl rfl⟩
theorem fk3_2 : FK "java/util/BitSet" "sizeIsSticky" "Z" 3 2 := ⟨by decide, _, rfl, by decide, rfl, rfl, Or.inl rfl⟩
theorem fk3_0 : FK "java/util/BitSet" "words" "[J" 3 0 := ⟨by decide, _, rfl, by decide, rfl, rfl, Or.inl rfl⟩
theorem fk11_4 : FK "java/util/TreeMap" "size" "I" 11 4 := ⟨by decide, _, rfl, by decide, rfl, rfl, Or.inl rfl⟩
theorem fk11_5 : FK "java/util/TreeMap" "modCount" "I" 11 5 := ⟨by decide, _, rfl, by decide, rfl, rfl, Or.inl rfl⟩
theorem fk11_2 : FK "java/util/TreeMap" "comparator" "Ljava/util/Comparator;" 11 2 := ⟨by decide, _, rfl, by decide, rfl, rfl, Or.inl rfl⟩
theorem fk19_3 : FK "java/util/TreeMap$Entry" "right" "Ljava/util/TreeMap$Entry;" 19 3 := ⟨by decide, _, rfl, by decide, rfl, rfl, Or.inl rfl⟩
theorem fk19_2 : FK "java/util/TreeMap$Entry" "left" "Ljava/util/TreeMap$Entry;" 19 2 := ⟨by decide, _, rfl, by decide, rfl, rfl, Or.inl rfl⟩
theorem fk19_4 : FK "java/util/TreeMap$Entry" "parent" "Ljava/util/TreeMap$Entry;" 19 4 := ⟨by decide, _, rfl, by decide, rfl, rfl, Or.inl rfl⟩
theorem fk11_3 : FK "java/util/TreeMap" "root" "Ljava/util/TreeMap$Entry;" 11 3 := ⟨by decide, _, rfl, by decide, rfl, rfl, Or.inl rfl⟩
theorem fk19_0 : FK "java/util/TreeMap$Entry" "key" "Ljava/lang/Object;" 19 0 := ⟨by decide, _, rfl, by decide, rfl, rfl, Or.inl rfl⟩
theorem fk19_1 : FK "java/util/TreeMap$Entry" "value" "Ljava/lang/Object;" 19 1 := ⟨by decide, _, rfl, by decide, rfl, rfl, Or.inl rfl⟩
theorem fk19_5 : FK "java/util/TreeMap$Entry" "color" "Z" 19 5 := ⟨by decide, _, rfl, by decide, rfl, rfl, Or.inl rfl⟩
theorem fk11_7 : FK "java/util/TreeMap" "navigableKeySet" "Ljava/util/TreeMap$KeySet;" 11 7 := ⟨by decide, _, rfl, by decide, rfl, rfl, Or.inl rfl⟩
theorem fk13_0 : FK "java/lang/Integer" "value" "I" 13 0 := ⟨by decide, _, rfl, by decide, rfl, rfl, Or.inl rfl⟩
theorem fk14_0 : FK "java/util/PriorityQueue" "queue" "[Ljava/lang/Object;" 14 0 := ⟨by decide, _, rfl, by decide, rfl, rfl, Or.inl rfl⟩
theorem fk14_2 : FK "java/util/PriorityQueue" "comparator" "Ljava/util/Comparator;" 14 2 := ⟨by decide, _, rfl, by decide, rfl, rfl, Or.inl rfl⟩
theorem fk14_3 : FK "java/util/PriorityQueue" "modCount" "I" 14 3 := ⟨by decide, _, rfl, by decide, rfl, rfl, Or.inl rfl⟩
theorem fk14_1 : FK "java/util/PriorityQueue" "size" "I" 14 1 := ⟨by decide, _, rfl, by decide, rfl, rfl, Or.inl rfl⟩
theorem fk17_3 : FK "java/util/ArrayList$Itr" "this$0" "Ljava/util/ArrayList;" 17 3 := ⟨by decide, _, rfl, by decide, rfl, rfl, Or.inl rfl⟩
theorem fk17_1 : FK "java/util/ArrayList$Itr" "lastRet" "I" 17 1 := ⟨by decide, _, rfl, by decide, rfl, rfl, Or.inl rfl⟩
theorem fk17_2 : FK "java/util/ArrayList$Itr" "expectedModCount" "I" 17 2 := ⟨by decide, _, rfl, by decide, rfl, rfl, Or.inl rfl⟩
theorem fk17_0 : FK "java/util/ArrayList$Itr" "cursor" "I" 17 0 := ⟨by decide, _, rfl, by decide, rfl, rfl, Or.inl rfl⟩
theorem fk18_0 : FK "java/util/TreeSet" "m" "Ljava/util/NavigableMap;" 18 0 := ⟨by decide, _, rfl, by decide, rfl, rfl, Or.inl rfl⟩
theorem fk20_0 : FK "java/util/TreeMap$KeySet" "m" "Ljava/util/NavigableMap;" 20 0 := ⟨by decide, _, rfl, by decide, rfl, rfl, Or.inl rfl⟩
theorem fk21_0 : FK "java/util/TreeMap$PrivateEntryIterator" "next" "Ljava/util/TreeMap$Entry;" 21 0 := ⟨by decide, _, rfl, by decide, rfl, rfl, Or.inl rfl⟩
theorem fk21_3 : FK "java/util/TreeMap$PrivateEntryIterator" "this$0" "Ljava/util/TreeMap;" 21 3 := ⟨by decide, _, rfl, by decide, rfl, rfl, Or.inl rfl⟩
theorem fk21_2 : FK "java/util/TreeMap$PrivateEntryIterator" "expectedModCount" "I" 21 2 := ⟨by decide, _, rfl, by decide, rfl, rfl, Or.inl rfl⟩
theorem fk21_1 : FK "java/util/TreeMap$PrivateEntryIterator" "lastReturned" "Ljava/util/TreeMap$Entry;" 21 1 := ⟨by decide, _, rfl, by decide, rfl, rfl, Or.inl rfl⟩
