/-! facts of the tables that no list of words carries: they go with every contract (KS). Printed by gen/print_tab.py -/
set_option maxRecDepth 100000
def rg_facts : List (State → Prop) := [
  va_Nw (.fieldLinkNest "RegisterColours" 104 "RegisterColours$Step" "kind" "I" "RegisterColours"),
  va_Nw (.fieldLinkNest "RegisterColours" 111 "RegisterColours$Step" "a" "I" "RegisterColours"),
  va_Nw (.fieldLinkNest "RegisterColours" 117 "RegisterColours$Step" "makes" "I" "RegisterColours"),
  va_Nw (.fieldLinkNest "RegisterColours" 124 "RegisterColours$Step" "n" "I" "RegisterColours"),
  va_Nw (.fieldLinkNest "RegisterColours" 159 "RegisterColours$Fault" "kind" "I" "RegisterColours"),
  va_Nw (.fieldLinkNest "RegisterColours" 160 "RegisterColours$Fault" "place" "I" "RegisterColours"),
  va_Nw (.fieldLinkNest "RegisterColours" 181 "RegisterColours$Left" "rounds" "I" "RegisterColours"),
  va_Nw (.fieldLinkNest "RegisterColours" 231 "RegisterColours$Left" "code" "LRegisterColours$Code;" "RegisterColours"),
  va_Nw (.fieldLinkNest "RegisterColours" 218 "RegisterColours$Code" "steps" "Ljava/util/ArrayList;" "RegisterColours"),
  va_Nw (.fieldLinkNest "RegisterColours" 236 "RegisterColours$Step" "b" "I" "RegisterColours"),
  va_Nw (.fieldLinkNest "RegisterColours" 239 "RegisterColours$Code" "weight" "[I" "RegisterColours"),
  va_Nw (.fieldLinkNest "RegisterColours" 221 "RegisterColours$Left" "graph" "LRegisterColours$Graph;" "RegisterColours"),
  va_Nw (.fieldLinkNest "RegisterColours" 225 "RegisterColours$Graph" "colour" "[I" "RegisterColours"),
  va_Nw (.fieldLinkNest "RegisterColours" 228 "RegisterColours$Graph" "node" "[I" "RegisterColours"),
  va_Nw (.fieldLinkNest "RegisterColours" 249 "RegisterColours$Code" "live" "Ljava/util/ArrayList;" "RegisterColours"),
  va_Nw (.fieldLinkNest "RegisterColours" 260 "RegisterColours$Graph" "there" "Ljava/util/BitSet;" "RegisterColours"),
  va_Nw (.fieldLinkNest "RegisterColours" 264 "RegisterColours$Graph" "cost" "[J" "RegisterColours"),
  va_Nw (.fieldLinkNest "RegisterColours" 283 "RegisterColours$Left" "spilled" "[I" "RegisterColours"),
  va_Nw (.fieldLinkNest "RegisterColours" 322 "RegisterColours$Left" "slots" "I" "RegisterColours"),
  va_Nw (.fieldLinkNest "RegisterColours" 325 "RegisterColours$Left" "nodes" "I" "RegisterColours"),
  va_Nw (.fieldLinkNest "RegisterColours" 328 "RegisterColours$Left" "anew" "I" "RegisterColours"),
  va_Nw (.fieldLinkNest "RegisterColours" 331 "RegisterColours$Graph" "merged" "I" "RegisterColours"),
  va_Nw (.fieldLinkNest "RegisterColours" 341 "RegisterColours$Left" "cost" "J" "RegisterColours"),
  va_Nw (.fieldLinkNest "RegisterColours" 344 "RegisterColours$Left" "optimistic" "I" "RegisterColours"),
  va_Nw (.fieldLinkNest "RegisterColours" 306 "RegisterColours$Graph" "kindOf" "[I" "RegisterColours"),
  va_Nw (.fieldLinkNest "RegisterColours" 355 "RegisterColours$Graph" "beside" "Ljava/util/ArrayList;" "RegisterColours"),
  va_Nw (.fieldLinkNest "RegisterColours$Code" 60 "RegisterColours$Step" "n" "I" "RegisterColours"),
  va_Nw (.fieldLinkNest "RegisterColours$Code" 101 "RegisterColours$Step" "a" "I" "RegisterColours"),
  va_Nw (.fieldLinkNest "RegisterColours$Code" 104 "RegisterColours$Step" "b" "I" "RegisterColours"),
  va_Nw (.fieldLinkNest "RegisterColours$Code" 67 "RegisterColours$Step" "kind" "I" "RegisterColours"),
  va_Nw (.fieldLinkNest "RegisterColours$Code" 70 "RegisterColours$Step" "makes" "I" "RegisterColours"),
  va_Nw (.fieldLinkNest "RegisterColours$Proof" 118 "RegisterColours$Left" "code" "LRegisterColours$Code;" "RegisterColours"),
  va_Nw (.fieldLinkNest "RegisterColours$Proof" 123 "RegisterColours$Left" "graph" "LRegisterColours$Graph;" "RegisterColours"),
  va_Nw (.fieldLinkNest "RegisterColours$Proof" 82 "RegisterColours$Code" "steps" "Ljava/util/ArrayList;" "RegisterColours"),
  va_Nw (.fieldLinkNest "RegisterColours$Proof" 68 "RegisterColours$Step" "a" "I" "RegisterColours"),
  va_Nw (.fieldLinkNest "RegisterColours$Proof" 133 "RegisterColours$Step" "b" "I" "RegisterColours"),
  va_Nw (.fieldLinkNest "RegisterColours$Proof" 58 "RegisterColours$Step" "kind" "I" "RegisterColours"),
  va_Nw (.fieldLinkNest "RegisterColours$Proof" 115 "RegisterColours$Step" "n" "I" "RegisterColours"),
  va_Nw (.fieldLinkNest "RegisterColours$Proof" 94 "RegisterColours" "clobbered" "I" "RegisterColours"),
  va_Nw (.fieldLinkNest "RegisterColours$Proof" 71 "RegisterColours$Step" "makes" "I" "RegisterColours"),
  va_Nw (.fieldLinkNest "RegisterColours$Proof" 33 "RegisterColours$Graph" "colour" "[I" "RegisterColours"),
  va_Nw (.fieldLinkNest "RegisterColours$Proof" 39 "RegisterColours$Graph" "node" "[I" "RegisterColours"),
  va_Nw (.fieldLinkNest "RegisterColours$Proof" 42 "RegisterColours$Graph" "kindOf" "[I" "RegisterColours"),
  va_Nw (.fieldLinkNest "RegisterColours$Reader" 170 "RegisterColours$Step" "n" "I" "RegisterColours"),
  va_Nw (.fieldLinkNest "RegisterColours$Reader" 30 "RegisterColours" "taped" "I" "RegisterColours"),
  va_Nw (.fieldLinkNest "RegisterColours$Reader" 33 "RegisterColours" "tape" "[B" "RegisterColours"),
  va_Nw (.fieldLinkNest "RegisterColours$Allocating" 61 "RegisterColours$Left" "rounds" "I" "RegisterColours"),
  va_Nw (.fieldLinkNest "RegisterColours$Allocating" 64 "RegisterColours$Left" "optimistic" "I" "RegisterColours"),
  va_Nw (.fieldLinkNest "RegisterColours$Allocating" 67 "RegisterColours$Graph" "optimistic" "I" "RegisterColours"),
  va_Nw (.fieldLinkNest "RegisterColours$Allocating" 74 "RegisterColours$Left" "code" "LRegisterColours$Code;" "RegisterColours"),
  va_Nw (.fieldLinkNest "RegisterColours$Allocating" 78 "RegisterColours$Left" "graph" "LRegisterColours$Graph;" "RegisterColours"),
  va_Nw (.fieldLinkNest "RegisterColours$Allocating" 172 "RegisterColours$Left" "nodes" "I" "RegisterColours"),
  va_Nw (.fieldLinkNest "RegisterColours$Allocating" 175 "RegisterColours$Left" "anew" "I" "RegisterColours"),
  va_Nw (.fieldLinkNest "RegisterColours$Allocating" 178 "RegisterColours$Home" "isMadeAnew" "Z" "RegisterColours"),
  va_Nw (.fieldLinkNest "RegisterColours$Allocating" 182 "RegisterColours$Left" "cost" "J" "RegisterColours"),
  va_Nw (.fieldLinkNest "RegisterColours$Allocating" 186 "RegisterColours$Graph" "cost" "[J" "RegisterColours"),
  va_Nw (.fieldLinkNest "RegisterColours$Allocating" 122 "RegisterColours$Graph" "node" "[I" "RegisterColours"),
  va_Nw (.fieldLinkNest "RegisterColours$Allocating" 193 "RegisterColours$Left" "spilled" "[I" "RegisterColours"),
  va_Nw (.fieldLinkNest "RegisterColours$Allocating" 98 "RegisterColours$Code" "steps" "Ljava/util/ArrayList;" "RegisterColours"),
  va_Nw (.fieldLinkNest "RegisterColours$Allocating" 119 "RegisterColours$Step" "makes" "I" "RegisterColours"),
  va_Nw (.fieldLinkNest "RegisterColours$Allocating" 129 "RegisterColours$Step" "kind" "I" "RegisterColours"),
  va_Nw (.fieldLinkNest "RegisterColours$Allocating" 132 "RegisterColours$Step" "n" "I" "RegisterColours"),
  va_Nw (.fieldLinkNest "RegisterColours$Allocating" 140 "RegisterColours$Left" "slots" "I" "RegisterColours"),
  va_Nw (.fieldLinkNest "RegisterColours$Allocating" 147 "RegisterColours$Step" "a" "I" "RegisterColours"),
  va_Nw (.fieldLinkNest "RegisterColours$Allocating" 196 "RegisterColours$Step" "b" "I" "RegisterColours"),
  va_Nw (.fieldLinkNest "RegisterColours$Allocating" 215 "RegisterColours$Home" "slot" "I" "RegisterColours"),
  va_Nw (.fieldLinkNest "RegisterColours$Allocating" 209 "RegisterColours$Home" "number" "I" "RegisterColours"),
  va_Nw (.fieldLinkNest "RegisterColours$Graph" 84 "RegisterColours$Code" "steps" "Ljava/util/ArrayList;" "RegisterColours"),
  va_Nw (.fieldLinkNest "RegisterColours$Graph" 105 "RegisterColours$Step" "a" "I" "RegisterColours"),
  va_Nw (.fieldLinkNest "RegisterColours$Graph" 108 "RegisterColours$Code" "weight" "[I" "RegisterColours"),
  va_Nw (.fieldLinkNest "RegisterColours$Graph" 114 "RegisterColours$Step" "b" "I" "RegisterColours"),
  va_Nw (.fieldLinkNest "RegisterColours$Graph" 117 "RegisterColours$Step" "kind" "I" "RegisterColours"),
  va_Nw (.fieldLinkNest "RegisterColours$Graph" 120 "RegisterColours$Step" "makes" "I" "RegisterColours"),
  va_Nw (.fieldLinkNest "RegisterColours$Graph" 123 "RegisterColours$Code" "clobbered" "I" "RegisterColours"),
  va_Nw (.fieldLinkNest "RegisterColours$Graph" 179 "RegisterColours$Move" "x" "I" "RegisterColours"),
  va_Nw (.fieldLinkNest "RegisterColours$Graph" 184 "RegisterColours$Move" "y" "I" "RegisterColours"),
  va_Nw (.fieldLinkNest "RegisterColours$ByWeight" 7 "RegisterColours$Move" "weight" "I" "RegisterColours"),
  va_Nw (.fieldLinkNest "RegisterColours$ByWeight" 13 "RegisterColours$Move" "step" "I" "RegisterColours"),
  va_Nw (.fieldLinkNest "RegisterColours$Machine" 98 "RegisterColours$Code" "steps" "Ljava/util/ArrayList;" "RegisterColours"),
  va_Nw (.fieldLinkNest "RegisterColours$Machine" 49 "RegisterColours$Step" "kind" "I" "RegisterColours"),
  va_Nw (.fieldLinkNest "RegisterColours$Machine" 63 "RegisterColours$Step" "a" "I" "RegisterColours"),
  va_Nw (.fieldLinkNest "RegisterColours$Machine" 95 "RegisterColours$Step" "b" "I" "RegisterColours"),
  va_Nw (.fieldLinkNest "RegisterColours$Machine" 52 "RegisterColours$Step" "n" "I" "RegisterColours"),
  va_Nw (.fieldLinkNest "RegisterColours$Machine" 36 "RegisterColours$Step" "makes" "I" "RegisterColours"),
  va_Nw (.fieldLinkNest "RegisterColours$Machine" 45 "RegisterColours" "isWide" "Z" "RegisterColours"),
  va_Nw (.fieldLinkNest "RegisterColours$Machine" 78 "RegisterColours" "makings" "[LRegisterColours$Making;" "RegisterColours"),
  va_Nw (.fieldLinkNest "RegisterColours$Machine" 23 "RegisterColours" "inputs" "I" "RegisterColours"),
  va_Nw (.fieldLinkNest "RegisterColours$Machine" 26 "RegisterColours" "input" "[I" "RegisterColours"),
  va_Nw (.fieldLinkNest "RegisterColours$ByValues" 9 "RegisterColours" "code" "LRegisterColours$Code;" "RegisterColours"),
  va_Nw (.fieldLinkNest "RegisterColours$ByRegisters" 9 "RegisterColours$Left" "code" "LRegisterColours$Code;" "RegisterColours"),
  va_Nw (.fieldLinkNest "RegisterColours$ByRegisters" 32 "RegisterColours$Left" "graph" "LRegisterColours$Graph;" "RegisterColours"),
  va_Nw (.fieldLinkNest "RegisterColours$ByRegisters" 50 "RegisterColours$Graph" "kindOf" "[I" "RegisterColours"),
  va_Nw (.fieldLinkNest "RegisterColours$ByRegisters" 39 "RegisterColours$Graph" "colour" "[I" "RegisterColours"),
  va_Nw (.fieldLinkNest "RegisterColours$ByRegisters" 44 "RegisterColours$Graph" "node" "[I" "RegisterColours"),
  va_Nw (.fieldLinkNest "RegisterColours$ByRegisters" 59 "RegisterColours$Step" "kind" "I" "RegisterColours"),
  va_Nw (.fieldLinkNest "RegisterColours$ByRegisters" 65 "RegisterColours$Step" "makes" "I" "RegisterColours"),
  va_Nw (.fieldLinkNest "RegisterColours$ByRegisters" 68 "RegisterColours$Step" "n" "I" "RegisterColours"),
  va_Nw (.fieldLinkNest "RegisterColours$ByRegisters" 75 "RegisterColours$Step" "a" "I" "RegisterColours"),
  va_Nw (.fieldLinkNest "RegisterColours$ByRegisters" 81 "RegisterColours" "clobbered" "I" "RegisterColours"),
  va_Nw (.castable "java/lang/Integer" "java/lang/Comparable"),
  va_Nw (.fieldLinkNest "java/util/ArrayList$Itr" 28 "java/util/ArrayList" "size" "I" "java/util/ArrayList"),
  va_Nw (.fieldLinkNest "java/util/TreeMap$PrivateEntryIterator" 13 "java/util/TreeMap" "modCount" "I" "java/util/TreeMap"),
  va_Nw (.castable "RegisterColours$Step" "java/lang/Object"),
  va_Nw (.castable "java/util/BitSet" "java/lang/Object"),
  va_Nw (.castable "RegisterColours$Move" "java/lang/Object"),
  va_Nw (.castable "java/lang/Integer" "java/lang/Object"),
  va_Nw (.methodLinkNest "RegisterColours" 76 ⟨"RegisterColours$Proof", "<init>", "(LRegisterColours;)V"⟩ "RegisterColours"),
  va_Nw (.methodLinkNest "RegisterColours" 149 ⟨"RegisterColours$Reader", "<init>", "(LRegisterColours;)V"⟩ "RegisterColours"),
  va_IF "java/util/ArrayList$Itr" ⟨"java/util/Iterator", "hasNext", "()Z"⟩ ⟨"java/util/ArrayList$Itr", "hasNext", "()Z"⟩,
  va_IF "java/util/TreeMap$KeyIterator" ⟨"java/util/Iterator", "hasNext", "()Z"⟩ ⟨"java/util/TreeMap$PrivateEntryIterator", "hasNext", "()Z"⟩,
  va_IF "java/util/ArrayList$Itr" ⟨"java/util/Iterator", "next", "()Ljava/lang/Object;"⟩ ⟨"java/util/ArrayList$Itr", "next", "()Ljava/lang/Object;"⟩,
  va_IF "java/util/TreeMap$KeyIterator" ⟨"java/util/Iterator", "next", "()Ljava/lang/Object;"⟩ ⟨"java/util/TreeMap$KeyIterator", "next", "()Ljava/lang/Object;"⟩,
  va_Nw (.methodLinkNest "RegisterColours$Code" 63 ⟨"RegisterColours", "isIn", "(III)Z"⟩ "RegisterColours"),
  va_Nw (.methodLinkNest "RegisterColours$Reader" 37 ⟨"RegisterColours", "isIn", "(III)Z"⟩ "RegisterColours"),
  va_Nw (.methodLinkNest "RegisterColours$Reader" 117 ⟨"RegisterColours", "classOf", "(I)I"⟩ "RegisterColours"),
  va_Nw (.methodLinkNest "RegisterColours$Allocating" 11 ⟨"RegisterColours$Left", "<init>", "()V"⟩ "RegisterColours"),
  va_Nw (.methodLinkNest "RegisterColours$Allocating" 42 ⟨"RegisterColours", "classOf", "(I)I"⟩ "RegisterColours"),
  va_Nw (.methodLinkNest "RegisterColours$Allocating" 84 ⟨"RegisterColours$Failed", "<init>", "()V"⟩ "RegisterColours"),
  va_Nw (.methodLinkNest "RegisterColours$Graph" 204 ⟨"RegisterColours$ByWeight", "<init>", "()V"⟩ "RegisterColours"),
  va_Nw (.methodLinkNest "RegisterColours$ByValues" 23 ⟨"RegisterColours", "classOf", "(I)I"⟩ "RegisterColours"),
  va_IF "RegisterColours$ByWeight" ⟨"java/util/Comparator", "compare", "(Ljava/lang/Object;Ljava/lang/Object;)I"⟩ ⟨"RegisterColours$ByWeight", "compare", "(Ljava/lang/Object;Ljava/lang/Object;)I"⟩,
  va_IF "java/lang/Integer" ⟨"java/lang/Comparable", "compareTo", "(Ljava/lang/Object;)I"⟩ ⟨"java/lang/Integer", "compareTo", "(Ljava/lang/Object;)I"⟩,
  va_IF "java/util/TreeMap" ⟨"java/util/NavigableMap", "navigableKeySet", "()Ljava/util/NavigableSet;"⟩ ⟨"java/util/TreeMap", "navigableKeySet", "()Ljava/util/NavigableSet;"⟩,
  va_IF "java/util/TreeMap$KeySet" ⟨"java/util/NavigableSet", "iterator", "()Ljava/util/Iterator;"⟩ ⟨"java/util/TreeMap$KeySet", "iterator", "()Ljava/util/Iterator;"⟩,
  va_Nw (.methodLink "java/util/TreeSet" 53 ⟨"java/util/NavigableMap", "size", "()I"⟩),
  va_IFU "java/util/TreeMap" ⟨"java/util/NavigableMap", "size", "()I"⟩ "java/util/Map" ⟨"java/util/TreeMap", "size", "()I"⟩,
  va_Nw (.methodLink "java/util/TreeSet" 69 ⟨"java/util/NavigableMap", "put", "(Ljava/lang/Object;Ljava/lang/Object;)Ljava/lang/Object;"⟩),
  va_IFU "java/util/TreeMap" ⟨"java/util/NavigableMap", "put", "(Ljava/lang/Object;Ljava/lang/Object;)Ljava/lang/Object;"⟩ "java/util/Map" ⟨"java/util/TreeMap", "put", "(Ljava/lang/Object;Ljava/lang/Object;)Ljava/lang/Object;"⟩,
  va_Nw (.methodLink "java/util/TreeSet" 57 ⟨"java/util/NavigableMap", "isEmpty", "()Z"⟩),
  va_IFU "java/util/TreeMap" ⟨"java/util/NavigableMap", "isEmpty", "()Z"⟩ "java/util/Map" ⟨"java/util/AbstractMap", "isEmpty", "()Z"⟩,
  va_Nw (.methodLink "java/util/TreeSet" 73 ⟨"java/util/NavigableMap", "remove", "(Ljava/lang/Object;)Ljava/lang/Object;"⟩),
  va_IFU "java/util/TreeMap" ⟨"java/util/NavigableMap", "remove", "(Ljava/lang/Object;)Ljava/lang/Object;"⟩ "java/util/Map" ⟨"java/util/TreeMap", "remove", "(Ljava/lang/Object;)Ljava/lang/Object;"⟩,
  va_Nw (.methodLink "java/util/TreeSet" 61 ⟨"java/util/NavigableMap", "containsKey", "(Ljava/lang/Object;)Z"⟩),
  va_IFU "java/util/TreeMap" ⟨"java/util/NavigableMap", "containsKey", "(Ljava/lang/Object;)Z"⟩ "java/util/Map" ⟨"java/util/TreeMap", "containsKey", "(Ljava/lang/Object;)Z"⟩,
  va_Nw (.methodLink "java/util/TreeMap$KeySet" 26 ⟨"java/util/NavigableMap", "size", "()I"⟩),
  va_Nw (.selects "RegisterColours$ByValues" ⟨"RegisterColours$Machine", "does", "(LRegisterColours$Step;)V"⟩ ⟨"RegisterColours$Machine", "does", "(LRegisterColours$Step;)V"⟩),
  va_Nw (.selects "RegisterColours$ByRegisters" ⟨"RegisterColours$Machine", "does", "(LRegisterColours$Step;)V"⟩ ⟨"RegisterColours$Machine", "does", "(LRegisterColours$Step;)V"⟩),
  va_Nw (.declares ⟨"RegisterColours$Machine", "at", "(I)J"⟩),
  va_Nw (.declares ⟨"RegisterColours$Machine", "isPair", "(I)Z"⟩),
  va_Nw (.declares ⟨"RegisterColours$Machine", "puts", "(IJ)V"⟩),
  va_Nw (.selects "RegisterColours$ByValues" ⟨"RegisterColours$Machine", "in", "()J"⟩ ⟨"RegisterColours$Machine", "in", "()J"⟩),
  va_Nw (.selects "RegisterColours$ByRegisters" ⟨"RegisterColours$Machine", "in", "()J"⟩ ⟨"RegisterColours$Machine", "in", "()J"⟩),
  va_Nw (.selects "RegisterColours$ByValues" ⟨"RegisterColours$Machine", "tells", "(J)V"⟩ ⟨"RegisterColours$Machine", "tells", "(J)V"⟩),
  va_Nw (.selects "RegisterColours$ByRegisters" ⟨"RegisterColours$Machine", "tells", "(J)V"⟩ ⟨"RegisterColours$Machine", "tells", "(J)V"⟩),
  va_Nw (.declares ⟨"RegisterColours$Machine", "slot", "(LRegisterColours$Step;)V"⟩),
  va_Nw (.declares ⟨"RegisterColours$Machine", "clobbers", "()V"⟩),
  va_Nw (.declares ⟨"java/util/AbstractCollection", "size", "()I"⟩),
  va_Nw (.declares ⟨"java/util/AbstractMap", "size", "()I"⟩),
  va_Dc,
  va_Nw (.declares ⟨"RegisterColours$Making", "of", "(JJ)J"⟩),
  va_Nw (.interfaceMethod "RegisterColours$Making" "RegisterColours$Making" "of" "(JJ)J"),
  va_Nw (.declares ⟨"RegisterColours$Safety", "of", "(II)Z"⟩),
  va_Nw (.interfaceMethod "RegisterColours$Safety" "RegisterColours$Safety" "of" "(II)Z"),
  va_Nw (.declares (Bundle.init0 Bundle.tN)),
  va_AO "java/lang/Object",
  va_AO "RegisterColours$Safety",
  va_AO "RegisterColours$Making"]
theorem rg_facts_mv : ∀ f ∈ rg_facts, ∀ u U : State, u.WarmedH U.vm → f u → f U := by
  unfold rg_facts
  refine List.forall_mem_cons.mpr ⟨fun u U hW h => va_Nw.warmF hW h, ?_⟩
  refine List.forall_mem_cons.mpr ⟨fun u U hW h => va_Nw.warmF hW h, ?_⟩
  refine List.forall_mem_cons.mpr ⟨fun u U hW h => va_Nw.warmF hW h, ?_⟩
  refine List.forall_mem_cons.mpr ⟨fun u U hW h => va_Nw.warmF hW h, ?_⟩
  refine List.forall_mem_cons.mpr ⟨fun u U hW h => va_Nw.warmF hW h, ?_⟩
  refine List.forall_mem_cons.mpr ⟨fun u U hW h => va_Nw.warmF hW h, ?_⟩
  refine List.forall_mem_cons.mpr ⟨fun u U hW h => va_Nw.warmF hW h, ?_⟩
  refine List.forall_mem_cons.mpr ⟨fun u U hW h => va_Nw.warmF hW h, ?_⟩
  refine List.forall_mem_cons.mpr ⟨fun u U hW h => va_Nw.warmF hW h, ?_⟩
  refine List.forall_mem_cons.mpr ⟨fun u U hW h => va_Nw.warmF hW h, ?_⟩
  refine List.forall_mem_cons.mpr ⟨fun u U hW h => va_Nw.warmF hW h, ?_⟩
  refine List.forall_mem_cons.mpr ⟨fun u U hW h => va_Nw.warmF hW h, ?_⟩
  refine List.forall_mem_cons.mpr ⟨fun u U hW h => va_Nw.warmF hW h, ?_⟩
  refine List.forall_mem_cons.mpr ⟨fun u U hW h => va_Nw.warmF hW h, ?_⟩
  refine List.forall_mem_cons.mpr ⟨fun u U hW h => va_Nw.warmF hW h, ?_⟩
  refine List.forall_mem_cons.mpr ⟨fun u U hW h => va_Nw.warmF hW h, ?_⟩
  refine List.forall_mem_cons.mpr ⟨fun u U hW h => va_Nw.warmF hW h, ?_⟩
  refine List.forall_mem_cons.mpr ⟨fun u U hW h => va_Nw.warmF hW h, ?_⟩
  refine List.forall_mem_cons.mpr ⟨fun u U hW h => va_Nw.warmF hW h, ?_⟩
  refine List.forall_mem_cons.mpr ⟨fun u U hW h => va_Nw.warmF hW h, ?_⟩
  refine List.forall_mem_cons.mpr ⟨fun u U hW h => va_Nw.warmF hW h, ?_⟩
  refine List.forall_mem_cons.mpr ⟨fun u U hW h => va_Nw.warmF hW h, ?_⟩
  refine List.forall_mem_cons.mpr ⟨fun u U hW h => va_Nw.warmF hW h, ?_⟩
  refine List.forall_mem_cons.mpr ⟨fun u U hW h => va_Nw.warmF hW h, ?_⟩
  refine List.forall_mem_cons.mpr ⟨fun u U hW h => va_Nw.warmF hW h, ?_⟩
  refine List.forall_mem_cons.mpr ⟨fun u U hW h => va_Nw.warmF hW h, ?_⟩
  refine List.forall_mem_cons.mpr ⟨fun u U hW h => va_Nw.warmF hW h, ?_⟩
  refine List.forall_mem_cons.mpr ⟨fun u U hW h => va_Nw.warmF hW h, ?_⟩
  refine List.forall_mem_cons.mpr ⟨fun u U hW h => va_Nw.warmF hW h, ?_⟩
  refine List.forall_mem_cons.mpr ⟨fun u U hW h => va_Nw.warmF hW h, ?_⟩
  refine List.forall_mem_cons.mpr ⟨fun u U hW h => va_Nw.warmF hW h, ?_⟩
  refine List.forall_mem_cons.mpr ⟨fun u U hW h => va_Nw.warmF hW h, ?_⟩
  refine List.forall_mem_cons.mpr ⟨fun u U hW h => va_Nw.warmF hW h, ?_⟩
  refine List.forall_mem_cons.mpr ⟨fun u U hW h => va_Nw.warmF hW h, ?_⟩
  refine List.forall_mem_cons.mpr ⟨fun u U hW h => va_Nw.warmF hW h, ?_⟩
  refine List.forall_mem_cons.mpr ⟨fun u U hW h => va_Nw.warmF hW h, ?_⟩
  refine List.forall_mem_cons.mpr ⟨fun u U hW h => va_Nw.warmF hW h, ?_⟩
  refine List.forall_mem_cons.mpr ⟨fun u U hW h => va_Nw.warmF hW h, ?_⟩
  refine List.forall_mem_cons.mpr ⟨fun u U hW h => va_Nw.warmF hW h, ?_⟩
  refine List.forall_mem_cons.mpr ⟨fun u U hW h => va_Nw.warmF hW h, ?_⟩
  refine List.forall_mem_cons.mpr ⟨fun u U hW h => va_Nw.warmF hW h, ?_⟩
  refine List.forall_mem_cons.mpr ⟨fun u U hW h => va_Nw.warmF hW h, ?_⟩
  refine List.forall_mem_cons.mpr ⟨fun u U hW h => va_Nw.warmF hW h, ?_⟩
  refine List.forall_mem_cons.mpr ⟨fun u U hW h => va_Nw.warmF hW h, ?_⟩
  refine List.forall_mem_cons.mpr ⟨fun u U hW h => va_Nw.warmF hW h, ?_⟩
  refine List.forall_mem_cons.mpr ⟨fun u U hW h => va_Nw.warmF hW h, ?_⟩
  refine List.forall_mem_cons.mpr ⟨fun u U hW h => va_Nw.warmF hW h, ?_⟩
  refine List.forall_mem_cons.mpr ⟨fun u U hW h => va_Nw.warmF hW h, ?_⟩
  refine List.forall_mem_cons.mpr ⟨fun u U hW h => va_Nw.warmF hW h, ?_⟩
  refine List.forall_mem_cons.mpr ⟨fun u U hW h => va_Nw.warmF hW h, ?_⟩
  refine List.forall_mem_cons.mpr ⟨fun u U hW h => va_Nw.warmF hW h, ?_⟩
  refine List.forall_mem_cons.mpr ⟨fun u U hW h => va_Nw.warmF hW h, ?_⟩
  refine List.forall_mem_cons.mpr ⟨fun u U hW h => va_Nw.warmF hW h, ?_⟩
  refine List.forall_mem_cons.mpr ⟨fun u U hW h => va_Nw.warmF hW h, ?_⟩
  refine List.forall_mem_cons.mpr ⟨fun u U hW h => va_Nw.warmF hW h, ?_⟩
  refine List.forall_mem_cons.mpr ⟨fun u U hW h => va_Nw.warmF hW h, ?_⟩
  refine List.forall_mem_cons.mpr ⟨fun u U hW h => va_Nw.warmF hW h, ?_⟩
  refine List.forall_mem_cons.mpr ⟨fun u U hW h => va_Nw.warmF hW h, ?_⟩
  refine List.forall_mem_cons.mpr ⟨fun u U hW h => va_Nw.warmF hW h, ?_⟩
  refine List.forall_mem_cons.mpr ⟨fun u U hW h => va_Nw.warmF hW h, ?_⟩
  refine List.forall_mem_cons.mpr ⟨fun u U hW h => va_Nw.warmF hW h, ?_⟩
  refine List.forall_mem_cons.mpr ⟨fun u U hW h => va_Nw.warmF hW h, ?_⟩
  refine List.forall_mem_cons.mpr ⟨fun u U hW h => va_Nw.warmF hW h, ?_⟩
  refine List.forall_mem_cons.mpr ⟨fun u U hW h => va_Nw.warmF hW h, ?_⟩
  refine List.forall_mem_cons.mpr ⟨fun u U hW h => va_Nw.warmF hW h, ?_⟩
  refine List.forall_mem_cons.mpr ⟨fun u U hW h => va_Nw.warmF hW h, ?_⟩
  refine List.forall_mem_cons.mpr ⟨fun u U hW h => va_Nw.warmF hW h, ?_⟩
  refine List.forall_mem_cons.mpr ⟨fun u U hW h => va_Nw.warmF hW h, ?_⟩
  refine List.forall_mem_cons.mpr ⟨fun u U hW h => va_Nw.warmF hW h, ?_⟩
  refine List.forall_mem_cons.mpr ⟨fun u U hW h => va_Nw.warmF hW h, ?_⟩
  refine List.forall_mem_cons.mpr ⟨fun u U hW h => va_Nw.warmF hW h, ?_⟩
  refine List.forall_mem_cons.mpr ⟨fun u U hW h => va_Nw.warmF hW h, ?_⟩
  refine List.forall_mem_cons.mpr ⟨fun u U hW h => va_Nw.warmF hW h, ?_⟩
  refine List.forall_mem_cons.mpr ⟨fun u U hW h => va_Nw.warmF hW h, ?_⟩
  refine List.forall_mem_cons.mpr ⟨fun u U hW h => va_Nw.warmF hW h, ?_⟩
  refine List.forall_mem_cons.mpr ⟨fun u U hW h => va_Nw.warmF hW h, ?_⟩
  refine List.forall_mem_cons.mpr ⟨fun u U hW h => va_Nw.warmF hW h, ?_⟩
  refine List.forall_mem_cons.mpr ⟨fun u U hW h => va_Nw.warmF hW h, ?_⟩
  refine List.forall_mem_cons.mpr ⟨fun u U hW h => va_Nw.warmF hW h, ?_⟩
  refine List.forall_mem_cons.mpr ⟨fun u U hW h => va_Nw.warmF hW h, ?_⟩
  refine List.forall_mem_cons.mpr ⟨fun u U hW h => va_Nw.warmF hW h, ?_⟩
  refine List.forall_mem_cons.mpr ⟨fun u U hW h => va_Nw.warmF hW h, ?_⟩
  refine List.forall_mem_cons.mpr ⟨fun u U hW h => va_Nw.warmF hW h, ?_⟩
  refine List.forall_mem_cons.mpr ⟨fun u U hW h => va_Nw.warmF hW h, ?_⟩
  refine List.forall_mem_cons.mpr ⟨fun u U hW h => va_Nw.warmF hW h, ?_⟩
  refine List.forall_mem_cons.mpr ⟨fun u U hW h => va_Nw.warmF hW h, ?_⟩
  refine List.forall_mem_cons.mpr ⟨fun u U hW h => va_Nw.warmF hW h, ?_⟩
  refine List.forall_mem_cons.mpr ⟨fun u U hW h => va_Nw.warmF hW h, ?_⟩
  refine List.forall_mem_cons.mpr ⟨fun u U hW h => va_Nw.warmF hW h, ?_⟩
  refine List.forall_mem_cons.mpr ⟨fun u U hW h => va_Nw.warmF hW h, ?_⟩
  refine List.forall_mem_cons.mpr ⟨fun u U hW h => va_Nw.warmF hW h, ?_⟩
  refine List.forall_mem_cons.mpr ⟨fun u U hW h => va_Nw.warmF hW h, ?_⟩
  refine List.forall_mem_cons.mpr ⟨fun u U hW h => va_Nw.warmF hW h, ?_⟩
  refine List.forall_mem_cons.mpr ⟨fun u U hW h => va_Nw.warmF hW h, ?_⟩
  refine List.forall_mem_cons.mpr ⟨fun u U hW h => va_Nw.warmF hW h, ?_⟩
  refine List.forall_mem_cons.mpr ⟨fun u U hW h => va_Nw.warmF hW h, ?_⟩
  refine List.forall_mem_cons.mpr ⟨fun u U hW h => va_Nw.warmF hW h, ?_⟩
  refine List.forall_mem_cons.mpr ⟨fun u U hW h => va_Nw.warmF hW h, ?_⟩
  refine List.forall_mem_cons.mpr ⟨fun u U hW h => va_Nw.warmF hW h, ?_⟩
  refine List.forall_mem_cons.mpr ⟨fun u U hW h => va_Nw.warmC hW h, ?_⟩
  refine List.forall_mem_cons.mpr ⟨fun u U hW h => va_Nw.warmF hW h, ?_⟩
  refine List.forall_mem_cons.mpr ⟨fun u U hW h => va_Nw.warmF hW h, ?_⟩
  refine List.forall_mem_cons.mpr ⟨fun u U hW h => va_Nw.warmC hW h, ?_⟩
  refine List.forall_mem_cons.mpr ⟨fun u U hW h => va_Nw.warmC hW h, ?_⟩
  refine List.forall_mem_cons.mpr ⟨fun u U hW h => va_Nw.warmC hW h, ?_⟩
  refine List.forall_mem_cons.mpr ⟨fun u U hW h => va_Nw.warmC hW h, ?_⟩
  refine List.forall_mem_cons.mpr ⟨fun u U hW h => va_Nw.warmM hW h, ?_⟩
  refine List.forall_mem_cons.mpr ⟨fun u U hW h => va_Nw.warmM hW h, ?_⟩
  refine List.forall_mem_cons.mpr ⟨fun u U hW h => va_IF.warm (by decide) hW h, ?_⟩
  refine List.forall_mem_cons.mpr ⟨fun u U hW h => va_IF.warm (by decide) hW h, ?_⟩
  refine List.forall_mem_cons.mpr ⟨fun u U hW h => va_IF.warm (by decide) hW h, ?_⟩
  refine List.forall_mem_cons.mpr ⟨fun u U hW h => va_IF.warm (by decide) hW h, ?_⟩
  refine List.forall_mem_cons.mpr ⟨fun u U hW h => va_Nw.warmM hW h, ?_⟩
  refine List.forall_mem_cons.mpr ⟨fun u U hW h => va_Nw.warmM hW h, ?_⟩
  refine List.forall_mem_cons.mpr ⟨fun u U hW h => va_Nw.warmM hW h, ?_⟩
  refine List.forall_mem_cons.mpr ⟨fun u U hW h => va_Nw.warmM hW h, ?_⟩
  refine List.forall_mem_cons.mpr ⟨fun u U hW h => va_Nw.warmM hW h, ?_⟩
  refine List.forall_mem_cons.mpr ⟨fun u U hW h => va_Nw.warmM hW h, ?_⟩
  refine List.forall_mem_cons.mpr ⟨fun u U hW h => va_Nw.warmM hW h, ?_⟩
  refine List.forall_mem_cons.mpr ⟨fun u U hW h => va_Nw.warmM hW h, ?_⟩
  refine List.forall_mem_cons.mpr ⟨fun u U hW h => va_IF.warm (by decide) hW h, ?_⟩
  refine List.forall_mem_cons.mpr ⟨fun u U hW h => va_IF.warm (by decide) hW h, ?_⟩
  refine List.forall_mem_cons.mpr ⟨fun u U hW h => va_IF.warm (by decide) hW h, ?_⟩
  refine List.forall_mem_cons.mpr ⟨fun u U hW h => va_IF.warm (by decide) hW h, ?_⟩
  refine List.forall_mem_cons.mpr ⟨fun u U hW h => word_at hW (Or.inl rfl) h, ?_⟩
  refine List.forall_mem_cons.mpr ⟨fun u U hW h => h.warm hW, ?_⟩
  refine List.forall_mem_cons.mpr ⟨fun u U hW h => word_at hW (Or.inl rfl) h, ?_⟩
  refine List.forall_mem_cons.mpr ⟨fun u U hW h => h.warm hW, ?_⟩
  refine List.forall_mem_cons.mpr ⟨fun u U hW h => word_at hW (Or.inl rfl) h, ?_⟩
  refine List.forall_mem_cons.mpr ⟨fun u U hW h => h.warm hW, ?_⟩
  refine List.forall_mem_cons.mpr ⟨fun u U hW h => word_at hW (Or.inl rfl) h, ?_⟩
  refine List.forall_mem_cons.mpr ⟨fun u U hW h => h.warm hW, ?_⟩
  refine List.forall_mem_cons.mpr ⟨fun u U hW h => word_at hW (Or.inl rfl) h, ?_⟩
  refine List.forall_mem_cons.mpr ⟨fun u U hW h => h.warm hW, ?_⟩
  refine List.forall_mem_cons.mpr ⟨fun u U hW h => word_at hW (Or.inl rfl) h, ?_⟩
  refine List.forall_mem_cons.mpr ⟨fun u U hW h => word_at hW (Or.inl rfl) h, ?_⟩
  refine List.forall_mem_cons.mpr ⟨fun u U hW h => word_at hW (Or.inl rfl) h, ?_⟩
  refine List.forall_mem_cons.mpr ⟨fun u U hW h => va_Nw.warmD hW h, ?_⟩
  refine List.forall_mem_cons.mpr ⟨fun u U hW h => va_Nw.warmD hW h, ?_⟩
  refine List.forall_mem_cons.mpr ⟨fun u U hW h => va_Nw.warmD hW h, ?_⟩
  refine List.forall_mem_cons.mpr ⟨fun u U hW h => word_at hW (Or.inl rfl) h, ?_⟩
  refine List.forall_mem_cons.mpr ⟨fun u U hW h => word_at hW (Or.inl rfl) h, ?_⟩
  refine List.forall_mem_cons.mpr ⟨fun u U hW h => word_at hW (Or.inl rfl) h, ?_⟩
  refine List.forall_mem_cons.mpr ⟨fun u U hW h => word_at hW (Or.inl rfl) h, ?_⟩
  refine List.forall_mem_cons.mpr ⟨fun u U hW h => va_Nw.warmD hW h, ?_⟩
  refine List.forall_mem_cons.mpr ⟨fun u U hW h => va_Nw.warmD hW h, ?_⟩
  refine List.forall_mem_cons.mpr ⟨fun u U hW h => va_Nw.warmD hW h, ?_⟩
  refine List.forall_mem_cons.mpr ⟨fun u U hW h => va_Nw.warmD hW h, ?_⟩
  refine List.forall_mem_cons.mpr ⟨fun u U hW h => va_Dc.moved hW.alike h, ?_⟩
  refine List.forall_mem_cons.mpr ⟨fun u U hW h => va_Nw.warmD hW h, ?_⟩
  refine List.forall_mem_cons.mpr ⟨fun u U hW h => va_tabs rfl (rfl : (u.setVm U.vm).vm = U.vm) (by rw [ifm_setVm hW.alike]; exact h), ?_⟩
  refine List.forall_mem_cons.mpr ⟨fun u U hW h => va_Nw.warmD hW h, ?_⟩
  refine List.forall_mem_cons.mpr ⟨fun u U hW h => va_tabs rfl (rfl : (u.setVm U.vm).vm = U.vm) (by rw [ifm_setVm hW.alike]; exact h), ?_⟩
  refine List.forall_mem_cons.mpr ⟨fun u U hW h => va_Nw.warmD hW h, ?_⟩
  refine List.forall_mem_cons.mpr ⟨fun u U hW h => va_AO.moved hW.alike h, ?_⟩
  refine List.forall_mem_cons.mpr ⟨fun u U hW h => va_AO.moved hW.alike h, ?_⟩
  refine List.forall_mem_cons.mpr ⟨fun u U hW h => va_AO.moved hW.alike h, ?_⟩
  exact fun f h => absurd h List.not_mem_nil
theorem rf0 : (va_Nw (.fieldLinkNest "RegisterColours" 104 "RegisterColours$Step" "kind" "I" "RegisterColours")) ∈ rg_facts := List.mem_of_getElem? (i := 0) rfl
theorem rf1 : (va_Nw (.fieldLinkNest "RegisterColours" 111 "RegisterColours$Step" "a" "I" "RegisterColours")) ∈ rg_facts := List.mem_of_getElem? (i := 1) rfl
theorem rf2 : (va_Nw (.fieldLinkNest "RegisterColours" 117 "RegisterColours$Step" "makes" "I" "RegisterColours")) ∈ rg_facts := List.mem_of_getElem? (i := 2) rfl
theorem rf3 : (va_Nw (.fieldLinkNest "RegisterColours" 124 "RegisterColours$Step" "n" "I" "RegisterColours")) ∈ rg_facts := List.mem_of_getElem? (i := 3) rfl
theorem rf4 : (va_Nw (.fieldLinkNest "RegisterColours" 159 "RegisterColours$Fault" "kind" "I" "RegisterColours")) ∈ rg_facts := List.mem_of_getElem? (i := 4) rfl
theorem rf5 : (va_Nw (.fieldLinkNest "RegisterColours" 160 "RegisterColours$Fault" "place" "I" "RegisterColours")) ∈ rg_facts := List.mem_of_getElem? (i := 5) rfl
theorem rf6 : (va_Nw (.fieldLinkNest "RegisterColours" 181 "RegisterColours$Left" "rounds" "I" "RegisterColours")) ∈ rg_facts := List.mem_of_getElem? (i := 6) rfl
theorem rf7 : (va_Nw (.fieldLinkNest "RegisterColours" 231 "RegisterColours$Left" "code" "LRegisterColours$Code;" "RegisterColours")) ∈ rg_facts := List.mem_of_getElem? (i := 7) rfl
theorem rf8 : (va_Nw (.fieldLinkNest "RegisterColours" 218 "RegisterColours$Code" "steps" "Ljava/util/ArrayList;" "RegisterColours")) ∈ rg_facts := List.mem_of_getElem? (i := 8) rfl
theorem rf9 : (va_Nw (.fieldLinkNest "RegisterColours" 236 "RegisterColours$Step" "b" "I" "RegisterColours")) ∈ rg_facts := List.mem_of_getElem? (i := 9) rfl
theorem rf10 : (va_Nw (.fieldLinkNest "RegisterColours" 239 "RegisterColours$Code" "weight" "[I" "RegisterColours")) ∈ rg_facts := List.mem_of_getElem? (i := 10) rfl
theorem rf11 : (va_Nw (.fieldLinkNest "RegisterColours" 221 "RegisterColours$Left" "graph" "LRegisterColours$Graph;" "RegisterColours")) ∈ rg_facts := List.mem_of_getElem? (i := 11) rfl
theorem rf12 : (va_Nw (.fieldLinkNest "RegisterColours" 225 "RegisterColours$Graph" "colour" "[I" "RegisterColours")) ∈ rg_facts := List.mem_of_getElem? (i := 12) rfl
theorem rf13 : (va_Nw (.fieldLinkNest "RegisterColours" 228 "RegisterColours$Graph" "node" "[I" "RegisterColours")) ∈ rg_facts := List.mem_of_getElem? (i := 13) rfl
theorem rf14 : (va_Nw (.fieldLinkNest "RegisterColours" 249 "RegisterColours$Code" "live" "Ljava/util/ArrayList;" "RegisterColours")) ∈ rg_facts := List.mem_of_getElem? (i := 14) rfl
theorem rf15 : (va_Nw (.fieldLinkNest "RegisterColours" 260 "RegisterColours$Graph" "there" "Ljava/util/BitSet;" "RegisterColours")) ∈ rg_facts := List.mem_of_getElem? (i := 15) rfl
theorem rf16 : (va_Nw (.fieldLinkNest "RegisterColours" 264 "RegisterColours$Graph" "cost" "[J" "RegisterColours")) ∈ rg_facts := List.mem_of_getElem? (i := 16) rfl
theorem rf17 : (va_Nw (.fieldLinkNest "RegisterColours" 283 "RegisterColours$Left" "spilled" "[I" "RegisterColours")) ∈ rg_facts := List.mem_of_getElem? (i := 17) rfl
theorem rf18 : (va_Nw (.fieldLinkNest "RegisterColours" 322 "RegisterColours$Left" "slots" "I" "RegisterColours")) ∈ rg_facts := List.mem_of_getElem? (i := 18) rfl
theorem rf19 : (va_Nw (.fieldLinkNest "RegisterColours" 325 "RegisterColours$Left" "nodes" "I" "RegisterColours")) ∈ rg_facts := List.mem_of_getElem? (i := 19) rfl
theorem rf20 : (va_Nw (.fieldLinkNest "RegisterColours" 328 "RegisterColours$Left" "anew" "I" "RegisterColours")) ∈ rg_facts := List.mem_of_getElem? (i := 20) rfl
theorem rf21 : (va_Nw (.fieldLinkNest "RegisterColours" 331 "RegisterColours$Graph" "merged" "I" "RegisterColours")) ∈ rg_facts := List.mem_of_getElem? (i := 21) rfl
theorem rf22 : (va_Nw (.fieldLinkNest "RegisterColours" 341 "RegisterColours$Left" "cost" "J" "RegisterColours")) ∈ rg_facts := List.mem_of_getElem? (i := 22) rfl
theorem rf23 : (va_Nw (.fieldLinkNest "RegisterColours" 344 "RegisterColours$Left" "optimistic" "I" "RegisterColours")) ∈ rg_facts := List.mem_of_getElem? (i := 23) rfl
theorem rf24 : (va_Nw (.fieldLinkNest "RegisterColours" 306 "RegisterColours$Graph" "kindOf" "[I" "RegisterColours")) ∈ rg_facts := List.mem_of_getElem? (i := 24) rfl
theorem rf25 : (va_Nw (.fieldLinkNest "RegisterColours" 355 "RegisterColours$Graph" "beside" "Ljava/util/ArrayList;" "RegisterColours")) ∈ rg_facts := List.mem_of_getElem? (i := 25) rfl
theorem rf26 : (va_Nw (.fieldLinkNest "RegisterColours$Code" 60 "RegisterColours$Step" "n" "I" "RegisterColours")) ∈ rg_facts := List.mem_of_getElem? (i := 26) rfl
theorem rf27 : (va_Nw (.fieldLinkNest "RegisterColours$Code" 101 "RegisterColours$Step" "a" "I" "RegisterColours")) ∈ rg_facts := List.mem_of_getElem? (i := 27) rfl
theorem rf28 : (va_Nw (.fieldLinkNest "RegisterColours$Code" 104 "RegisterColours$Step" "b" "I" "RegisterColours")) ∈ rg_facts := List.mem_of_getElem? (i := 28) rfl
theorem rf29 : (va_Nw (.fieldLinkNest "RegisterColours$Code" 67 "RegisterColours$Step" "kind" "I" "RegisterColours")) ∈ rg_facts := List.mem_of_getElem? (i := 29) rfl
theorem rf30 : (va_Nw (.fieldLinkNest "RegisterColours$Code" 70 "RegisterColours$Step" "makes" "I" "RegisterColours")) ∈ rg_facts := List.mem_of_getElem? (i := 30) rfl
theorem rf31 : (va_Nw (.fieldLinkNest "RegisterColours$Proof" 118 "RegisterColours$Left" "code" "LRegisterColours$Code;" "RegisterColours")) ∈ rg_facts := List.mem_of_getElem? (i := 31) rfl
theorem rf32 : (va_Nw (.fieldLinkNest "RegisterColours$Proof" 123 "RegisterColours$Left" "graph" "LRegisterColours$Graph;" "RegisterColours")) ∈ rg_facts := List.mem_of_getElem? (i := 32) rfl
theorem rf33 : (va_Nw (.fieldLinkNest "RegisterColours$Proof" 82 "RegisterColours$Code" "steps" "Ljava/util/ArrayList;" "RegisterColours")) ∈ rg_facts := List.mem_of_getElem? (i := 33) rfl
theorem rf34 : (va_Nw (.fieldLinkNest "RegisterColours$Proof" 68 "RegisterColours$Step" "a" "I" "RegisterColours")) ∈ rg_facts := List.mem_of_getElem? (i := 34) rfl
theorem rf35 : (va_Nw (.fieldLinkNest "RegisterColours$Proof" 133 "RegisterColours$Step" "b" "I" "RegisterColours")) ∈ rg_facts := List.mem_of_getElem? (i := 35) rfl
theorem rf36 : (va_Nw (.fieldLinkNest "RegisterColours$Proof" 58 "RegisterColours$Step" "kind" "I" "RegisterColours")) ∈ rg_facts := List.mem_of_getElem? (i := 36) rfl
theorem rf37 : (va_Nw (.fieldLinkNest "RegisterColours$Proof" 115 "RegisterColours$Step" "n" "I" "RegisterColours")) ∈ rg_facts := List.mem_of_getElem? (i := 37) rfl
theorem rf38 : (va_Nw (.fieldLinkNest "RegisterColours$Proof" 94 "RegisterColours" "clobbered" "I" "RegisterColours")) ∈ rg_facts := List.mem_of_getElem? (i := 38) rfl
theorem rf39 : (va_Nw (.fieldLinkNest "RegisterColours$Proof" 71 "RegisterColours$Step" "makes" "I" "RegisterColours")) ∈ rg_facts := List.mem_of_getElem? (i := 39) rfl
theorem rf40 : (va_Nw (.fieldLinkNest "RegisterColours$Proof" 33 "RegisterColours$Graph" "colour" "[I" "RegisterColours")) ∈ rg_facts := List.mem_of_getElem? (i := 40) rfl
theorem rf41 : (va_Nw (.fieldLinkNest "RegisterColours$Proof" 39 "RegisterColours$Graph" "node" "[I" "RegisterColours")) ∈ rg_facts := List.mem_of_getElem? (i := 41) rfl
theorem rf42 : (va_Nw (.fieldLinkNest "RegisterColours$Proof" 42 "RegisterColours$Graph" "kindOf" "[I" "RegisterColours")) ∈ rg_facts := List.mem_of_getElem? (i := 42) rfl
theorem rf43 : (va_Nw (.fieldLinkNest "RegisterColours$Reader" 170 "RegisterColours$Step" "n" "I" "RegisterColours")) ∈ rg_facts := List.mem_of_getElem? (i := 43) rfl
theorem rf44 : (va_Nw (.fieldLinkNest "RegisterColours$Reader" 30 "RegisterColours" "taped" "I" "RegisterColours")) ∈ rg_facts := List.mem_of_getElem? (i := 44) rfl
theorem rf45 : (va_Nw (.fieldLinkNest "RegisterColours$Reader" 33 "RegisterColours" "tape" "[B" "RegisterColours")) ∈ rg_facts := List.mem_of_getElem? (i := 45) rfl
theorem rf46 : (va_Nw (.fieldLinkNest "RegisterColours$Allocating" 61 "RegisterColours$Left" "rounds" "I" "RegisterColours")) ∈ rg_facts := List.mem_of_getElem? (i := 46) rfl
theorem rf47 : (va_Nw (.fieldLinkNest "RegisterColours$Allocating" 64 "RegisterColours$Left" "optimistic" "I" "RegisterColours")) ∈ rg_facts := List.mem_of_getElem? (i := 47) rfl
theorem rf48 : (va_Nw (.fieldLinkNest "RegisterColours$Allocating" 67 "RegisterColours$Graph" "optimistic" "I" "RegisterColours")) ∈ rg_facts := List.mem_of_getElem? (i := 48) rfl
theorem rf49 : (va_Nw (.fieldLinkNest "RegisterColours$Allocating" 74 "RegisterColours$Left" "code" "LRegisterColours$Code;" "RegisterColours")) ∈ rg_facts := List.mem_of_getElem? (i := 49) rfl
theorem rf50 : (va_Nw (.fieldLinkNest "RegisterColours$Allocating" 78 "RegisterColours$Left" "graph" "LRegisterColours$Graph;" "RegisterColours")) ∈ rg_facts := List.mem_of_getElem? (i := 50) rfl
theorem rf51 : (va_Nw (.fieldLinkNest "RegisterColours$Allocating" 172 "RegisterColours$Left" "nodes" "I" "RegisterColours")) ∈ rg_facts := List.mem_of_getElem? (i := 51) rfl
theorem rf52 : (va_Nw (.fieldLinkNest "RegisterColours$Allocating" 175 "RegisterColours$Left" "anew" "I" "RegisterColours")) ∈ rg_facts := List.mem_of_getElem? (i := 52) rfl
theorem rf53 : (va_Nw (.fieldLinkNest "RegisterColours$Allocating" 178 "RegisterColours$Home" "isMadeAnew" "Z" "RegisterColours")) ∈ rg_facts := List.mem_of_getElem? (i := 53) rfl
theorem rf54 : (va_Nw (.fieldLinkNest "RegisterColours$Allocating" 182 "RegisterColours$Left" "cost" "J" "RegisterColours")) ∈ rg_facts := List.mem_of_getElem? (i := 54) rfl
theorem rf55 : (va_Nw (.fieldLinkNest "RegisterColours$Allocating" 186 "RegisterColours$Graph" "cost" "[J" "RegisterColours")) ∈ rg_facts := List.mem_of_getElem? (i := 55) rfl
theorem rf56 : (va_Nw (.fieldLinkNest "RegisterColours$Allocating" 122 "RegisterColours$Graph" "node" "[I" "RegisterColours")) ∈ rg_facts := List.mem_of_getElem? (i := 56) rfl
theorem rf57 : (va_Nw (.fieldLinkNest "RegisterColours$Allocating" 193 "RegisterColours$Left" "spilled" "[I" "RegisterColours")) ∈ rg_facts := List.mem_of_getElem? (i := 57) rfl
theorem rf58 : (va_Nw (.fieldLinkNest "RegisterColours$Allocating" 98 "RegisterColours$Code" "steps" "Ljava/util/ArrayList;" "RegisterColours")) ∈ rg_facts := List.mem_of_getElem? (i := 58) rfl
theorem rf59 : (va_Nw (.fieldLinkNest "RegisterColours$Allocating" 119 "RegisterColours$Step" "makes" "I" "RegisterColours")) ∈ rg_facts := List.mem_of_getElem? (i := 59) rfl
theorem rf60 : (va_Nw (.fieldLinkNest "RegisterColours$Allocating" 129 "RegisterColours$Step" "kind" "I" "RegisterColours")) ∈ rg_facts := List.mem_of_getElem? (i := 60) rfl
theorem rf61 : (va_Nw (.fieldLinkNest "RegisterColours$Allocating" 132 "RegisterColours$Step" "n" "I" "RegisterColours")) ∈ rg_facts := List.mem_of_getElem? (i := 61) rfl
theorem rf62 : (va_Nw (.fieldLinkNest "RegisterColours$Allocating" 140 "RegisterColours$Left" "slots" "I" "RegisterColours")) ∈ rg_facts := List.mem_of_getElem? (i := 62) rfl
theorem rf63 : (va_Nw (.fieldLinkNest "RegisterColours$Allocating" 147 "RegisterColours$Step" "a" "I" "RegisterColours")) ∈ rg_facts := List.mem_of_getElem? (i := 63) rfl
theorem rf64 : (va_Nw (.fieldLinkNest "RegisterColours$Allocating" 196 "RegisterColours$Step" "b" "I" "RegisterColours")) ∈ rg_facts := List.mem_of_getElem? (i := 64) rfl
theorem rf65 : (va_Nw (.fieldLinkNest "RegisterColours$Allocating" 215 "RegisterColours$Home" "slot" "I" "RegisterColours")) ∈ rg_facts := List.mem_of_getElem? (i := 65) rfl
theorem rf66 : (va_Nw (.fieldLinkNest "RegisterColours$Allocating" 209 "RegisterColours$Home" "number" "I" "RegisterColours")) ∈ rg_facts := List.mem_of_getElem? (i := 66) rfl
theorem rf67 : (va_Nw (.fieldLinkNest "RegisterColours$Graph" 84 "RegisterColours$Code" "steps" "Ljava/util/ArrayList;" "RegisterColours")) ∈ rg_facts := List.mem_of_getElem? (i := 67) rfl
theorem rf68 : (va_Nw (.fieldLinkNest "RegisterColours$Graph" 105 "RegisterColours$Step" "a" "I" "RegisterColours")) ∈ rg_facts := List.mem_of_getElem? (i := 68) rfl
theorem rf69 : (va_Nw (.fieldLinkNest "RegisterColours$Graph" 108 "RegisterColours$Code" "weight" "[I" "RegisterColours")) ∈ rg_facts := List.mem_of_getElem? (i := 69) rfl
theorem rf70 : (va_Nw (.fieldLinkNest "RegisterColours$Graph" 114 "RegisterColours$Step" "b" "I" "RegisterColours")) ∈ rg_facts := List.mem_of_getElem? (i := 70) rfl
theorem rf71 : (va_Nw (.fieldLinkNest "RegisterColours$Graph" 117 "RegisterColours$Step" "kind" "I" "RegisterColours")) ∈ rg_facts := List.mem_of_getElem? (i := 71) rfl
theorem rf72 : (va_Nw (.fieldLinkNest "RegisterColours$Graph" 120 "RegisterColours$Step" "makes" "I" "RegisterColours")) ∈ rg_facts := List.mem_of_getElem? (i := 72) rfl
theorem rf73 : (va_Nw (.fieldLinkNest "RegisterColours$Graph" 123 "RegisterColours$Code" "clobbered" "I" "RegisterColours")) ∈ rg_facts := List.mem_of_getElem? (i := 73) rfl
theorem rf74 : (va_Nw (.fieldLinkNest "RegisterColours$Graph" 179 "RegisterColours$Move" "x" "I" "RegisterColours")) ∈ rg_facts := List.mem_of_getElem? (i := 74) rfl
theorem rf75 : (va_Nw (.fieldLinkNest "RegisterColours$Graph" 184 "RegisterColours$Move" "y" "I" "RegisterColours")) ∈ rg_facts := List.mem_of_getElem? (i := 75) rfl
theorem rf76 : (va_Nw (.fieldLinkNest "RegisterColours$ByWeight" 7 "RegisterColours$Move" "weight" "I" "RegisterColours")) ∈ rg_facts := List.mem_of_getElem? (i := 76) rfl
theorem rf77 : (va_Nw (.fieldLinkNest "RegisterColours$ByWeight" 13 "RegisterColours$Move" "step" "I" "RegisterColours")) ∈ rg_facts := List.mem_of_getElem? (i := 77) rfl
theorem rf78 : (va_Nw (.fieldLinkNest "RegisterColours$Machine" 98 "RegisterColours$Code" "steps" "Ljava/util/ArrayList;" "RegisterColours")) ∈ rg_facts := List.mem_of_getElem? (i := 78) rfl
theorem rf79 : (va_Nw (.fieldLinkNest "RegisterColours$Machine" 49 "RegisterColours$Step" "kind" "I" "RegisterColours")) ∈ rg_facts := List.mem_of_getElem? (i := 79) rfl
theorem rf80 : (va_Nw (.fieldLinkNest "RegisterColours$Machine" 63 "RegisterColours$Step" "a" "I" "RegisterColours")) ∈ rg_facts := List.mem_of_getElem? (i := 80) rfl
theorem rf81 : (va_Nw (.fieldLinkNest "RegisterColours$Machine" 95 "RegisterColours$Step" "b" "I" "RegisterColours")) ∈ rg_facts := List.mem_of_getElem? (i := 81) rfl
theorem rf82 : (va_Nw (.fieldLinkNest "RegisterColours$Machine" 52 "RegisterColours$Step" "n" "I" "RegisterColours")) ∈ rg_facts := List.mem_of_getElem? (i := 82) rfl
theorem rf83 : (va_Nw (.fieldLinkNest "RegisterColours$Machine" 36 "RegisterColours$Step" "makes" "I" "RegisterColours")) ∈ rg_facts := List.mem_of_getElem? (i := 83) rfl
theorem rf84 : (va_Nw (.fieldLinkNest "RegisterColours$Machine" 45 "RegisterColours" "isWide" "Z" "RegisterColours")) ∈ rg_facts := List.mem_of_getElem? (i := 84) rfl
theorem rf85 : (va_Nw (.fieldLinkNest "RegisterColours$Machine" 78 "RegisterColours" "makings" "[LRegisterColours$Making;" "RegisterColours")) ∈ rg_facts := List.mem_of_getElem? (i := 85) rfl
theorem rf86 : (va_Nw (.fieldLinkNest "RegisterColours$Machine" 23 "RegisterColours" "inputs" "I" "RegisterColours")) ∈ rg_facts := List.mem_of_getElem? (i := 86) rfl
theorem rf87 : (va_Nw (.fieldLinkNest "RegisterColours$Machine" 26 "RegisterColours" "input" "[I" "RegisterColours")) ∈ rg_facts := List.mem_of_getElem? (i := 87) rfl
theorem rf88 : (va_Nw (.fieldLinkNest "RegisterColours$ByValues" 9 "RegisterColours" "code" "LRegisterColours$Code;" "RegisterColours")) ∈ rg_facts := List.mem_of_getElem? (i := 88) rfl
theorem rf89 : (va_Nw (.fieldLinkNest "RegisterColours$ByRegisters" 9 "RegisterColours$Left" "code" "LRegisterColours$Code;" "RegisterColours")) ∈ rg_facts := List.mem_of_getElem? (i := 89) rfl
theorem rf90 : (va_Nw (.fieldLinkNest "RegisterColours$ByRegisters" 32 "RegisterColours$Left" "graph" "LRegisterColours$Graph;" "RegisterColours")) ∈ rg_facts := List.mem_of_getElem? (i := 90) rfl
theorem rf91 : (va_Nw (.fieldLinkNest "RegisterColours$ByRegisters" 50 "RegisterColours$Graph" "kindOf" "[I" "RegisterColours")) ∈ rg_facts := List.mem_of_getElem? (i := 91) rfl
theorem rf92 : (va_Nw (.fieldLinkNest "RegisterColours$ByRegisters" 39 "RegisterColours$Graph" "colour" "[I" "RegisterColours")) ∈ rg_facts := List.mem_of_getElem? (i := 92) rfl
theorem rf93 : (va_Nw (.fieldLinkNest "RegisterColours$ByRegisters" 44 "RegisterColours$Graph" "node" "[I" "RegisterColours")) ∈ rg_facts := List.mem_of_getElem? (i := 93) rfl
theorem rf94 : (va_Nw (.fieldLinkNest "RegisterColours$ByRegisters" 59 "RegisterColours$Step" "kind" "I" "RegisterColours")) ∈ rg_facts := List.mem_of_getElem? (i := 94) rfl
theorem rf95 : (va_Nw (.fieldLinkNest "RegisterColours$ByRegisters" 65 "RegisterColours$Step" "makes" "I" "RegisterColours")) ∈ rg_facts := List.mem_of_getElem? (i := 95) rfl
theorem rf96 : (va_Nw (.fieldLinkNest "RegisterColours$ByRegisters" 68 "RegisterColours$Step" "n" "I" "RegisterColours")) ∈ rg_facts := List.mem_of_getElem? (i := 96) rfl
theorem rf97 : (va_Nw (.fieldLinkNest "RegisterColours$ByRegisters" 75 "RegisterColours$Step" "a" "I" "RegisterColours")) ∈ rg_facts := List.mem_of_getElem? (i := 97) rfl
theorem rf98 : (va_Nw (.fieldLinkNest "RegisterColours$ByRegisters" 81 "RegisterColours" "clobbered" "I" "RegisterColours")) ∈ rg_facts := List.mem_of_getElem? (i := 98) rfl
theorem rf99 : (va_Nw (.castable "java/lang/Integer" "java/lang/Comparable")) ∈ rg_facts := List.mem_of_getElem? (i := 99) rfl
theorem rf100 : (va_Nw (.fieldLinkNest "java/util/ArrayList$Itr" 28 "java/util/ArrayList" "size" "I" "java/util/ArrayList")) ∈ rg_facts := List.mem_of_getElem? (i := 100) rfl
theorem rf101 : (va_Nw (.fieldLinkNest "java/util/TreeMap$PrivateEntryIterator" 13 "java/util/TreeMap" "modCount" "I" "java/util/TreeMap")) ∈ rg_facts := List.mem_of_getElem? (i := 101) rfl
theorem rf102 : (va_Nw (.castable "RegisterColours$Step" "java/lang/Object")) ∈ rg_facts := List.mem_of_getElem? (i := 102) rfl
theorem rf103 : (va_Nw (.castable "java/util/BitSet" "java/lang/Object")) ∈ rg_facts := List.mem_of_getElem? (i := 103) rfl
theorem rf104 : (va_Nw (.castable "RegisterColours$Move" "java/lang/Object")) ∈ rg_facts := List.mem_of_getElem? (i := 104) rfl
theorem rf105 : (va_Nw (.castable "java/lang/Integer" "java/lang/Object")) ∈ rg_facts := List.mem_of_getElem? (i := 105) rfl
theorem rf106 : (va_Nw (.methodLinkNest "RegisterColours" 76 ⟨"RegisterColours$Proof", "<init>", "(LRegisterColours;)V"⟩ "RegisterColours")) ∈ rg_facts := List.mem_of_getElem? (i := 106) rfl
theorem rf107 : (va_Nw (.methodLinkNest "RegisterColours" 149 ⟨"RegisterColours$Reader", "<init>", "(LRegisterColours;)V"⟩ "RegisterColours")) ∈ rg_facts := List.mem_of_getElem? (i := 107) rfl
theorem rf108 : (va_IF "java/util/ArrayList$Itr" ⟨"java/util/Iterator", "hasNext", "()Z"⟩ ⟨"java/util/ArrayList$Itr", "hasNext", "()Z"⟩) ∈ rg_facts := List.mem_of_getElem? (i := 108) rfl
theorem rf109 : (va_IF "java/util/TreeMap$KeyIterator" ⟨"java/util/Iterator", "hasNext", "()Z"⟩ ⟨"java/util/TreeMap$PrivateEntryIterator", "hasNext", "()Z"⟩) ∈ rg_facts := List.mem_of_getElem? (i := 109) rfl
theorem rf110 : (va_IF "java/util/ArrayList$Itr" ⟨"java/util/Iterator", "next", "()Ljava/lang/Object;"⟩ ⟨"java/util/ArrayList$Itr", "next", "()Ljava/lang/Object;"⟩) ∈ rg_facts := List.mem_of_getElem? (i := 110) rfl
theorem rf111 : (va_IF "java/util/TreeMap$KeyIterator" ⟨"java/util/Iterator", "next", "()Ljava/lang/Object;"⟩ ⟨"java/util/TreeMap$KeyIterator", "next", "()Ljava/lang/Object;"⟩) ∈ rg_facts := List.mem_of_getElem? (i := 111) rfl
theorem rf112 : (va_Nw (.methodLinkNest "RegisterColours$Code" 63 ⟨"RegisterColours", "isIn", "(III)Z"⟩ "RegisterColours")) ∈ rg_facts := List.mem_of_getElem? (i := 112) rfl
theorem rf113 : (va_Nw (.methodLinkNest "RegisterColours$Reader" 37 ⟨"RegisterColours", "isIn", "(III)Z"⟩ "RegisterColours")) ∈ rg_facts := List.mem_of_getElem? (i := 113) rfl
theorem rf114 : (va_Nw (.methodLinkNest "RegisterColours$Reader" 117 ⟨"RegisterColours", "classOf", "(I)I"⟩ "RegisterColours")) ∈ rg_facts := List.mem_of_getElem? (i := 114) rfl
theorem rf115 : (va_Nw (.methodLinkNest "RegisterColours$Allocating" 11 ⟨"RegisterColours$Left", "<init>", "()V"⟩ "RegisterColours")) ∈ rg_facts := List.mem_of_getElem? (i := 115) rfl
theorem rf116 : (va_Nw (.methodLinkNest "RegisterColours$Allocating" 42 ⟨"RegisterColours", "classOf", "(I)I"⟩ "RegisterColours")) ∈ rg_facts := List.mem_of_getElem? (i := 116) rfl
theorem rf117 : (va_Nw (.methodLinkNest "RegisterColours$Allocating" 84 ⟨"RegisterColours$Failed", "<init>", "()V"⟩ "RegisterColours")) ∈ rg_facts := List.mem_of_getElem? (i := 117) rfl
theorem rf118 : (va_Nw (.methodLinkNest "RegisterColours$Graph" 204 ⟨"RegisterColours$ByWeight", "<init>", "()V"⟩ "RegisterColours")) ∈ rg_facts := List.mem_of_getElem? (i := 118) rfl
theorem rf119 : (va_Nw (.methodLinkNest "RegisterColours$ByValues" 23 ⟨"RegisterColours", "classOf", "(I)I"⟩ "RegisterColours")) ∈ rg_facts := List.mem_of_getElem? (i := 119) rfl
theorem rf120 : (va_IF "RegisterColours$ByWeight" ⟨"java/util/Comparator", "compare", "(Ljava/lang/Object;Ljava/lang/Object;)I"⟩ ⟨"RegisterColours$ByWeight", "compare", "(Ljava/lang/Object;Ljava/lang/Object;)I"⟩) ∈ rg_facts := List.mem_of_getElem? (i := 120) rfl
theorem rf121 : (va_IF "java/lang/Integer" ⟨"java/lang/Comparable", "compareTo", "(Ljava/lang/Object;)I"⟩ ⟨"java/lang/Integer", "compareTo", "(Ljava/lang/Object;)I"⟩) ∈ rg_facts := List.mem_of_getElem? (i := 121) rfl
theorem rf122 : (va_IF "java/util/TreeMap" ⟨"java/util/NavigableMap", "navigableKeySet", "()Ljava/util/NavigableSet;"⟩ ⟨"java/util/TreeMap", "navigableKeySet", "()Ljava/util/NavigableSet;"⟩) ∈ rg_facts := List.mem_of_getElem? (i := 122) rfl
theorem rf123 : (va_IF "java/util/TreeMap$KeySet" ⟨"java/util/NavigableSet", "iterator", "()Ljava/util/Iterator;"⟩ ⟨"java/util/TreeMap$KeySet", "iterator", "()Ljava/util/Iterator;"⟩) ∈ rg_facts := List.mem_of_getElem? (i := 123) rfl
theorem rf124 : (va_Nw (.methodLink "java/util/TreeSet" 53 ⟨"java/util/NavigableMap", "size", "()I"⟩)) ∈ rg_facts := List.mem_of_getElem? (i := 124) rfl
theorem rf125 : (va_IFU "java/util/TreeMap" ⟨"java/util/NavigableMap", "size", "()I"⟩ "java/util/Map" ⟨"java/util/TreeMap", "size", "()I"⟩) ∈ rg_facts := List.mem_of_getElem? (i := 125) rfl
theorem rf126 : (va_Nw (.methodLink "java/util/TreeSet" 69 ⟨"java/util/NavigableMap", "put", "(Ljava/lang/Object;Ljava/lang/Object;)Ljava/lang/Object;"⟩)) ∈ rg_facts := List.mem_of_getElem? (i := 126) rfl
theorem rf127 : (va_IFU "java/util/TreeMap" ⟨"java/util/NavigableMap", "put", "(Ljava/lang/Object;Ljava/lang/Object;)Ljava/lang/Object;"⟩ "java/util/Map" ⟨"java/util/TreeMap", "put", "(Ljava/lang/Object;Ljava/lang/Object;)Ljava/lang/Object;"⟩) ∈ rg_facts := List.mem_of_getElem? (i := 127) rfl
theorem rf128 : (va_Nw (.methodLink "java/util/TreeSet" 57 ⟨"java/util/NavigableMap", "isEmpty", "()Z"⟩)) ∈ rg_facts := List.mem_of_getElem? (i := 128) rfl
theorem rf129 : (va_IFU "java/util/TreeMap" ⟨"java/util/NavigableMap", "isEmpty", "()Z"⟩ "java/util/Map" ⟨"java/util/AbstractMap", "isEmpty", "()Z"⟩) ∈ rg_facts := List.mem_of_getElem? (i := 129) rfl
theorem rf130 : (va_Nw (.methodLink "java/util/TreeSet" 73 ⟨"java/util/NavigableMap", "remove", "(Ljava/lang/Object;)Ljava/lang/Object;"⟩)) ∈ rg_facts := List.mem_of_getElem? (i := 130) rfl
theorem rf131 : (va_IFU "java/util/TreeMap" ⟨"java/util/NavigableMap", "remove", "(Ljava/lang/Object;)Ljava/lang/Object;"⟩ "java/util/Map" ⟨"java/util/TreeMap", "remove", "(Ljava/lang/Object;)Ljava/lang/Object;"⟩) ∈ rg_facts := List.mem_of_getElem? (i := 131) rfl
theorem rf132 : (va_Nw (.methodLink "java/util/TreeSet" 61 ⟨"java/util/NavigableMap", "containsKey", "(Ljava/lang/Object;)Z"⟩)) ∈ rg_facts := List.mem_of_getElem? (i := 132) rfl
theorem rf133 : (va_IFU "java/util/TreeMap" ⟨"java/util/NavigableMap", "containsKey", "(Ljava/lang/Object;)Z"⟩ "java/util/Map" ⟨"java/util/TreeMap", "containsKey", "(Ljava/lang/Object;)Z"⟩) ∈ rg_facts := List.mem_of_getElem? (i := 133) rfl
theorem rf134 : (va_Nw (.methodLink "java/util/TreeMap$KeySet" 26 ⟨"java/util/NavigableMap", "size", "()I"⟩)) ∈ rg_facts := List.mem_of_getElem? (i := 134) rfl
theorem rf135 : (va_Nw (.selects "RegisterColours$ByValues" ⟨"RegisterColours$Machine", "does", "(LRegisterColours$Step;)V"⟩ ⟨"RegisterColours$Machine", "does", "(LRegisterColours$Step;)V"⟩)) ∈ rg_facts := List.mem_of_getElem? (i := 135) rfl
theorem rf136 : (va_Nw (.selects "RegisterColours$ByRegisters" ⟨"RegisterColours$Machine", "does", "(LRegisterColours$Step;)V"⟩ ⟨"RegisterColours$Machine", "does", "(LRegisterColours$Step;)V"⟩)) ∈ rg_facts := List.mem_of_getElem? (i := 136) rfl
theorem rf137 : (va_Nw (.declares ⟨"RegisterColours$Machine", "at", "(I)J"⟩)) ∈ rg_facts := List.mem_of_getElem? (i := 137) rfl
theorem rf138 : (va_Nw (.declares ⟨"RegisterColours$Machine", "isPair", "(I)Z"⟩)) ∈ rg_facts := List.mem_of_getElem? (i := 138) rfl
theorem rf139 : (va_Nw (.declares ⟨"RegisterColours$Machine", "puts", "(IJ)V"⟩)) ∈ rg_facts := List.mem_of_getElem? (i := 139) rfl
theorem rf140 : (va_Nw (.selects "RegisterColours$ByValues" ⟨"RegisterColours$Machine", "in", "()J"⟩ ⟨"RegisterColours$Machine", "in", "()J"⟩)) ∈ rg_facts := List.mem_of_getElem? (i := 140) rfl
theorem rf141 : (va_Nw (.selects "RegisterColours$ByRegisters" ⟨"RegisterColours$Machine", "in", "()J"⟩ ⟨"RegisterColours$Machine", "in", "()J"⟩)) ∈ rg_facts := List.mem_of_getElem? (i := 141) rfl
theorem rf142 : (va_Nw (.selects "RegisterColours$ByValues" ⟨"RegisterColours$Machine", "tells", "(J)V"⟩ ⟨"RegisterColours$Machine", "tells", "(J)V"⟩)) ∈ rg_facts := List.mem_of_getElem? (i := 142) rfl
theorem rf143 : (va_Nw (.selects "RegisterColours$ByRegisters" ⟨"RegisterColours$Machine", "tells", "(J)V"⟩ ⟨"RegisterColours$Machine", "tells", "(J)V"⟩)) ∈ rg_facts := List.mem_of_getElem? (i := 143) rfl
theorem rf144 : (va_Nw (.declares ⟨"RegisterColours$Machine", "slot", "(LRegisterColours$Step;)V"⟩)) ∈ rg_facts := List.mem_of_getElem? (i := 144) rfl
theorem rf145 : (va_Nw (.declares ⟨"RegisterColours$Machine", "clobbers", "()V"⟩)) ∈ rg_facts := List.mem_of_getElem? (i := 145) rfl
theorem rf146 : (va_Nw (.declares ⟨"java/util/AbstractCollection", "size", "()I"⟩)) ∈ rg_facts := List.mem_of_getElem? (i := 146) rfl
theorem rf147 : (va_Nw (.declares ⟨"java/util/AbstractMap", "size", "()I"⟩)) ∈ rg_facts := List.mem_of_getElem? (i := 147) rfl
theorem rf148 : (va_Dc) ∈ rg_facts := List.mem_of_getElem? (i := 148) rfl
theorem rf149 : (va_Nw (.declares ⟨"RegisterColours$Making", "of", "(JJ)J"⟩)) ∈ rg_facts := List.mem_of_getElem? (i := 149) rfl
theorem rf150 : (va_Nw (.interfaceMethod "RegisterColours$Making" "RegisterColours$Making" "of" "(JJ)J")) ∈ rg_facts := List.mem_of_getElem? (i := 150) rfl
theorem rf151 : (va_Nw (.declares ⟨"RegisterColours$Safety", "of", "(II)Z"⟩)) ∈ rg_facts := List.mem_of_getElem? (i := 151) rfl
theorem rf152 : (va_Nw (.interfaceMethod "RegisterColours$Safety" "RegisterColours$Safety" "of" "(II)Z")) ∈ rg_facts := List.mem_of_getElem? (i := 152) rfl
theorem rf153 : (va_Nw (.declares (Bundle.init0 Bundle.tN))) ∈ rg_facts := List.mem_of_getElem? (i := 153) rfl
theorem rf154 : (va_AO "java/lang/Object") ∈ rg_facts := List.mem_of_getElem? (i := 154) rfl
theorem rf155 : (va_AO "RegisterColours$Safety") ∈ rg_facts := List.mem_of_getElem? (i := 155) rfl
theorem rf156 : (va_AO "RegisterColours$Making") ∈ rg_facts := List.mem_of_getElem? (i := 156) rfl
