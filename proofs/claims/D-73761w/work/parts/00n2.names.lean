/-! java/util/AbstractCollection -/
set_option maxRecDepth 100000
def RJ0 : String := "java/util/AbstractCollection"
abbrev cJ0_init : ByteArray := prog_39_method_1_code
def yJ0_init : MethodName := ⟨RJ0, "<init>", "()V"⟩
theorem dJ0_init_0 : decode cJ0_init 0 = .ok (.aload_n 0, 1) := by decide +kernel
theorem dJ0_init_1 : decode cJ0_init 1 = .ok (.invokespecial 1, 3) := by decide +kernel
theorem dJ0_init_4 : decode cJ0_init 4 = .ok (.return_, 1) := by decide +kernel
abbrev cJ0_isEmpty : ByteArray := prog_39_method_4_code
def yJ0_isEmpty : MethodName := ⟨RJ0, "isEmpty", "()Z"⟩
def dkwJ0_isEmpty_0 : List UInt8 := [42, 182, 0, 7, 154, 0, 7, 4, 167, 0, 4, 3, 172]
abbrev dktJ0_isEmpty_0 : List UInt8 := dkwJ0_isEmpty_0 ++ []
theorem dksJ0_isEmpty_0 : cJ0_isEmpty.data.toList.drop 0 = dktJ0_isEmpty_0 := by decide +kernel
theorem dJ0_isEmpty_0 : decode cJ0_isEmpty 0 = .ok (.aload_n 0, 1) := dk_42 (dk_at dksJ0_isEmpty_0 0 rfl rfl)
theorem dJ0_isEmpty_1 : decode cJ0_isEmpty 1 = .ok (.invokevirtual 7, 3) := dk_182 0 7 (dk_at dksJ0_isEmpty_0 1 rfl rfl)
theorem dJ0_isEmpty_4 : decode cJ0_isEmpty 4 = .ok (.ifCond .ne 7, 3) := dk_154 0 7 (dk_at dksJ0_isEmpty_0 4 rfl rfl)
theorem dJ0_isEmpty_7 : decode cJ0_isEmpty 7 = .ok (.iconst 1, 1) := dk_4 (dk_at dksJ0_isEmpty_0 7 rfl rfl)
theorem dJ0_isEmpty_8 : decode cJ0_isEmpty 8 = .ok (.goto 4, 3) := dk_167 0 4 (dk_at dksJ0_isEmpty_0 8 rfl rfl)
theorem dJ0_isEmpty_11 : decode cJ0_isEmpty 11 = .ok (.iconst 0, 1) := dk_3 (dk_at dksJ0_isEmpty_0 11 rfl rfl)
theorem dJ0_isEmpty_12 : decode cJ0_isEmpty 12 = .ok (.ireturn, 1) := dk_172 (dk_at dksJ0_isEmpty_0 12 rfl rfl)
theorem q187 : (Jvm.Cond.initialized "java/util/AbstractCollection") ∈ lw_all := lw_g (lw_at lw_m1 2 rfl) rfl
theorem q253 : (Jvm.Cond.instanceMethod ({ cls := "java/util/AbstractCollection", name := "<init>", desc := "()V" } : Jvm.MethodName)) ∈ lw_all := lw_g (lw_at lw_m1 68 rfl) rfl
theorem q254 : (Jvm.Cond.code ({ cls := "java/util/AbstractCollection", name := "<init>", desc := "()V" } : Jvm.MethodName) prog_39_method_1_code (1 : Nat) (Option.none : Option Jvm.ClassFile.FieldType)) ∈ lw_all := lw_g (lw_at lw_m1 69 rfl) rfl
theorem q255 : (Jvm.Cond.methodLink "java/util/AbstractCollection" (1 : Nat) ({ cls := "java/lang/Object", name := "<init>", desc := "()V" } : Jvm.MethodName)) ∈ lw_all := lw_g (lw_at lw_m1 70 rfl) rfl
theorem q1538 : (Jvm.Cond.declares ({ cls := "java/util/AbstractCollection", name := "isEmpty", desc := "()Z" } : Jvm.MethodName)) ∈ lw_tbl := lw_at lw_m6 153 rfl
theorem q1540 : (Jvm.Cond.instanceMethod ({ cls := "java/util/AbstractCollection", name := "isEmpty", desc := "()Z" } : Jvm.MethodName)) ∈ lw_all := lw_g (lw_at lw_m6 155 rfl) rfl
theorem q1541 : (Jvm.Cond.code ({ cls := "java/util/AbstractCollection", name := "isEmpty", desc := "()Z" } : Jvm.MethodName) prog_39_method_4_code (1 : Nat) (Option.some Jvm.ClassFile.FieldType.boolean)) ∈ lw_all := lw_g (lw_at lw_m6 156 rfl) rfl
theorem q1542 : (Jvm.Cond.methodLink "java/util/AbstractCollection" (7 : Nat) ({ cls := "java/util/AbstractCollection", name := "size", desc := "()I" } : Jvm.MethodName)) ∈ lw_all := lw_g (lw_at lw_m6 157 rfl) rfl
theorem q1543 : (Jvm.Cond.declares ({ cls := "java/util/AbstractCollection", name := "size", desc := "()I" } : Jvm.MethodName)) ∈ lw_tbl := lw_at lw_m6 158 rfl
theorem q1544 : (Jvm.Cond.sameMethod "java/util/AbstractCollection" "java/util/AbstractCollection" "size" "()I") ∈ lw_all := lw_g (lw_at lw_m6 159 rfl) rfl
/-! java/util/AbstractList -/
set_option maxRecDepth 100000
def RJ1 : String := "java/util/AbstractList"
abbrev cJ1_init : ByteArray := prog_40_method_1_code
def yJ1_init : MethodName := ⟨RJ1, "<init>", "()V"⟩
def dkwJ1_init_0 : List UInt8 := [42, 183, 0, 1, 42, 3, 181, 0, 7, 177]
abbrev dktJ1_init_0 : List UInt8 := dkwJ1_init_0 ++ []
theorem dksJ1_init_0 : cJ1_init.data.toList.drop 0 = dktJ1_init_0 := by decide +kernel
theorem dJ1_init_0 : decode cJ1_init 0 = .ok (.aload_n 0, 1) := dk_42 (dk_at dksJ1_init_0 0 rfl rfl)
theorem dJ1_init_1 : decode cJ1_init 1 = .ok (.invokespecial 1, 3) := dk_183 0 1 (dk_at dksJ1_init_0 1 rfl rfl)
theorem dJ1_init_4 : decode cJ1_init 4 = .ok (.aload_n 0, 1) := dk_42 (dk_at dksJ1_init_0 4 rfl rfl)
theorem dJ1_init_5 : decode cJ1_init 5 = .ok (.iconst 0, 1) := dk_3 (dk_at dksJ1_init_0 5 rfl rfl)
theorem dJ1_init_6 : decode cJ1_init 6 = .ok (.putfield 7, 3) := dk_181 0 7 (dk_at dksJ1_init_0 6 rfl rfl)
theorem dJ1_init_9 : decode cJ1_init 9 = .ok (.return_, 1) := dk_177 (dk_at dksJ1_init_0 9 rfl rfl)
theorem q188 : (Jvm.Cond.initialized "java/util/AbstractList") ∈ lw_all := lw_g (lw_at lw_m1 3 rfl) rfl
theorem q250 : (Jvm.Cond.instanceMethod ({ cls := "java/util/AbstractList", name := "<init>", desc := "()V" } : Jvm.MethodName)) ∈ lw_all := lw_g (lw_at lw_m1 65 rfl) rfl
theorem q251 : (Jvm.Cond.code ({ cls := "java/util/AbstractList", name := "<init>", desc := "()V" } : Jvm.MethodName) prog_40_method_1_code (1 : Nat) (Option.none : Option Jvm.ClassFile.FieldType)) ∈ lw_all := lw_g (lw_at lw_m1 66 rfl) rfl
theorem q252 : (Jvm.Cond.methodLink "java/util/AbstractList" (1 : Nat) ({ cls := "java/util/AbstractCollection", name := "<init>", desc := "()V" } : Jvm.MethodName)) ∈ lw_all := lw_g (lw_at lw_m1 67 rfl) rfl
theorem q262 : (Jvm.Cond.fieldLink "java/util/AbstractList" (7 : Nat) "java/util/AbstractList" "modCount" "I") ∈ lw_all := lw_g (lw_at lw_m1 77 rfl) rfl
theorem q271 : (Jvm.Cond.soleField "java/util/AbstractList" "modCount") ∈ lw_all := lw_g (lw_at lw_m1 86 rfl) rfl
/-! java/lang/Long -/
set_option maxRecDepth 100000
def RJ10 : String := "java/lang/Long"
abbrev cJ10_bitCount : ByteArray := prog_29_method_50_code
def yJ10_bitCount : MethodName := ⟨RJ10, "bitCount", "(J)I"⟩
def dkwJ10_bitCount_2 : List UInt8 := [30, 30, 16, 32, 125, 97, 63, 30, 136, 16, 127, 126, 172]
abbrev dktJ10_bitCount_2 : List UInt8 := dkwJ10_bitCount_2 ++ []
def dkwJ10_bitCount_1 : List UInt8 := [30, 30, 7, 125, 97, 20, 1, 62, 127, 63, 30, 30, 16, 8, 125, 97, 63, 30, 30, 16, 16, 125, 97, 63]
abbrev dktJ10_bitCount_1 : List UInt8 := dkwJ10_bitCount_1 ++ dktJ10_bitCount_2
def dkwJ10_bitCount_0 : List UInt8 := [30, 30, 4, 125, 20, 1, 58, 127, 101, 63, 30, 20, 1, 60, 127, 30, 5, 125, 20, 1, 60, 127, 97, 63]
abbrev dktJ10_bitCount_0 : List UInt8 := dkwJ10_bitCount_0 ++ dktJ10_bitCount_1
theorem dksJ10_bitCount_0 : cJ10_bitCount.data.toList.drop 0 = dktJ10_bitCount_0 := by decide +kernel
theorem dksJ10_bitCount_1 : cJ10_bitCount.data.toList.drop 24 = dktJ10_bitCount_1 := dk_seg dksJ10_bitCount_0 24 rfl rfl
theorem dksJ10_bitCount_2 : cJ10_bitCount.data.toList.drop 48 = dktJ10_bitCount_2 := dk_seg dksJ10_bitCount_1 24 rfl rfl
theorem dJ10_bitCount_0 : decode cJ10_bitCount 0 = .ok (.lload_n 0, 1) := dk_30 (dk_at dksJ10_bitCount_0 0 rfl rfl)
theorem dJ10_bitCount_1 : decode cJ10_bitCount 1 = .ok (.lload_n 0, 1) := dk_30 (dk_at dksJ10_bitCount_0 1 rfl rfl)
theorem dJ10_bitCount_2 : decode cJ10_bitCount 2 = .ok (.iconst 1, 1) := dk_4 (dk_at dksJ10_bitCount_0 2 rfl rfl)
theorem dJ10_bitCount_3 : decode cJ10_bitCount 3 = .ok (.lushr, 1) := dk_125 (dk_at dksJ10_bitCount_0 3 rfl rfl)
theorem dJ10_bitCount_4 : decode cJ10_bitCount 4 = .ok (.ldc2_w 314, 3) := dk_20 1 58 (dk_at dksJ10_bitCount_0 4 rfl rfl)
theorem dJ10_bitCount_7 : decode cJ10_bitCount 7 = .ok (.land, 1) := dk_127 (dk_at dksJ10_bitCount_0 7 rfl rfl)
theorem dJ10_bitCount_8 : decode cJ10_bitCount 8 = .ok (.lsub, 1) := dk_101 (dk_at dksJ10_bitCount_0 8 rfl rfl)
theorem dJ10_bitCount_9 : decode cJ10_bitCount 9 = .ok (.lstore_n 0, 1) := dk_63 (dk_at dksJ10_bitCount_0 9 rfl rfl)
theorem dJ10_bitCount_10 : decode cJ10_bitCount 10 = .ok (.lload_n 0, 1) := dk_30 (dk_at dksJ10_bitCount_0 10 rfl rfl)
theorem dJ10_bitCount_11 : decode cJ10_bitCount 11 = .ok (.ldc2_w 316, 3) := dk_20 1 60 (dk_at dksJ10_bitCount_0 11 rfl rfl)
theorem dJ10_bitCount_14 : decode cJ10_bitCount 14 = .ok (.land, 1) := dk_127 (dk_at dksJ10_bitCount_0 14 rfl rfl)
theorem dJ10_bitCount_15 : decode cJ10_bitCount 15 = .ok (.lload_n 0, 1) := dk_30 (dk_at dksJ10_bitCount_0 15 rfl rfl)
theorem dJ10_bitCount_16 : decode cJ10_bitCount 16 = .ok (.iconst 2, 1) := dk_5 (dk_at dksJ10_bitCount_0 16 rfl rfl)
theorem dJ10_bitCount_17 : decode cJ10_bitCount 17 = .ok (.lushr, 1) := dk_125 (dk_at dksJ10_bitCount_0 17 rfl rfl)
theorem dJ10_bitCount_18 : decode cJ10_bitCount 18 = .ok (.ldc2_w 316, 3) := dk_20 1 60 (dk_at dksJ10_bitCount_0 18 rfl rfl)
theorem dJ10_bitCount_21 : decode cJ10_bitCount 21 = .ok (.land, 1) := dk_127 (dk_at dksJ10_bitCount_0 21 rfl rfl)
theorem dJ10_bitCount_22 : decode cJ10_bitCount 22 = .ok (.ladd, 1) := dk_97 (dk_at dksJ10_bitCount_0 22 rfl rfl)
theorem dJ10_bitCount_23 : decode cJ10_bitCount 23 = .ok (.lstore_n 0, 1) := dk_63 (dk_at dksJ10_bitCount_0 23 rfl rfl)
theorem dJ10_bitCount_24 : decode cJ10_bitCount 24 = .ok (.lload_n 0, 1) := dk_30 (dk_at dksJ10_bitCount_1 0 rfl rfl)
theorem dJ10_bitCount_25 : decode cJ10_bitCount 25 = .ok (.lload_n 0, 1) := dk_30 (dk_at dksJ10_bitCount_1 1 rfl rfl)
theorem dJ10_bitCount_26 : decode cJ10_bitCount 26 = .ok (.iconst 4, 1) := dk_7 (dk_at dksJ10_bitCount_1 2 rfl rfl)
theorem dJ10_bitCount_27 : decode cJ10_bitCount 27 = .ok (.lushr, 1) := dk_125 (dk_at dksJ10_bitCount_1 3 rfl rfl)
theorem dJ10_bitCount_28 : decode cJ10_bitCount 28 = .ok (.ladd, 1) := dk_97 (dk_at dksJ10_bitCount_1 4 rfl rfl)
theorem dJ10_bitCount_29 : decode cJ10_bitCount 29 = .ok (.ldc2_w 318, 3) := dk_20 1 62 (dk_at dksJ10_bitCount_1 5 rfl rfl)
theorem dJ10_bitCount_32 : decode cJ10_bitCount 32 = .ok (.land, 1) := dk_127 (dk_at dksJ10_bitCount_1 8 rfl rfl)
theorem dJ10_bitCount_33 : decode cJ10_bitCount 33 = .ok (.lstore_n 0, 1) := dk_63 (dk_at dksJ10_bitCount_1 9 rfl rfl)
theorem dJ10_bitCount_34 : decode cJ10_bitCount 34 = .ok (.lload_n 0, 1) := dk_30 (dk_at dksJ10_bitCount_1 10 rfl rfl)
theorem dJ10_bitCount_35 : decode cJ10_bitCount 35 = .ok (.lload_n 0, 1) := dk_30 (dk_at dksJ10_bitCount_1 11 rfl rfl)
theorem dJ10_bitCount_36 : decode cJ10_bitCount 36 = .ok (.bipush 8, 2) := dk_16 8 (dk_at dksJ10_bitCount_1 12 rfl rfl)
theorem dJ10_bitCount_38 : decode cJ10_bitCount 38 = .ok (.lushr, 1) := dk_125 (dk_at dksJ10_bitCount_1 14 rfl rfl)
theorem dJ10_bitCount_39 : decode cJ10_bitCount 39 = .ok (.ladd, 1) := dk_97 (dk_at dksJ10_bitCount_1 15 rfl rfl)
theorem dJ10_bitCount_40 : decode cJ10_bitCount 40 = .ok (.lstore_n 0, 1) := dk_63 (dk_at dksJ10_bitCount_1 16 rfl rfl)
theorem dJ10_bitCount_41 : decode cJ10_bitCount 41 = .ok (.lload_n 0, 1) := dk_30 (dk_at dksJ10_bitCount_1 17 rfl rfl)
theorem dJ10_bitCount_42 : decode cJ10_bitCount 42 = .ok (.lload_n 0, 1) := dk_30 (dk_at dksJ10_bitCount_1 18 rfl rfl)
theorem dJ10_bitCount_43 : decode cJ10_bitCount 43 = .ok (.bipush 16, 2) := dk_16 16 (dk_at dksJ10_bitCount_1 19 rfl rfl)
theorem dJ10_bitCount_45 : decode cJ10_bitCount 45 = .ok (.lushr, 1) := dk_125 (dk_at dksJ10_bitCount_1 21 rfl rfl)
theorem dJ10_bitCount_46 : decode cJ10_bitCount 46 = .ok (.ladd, 1) := dk_97 (dk_at dksJ10_bitCount_1 22 rfl rfl)
theorem dJ10_bitCount_47 : decode cJ10_bitCount 47 = .ok (.lstore_n 0, 1) := dk_63 (dk_at dksJ10_bitCount_1 23 rfl rfl)
theorem dJ10_bitCount_48 : decode cJ10_bitCount 48 = .ok (.lload_n 0, 1) := dk_30 (dk_at dksJ10_bitCount_2 0 rfl rfl)
theorem dJ10_bitCount_49 : decode cJ10_bitCount 49 = .ok (.lload_n 0, 1) := dk_30 (dk_at dksJ10_bitCount_2 1 rfl rfl)
theorem dJ10_bitCount_50 : decode cJ10_bitCount 50 = .ok (.bipush 32, 2) := dk_16 32 (dk_at dksJ10_bitCount_2 2 rfl rfl)
theorem dJ10_bitCount_52 : decode cJ10_bitCount 52 = .ok (.lushr, 1) := dk_125 (dk_at dksJ10_bitCount_2 4 rfl rfl)
theorem dJ10_bitCount_53 : decode cJ10_bitCount 53 = .ok (.ladd, 1) := dk_97 (dk_at dksJ10_bitCount_2 5 rfl rfl)
theorem dJ10_bitCount_54 : decode cJ10_bitCount 54 = .ok (.lstore_n 0, 1) := dk_63 (dk_at dksJ10_bitCount_2 6 rfl rfl)
theorem dJ10_bitCount_55 : decode cJ10_bitCount 55 = .ok (.lload_n 0, 1) := dk_30 (dk_at dksJ10_bitCount_2 7 rfl rfl)
theorem dJ10_bitCount_56 : decode cJ10_bitCount 56 = .ok (.l2i, 1) := dk_136 (dk_at dksJ10_bitCount_2 8 rfl rfl)
theorem dJ10_bitCount_57 : decode cJ10_bitCount 57 = .ok (.bipush 127, 2) := dk_16 127 (dk_at dksJ10_bitCount_2 9 rfl rfl)
theorem dJ10_bitCount_59 : decode cJ10_bitCount 59 = .ok (.iand, 1) := dk_126 (dk_at dksJ10_bitCount_2 11 rfl rfl)
theorem dJ10_bitCount_60 : decode cJ10_bitCount 60 = .ok (.ireturn, 1) := dk_172 (dk_at dksJ10_bitCount_2 12 rfl rfl)
abbrev cJ10_numberOfTrailingZeros : ByteArray := prog_29_method_49_code
def yJ10_numberOfTrailingZeros : MethodName := ⟨RJ10, "numberOfTrailingZeros", "(J)I"⟩
def dkwJ10_numberOfTrailingZeros_1 : List UInt8 := [184, 1, 55, 172]
abbrev dktJ10_numberOfTrailingZeros_1 : List UInt8 := dkwJ10_numberOfTrailingZeros_1 ++ []
def dkwJ10_numberOfTrailingZeros_0 : List UInt8 := [30, 136, 61, 28, 154, 0, 17, 16, 32, 30, 16, 32, 125, 136, 184, 1, 55, 96, 167, 0, 7, 28]
abbrev dktJ10_numberOfTrailingZeros_0 : List UInt8 := dkwJ10_numberOfTrailingZeros_0 ++ dktJ10_numberOfTrailingZeros_1
theorem dksJ10_numberOfTrailingZeros_0 : cJ10_numberOfTrailingZeros.data.toList.drop 0 = dktJ10_numberOfTrailingZeros_0 := by decide +kernel
theorem dksJ10_numberOfTrailingZeros_1 : cJ10_numberOfTrailingZeros.data.toList.drop 22 = dktJ10_numberOfTrailingZeros_1 := dk_seg dksJ10_numberOfTrailingZeros_0 22 rfl rfl
theorem dJ10_numberOfTrailingZeros_0 : decode cJ10_numberOfTrailingZeros 0 = .ok (.lload_n 0, 1) := dk_30 (dk_at dksJ10_numberOfTrailingZeros_0 0 rfl rfl)
theorem dJ10_numberOfTrailingZeros_1 : decode cJ10_numberOfTrailingZeros 1 = .ok (.l2i, 1) := dk_136 (dk_at dksJ10_numberOfTrailingZeros_0 1 rfl rfl)
theorem dJ10_numberOfTrailingZeros_2 : decode cJ10_numberOfTrailingZeros 2 = .ok (.istore_n 2, 1) := dk_61 (dk_at dksJ10_numberOfTrailingZeros_0 2 rfl rfl)
theorem dJ10_numberOfTrailingZeros_3 : decode cJ10_numberOfTrailingZeros 3 = .ok (.iload_n 2, 1) := dk_28 (dk_at dksJ10_numberOfTrailingZeros_0 3 rfl rfl)
theorem dJ10_numberOfTrailingZeros_4 : decode cJ10_numberOfTrailingZeros 4 = .ok (.ifCond .ne 17, 3) := dk_154 0 17 (dk_at dksJ10_numberOfTrailingZeros_0 4 rfl rfl)
theorem dJ10_numberOfTrailingZeros_7 : decode cJ10_numberOfTrailingZeros 7 = .ok (.bipush 32, 2) := dk_16 32 (dk_at dksJ10_numberOfTrailingZeros_0 7 rfl rfl)
theorem dJ10_numberOfTrailingZeros_9 : decode cJ10_numberOfTrailingZeros 9 = .ok (.lload_n 0, 1) := dk_30 (dk_at dksJ10_numberOfTrailingZeros_0 9 rfl rfl)
theorem dJ10_numberOfTrailingZeros_10 : decode cJ10_numberOfTrailingZeros 10 = .ok (.bipush 32, 2) := dk_16 32 (dk_at dksJ10_numberOfTrailingZeros_0 10 rfl rfl)
theorem dJ10_numberOfTrailingZeros_12 : decode cJ10_numberOfTrailingZeros 12 = .ok (.lushr, 1) := dk_125 (dk_at dksJ10_numberOfTrailingZeros_0 12 rfl rfl)
theorem dJ10_numberOfTrailingZeros_13 : decode cJ10_numberOfTrailingZeros 13 = .ok (.l2i, 1) := dk_136 (dk_at dksJ10_numberOfTrailingZeros_0 13 rfl rfl)
theorem dJ10_numberOfTrailingZeros_14 : decode cJ10_numberOfTrailingZeros 14 = .ok (.invokestatic 311, 3) := dk_184 1 55 (dk_at dksJ10_numberOfTrailingZeros_0 14 rfl rfl)
theorem dJ10_numberOfTrailingZeros_17 : decode cJ10_numberOfTrailingZeros 17 = .ok (.iadd, 1) := dk_96 (dk_at dksJ10_numberOfTrailingZeros_0 17 rfl rfl)
theorem dJ10_numberOfTrailingZeros_18 : decode cJ10_numberOfTrailingZeros 18 = .ok (.goto 7, 3) := dk_167 0 7 (dk_at dksJ10_numberOfTrailingZeros_0 18 rfl rfl)
theorem dJ10_numberOfTrailingZeros_21 : decode cJ10_numberOfTrailingZeros 21 = .ok (.iload_n 2, 1) := dk_28 (dk_at dksJ10_numberOfTrailingZeros_0 21 rfl rfl)
theorem dJ10_numberOfTrailingZeros_22 : decode cJ10_numberOfTrailingZeros 22 = .ok (.invokestatic 311, 3) := dk_184 1 55 (dk_at dksJ10_numberOfTrailingZeros_1 0 rfl rfl)
theorem dJ10_numberOfTrailingZeros_25 : decode cJ10_numberOfTrailingZeros 25 = .ok (.ireturn, 1) := dk_172 (dk_at dksJ10_numberOfTrailingZeros_1 3 rfl rfl)
abbrev cJ10_numberOfLeadingZeros : ByteArray := prog_29_method_48_code
def yJ10_numberOfLeadingZeros : MethodName := ⟨RJ10, "numberOfLeadingZeros", "(J)I"⟩
def dkwJ10_numberOfLeadingZeros_1 : List UInt8 := [184, 1, 52, 172]
abbrev dktJ10_numberOfLeadingZeros_1 : List UInt8 := dkwJ10_numberOfLeadingZeros_1 ++ []
def dkwJ10_numberOfLeadingZeros_0 : List UInt8 := [30, 16, 32, 125, 136, 61, 28, 154, 0, 14, 16, 32, 30, 136, 184, 1, 52, 96, 167, 0, 7, 28]
abbrev dktJ10_numberOfLeadingZeros_0 : List UInt8 := dkwJ10_numberOfLeadingZeros_0 ++ dktJ10_numberOfLeadingZeros_1
theorem dksJ10_numberOfLeadingZeros_0 : cJ10_numberOfLeadingZeros.data.toList.drop 0 = dktJ10_numberOfLeadingZeros_0 := by decide +kernel
theorem dksJ10_numberOfLeadingZeros_1 : cJ10_numberOfLeadingZeros.data.toList.drop 22 = dktJ10_numberOfLeadingZeros_1 := dk_seg dksJ10_numberOfLeadingZeros_0 22 rfl rfl
theorem dJ10_numberOfLeadingZeros_0 : decode cJ10_numberOfLeadingZeros 0 = .ok (.lload_n 0, 1) := dk_30 (dk_at dksJ10_numberOfLeadingZeros_0 0 rfl rfl)
theorem dJ10_numberOfLeadingZeros_1 : decode cJ10_numberOfLeadingZeros 1 = .ok (.bipush 32, 2) := dk_16 32 (dk_at dksJ10_numberOfLeadingZeros_0 1 rfl rfl)
theorem dJ10_numberOfLeadingZeros_3 : decode cJ10_numberOfLeadingZeros 3 = .ok (.lushr, 1) := dk_125 (dk_at dksJ10_numberOfLeadingZeros_0 3 rfl rfl)
theorem dJ10_numberOfLeadingZeros_4 : decode cJ10_numberOfLeadingZeros 4 = .ok (.l2i, 1) := dk_136 (dk_at dksJ10_numberOfLeadingZeros_0 4 rfl rfl)
theorem dJ10_numberOfLeadingZeros_5 : decode cJ10_numberOfLeadingZeros 5 = .ok (.istore_n 2, 1) := dk_61 (dk_at dksJ10_numberOfLeadingZeros_0 5 rfl rfl)
theorem dJ10_numberOfLeadingZeros_6 : decode cJ10_numberOfLeadingZeros 6 = .ok (.iload_n 2, 1) := dk_28 (dk_at dksJ10_numberOfLeadingZeros_0 6 rfl rfl)
theorem dJ10_numberOfLeadingZeros_7 : decode cJ10_numberOfLeadingZeros 7 = .ok (.ifCond .ne 14, 3) := dk_154 0 14 (dk_at dksJ10_numberOfLeadingZeros_0 7 rfl rfl)
theorem dJ10_numberOfLeadingZeros_10 : decode cJ10_numberOfLeadingZeros 10 = .ok (.bipush 32, 2) := dk_16 32 (dk_at dksJ10_numberOfLeadingZeros_0 10 rfl rfl)
theorem dJ10_numberOfLeadingZeros_12 : decode cJ10_numberOfLeadingZeros 12 = .ok (.lload_n 0, 1) := dk_30 (dk_at dksJ10_numberOfLeadingZeros_0 12 rfl rfl)
theorem dJ10_numberOfLeadingZeros_13 : decode cJ10_numberOfLeadingZeros 13 = .ok (.l2i, 1) := dk_136 (dk_at dksJ10_numberOfLeadingZeros_0 13 rfl rfl)
theorem dJ10_numberOfLeadingZeros_14 : decode cJ10_numberOfLeadingZeros 14 = .ok (.invokestatic 308, 3) := dk_184 1 52 (dk_at dksJ10_numberOfLeadingZeros_0 14 rfl rfl)
theorem dJ10_numberOfLeadingZeros_17 : decode cJ10_numberOfLeadingZeros 17 = .ok (.iadd, 1) := dk_96 (dk_at dksJ10_numberOfLeadingZeros_0 17 rfl rfl)
theorem dJ10_numberOfLeadingZeros_18 : decode cJ10_numberOfLeadingZeros 18 = .ok (.goto 7, 3) := dk_167 0 7 (dk_at dksJ10_numberOfLeadingZeros_0 18 rfl rfl)
theorem dJ10_numberOfLeadingZeros_21 : decode cJ10_numberOfLeadingZeros 21 = .ok (.iload_n 2, 1) := dk_28 (dk_at dksJ10_numberOfLeadingZeros_0 21 rfl rfl)
theorem dJ10_numberOfLeadingZeros_22 : decode cJ10_numberOfLeadingZeros 22 = .ok (.invokestatic 308, 3) := dk_184 1 52 (dk_at dksJ10_numberOfLeadingZeros_1 0 rfl rfl)
theorem dJ10_numberOfLeadingZeros_25 : decode cJ10_numberOfLeadingZeros 25 = .ok (.ireturn, 1) := dk_172 (dk_at dksJ10_numberOfLeadingZeros_1 3 rfl rfl)
theorem q200 : (Jvm.Cond.initialized "java/lang/Long") ∈ lw_all := lw_g (lw_at lw_m1 15 rfl) rfl
theorem q558 : (Jvm.Cond.static ({ cls := "java/lang/Long", name := "bitCount", desc := "(J)I" } : Jvm.MethodName)) ∈ lw_all := lw_g (lw_at lw_m2 133 rfl) rfl
theorem q559 : (Jvm.Cond.code ({ cls := "java/lang/Long", name := "bitCount", desc := "(J)I" } : Jvm.MethodName) prog_29_method_50_code (2 : Nat) (Option.some Jvm.ClassFile.FieldType.int)) ∈ lw_all := lw_g (lw_at lw_m2 134 rfl) rfl
theorem q560 : (Jvm.Cond.constantLong "java/lang/Long" (314 : Nat) (6148914691236517205 : Int64)) ∈ lw_all := lw_g (lw_at lw_m2 135 rfl) rfl
theorem q561 : (Jvm.Cond.constantLong "java/lang/Long" (316 : Nat) (3689348814741910323 : Int64)) ∈ lw_all := lw_g (lw_at lw_m2 136 rfl) rfl
theorem q562 : (Jvm.Cond.constantLong "java/lang/Long" (318 : Nat) (1085102592571150095 : Int64)) ∈ lw_all := lw_g (lw_at lw_m2 137 rfl) rfl
theorem q1143 : (Jvm.Cond.static ({ cls := "java/lang/Long", name := "numberOfTrailingZeros", desc := "(J)I" } : Jvm.MethodName)) ∈ lw_all := lw_g (lw_at lw_m4 238 rfl) rfl
theorem q1144 : (Jvm.Cond.code ({ cls := "java/lang/Long", name := "numberOfTrailingZeros", desc := "(J)I" } : Jvm.MethodName) prog_29_method_49_code (3 : Nat) (Option.some Jvm.ClassFile.FieldType.int)) ∈ lw_all := lw_g (lw_at lw_m4 239 rfl) rfl
theorem q1145 : (Jvm.Cond.methodLink "java/lang/Long" (311 : Nat) ({ cls := "java/lang/Integer", name := "numberOfTrailingZeros", desc := "(I)I" } : Jvm.MethodName)) ∈ lw_all := lw_g (lw_at lw_m5 0 rfl) rfl
theorem q1482 : (Jvm.Cond.static ({ cls := "java/lang/Long", name := "numberOfLeadingZeros", desc := "(J)I" } : Jvm.MethodName)) ∈ lw_all := lw_g (lw_at lw_m6 97 rfl) rfl
theorem q1483 : (Jvm.Cond.code ({ cls := "java/lang/Long", name := "numberOfLeadingZeros", desc := "(J)I" } : Jvm.MethodName) prog_29_method_48_code (3 : Nat) (Option.some Jvm.ClassFile.FieldType.int)) ∈ lw_all := lw_g (lw_at lw_m6 98 rfl) rfl
theorem q1484 : (Jvm.Cond.methodLink "java/lang/Long" (308 : Nat) ({ cls := "java/lang/Integer", name := "numberOfLeadingZeros", desc := "(I)I" } : Jvm.MethodName)) ∈ lw_all := lw_g (lw_at lw_m6 99 rfl) rfl
/-! java/lang/String -/
set_option maxRecDepth 100000
def RJ11 : String := "java/lang/String"
abbrev cJ11_length : ByteArray := prog_32_method_54_code
def yJ11_length : MethodName := ⟨RJ11, "length", "()I"⟩
def dkwJ11_length_0 : List UInt8 := [42, 180, 0, 9, 190, 42, 182, 1, 79, 122, 172]
abbrev dktJ11_length_0 : List UInt8 := dkwJ11_length_0 ++ []
theorem dksJ11_length_0 : cJ11_length.data.toList.drop 0 = dktJ11_length_0 := by decide +kernel
theorem dJ11_length_0 : decode cJ11_length 0 = .ok (.aload_n 0, 1) := dk_42 (dk_at dksJ11_length_0 0 rfl rfl)
theorem dJ11_length_1 : decode cJ11_length 1 = .ok (.getfield 9, 3) := dk_180 0 9 (dk_at dksJ11_length_0 1 rfl rfl)
theorem dJ11_length_4 : decode cJ11_length 4 = .ok (.arraylength, 1) := dk_190 (dk_at dksJ11_length_0 4 rfl rfl)
theorem dJ11_length_5 : decode cJ11_length 5 = .ok (.aload_n 0, 1) := dk_42 (dk_at dksJ11_length_0 5 rfl rfl)
theorem dJ11_length_6 : decode cJ11_length 6 = .ok (.invokevirtual 335, 3) := dk_182 1 79 (dk_at dksJ11_length_0 6 rfl rfl)
theorem dJ11_length_9 : decode cJ11_length 9 = .ok (.ishr, 1) := dk_122 (dk_at dksJ11_length_0 9 rfl rfl)
theorem dJ11_length_10 : decode cJ11_length 10 = .ok (.ireturn, 1) := dk_172 (dk_at dksJ11_length_0 10 rfl rfl)
abbrev cJ11_coder : ByteArray := prog_32_method_152_code
def yJ11_coder : MethodName := ⟨RJ11, "coder", "()B"⟩
def dkwJ11_coder_0 : List UInt8 := [178, 0, 38, 153, 0, 10, 42, 180, 0, 15, 167, 0, 4, 4, 172]
abbrev dktJ11_coder_0 : List UInt8 := dkwJ11_coder_0 ++ []
theorem dksJ11_coder_0 : cJ11_coder.data.toList.drop 0 = dktJ11_coder_0 := by decide +kernel
theorem dJ11_coder_0 : decode cJ11_coder 0 = .ok (.getstatic 38, 3) := dk_178 0 38 (dk_at dksJ11_coder_0 0 rfl rfl)
theorem dJ11_coder_3 : decode cJ11_coder 3 = .ok (.ifCond .eq 10, 3) := dk_153 0 10 (dk_at dksJ11_coder_0 3 rfl rfl)
theorem dJ11_coder_6 : decode cJ11_coder 6 = .ok (.aload_n 0, 1) := dk_42 (dk_at dksJ11_coder_0 6 rfl rfl)
theorem dJ11_coder_7 : decode cJ11_coder 7 = .ok (.getfield 15, 3) := dk_180 0 15 (dk_at dksJ11_coder_0 7 rfl rfl)
theorem dJ11_coder_10 : decode cJ11_coder 10 = .ok (.goto 4, 3) := dk_167 0 4 (dk_at dksJ11_coder_0 10 rfl rfl)
theorem dJ11_coder_13 : decode cJ11_coder 13 = .ok (.iconst 1, 1) := dk_4 (dk_at dksJ11_coder_0 13 rfl rfl)
theorem dJ11_coder_14 : decode cJ11_coder 14 = .ok (.ireturn, 1) := dk_172 (dk_at dksJ11_coder_0 14 rfl rfl)
abbrev cJ11_charAt : ByteArray := prog_32_method_56_code
def yJ11_charAt : MethodName := ⟨RJ11, "charAt", "(I)C"⟩
def dkwJ11_charAt_1 : List UInt8 := [172]
abbrev dktJ11_charAt_1 : List UInt8 := dkwJ11_charAt_1 ++ []
def dkwJ11_charAt_0 : List UInt8 := [42, 182, 1, 236, 153, 0, 12, 42, 180, 0, 9, 27, 184, 1, 239, 172, 42, 180, 0, 9, 27, 184, 1, 242]
abbrev dktJ11_charAt_0 : List UInt8 := dkwJ11_charAt_0 ++ dktJ11_charAt_1
theorem dksJ11_charAt_0 : cJ11_charAt.data.toList.drop 0 = dktJ11_charAt_0 := by decide +kernel
theorem dksJ11_charAt_1 : cJ11_charAt.data.toList.drop 24 = dktJ11_charAt_1 := dk_seg dksJ11_charAt_0 24 rfl rfl
theorem dJ11_charAt_0 : decode cJ11_charAt 0 = .ok (.aload_n 0, 1) := dk_42 (dk_at dksJ11_charAt_0 0 rfl rfl)
theorem dJ11_charAt_1 : decode cJ11_charAt 1 = .ok (.invokevirtual 492, 3) := dk_182 1 236 (dk_at dksJ11_charAt_0 1 rfl rfl)
theorem dJ11_charAt_4 : decode cJ11_charAt 4 = .ok (.ifCond .eq 12, 3) := dk_153 0 12 (dk_at dksJ11_charAt_0 4 rfl rfl)
theorem dJ11_charAt_7 : decode cJ11_charAt 7 = .ok (.aload_n 0, 1) := dk_42 (dk_at dksJ11_charAt_0 7 rfl rfl)
theorem dJ11_charAt_8 : decode cJ11_charAt 8 = .ok (.getfield 9, 3) := dk_180 0 9 (dk_at dksJ11_charAt_0 8 rfl rfl)
theorem dJ11_charAt_11 : decode cJ11_charAt 11 = .ok (.iload_n 1, 1) := dk_27 (dk_at dksJ11_charAt_0 11 rfl rfl)
theorem dJ11_charAt_12 : decode cJ11_charAt 12 = .ok (.invokestatic 495, 3) := dk_184 1 239 (dk_at dksJ11_charAt_0 12 rfl rfl)
theorem dJ11_charAt_15 : decode cJ11_charAt 15 = .ok (.ireturn, 1) := dk_172 (dk_at dksJ11_charAt_0 15 rfl rfl)
theorem dJ11_charAt_16 : decode cJ11_charAt 16 = .ok (.aload_n 0, 1) := dk_42 (dk_at dksJ11_charAt_0 16 rfl rfl)
theorem dJ11_charAt_17 : decode cJ11_charAt 17 = .ok (.getfield 9, 3) := dk_180 0 9 (dk_at dksJ11_charAt_0 17 rfl rfl)
theorem dJ11_charAt_20 : decode cJ11_charAt 20 = .ok (.iload_n 1, 1) := dk_27 (dk_at dksJ11_charAt_0 20 rfl rfl)
theorem dJ11_charAt_21 : decode cJ11_charAt 21 = .ok (.invokestatic 498, 3) := dk_184 1 242 (dk_at dksJ11_charAt_0 21 rfl rfl)
theorem dJ11_charAt_24 : decode cJ11_charAt 24 = .ok (.ireturn, 1) := dk_172 (dk_at dksJ11_charAt_1 0 rfl rfl)
abbrev cJ11_isLatin1 : ByteArray := prog_32_method_154_code
def yJ11_isLatin1 : MethodName := ⟨RJ11, "isLatin1", "()Z"⟩
def dkwJ11_isLatin1_0 : List UInt8 := [178, 0, 38, 153, 0, 14, 42, 180, 0, 15, 154, 0, 7, 4, 167, 0, 4, 3, 172]
abbrev dktJ11_isLatin1_0 : List UInt8 := dkwJ11_isLatin1_0 ++ []
theorem dksJ11_isLatin1_0 : cJ11_isLatin1.data.toList.drop 0 = dktJ11_isLatin1_0 := by decide +kernel
theorem dJ11_isLatin1_0 : decode cJ11_isLatin1 0 = .ok (.getstatic 38, 3) := dk_178 0 38 (dk_at dksJ11_isLatin1_0 0 rfl rfl)
theorem dJ11_isLatin1_3 : decode cJ11_isLatin1 3 = .ok (.ifCond .eq 14, 3) := dk_153 0 14 (dk_at dksJ11_isLatin1_0 3 rfl rfl)
theorem dJ11_isLatin1_6 : decode cJ11_isLatin1 6 = .ok (.aload_n 0, 1) := dk_42 (dk_at dksJ11_isLatin1_0 6 rfl rfl)
theorem dJ11_isLatin1_7 : decode cJ11_isLatin1 7 = .ok (.getfield 15, 3) := dk_180 0 15 (dk_at dksJ11_isLatin1_0 7 rfl rfl)
theorem dJ11_isLatin1_10 : decode cJ11_isLatin1 10 = .ok (.ifCond .ne 7, 3) := dk_154 0 7 (dk_at dksJ11_isLatin1_0 10 rfl rfl)
theorem dJ11_isLatin1_13 : decode cJ11_isLatin1 13 = .ok (.iconst 1, 1) := dk_4 (dk_at dksJ11_isLatin1_0 13 rfl rfl)
theorem dJ11_isLatin1_14 : decode cJ11_isLatin1 14 = .ok (.goto 4, 3) := dk_167 0 4 (dk_at dksJ11_isLatin1_0 14 rfl rfl)
theorem dJ11_isLatin1_17 : decode cJ11_isLatin1 17 = .ok (.iconst 0, 1) := dk_3 (dk_at dksJ11_isLatin1_0 17 rfl rfl)
theorem dJ11_isLatin1_18 : decode cJ11_isLatin1 18 = .ok (.ireturn, 1) := dk_172 (dk_at dksJ11_isLatin1_0 18 rfl rfl)
abbrev cJ11_checkIndex : ByteArray := prog_32_method_155_code
def yJ11_checkIndex : MethodName := ⟨RJ11, "checkIndex", "(II)V"⟩
def dkwJ11_checkIndex_0 : List UInt8 := [26, 27, 178, 4, 29, 184, 4, 35, 87, 177]
abbrev dktJ11_checkIndex_0 : List UInt8 := dkwJ11_checkIndex_0 ++ []
theorem dksJ11_checkIndex_0 : cJ11_checkIndex.data.toList.drop 0 = dktJ11_checkIndex_0 := by decide +kernel
theorem dJ11_checkIndex_0 : decode cJ11_checkIndex 0 = .ok (.iload_n 0, 1) := dk_26 (dk_at dksJ11_checkIndex_0 0 rfl rfl)
theorem dJ11_checkIndex_1 : decode cJ11_checkIndex 1 = .ok (.iload_n 1, 1) := dk_27 (dk_at dksJ11_checkIndex_0 1 rfl rfl)
theorem dJ11_checkIndex_2 : decode cJ11_checkIndex 2 = .ok (.getstatic 1053, 3) := dk_178 4 29 (dk_at dksJ11_checkIndex_0 2 rfl rfl)
theorem dJ11_checkIndex_5 : decode cJ11_checkIndex 5 = .ok (.invokestatic 1059, 3) := dk_184 4 35 (dk_at dksJ11_checkIndex_0 5 rfl rfl)
theorem dJ11_checkIndex_8 : decode cJ11_checkIndex 8 = .ok (.pop, 1) := dk_87 (dk_at dksJ11_checkIndex_0 8 rfl rfl)
theorem dJ11_checkIndex_9 : decode cJ11_checkIndex 9 = .ok (.return_, 1) := dk_177 (dk_at dksJ11_checkIndex_0 9 rfl rfl)
abbrev cJ11_compareTo : ByteArray := prog_32_method_162_code
def yJ11_compareTo : MethodName := ⟨RJ11, "compareTo", "(Ljava/lang/Object;)I"⟩
def dkwJ11_compareTo_0 : List UInt8 := [42, 43, 192, 0, 10, 182, 4, 60, 172]
abbrev dktJ11_compareTo_0 : List UInt8 := dkwJ11_compareTo_0 ++ []
theorem dksJ11_compareTo_0 : cJ11_compareTo.data.toList.drop 0 = dktJ11_compareTo_0 := by decide +kernel
theorem dJ11_compareTo_0 : decode cJ11_compareTo 0 = .ok (.aload_n 0, 1) := dk_42 (dk_at dksJ11_compareTo_0 0 rfl rfl)
theorem dJ11_compareTo_1 : decode cJ11_compareTo 1 = .ok (.aload_n 1, 1) := dk_43 (dk_at dksJ11_compareTo_0 1 rfl rfl)
theorem dJ11_compareTo_2 : decode cJ11_compareTo 2 = .ok (.checkcast 10, 3) := dk_192 0 10 (dk_at dksJ11_compareTo_0 2 rfl rfl)
theorem dJ11_compareTo_5 : decode cJ11_compareTo 5 = .ok (.invokevirtual 1084, 3) := dk_182 4 60 (dk_at dksJ11_compareTo_0 5 rfl rfl)
theorem dJ11_compareTo_8 : decode cJ11_compareTo 8 = .ok (.ireturn, 1) := dk_172 (dk_at dksJ11_compareTo_0 8 rfl rfl)
abbrev cJ11_compareTo_2 : ByteArray := prog_32_method_71_code
def yJ11_compareTo_2 : MethodName := ⟨RJ11, "compareTo", "(Ljava/lang/String;)I"⟩
def dkwJ11_compareTo_2_2 : List UInt8 := [154, 0, 11, 44, 45, 184, 2, 79, 167, 0, 8, 44, 45, 184, 2, 82, 172]
abbrev dktJ11_compareTo_2_2 : List UInt8 := dkwJ11_compareTo_2_2 ++ []
def dkwJ11_compareTo_2_1 : List UInt8 := [160, 0, 22, 21, 4, 154, 0, 11, 44, 45, 184, 2, 74, 167, 0, 8, 44, 45, 184, 2, 78, 172, 21, 4]
abbrev dktJ11_compareTo_2_1 : List UInt8 := dkwJ11_compareTo_2_1 ++ dktJ11_compareTo_2_2
def dkwJ11_compareTo_2_0 : List UInt8 := [42, 180, 0, 9, 77, 43, 180, 0, 9, 78, 42, 182, 1, 79, 54, 4, 21, 4, 43, 182, 1, 79]
abbrev dktJ11_compareTo_2_0 : List UInt8 := dkwJ11_compareTo_2_0 ++ dktJ11_compareTo_2_1
theorem dksJ11_compareTo_2_0 : cJ11_compareTo_2.data.toList.drop 0 = dktJ11_compareTo_2_0 := by decide +kernel
theorem dksJ11_compareTo_2_1 : cJ11_compareTo_2.data.toList.drop 22 = dktJ11_compareTo_2_1 := dk_seg dksJ11_compareTo_2_0 22 rfl rfl
theorem dksJ11_compareTo_2_2 : cJ11_compareTo_2.data.toList.drop 46 = dktJ11_compareTo_2_2 := dk_seg dksJ11_compareTo_2_1 24 rfl rfl
theorem dJ11_compareTo_2_0 : decode cJ11_compareTo_2 0 = .ok (.aload_n 0, 1) := dk_42 (dk_at dksJ11_compareTo_2_0 0 rfl rfl)
theorem dJ11_compareTo_2_1 : decode cJ11_compareTo_2 1 = .ok (.getfield 9, 3) := dk_180 0 9 (dk_at dksJ11_compareTo_2_0 1 rfl rfl)
theorem dJ11_compareTo_2_4 : decode cJ11_compareTo_2 4 = .ok (.astore_n 2, 1) := dk_77 (dk_at dksJ11_compareTo_2_0 4 rfl rfl)
theorem dJ11_compareTo_2_5 : decode cJ11_compareTo_2 5 = .ok (.aload_n 1, 1) := dk_43 (dk_at dksJ11_compareTo_2_0 5 rfl rfl)
theorem dJ11_compareTo_2_6 : decode cJ11_compareTo_2 6 = .ok (.getfield 9, 3) := dk_180 0 9 (dk_at dksJ11_compareTo_2_0 6 rfl rfl)
theorem dJ11_compareTo_2_9 : decode cJ11_compareTo_2 9 = .ok (.astore_n 3, 1) := dk_78 (dk_at dksJ11_compareTo_2_0 9 rfl rfl)
theorem dJ11_compareTo_2_10 : decode cJ11_compareTo_2 10 = .ok (.aload_n 0, 1) := dk_42 (dk_at dksJ11_compareTo_2_0 10 rfl rfl)
theorem dJ11_compareTo_2_11 : decode cJ11_compareTo_2 11 = .ok (.invokevirtual 335, 3) := dk_182 1 79 (dk_at dksJ11_compareTo_2_0 11 rfl rfl)
theorem dJ11_compareTo_2_14 : decode cJ11_compareTo_2 14 = .ok (.istore 4, 2) := dk_54 4 (dk_at dksJ11_compareTo_2_0 14 rfl rfl)
theorem dJ11_compareTo_2_16 : decode cJ11_compareTo_2 16 = .ok (.iload 4, 2) := dk_21 4 (dk_at dksJ11_compareTo_2_0 16 rfl rfl)
theorem dJ11_compareTo_2_18 : decode cJ11_compareTo_2 18 = .ok (.aload_n 1, 1) := dk_43 (dk_at dksJ11_compareTo_2_0 18 rfl rfl)
theorem dJ11_compareTo_2_19 : decode cJ11_compareTo_2 19 = .ok (.invokevirtual 335, 3) := dk_182 1 79 (dk_at dksJ11_compareTo_2_0 19 rfl rfl)
theorem dJ11_compareTo_2_22 : decode cJ11_compareTo_2 22 = .ok (.if_icmp .ne 22, 3) := dk_160 0 22 (dk_at dksJ11_compareTo_2_1 0 rfl rfl)
theorem dJ11_compareTo_2_25 : decode cJ11_compareTo_2 25 = .ok (.iload 4, 2) := dk_21 4 (dk_at dksJ11_compareTo_2_1 3 rfl rfl)
theorem dJ11_compareTo_2_27 : decode cJ11_compareTo_2 27 = .ok (.ifCond .ne 11, 3) := dk_154 0 11 (dk_at dksJ11_compareTo_2_1 5 rfl rfl)
theorem dJ11_compareTo_2_30 : decode cJ11_compareTo_2 30 = .ok (.aload_n 2, 1) := dk_44 (dk_at dksJ11_compareTo_2_1 8 rfl rfl)
theorem dJ11_compareTo_2_31 : decode cJ11_compareTo_2 31 = .ok (.aload_n 3, 1) := dk_45 (dk_at dksJ11_compareTo_2_1 9 rfl rfl)
theorem dJ11_compareTo_2_32 : decode cJ11_compareTo_2 32 = .ok (.invokestatic 586, 3) := dk_184 2 74 (dk_at dksJ11_compareTo_2_1 10 rfl rfl)
theorem dJ11_compareTo_2_35 : decode cJ11_compareTo_2 35 = .ok (.goto 8, 3) := dk_167 0 8 (dk_at dksJ11_compareTo_2_1 13 rfl rfl)
theorem dJ11_compareTo_2_38 : decode cJ11_compareTo_2 38 = .ok (.aload_n 2, 1) := dk_44 (dk_at dksJ11_compareTo_2_1 16 rfl rfl)
theorem dJ11_compareTo_2_39 : decode cJ11_compareTo_2 39 = .ok (.aload_n 3, 1) := dk_45 (dk_at dksJ11_compareTo_2_1 17 rfl rfl)
theorem dJ11_compareTo_2_40 : decode cJ11_compareTo_2 40 = .ok (.invokestatic 590, 3) := dk_184 2 78 (dk_at dksJ11_compareTo_2_1 18 rfl rfl)
theorem dJ11_compareTo_2_43 : decode cJ11_compareTo_2 43 = .ok (.ireturn, 1) := dk_172 (dk_at dksJ11_compareTo_2_1 21 rfl rfl)
theorem dJ11_compareTo_2_44 : decode cJ11_compareTo_2 44 = .ok (.iload 4, 2) := dk_21 4 (dk_at dksJ11_compareTo_2_1 22 rfl rfl)
theorem dJ11_compareTo_2_46 : decode cJ11_compareTo_2 46 = .ok (.ifCond .ne 11, 3) := dk_154 0 11 (dk_at dksJ11_compareTo_2_2 0 rfl rfl)
theorem dJ11_compareTo_2_49 : decode cJ11_compareTo_2 49 = .ok (.aload_n 2, 1) := dk_44 (dk_at dksJ11_compareTo_2_2 3 rfl rfl)
theorem dJ11_compareTo_2_50 : decode cJ11_compareTo_2 50 = .ok (.aload_n 3, 1) := dk_45 (dk_at dksJ11_compareTo_2_2 4 rfl rfl)
theorem dJ11_compareTo_2_51 : decode cJ11_compareTo_2 51 = .ok (.invokestatic 591, 3) := dk_184 2 79 (dk_at dksJ11_compareTo_2_2 5 rfl rfl)
theorem dJ11_compareTo_2_54 : decode cJ11_compareTo_2 54 = .ok (.goto 8, 3) := dk_167 0 8 (dk_at dksJ11_compareTo_2_2 8 rfl rfl)
theorem dJ11_compareTo_2_57 : decode cJ11_compareTo_2 57 = .ok (.aload_n 2, 1) := dk_44 (dk_at dksJ11_compareTo_2_2 11 rfl rfl)
theorem dJ11_compareTo_2_58 : decode cJ11_compareTo_2 58 = .ok (.aload_n 3, 1) := dk_45 (dk_at dksJ11_compareTo_2_2 12 rfl rfl)
theorem dJ11_compareTo_2_59 : decode cJ11_compareTo_2 59 = .ok (.invokestatic 594, 3) := dk_184 2 82 (dk_at dksJ11_compareTo_2_2 13 rfl rfl)
theorem dJ11_compareTo_2_62 : decode cJ11_compareTo_2 62 = .ok (.ireturn, 1) := dk_172 (dk_at dksJ11_compareTo_2_2 16 rfl rfl)
theorem q204 : (Jvm.Cond.initialized "java/lang/String") ∈ lw_all := lw_g (lw_at lw_m1 19 rfl) rfl
theorem q800 : (Jvm.Cond.instanceMethod ({ cls := "java/lang/String", name := "length", desc := "()I" } : Jvm.MethodName)) ∈ lw_all := lw_g (lw_at lw_m3 135 rfl) rfl
theorem q801 : (Jvm.Cond.selects "java/lang/String" ({ cls := "java/lang/String", name := "length", desc := "()I" } : Jvm.MethodName) ({ cls := "java/lang/String", name := "length", desc := "()I" } : Jvm.MethodName)) ∈ lw_all := lw_g (lw_at lw_m3 136 rfl) rfl
theorem q802 : (Jvm.Cond.code ({ cls := "java/lang/String", name := "length", desc := "()I" } : Jvm.MethodName) prog_32_method_54_code (1 : Nat) (Option.some Jvm.ClassFile.FieldType.int)) ∈ lw_all := lw_g (lw_at lw_m3 137 rfl) rfl
theorem q803 : (Jvm.Cond.methodLink "java/lang/String" (335 : Nat) ({ cls := "java/lang/String", name := "coder", desc := "()B" } : Jvm.MethodName)) ∈ lw_all := lw_g (lw_at lw_m3 138 rfl) rfl
theorem q804 : (Jvm.Cond.instanceMethod ({ cls := "java/lang/String", name := "coder", desc := "()B" } : Jvm.MethodName)) ∈ lw_all := lw_g (lw_at lw_m3 139 rfl) rfl
theorem q805 : (Jvm.Cond.selects "java/lang/String" ({ cls := "java/lang/String", name := "coder", desc := "()B" } : Jvm.MethodName) ({ cls := "java/lang/String", name := "coder", desc := "()B" } : Jvm.MethodName)) ∈ lw_all := lw_g (lw_at lw_m3 140 rfl) rfl
theorem q806 : (Jvm.Cond.code ({ cls := "java/lang/String", name := "coder", desc := "()B" } : Jvm.MethodName) prog_32_method_152_code (1 : Nat) (Option.some Jvm.ClassFile.FieldType.byte)) ∈ lw_all := lw_g (lw_at lw_m3 141 rfl) rfl
theorem q807 : (Jvm.Cond.fieldLink "java/lang/String" (38 : Nat) "java/lang/String" "COMPACT_STRINGS" "Z") ∈ lw_all := lw_g (lw_at lw_m3 142 rfl) rfl
theorem q808 : (Jvm.Cond.laysStatic "java/lang/String" "COMPACT_STRINGS" "Z") ∈ lw_tbl := lw_at lw_m3 143 rfl
theorem q810 : (Jvm.Cond.instanceMethod ({ cls := "java/lang/String", name := "charAt", desc := "(I)C" } : Jvm.MethodName)) ∈ lw_all := lw_g (lw_at lw_m3 145 rfl) rfl
theorem q811 : (Jvm.Cond.selects "java/lang/String" ({ cls := "java/lang/String", name := "charAt", desc := "(I)C" } : Jvm.MethodName) ({ cls := "java/lang/String", name := "charAt", desc := "(I)C" } : Jvm.MethodName)) ∈ lw_all := lw_g (lw_at lw_m3 146 rfl) rfl
theorem q812 : (Jvm.Cond.code ({ cls := "java/lang/String", name := "charAt", desc := "(I)C" } : Jvm.MethodName) prog_32_method_56_code (2 : Nat) (Option.some Jvm.ClassFile.FieldType.char)) ∈ lw_all := lw_g (lw_at lw_m3 147 rfl) rfl
theorem q813 : (Jvm.Cond.methodLink "java/lang/String" (492 : Nat) ({ cls := "java/lang/String", name := "isLatin1", desc := "()Z" } : Jvm.MethodName)) ∈ lw_all := lw_g (lw_at lw_m3 148 rfl) rfl
theorem q814 : (Jvm.Cond.instanceMethod ({ cls := "java/lang/String", name := "isLatin1", desc := "()Z" } : Jvm.MethodName)) ∈ lw_all := lw_g (lw_at lw_m3 149 rfl) rfl
theorem q815 : (Jvm.Cond.selects "java/lang/String" ({ cls := "java/lang/String", name := "isLatin1", desc := "()Z" } : Jvm.MethodName) ({ cls := "java/lang/String", name := "isLatin1", desc := "()Z" } : Jvm.MethodName)) ∈ lw_all := lw_g (lw_at lw_m3 150 rfl) rfl
theorem q816 : (Jvm.Cond.code ({ cls := "java/lang/String", name := "isLatin1", desc := "()Z" } : Jvm.MethodName) prog_32_method_154_code (1 : Nat) (Option.some Jvm.ClassFile.FieldType.boolean)) ∈ lw_all := lw_g (lw_at lw_m3 151 rfl) rfl
theorem q817 : (Jvm.Cond.methodLink "java/lang/String" (495 : Nat) ({ cls := "java/lang/StringLatin1", name := "charAt", desc := "([BI)C" } : Jvm.MethodName)) ∈ lw_all := lw_g (lw_at lw_m3 152 rfl) rfl
theorem q821 : (Jvm.Cond.static ({ cls := "java/lang/String", name := "checkIndex", desc := "(II)V" } : Jvm.MethodName)) ∈ lw_all := lw_g (lw_at lw_m3 156 rfl) rfl
theorem q822 : (Jvm.Cond.code ({ cls := "java/lang/String", name := "checkIndex", desc := "(II)V" } : Jvm.MethodName) prog_32_method_155_code (2 : Nat) (Option.none : Option Jvm.ClassFile.FieldType)) ∈ lw_all := lw_g (lw_at lw_m3 157 rfl) rfl
theorem q823 : (Jvm.Cond.fieldLink "java/lang/String" (1053 : Nat) "jdk/internal/util/Preconditions" "SIOOBE_FORMATTER" "Ljava/util/function/BiFunction;") ∈ lw_all := lw_g (lw_at lw_m3 158 rfl) rfl
theorem q825 : (Jvm.Cond.methodLink "java/lang/String" (1059 : Nat) ({ cls := "jdk/internal/util/Preconditions", name := "checkIndex", desc := "(IILjava/util/function/BiFunction;)I" } : Jvm.MethodName)) ∈ lw_all := lw_g (lw_at lw_m3 160 rfl) rfl
theorem q826 : (Jvm.Cond.methodLink "java/lang/String" (498 : Nat) ({ cls := "java/lang/StringUTF16", name := "charAt", desc := "([BI)C" } : Jvm.MethodName)) ∈ lw_all := lw_g (lw_at lw_m3 161 rfl) rfl
theorem q1395 : (Jvm.Cond.castable "java/lang/String" "java/lang/Comparable") ∈ lw_tbl := lw_at lw_m6 10 rfl
theorem q1396 : (Jvm.Cond.selects "java/lang/String" ({ cls := "java/lang/Comparable", name := "compareTo", desc := "(Ljava/lang/Object;)I" } : Jvm.MethodName) ({ cls := "java/lang/String", name := "compareTo", desc := "(Ljava/lang/Object;)I" } : Jvm.MethodName)) ∈ lw_all := lw_g (lw_at lw_m6 11 rfl) rfl
theorem q1397 : (Jvm.Cond.unhidden "java/lang/String" "compareTo" "(Ljava/lang/Object;)I") ∈ lw_tbl := lw_at lw_m6 12 rfl
theorem q1398 : (Jvm.Cond.instanceMethod ({ cls := "java/lang/String", name := "compareTo", desc := "(Ljava/lang/Object;)I" } : Jvm.MethodName)) ∈ lw_all := lw_g (lw_at lw_m6 13 rfl) rfl
theorem q1399 : (Jvm.Cond.publicMethod ({ cls := "java/lang/String", name := "compareTo", desc := "(Ljava/lang/Object;)I" } : Jvm.MethodName)) ∈ lw_tbl := lw_at lw_m6 14 rfl
theorem q1400 : (Jvm.Cond.code ({ cls := "java/lang/String", name := "compareTo", desc := "(Ljava/lang/Object;)I" } : Jvm.MethodName) prog_32_method_162_code (2 : Nat) (Option.some Jvm.ClassFile.FieldType.int)) ∈ lw_all := lw_g (lw_at lw_m6 15 rfl) rfl
theorem q1401 : (Jvm.Cond.classLink "java/lang/String" (10 : Nat) "java/lang/String") ∈ lw_all := lw_g (lw_at lw_m6 16 rfl) rfl
theorem q1402 : (Jvm.Cond.methodLink "java/lang/String" (1084 : Nat) ({ cls := "java/lang/String", name := "compareTo", desc := "(Ljava/lang/String;)I" } : Jvm.MethodName)) ∈ lw_all := lw_g (lw_at lw_m6 17 rfl) rfl
theorem q1403 : (Jvm.Cond.instanceMethod ({ cls := "java/lang/String", name := "compareTo", desc := "(Ljava/lang/String;)I" } : Jvm.MethodName)) ∈ lw_all := lw_g (lw_at lw_m6 18 rfl) rfl
theorem q1404 : (Jvm.Cond.selects "java/lang/String" ({ cls := "java/lang/String", name := "compareTo", desc := "(Ljava/lang/String;)I" } : Jvm.MethodName) ({ cls := "java/lang/String", name := "compareTo", desc := "(Ljava/lang/String;)I" } : Jvm.MethodName)) ∈ lw_all := lw_g (lw_at lw_m6 19 rfl) rfl
theorem q1405 : (Jvm.Cond.code ({ cls := "java/lang/String", name := "compareTo", desc := "(Ljava/lang/String;)I" } : Jvm.MethodName) prog_32_method_71_code (5 : Nat) (Option.some Jvm.ClassFile.FieldType.int)) ∈ lw_all := lw_g (lw_at lw_m6 20 rfl) rfl
theorem q1406 : (Jvm.Cond.methodLink "java/lang/String" (586 : Nat) ({ cls := "java/lang/StringLatin1", name := "compareTo", desc := "([B[B)I" } : Jvm.MethodName)) ∈ lw_all := lw_g (lw_at lw_m6 21 rfl) rfl
theorem q1514 : (Jvm.Cond.methodLink "java/lang/String" (590 : Nat) ({ cls := "java/lang/StringUTF16", name := "compareTo", desc := "([B[B)I" } : Jvm.MethodName)) ∈ lw_all := lw_g (lw_at lw_m6 129 rfl) rfl
theorem q1521 : (Jvm.Cond.methodLink "java/lang/String" (591 : Nat) ({ cls := "java/lang/StringLatin1", name := "compareToUTF16", desc := "([B[B)I" } : Jvm.MethodName)) ∈ lw_all := lw_g (lw_at lw_m6 136 rfl) rfl
theorem q1532 : (Jvm.Cond.methodLink "java/lang/String" (594 : Nat) ({ cls := "java/lang/StringUTF16", name := "compareToLatin1", desc := "([B[B)I" } : Jvm.MethodName)) ∈ lw_all := lw_g (lw_at lw_m6 147 rfl) rfl
theorem q3145 : (Jvm.Cond.castable "java/lang/String" "java/lang/Object") ∈ lw_tbl := lw_at lw_m13 80 rfl
theorem q3156 : (Jvm.Cond.fieldLink "java/lang/String" (9 : Nat) "java/lang/String" "value" "[B") ∈ lw_all := lw_g (lw_at lw_m13 91 rfl) rfl
theorem q3157 : (Jvm.Cond.fieldLink "java/lang/String" (15 : Nat) "java/lang/String" "coder" "B") ∈ lw_all := lw_g (lw_at lw_m13 92 rfl) rfl
/-! java/lang/StringLatin1 -/
set_option maxRecDepth 100000
def RJ12 : String := "java/lang/StringLatin1"
abbrev cJ12_charAt : ByteArray := prog_33_method_2_code
def yJ12_charAt : MethodName := ⟨RJ12, "charAt", "([BI)C"⟩
def dkwJ12_charAt_0 : List UInt8 := [27, 42, 190, 184, 0, 9, 42, 27, 51, 17, 0, 255, 126, 146, 172]
abbrev dktJ12_charAt_0 : List UInt8 := dkwJ12_charAt_0 ++ []
theorem dksJ12_charAt_0 : cJ12_charAt.data.toList.drop 0 = dktJ12_charAt_0 := by decide +kernel
theorem dJ12_charAt_0 : decode cJ12_charAt 0 = .ok (.iload_n 1, 1) := dk_27 (dk_at dksJ12_charAt_0 0 rfl rfl)
theorem dJ12_charAt_1 : decode cJ12_charAt 1 = .ok (.aload_n 0, 1) := dk_42 (dk_at dksJ12_charAt_0 1 rfl rfl)
theorem dJ12_charAt_2 : decode cJ12_charAt 2 = .ok (.arraylength, 1) := dk_190 (dk_at dksJ12_charAt_0 2 rfl rfl)
theorem dJ12_charAt_3 : decode cJ12_charAt 3 = .ok (.invokestatic 9, 3) := dk_184 0 9 (dk_at dksJ12_charAt_0 3 rfl rfl)
theorem dJ12_charAt_6 : decode cJ12_charAt 6 = .ok (.aload_n 0, 1) := dk_42 (dk_at dksJ12_charAt_0 6 rfl rfl)
theorem dJ12_charAt_7 : decode cJ12_charAt 7 = .ok (.iload_n 1, 1) := dk_27 (dk_at dksJ12_charAt_0 7 rfl rfl)
theorem dJ12_charAt_8 : decode cJ12_charAt 8 = .ok (.baload, 1) := dk_51 (dk_at dksJ12_charAt_0 8 rfl rfl)
theorem dJ12_charAt_9 : decode cJ12_charAt 9 = .ok (.sipush 255, 3) := dk_17 0 255 (dk_at dksJ12_charAt_0 9 rfl rfl)
theorem dJ12_charAt_12 : decode cJ12_charAt 12 = .ok (.iand, 1) := dk_126 (dk_at dksJ12_charAt_0 12 rfl rfl)
theorem dJ12_charAt_13 : decode cJ12_charAt 13 = .ok (.i2c, 1) := dk_146 (dk_at dksJ12_charAt_0 13 rfl rfl)
theorem dJ12_charAt_14 : decode cJ12_charAt 14 = .ok (.ireturn, 1) := dk_172 (dk_at dksJ12_charAt_0 14 rfl rfl)
abbrev cJ12_compareTo : ByteArray := prog_33_method_14_code
def yJ12_compareTo : MethodName := ⟨RJ12, "compareTo", "([B[B)I"⟩
def dkwJ12_compareTo_0 : List UInt8 := [42, 190, 61, 43, 190, 62, 42, 43, 28, 29, 184, 0, 34, 172]
abbrev dktJ12_compareTo_0 : List UInt8 := dkwJ12_compareTo_0 ++ []
theorem dksJ12_compareTo_0 : cJ12_compareTo.data.toList.drop 0 = dktJ12_compareTo_0 := by decide +kernel
theorem dJ12_compareTo_0 : decode cJ12_compareTo 0 = .ok (.aload_n 0, 1) := dk_42 (dk_at dksJ12_compareTo_0 0 rfl rfl)
theorem dJ12_compareTo_1 : decode cJ12_compareTo 1 = .ok (.arraylength, 1) := dk_190 (dk_at dksJ12_compareTo_0 1 rfl rfl)
theorem dJ12_compareTo_2 : decode cJ12_compareTo 2 = .ok (.istore_n 2, 1) := dk_61 (dk_at dksJ12_compareTo_0 2 rfl rfl)
theorem dJ12_compareTo_3 : decode cJ12_compareTo 3 = .ok (.aload_n 1, 1) := dk_43 (dk_at dksJ12_compareTo_0 3 rfl rfl)
theorem dJ12_compareTo_4 : decode cJ12_compareTo 4 = .ok (.arraylength, 1) := dk_190 (dk_at dksJ12_compareTo_0 4 rfl rfl)
theorem dJ12_compareTo_5 : decode cJ12_compareTo 5 = .ok (.istore_n 3, 1) := dk_62 (dk_at dksJ12_compareTo_0 5 rfl rfl)
theorem dJ12_compareTo_6 : decode cJ12_compareTo 6 = .ok (.aload_n 0, 1) := dk_42 (dk_at dksJ12_compareTo_0 6 rfl rfl)
theorem dJ12_compareTo_7 : decode cJ12_compareTo 7 = .ok (.aload_n 1, 1) := dk_43 (dk_at dksJ12_compareTo_0 7 rfl rfl)
theorem dJ12_compareTo_8 : decode cJ12_compareTo 8 = .ok (.iload_n 2, 1) := dk_28 (dk_at dksJ12_compareTo_0 8 rfl rfl)
theorem dJ12_compareTo_9 : decode cJ12_compareTo 9 = .ok (.iload_n 3, 1) := dk_29 (dk_at dksJ12_compareTo_0 9 rfl rfl)
theorem dJ12_compareTo_10 : decode cJ12_compareTo 10 = .ok (.invokestatic 34, 3) := dk_184 0 34 (dk_at dksJ12_compareTo_0 10 rfl rfl)
theorem dJ12_compareTo_13 : decode cJ12_compareTo 13 = .ok (.ireturn, 1) := dk_172 (dk_at dksJ12_compareTo_0 13 rfl rfl)
abbrev cJ12_compareTo_2 : ByteArray := prog_33_method_15_code
def yJ12_compareTo_2 : MethodName := ⟨RJ12, "compareTo", "([B[BII)I"⟩
def dkwJ12_compareTo_2_1 : List UInt8 := [167, 0, 16, 42, 21, 5, 184, 0, 50, 43, 21, 5, 184, 0, 50, 100, 172]
abbrev dktJ12_compareTo_2_1 : List UInt8 := dkwJ12_compareTo_2_1 ++ []
def dkwJ12_compareTo_2_0 : List UInt8 := [28, 29, 184, 0, 38, 54, 4, 42, 43, 21, 4, 184, 0, 44, 54, 5, 21, 5, 156, 0, 9, 28, 29, 100]
abbrev dktJ12_compareTo_2_0 : List UInt8 := dkwJ12_compareTo_2_0 ++ dktJ12_compareTo_2_1
theorem dksJ12_compareTo_2_0 : cJ12_compareTo_2.data.toList.drop 0 = dktJ12_compareTo_2_0 := by decide +kernel
theorem dksJ12_compareTo_2_1 : cJ12_compareTo_2.data.toList.drop 24 = dktJ12_compareTo_2_1 := dk_seg dksJ12_compareTo_2_0 24 rfl rfl
theorem dJ12_compareTo_2_0 : decode cJ12_compareTo_2 0 = .ok (.iload_n 2, 1) := dk_28 (dk_at dksJ12_compareTo_2_0 0 rfl rfl)
theorem dJ12_compareTo_2_1 : decode cJ12_compareTo_2 1 = .ok (.iload_n 3, 1) := dk_29 (dk_at dksJ12_compareTo_2_0 1 rfl rfl)
theorem dJ12_compareTo_2_2 : decode cJ12_compareTo_2 2 = .ok (.invokestatic 38, 3) := dk_184 0 38 (dk_at dksJ12_compareTo_2_0 2 rfl rfl)
theorem dJ12_compareTo_2_5 : decode cJ12_compareTo_2 5 = .ok (.istore 4, 2) := dk_54 4 (dk_at dksJ12_compareTo_2_0 5 rfl rfl)
theorem dJ12_compareTo_2_7 : decode cJ12_compareTo_2 7 = .ok (.aload_n 0, 1) := dk_42 (dk_at dksJ12_compareTo_2_0 7 rfl rfl)
theorem dJ12_compareTo_2_8 : decode cJ12_compareTo_2 8 = .ok (.aload_n 1, 1) := dk_43 (dk_at dksJ12_compareTo_2_0 8 rfl rfl)
theorem dJ12_compareTo_2_9 : decode cJ12_compareTo_2 9 = .ok (.iload 4, 2) := dk_21 4 (dk_at dksJ12_compareTo_2_0 9 rfl rfl)
theorem dJ12_compareTo_2_11 : decode cJ12_compareTo_2 11 = .ok (.invokestatic 44, 3) := dk_184 0 44 (dk_at dksJ12_compareTo_2_0 11 rfl rfl)
theorem dJ12_compareTo_2_14 : decode cJ12_compareTo_2 14 = .ok (.istore 5, 2) := dk_54 5 (dk_at dksJ12_compareTo_2_0 14 rfl rfl)
theorem dJ12_compareTo_2_16 : decode cJ12_compareTo_2 16 = .ok (.iload 5, 2) := dk_21 5 (dk_at dksJ12_compareTo_2_0 16 rfl rfl)
theorem dJ12_compareTo_2_18 : decode cJ12_compareTo_2 18 = .ok (.ifCond .ge 9, 3) := dk_156 0 9 (dk_at dksJ12_compareTo_2_0 18 rfl rfl)
theorem dJ12_compareTo_2_21 : decode cJ12_compareTo_2 21 = .ok (.iload_n 2, 1) := dk_28 (dk_at dksJ12_compareTo_2_0 21 rfl rfl)
theorem dJ12_compareTo_2_22 : decode cJ12_compareTo_2 22 = .ok (.iload_n 3, 1) := dk_29 (dk_at dksJ12_compareTo_2_0 22 rfl rfl)
theorem dJ12_compareTo_2_23 : decode cJ12_compareTo_2 23 = .ok (.isub, 1) := dk_100 (dk_at dksJ12_compareTo_2_0 23 rfl rfl)
theorem dJ12_compareTo_2_24 : decode cJ12_compareTo_2 24 = .ok (.goto 16, 3) := dk_167 0 16 (dk_at dksJ12_compareTo_2_1 0 rfl rfl)
theorem dJ12_compareTo_2_27 : decode cJ12_compareTo_2 27 = .ok (.aload_n 0, 1) := dk_42 (dk_at dksJ12_compareTo_2_1 3 rfl rfl)
theorem dJ12_compareTo_2_28 : decode cJ12_compareTo_2 28 = .ok (.iload 5, 2) := dk_21 5 (dk_at dksJ12_compareTo_2_1 4 rfl rfl)
theorem dJ12_compareTo_2_30 : decode cJ12_compareTo_2 30 = .ok (.invokestatic 50, 3) := dk_184 0 50 (dk_at dksJ12_compareTo_2_1 6 rfl rfl)
theorem dJ12_compareTo_2_33 : decode cJ12_compareTo_2 33 = .ok (.aload_n 1, 1) := dk_43 (dk_at dksJ12_compareTo_2_1 9 rfl rfl)
theorem dJ12_compareTo_2_34 : decode cJ12_compareTo_2 34 = .ok (.iload 5, 2) := dk_21 5 (dk_at dksJ12_compareTo_2_1 10 rfl rfl)
theorem dJ12_compareTo_2_36 : decode cJ12_compareTo_2 36 = .ok (.invokestatic 50, 3) := dk_184 0 50 (dk_at dksJ12_compareTo_2_1 12 rfl rfl)
theorem dJ12_compareTo_2_39 : decode cJ12_compareTo_2 39 = .ok (.isub, 1) := dk_100 (dk_at dksJ12_compareTo_2_1 15 rfl rfl)
theorem dJ12_compareTo_2_40 : decode cJ12_compareTo_2 40 = .ok (.ireturn, 1) := dk_172 (dk_at dksJ12_compareTo_2_1 16 rfl rfl)
abbrev cJ12_getChar : ByteArray := prog_33_method_44_code
def yJ12_getChar : MethodName := ⟨RJ12, "getChar", "([BI)C"⟩
def dkwJ12_getChar_0 : List UInt8 := [42, 27, 51, 17, 0, 255, 126, 146, 172]
abbrev dktJ12_getChar_0 : List UInt8 := dkwJ12_getChar_0 ++ []
theorem dksJ12_getChar_0 : cJ12_getChar.data.toList.drop 0 = dktJ12_getChar_0 := by decide +kernel
theorem dJ12_getChar_0 : decode cJ12_getChar 0 = .ok (.aload_n 0, 1) := dk_42 (dk_at dksJ12_getChar_0 0 rfl rfl)
theorem dJ12_getChar_1 : decode cJ12_getChar 1 = .ok (.iload_n 1, 1) := dk_27 (dk_at dksJ12_getChar_0 1 rfl rfl)
theorem dJ12_getChar_2 : decode cJ12_getChar 2 = .ok (.baload, 1) := dk_51 (dk_at dksJ12_getChar_0 2 rfl rfl)
theorem dJ12_getChar_3 : decode cJ12_getChar 3 = .ok (.sipush 255, 3) := dk_17 0 255 (dk_at dksJ12_getChar_0 3 rfl rfl)
theorem dJ12_getChar_6 : decode cJ12_getChar 6 = .ok (.iand, 1) := dk_126 (dk_at dksJ12_getChar_0 6 rfl rfl)
theorem dJ12_getChar_7 : decode cJ12_getChar 7 = .ok (.i2c, 1) := dk_146 (dk_at dksJ12_getChar_0 7 rfl rfl)
theorem dJ12_getChar_8 : decode cJ12_getChar 8 = .ok (.ireturn, 1) := dk_172 (dk_at dksJ12_getChar_0 8 rfl rfl)
abbrev cJ12_compareToUTF16 : ByteArray := prog_33_method_16_code
def yJ12_compareToUTF16 : MethodName := ⟨RJ12, "compareToUTF16", "([B[B)I"⟩
def dkwJ12_compareToUTF16_0 : List UInt8 := [42, 184, 0, 54, 61, 43, 184, 0, 58, 62, 42, 43, 28, 29, 184, 0, 59, 172]
abbrev dktJ12_compareToUTF16_0 : List UInt8 := dkwJ12_compareToUTF16_0 ++ []
theorem dksJ12_compareToUTF16_0 : cJ12_compareToUTF16.data.toList.drop 0 = dktJ12_compareToUTF16_0 := by decide +kernel
theorem dJ12_compareToUTF16_0 : decode cJ12_compareToUTF16 0 = .ok (.aload_n 0, 1) := dk_42 (dk_at dksJ12_compareToUTF16_0 0 rfl rfl)
theorem dJ12_compareToUTF16_1 : decode cJ12_compareToUTF16 1 = .ok (.invokestatic 54, 3) := dk_184 0 54 (dk_at dksJ12_compareToUTF16_0 1 rfl rfl)
theorem dJ12_compareToUTF16_4 : decode cJ12_compareToUTF16 4 = .ok (.istore_n 2, 1) := dk_61 (dk_at dksJ12_compareToUTF16_0 4 rfl rfl)
theorem dJ12_compareToUTF16_5 : decode cJ12_compareToUTF16 5 = .ok (.aload_n 1, 1) := dk_43 (dk_at dksJ12_compareToUTF16_0 5 rfl rfl)
theorem dJ12_compareToUTF16_6 : decode cJ12_compareToUTF16 6 = .ok (.invokestatic 58, 3) := dk_184 0 58 (dk_at dksJ12_compareToUTF16_0 6 rfl rfl)
theorem dJ12_compareToUTF16_9 : decode cJ12_compareToUTF16 9 = .ok (.istore_n 3, 1) := dk_62 (dk_at dksJ12_compareToUTF16_0 9 rfl rfl)
theorem dJ12_compareToUTF16_10 : decode cJ12_compareToUTF16 10 = .ok (.aload_n 0, 1) := dk_42 (dk_at dksJ12_compareToUTF16_0 10 rfl rfl)
theorem dJ12_compareToUTF16_11 : decode cJ12_compareToUTF16 11 = .ok (.aload_n 1, 1) := dk_43 (dk_at dksJ12_compareToUTF16_0 11 rfl rfl)
theorem dJ12_compareToUTF16_12 : decode cJ12_compareToUTF16 12 = .ok (.iload_n 2, 1) := dk_28 (dk_at dksJ12_compareToUTF16_0 12 rfl rfl)
theorem dJ12_compareToUTF16_13 : decode cJ12_compareToUTF16 13 = .ok (.iload_n 3, 1) := dk_29 (dk_at dksJ12_compareToUTF16_0 13 rfl rfl)
theorem dJ12_compareToUTF16_14 : decode cJ12_compareToUTF16 14 = .ok (.invokestatic 59, 3) := dk_184 0 59 (dk_at dksJ12_compareToUTF16_0 14 rfl rfl)
theorem dJ12_compareToUTF16_17 : decode cJ12_compareToUTF16 17 = .ok (.ireturn, 1) := dk_172 (dk_at dksJ12_compareToUTF16_0 17 rfl rfl)
abbrev cJ12_length : ByteArray := prog_33_method_5_code
def yJ12_length : MethodName := ⟨RJ12, "length", "([B)I"⟩
theorem dJ12_length_0 : decode cJ12_length 0 = .ok (.aload_n 0, 1) := by decide +kernel
theorem dJ12_length_1 : decode cJ12_length 1 = .ok (.arraylength, 1) := by decide +kernel
theorem dJ12_length_2 : decode cJ12_length 2 = .ok (.ireturn, 1) := by decide +kernel
abbrev cJ12_compareToUTF16Values : ByteArray := prog_33_method_18_code
def yJ12_compareToUTF16Values : MethodName := ⟨RJ12, "compareToUTF16Values", "([B[BII)I"⟩
def dkwJ12_compareToUTF16Values_2 : List UInt8 := [132, 5, 1, 167, 255, 217, 28, 29, 100, 172]
abbrev dktJ12_compareToUTF16Values_2 : List UInt8 := dkwJ12_compareToUTF16Values_2 ++ []
def dkwJ12_compareToUTF16Values_1 : List UInt8 := [54, 6, 43, 21, 5, 184, 0, 65, 54, 7, 21, 6, 21, 7, 159, 0, 9, 21, 6, 21, 7, 100, 172]
abbrev dktJ12_compareToUTF16Values_1 : List UInt8 := dkwJ12_compareToUTF16Values_1 ++ dktJ12_compareToUTF16Values_2
def dkwJ12_compareToUTF16Values_0 : List UInt8 := [28, 29, 184, 0, 38, 54, 4, 3, 54, 5, 21, 5, 21, 4, 162, 0, 38, 42, 21, 5, 184, 0, 50]
abbrev dktJ12_compareToUTF16Values_0 : List UInt8 := dkwJ12_compareToUTF16Values_0 ++ dktJ12_compareToUTF16Values_1
theorem dksJ12_compareToUTF16Values_0 : cJ12_compareToUTF16Values.data.toList.drop 0 = dktJ12_compareToUTF16Values_0 := by decide +kernel
theorem dksJ12_compareToUTF16Values_1 : cJ12_compareToUTF16Values.data.toList.drop 23 = dktJ12_compareToUTF16Values_1 := dk_seg dksJ12_compareToUTF16Values_0 23 rfl rfl
theorem dksJ12_compareToUTF16Values_2 : cJ12_compareToUTF16Values.data.toList.drop 46 = dktJ12_compareToUTF16Values_2 := dk_seg dksJ12_compareToUTF16Values_1 23 rfl rfl
theorem dJ12_compareToUTF16Values_0 : decode cJ12_compareToUTF16Values 0 = .ok (.iload_n 2, 1) := dk_28 (dk_at dksJ12_compareToUTF16Values_0 0 rfl rfl)
theorem dJ12_compareToUTF16Values_1 : decode cJ12_compareToUTF16Values 1 = .ok (.iload_n 3, 1) := dk_29 (dk_at dksJ12_compareToUTF16Values_0 1 rfl rfl)
theorem dJ12_compareToUTF16Values_2 : decode cJ12_compareToUTF16Values 2 = .ok (.invokestatic 38, 3) := dk_184 0 38 (dk_at dksJ12_compareToUTF16Values_0 2 rfl rfl)
theorem dJ12_compareToUTF16Values_5 : decode cJ12_compareToUTF16Values 5 = .ok (.istore 4, 2) := dk_54 4 (dk_at dksJ12_compareToUTF16Values_0 5 rfl rfl)
theorem dJ12_compareToUTF16Values_7 : decode cJ12_compareToUTF16Values 7 = .ok (.iconst 0, 1) := dk_3 (dk_at dksJ12_compareToUTF16Values_0 7 rfl rfl)
theorem dJ12_compareToUTF16Values_8 : decode cJ12_compareToUTF16Values 8 = .ok (.istore 5, 2) := dk_54 5 (dk_at dksJ12_compareToUTF16Values_0 8 rfl rfl)
theorem dJ12_compareToUTF16Values_10 : decode cJ12_compareToUTF16Values 10 = .ok (.iload 5, 2) := dk_21 5 (dk_at dksJ12_compareToUTF16Values_0 10 rfl rfl)
theorem dJ12_compareToUTF16Values_12 : decode cJ12_compareToUTF16Values 12 = .ok (.iload 4, 2) := dk_21 4 (dk_at dksJ12_compareToUTF16Values_0 12 rfl rfl)
theorem dJ12_compareToUTF16Values_14 : decode cJ12_compareToUTF16Values 14 = .ok (.if_icmp .ge 38, 3) := dk_162 0 38 (dk_at dksJ12_compareToUTF16Values_0 14 rfl rfl)
theorem dJ12_compareToUTF16Values_17 : decode cJ12_compareToUTF16Values 17 = .ok (.aload_n 0, 1) := dk_42 (dk_at dksJ12_compareToUTF16Values_0 17 rfl rfl)
theorem dJ12_compareToUTF16Values_18 : decode cJ12_compareToUTF16Values 18 = .ok (.iload 5, 2) := dk_21 5 (dk_at dksJ12_compareToUTF16Values_0 18 rfl rfl)
theorem dJ12_compareToUTF16Values_20 : decode cJ12_compareToUTF16Values 20 = .ok (.invokestatic 50, 3) := dk_184 0 50 (dk_at dksJ12_compareToUTF16Values_0 20 rfl rfl)
theorem dJ12_compareToUTF16Values_23 : decode cJ12_compareToUTF16Values 23 = .ok (.istore 6, 2) := dk_54 6 (dk_at dksJ12_compareToUTF16Values_1 0 rfl rfl)
theorem dJ12_compareToUTF16Values_25 : decode cJ12_compareToUTF16Values 25 = .ok (.aload_n 1, 1) := dk_43 (dk_at dksJ12_compareToUTF16Values_1 2 rfl rfl)
theorem dJ12_compareToUTF16Values_26 : decode cJ12_compareToUTF16Values 26 = .ok (.iload 5, 2) := dk_21 5 (dk_at dksJ12_compareToUTF16Values_1 3 rfl rfl)
theorem dJ12_compareToUTF16Values_28 : decode cJ12_compareToUTF16Values 28 = .ok (.invokestatic 65, 3) := dk_184 0 65 (dk_at dksJ12_compareToUTF16Values_1 5 rfl rfl)
theorem dJ12_compareToUTF16Values_31 : decode cJ12_compareToUTF16Values 31 = .ok (.istore 7, 2) := dk_54 7 (dk_at dksJ12_compareToUTF16Values_1 8 rfl rfl)
theorem dJ12_compareToUTF16Values_33 : decode cJ12_compareToUTF16Values 33 = .ok (.iload 6, 2) := dk_21 6 (dk_at dksJ12_compareToUTF16Values_1 10 rfl rfl)
theorem dJ12_compareToUTF16Values_35 : decode cJ12_compareToUTF16Values 35 = .ok (.iload 7, 2) := dk_21 7 (dk_at dksJ12_compareToUTF16Values_1 12 rfl rfl)
theorem dJ12_compareToUTF16Values_37 : decode cJ12_compareToUTF16Values 37 = .ok (.if_icmp .eq 9, 3) := dk_159 0 9 (dk_at dksJ12_compareToUTF16Values_1 14 rfl rfl)
theorem dJ12_compareToUTF16Values_40 : decode cJ12_compareToUTF16Values 40 = .ok (.iload 6, 2) := dk_21 6 (dk_at dksJ12_compareToUTF16Values_1 17 rfl rfl)
theorem dJ12_compareToUTF16Values_42 : decode cJ12_compareToUTF16Values 42 = .ok (.iload 7, 2) := dk_21 7 (dk_at dksJ12_compareToUTF16Values_1 19 rfl rfl)
theorem dJ12_compareToUTF16Values_44 : decode cJ12_compareToUTF16Values 44 = .ok (.isub, 1) := dk_100 (dk_at dksJ12_compareToUTF16Values_1 21 rfl rfl)
theorem dJ12_compareToUTF16Values_45 : decode cJ12_compareToUTF16Values 45 = .ok (.ireturn, 1) := dk_172 (dk_at dksJ12_compareToUTF16Values_1 22 rfl rfl)
theorem dJ12_compareToUTF16Values_46 : decode cJ12_compareToUTF16Values 46 = .ok (.iinc 5 1, 3) := dk_132 5 1 (dk_at dksJ12_compareToUTF16Values_2 0 rfl rfl)
theorem dJ12_compareToUTF16Values_49 : decode cJ12_compareToUTF16Values 49 = .ok (.goto (-39), 3) := dk_167 255 217 (dk_at dksJ12_compareToUTF16Values_2 3 rfl rfl)
theorem dJ12_compareToUTF16Values_52 : decode cJ12_compareToUTF16Values 52 = .ok (.iload_n 2, 1) := dk_28 (dk_at dksJ12_compareToUTF16Values_2 6 rfl rfl)
theorem dJ12_compareToUTF16Values_53 : decode cJ12_compareToUTF16Values 53 = .ok (.iload_n 3, 1) := dk_29 (dk_at dksJ12_compareToUTF16Values_2 7 rfl rfl)
theorem dJ12_compareToUTF16Values_54 : decode cJ12_compareToUTF16Values 54 = .ok (.isub, 1) := dk_100 (dk_at dksJ12_compareToUTF16Values_2 8 rfl rfl)
theorem dJ12_compareToUTF16Values_55 : decode cJ12_compareToUTF16Values 55 = .ok (.ireturn, 1) := dk_172 (dk_at dksJ12_compareToUTF16Values_2 9 rfl rfl)
theorem q205 : (Jvm.Cond.initialized "java/lang/StringLatin1") ∈ lw_all := lw_g (lw_at lw_m1 20 rfl) rfl
theorem q818 : (Jvm.Cond.static ({ cls := "java/lang/StringLatin1", name := "charAt", desc := "([BI)C" } : Jvm.MethodName)) ∈ lw_all := lw_g (lw_at lw_m3 153 rfl) rfl
theorem q819 : (Jvm.Cond.code ({ cls := "java/lang/StringLatin1", name := "charAt", desc := "([BI)C" } : Jvm.MethodName) prog_33_method_2_code (2 : Nat) (Option.some Jvm.ClassFile.FieldType.char)) ∈ lw_all := lw_g (lw_at lw_m3 154 rfl) rfl
theorem q820 : (Jvm.Cond.methodLink "java/lang/StringLatin1" (9 : Nat) ({ cls := "java/lang/String", name := "checkIndex", desc := "(II)V" } : Jvm.MethodName)) ∈ lw_all := lw_g (lw_at lw_m3 155 rfl) rfl
theorem q1407 : (Jvm.Cond.static ({ cls := "java/lang/StringLatin1", name := "compareTo", desc := "([B[B)I" } : Jvm.MethodName)) ∈ lw_all := lw_g (lw_at lw_m6 22 rfl) rfl
theorem q1408 : (Jvm.Cond.code ({ cls := "java/lang/StringLatin1", name := "compareTo", desc := "([B[B)I" } : Jvm.MethodName) prog_33_method_14_code (4 : Nat) (Option.some Jvm.ClassFile.FieldType.int)) ∈ lw_all := lw_g (lw_at lw_m6 23 rfl) rfl
theorem q1409 : (Jvm.Cond.methodLink "java/lang/StringLatin1" (34 : Nat) ({ cls := "java/lang/StringLatin1", name := "compareTo", desc := "([B[BII)I" } : Jvm.MethodName)) ∈ lw_all := lw_g (lw_at lw_m6 24 rfl) rfl
theorem q1410 : (Jvm.Cond.static ({ cls := "java/lang/StringLatin1", name := "compareTo", desc := "([B[BII)I" } : Jvm.MethodName)) ∈ lw_all := lw_g (lw_at lw_m6 25 rfl) rfl
theorem q1411 : (Jvm.Cond.code ({ cls := "java/lang/StringLatin1", name := "compareTo", desc := "([B[BII)I" } : Jvm.MethodName) prog_33_method_15_code (6 : Nat) (Option.some Jvm.ClassFile.FieldType.int)) ∈ lw_all := lw_g (lw_at lw_m6 26 rfl) rfl
theorem q1412 : (Jvm.Cond.methodLink "java/lang/StringLatin1" (38 : Nat) ({ cls := "java/lang/Math", name := "min", desc := "(II)I" } : Jvm.MethodName)) ∈ lw_all := lw_g (lw_at lw_m6 27 rfl) rfl
theorem q1413 : (Jvm.Cond.methodLink "java/lang/StringLatin1" (44 : Nat) ({ cls := "jdk/internal/util/ArraysSupport", name := "mismatch", desc := "([B[BI)I" } : Jvm.MethodName)) ∈ lw_all := lw_g (lw_at lw_m6 28 rfl) rfl
theorem q1511 : (Jvm.Cond.methodLink "java/lang/StringLatin1" (50 : Nat) ({ cls := "java/lang/StringLatin1", name := "getChar", desc := "([BI)C" } : Jvm.MethodName)) ∈ lw_all := lw_g (lw_at lw_m6 126 rfl) rfl
theorem q1512 : (Jvm.Cond.static ({ cls := "java/lang/StringLatin1", name := "getChar", desc := "([BI)C" } : Jvm.MethodName)) ∈ lw_all := lw_g (lw_at lw_m6 127 rfl) rfl
theorem q1513 : (Jvm.Cond.code ({ cls := "java/lang/StringLatin1", name := "getChar", desc := "([BI)C" } : Jvm.MethodName) prog_33_method_44_code (2 : Nat) (Option.some Jvm.ClassFile.FieldType.char)) ∈ lw_all := lw_g (lw_at lw_m6 128 rfl) rfl
theorem q1522 : (Jvm.Cond.static ({ cls := "java/lang/StringLatin1", name := "compareToUTF16", desc := "([B[B)I" } : Jvm.MethodName)) ∈ lw_all := lw_g (lw_at lw_m6 137 rfl) rfl
theorem q1523 : (Jvm.Cond.code ({ cls := "java/lang/StringLatin1", name := "compareToUTF16", desc := "([B[B)I" } : Jvm.MethodName) prog_33_method_16_code (4 : Nat) (Option.some Jvm.ClassFile.FieldType.int)) ∈ lw_all := lw_g (lw_at lw_m6 138 rfl) rfl
theorem q1524 : (Jvm.Cond.methodLink "java/lang/StringLatin1" (54 : Nat) ({ cls := "java/lang/StringLatin1", name := "length", desc := "([B)I" } : Jvm.MethodName)) ∈ lw_all := lw_g (lw_at lw_m6 139 rfl) rfl
theorem q1525 : (Jvm.Cond.static ({ cls := "java/lang/StringLatin1", name := "length", desc := "([B)I" } : Jvm.MethodName)) ∈ lw_all := lw_g (lw_at lw_m6 140 rfl) rfl
theorem q1526 : (Jvm.Cond.code ({ cls := "java/lang/StringLatin1", name := "length", desc := "([B)I" } : Jvm.MethodName) prog_33_method_5_code (1 : Nat) (Option.some Jvm.ClassFile.FieldType.int)) ∈ lw_all := lw_g (lw_at lw_m6 141 rfl) rfl
theorem q1527 : (Jvm.Cond.methodLink "java/lang/StringLatin1" (58 : Nat) ({ cls := "java/lang/StringUTF16", name := "length", desc := "([B)I" } : Jvm.MethodName)) ∈ lw_all := lw_g (lw_at lw_m6 142 rfl) rfl
theorem q1528 : (Jvm.Cond.methodLink "java/lang/StringLatin1" (59 : Nat) ({ cls := "java/lang/StringLatin1", name := "compareToUTF16Values", desc := "([B[BII)I" } : Jvm.MethodName)) ∈ lw_all := lw_g (lw_at lw_m6 143 rfl) rfl
theorem q1529 : (Jvm.Cond.static ({ cls := "java/lang/StringLatin1", name := "compareToUTF16Values", desc := "([B[BII)I" } : Jvm.MethodName)) ∈ lw_all := lw_g (lw_at lw_m6 144 rfl) rfl
theorem q1530 : (Jvm.Cond.code ({ cls := "java/lang/StringLatin1", name := "compareToUTF16Values", desc := "([B[BII)I" } : Jvm.MethodName) prog_33_method_18_code (8 : Nat) (Option.some Jvm.ClassFile.FieldType.int)) ∈ lw_all := lw_g (lw_at lw_m6 145 rfl) rfl
theorem q1531 : (Jvm.Cond.methodLink "java/lang/StringLatin1" (65 : Nat) ({ cls := "java/lang/StringUTF16", name := "getChar", desc := "([BI)C" } : Jvm.MethodName)) ∈ lw_all := lw_g (lw_at lw_m6 146 rfl) rfl
/-! java/lang/StringUTF16 -/
set_option maxRecDepth 100000
def RJ13 : String := "java/lang/StringUTF16"
abbrev cJ13_charAt : ByteArray := prog_34_method_83_code
def yJ13_charAt : MethodName := ⟨RJ13, "charAt", "([BI)C"⟩
def dkwJ13_charAt_0 : List UInt8 := [27, 42, 184, 0, 67, 42, 27, 184, 0, 71, 172]
abbrev dktJ13_charAt_0 : List UInt8 := dkwJ13_charAt_0 ++ []
theorem dksJ13_charAt_0 : cJ13_charAt.data.toList.drop 0 = dktJ13_charAt_0 := by decide +kernel
theorem dJ13_charAt_0 : decode cJ13_charAt 0 = .ok (.iload_n 1, 1) := dk_27 (dk_at dksJ13_charAt_0 0 rfl rfl)
theorem dJ13_charAt_1 : decode cJ13_charAt 1 = .ok (.aload_n 0, 1) := dk_42 (dk_at dksJ13_charAt_0 1 rfl rfl)
theorem dJ13_charAt_2 : decode cJ13_charAt 2 = .ok (.invokestatic 67, 3) := dk_184 0 67 (dk_at dksJ13_charAt_0 2 rfl rfl)
theorem dJ13_charAt_5 : decode cJ13_charAt 5 = .ok (.aload_n 0, 1) := dk_42 (dk_at dksJ13_charAt_0 5 rfl rfl)
theorem dJ13_charAt_6 : decode cJ13_charAt 6 = .ok (.iload_n 1, 1) := dk_27 (dk_at dksJ13_charAt_0 6 rfl rfl)
theorem dJ13_charAt_7 : decode cJ13_charAt 7 = .ok (.invokestatic 71, 3) := dk_184 0 71 (dk_at dksJ13_charAt_0 7 rfl rfl)
theorem dJ13_charAt_10 : decode cJ13_charAt 10 = .ok (.ireturn, 1) := dk_172 (dk_at dksJ13_charAt_0 10 rfl rfl)
abbrev cJ13_checkIndex : ByteArray := prog_34_method_91_code
def yJ13_checkIndex : MethodName := ⟨RJ13, "checkIndex", "(I[B)V"⟩
def dkwJ13_checkIndex_0 : List UInt8 := [26, 43, 184, 0, 48, 184, 1, 158, 177]
abbrev dktJ13_checkIndex_0 : List UInt8 := dkwJ13_checkIndex_0 ++ []
theorem dksJ13_checkIndex_0 : cJ13_checkIndex.data.toList.drop 0 = dktJ13_checkIndex_0 := by decide +kernel
theorem dJ13_checkIndex_0 : decode cJ13_checkIndex 0 = .ok (.iload_n 0, 1) := dk_26 (dk_at dksJ13_checkIndex_0 0 rfl rfl)
theorem dJ13_checkIndex_1 : decode cJ13_checkIndex 1 = .ok (.aload_n 1, 1) := dk_43 (dk_at dksJ13_checkIndex_0 1 rfl rfl)
theorem dJ13_checkIndex_2 : decode cJ13_checkIndex 2 = .ok (.invokestatic 48, 3) := dk_184 0 48 (dk_at dksJ13_checkIndex_0 2 rfl rfl)
theorem dJ13_checkIndex_5 : decode cJ13_checkIndex 5 = .ok (.invokestatic 414, 3) := dk_184 1 158 (dk_at dksJ13_checkIndex_0 5 rfl rfl)
theorem dJ13_checkIndex_8 : decode cJ13_checkIndex 8 = .ok (.return_, 1) := dk_177 (dk_at dksJ13_checkIndex_0 8 rfl rfl)
abbrev cJ13_length : ByteArray := prog_34_method_6_code
def yJ13_length : MethodName := ⟨RJ13, "length", "([B)I"⟩
def dkwJ13_length_0 : List UInt8 := [42, 190, 4, 122, 172]
abbrev dktJ13_length_0 : List UInt8 := dkwJ13_length_0 ++ []
theorem dksJ13_length_0 : cJ13_length.data.toList.drop 0 = dktJ13_length_0 := by decide +kernel
theorem dJ13_length_0 : decode cJ13_length 0 = .ok (.aload_n 0, 1) := dk_42 (dk_at dksJ13_length_0 0 rfl rfl)
theorem dJ13_length_1 : decode cJ13_length 1 = .ok (.arraylength, 1) := dk_190 (dk_at dksJ13_length_0 1 rfl rfl)
theorem dJ13_length_2 : decode cJ13_length 2 = .ok (.iconst 1, 1) := dk_4 (dk_at dksJ13_length_0 2 rfl rfl)
theorem dJ13_length_3 : decode cJ13_length 3 = .ok (.ishr, 1) := dk_122 (dk_at dksJ13_length_0 3 rfl rfl)
theorem dJ13_length_4 : decode cJ13_length 4 = .ok (.ireturn, 1) := dk_172 (dk_at dksJ13_length_0 4 rfl rfl)
abbrev cJ13_getChar : ByteArray := prog_34_method_5_code
def yJ13_getChar : MethodName := ⟨RJ13, "getChar", "([BI)C"⟩
def dkwJ13_getChar_2 : List UInt8 := [51, 17, 0, 255, 126, 178, 0, 63, 120, 128, 146, 172]
abbrev dktJ13_getChar_2 : List UInt8 := dkwJ13_getChar_2 ++ []
def dkwJ13_getChar_1 : List UInt8 := [183, 0, 56, 191, 27, 4, 120, 60, 42, 27, 132, 1, 1, 51, 17, 0, 255, 126, 178, 0, 59, 120, 42, 27]
abbrev dktJ13_getChar_1 : List UInt8 := dkwJ13_getChar_1 ++ dktJ13_getChar_2
def dkwJ13_getChar_0 : List UInt8 := [178, 0, 44, 154, 0, 25, 27, 155, 0, 11, 27, 42, 184, 0, 48, 161, 0, 13, 187, 0, 52, 89, 18, 54]
abbrev dktJ13_getChar_0 : List UInt8 := dkwJ13_getChar_0 ++ dktJ13_getChar_1
theorem dksJ13_getChar_0 : cJ13_getChar.data.toList.drop 0 = dktJ13_getChar_0 := by decide +kernel
theorem dksJ13_getChar_1 : cJ13_getChar.data.toList.drop 24 = dktJ13_getChar_1 := dk_seg dksJ13_getChar_0 24 rfl rfl
theorem dksJ13_getChar_2 : cJ13_getChar.data.toList.drop 48 = dktJ13_getChar_2 := dk_seg dksJ13_getChar_1 24 rfl rfl
theorem dJ13_getChar_0 : decode cJ13_getChar 0 = .ok (.getstatic 44, 3) := dk_178 0 44 (dk_at dksJ13_getChar_0 0 rfl rfl)
theorem dJ13_getChar_3 : decode cJ13_getChar 3 = .ok (.ifCond .ne 25, 3) := dk_154 0 25 (dk_at dksJ13_getChar_0 3 rfl rfl)
theorem dJ13_getChar_6 : decode cJ13_getChar 6 = .ok (.iload_n 1, 1) := dk_27 (dk_at dksJ13_getChar_0 6 rfl rfl)
theorem dJ13_getChar_7 : decode cJ13_getChar 7 = .ok (.ifCond .lt 11, 3) := dk_155 0 11 (dk_at dksJ13_getChar_0 7 rfl rfl)
theorem dJ13_getChar_10 : decode cJ13_getChar 10 = .ok (.iload_n 1, 1) := dk_27 (dk_at dksJ13_getChar_0 10 rfl rfl)
theorem dJ13_getChar_11 : decode cJ13_getChar 11 = .ok (.aload_n 0, 1) := dk_42 (dk_at dksJ13_getChar_0 11 rfl rfl)
theorem dJ13_getChar_12 : decode cJ13_getChar 12 = .ok (.invokestatic 48, 3) := dk_184 0 48 (dk_at dksJ13_getChar_0 12 rfl rfl)
theorem dJ13_getChar_15 : decode cJ13_getChar 15 = .ok (.if_icmp .lt 13, 3) := dk_161 0 13 (dk_at dksJ13_getChar_0 15 rfl rfl)
theorem dJ13_getChar_18 : decode cJ13_getChar 18 = .ok (.new 52, 3) := dk_187 0 52 (dk_at dksJ13_getChar_0 18 rfl rfl)
theorem dJ13_getChar_21 : decode cJ13_getChar 21 = .ok (.dup, 1) := dk_89 (dk_at dksJ13_getChar_0 21 rfl rfl)
theorem dJ13_getChar_22 : decode cJ13_getChar 22 = .ok (.ldc 54, 2) := dk_18 54 (dk_at dksJ13_getChar_0 22 rfl rfl)
theorem dJ13_getChar_24 : decode cJ13_getChar 24 = .ok (.invokespecial 56, 3) := dk_183 0 56 (dk_at dksJ13_getChar_1 0 rfl rfl)
theorem dJ13_getChar_27 : decode cJ13_getChar 27 = .ok (.athrow, 1) := dk_191 (dk_at dksJ13_getChar_1 3 rfl rfl)
theorem dJ13_getChar_28 : decode cJ13_getChar 28 = .ok (.iload_n 1, 1) := dk_27 (dk_at dksJ13_getChar_1 4 rfl rfl)
theorem dJ13_getChar_29 : decode cJ13_getChar 29 = .ok (.iconst 1, 1) := dk_4 (dk_at dksJ13_getChar_1 5 rfl rfl)
theorem dJ13_getChar_30 : decode cJ13_getChar 30 = .ok (.ishl, 1) := dk_120 (dk_at dksJ13_getChar_1 6 rfl rfl)
theorem dJ13_getChar_31 : decode cJ13_getChar 31 = .ok (.istore_n 1, 1) := dk_60 (dk_at dksJ13_getChar_1 7 rfl rfl)
theorem dJ13_getChar_32 : decode cJ13_getChar 32 = .ok (.aload_n 0, 1) := dk_42 (dk_at dksJ13_getChar_1 8 rfl rfl)
theorem dJ13_getChar_33 : decode cJ13_getChar 33 = .ok (.iload_n 1, 1) := dk_27 (dk_at dksJ13_getChar_1 9 rfl rfl)
theorem dJ13_getChar_34 : decode cJ13_getChar 34 = .ok (.iinc 1 1, 3) := dk_132 1 1 (dk_at dksJ13_getChar_1 10 rfl rfl)
theorem dJ13_getChar_37 : decode cJ13_getChar 37 = .ok (.baload, 1) := dk_51 (dk_at dksJ13_getChar_1 13 rfl rfl)
theorem dJ13_getChar_38 : decode cJ13_getChar 38 = .ok (.sipush 255, 3) := dk_17 0 255 (dk_at dksJ13_getChar_1 14 rfl rfl)
theorem dJ13_getChar_41 : decode cJ13_getChar 41 = .ok (.iand, 1) := dk_126 (dk_at dksJ13_getChar_1 17 rfl rfl)
theorem dJ13_getChar_42 : decode cJ13_getChar 42 = .ok (.getstatic 59, 3) := dk_178 0 59 (dk_at dksJ13_getChar_1 18 rfl rfl)
theorem dJ13_getChar_45 : decode cJ13_getChar 45 = .ok (.ishl, 1) := dk_120 (dk_at dksJ13_getChar_1 21 rfl rfl)
theorem dJ13_getChar_46 : decode cJ13_getChar 46 = .ok (.aload_n 0, 1) := dk_42 (dk_at dksJ13_getChar_1 22 rfl rfl)
theorem dJ13_getChar_47 : decode cJ13_getChar 47 = .ok (.iload_n 1, 1) := dk_27 (dk_at dksJ13_getChar_1 23 rfl rfl)
theorem dJ13_getChar_48 : decode cJ13_getChar 48 = .ok (.baload, 1) := dk_51 (dk_at dksJ13_getChar_2 0 rfl rfl)
theorem dJ13_getChar_49 : decode cJ13_getChar 49 = .ok (.sipush 255, 3) := dk_17 0 255 (dk_at dksJ13_getChar_2 1 rfl rfl)
theorem dJ13_getChar_52 : decode cJ13_getChar 52 = .ok (.iand, 1) := dk_126 (dk_at dksJ13_getChar_2 4 rfl rfl)
theorem dJ13_getChar_53 : decode cJ13_getChar 53 = .ok (.getstatic 63, 3) := dk_178 0 63 (dk_at dksJ13_getChar_2 5 rfl rfl)
theorem dJ13_getChar_56 : decode cJ13_getChar 56 = .ok (.ishl, 1) := dk_120 (dk_at dksJ13_getChar_2 8 rfl rfl)
theorem dJ13_getChar_57 : decode cJ13_getChar 57 = .ok (.ior, 1) := dk_128 (dk_at dksJ13_getChar_2 9 rfl rfl)
theorem dJ13_getChar_58 : decode cJ13_getChar 58 = .ok (.i2c, 1) := dk_146 (dk_at dksJ13_getChar_2 10 rfl rfl)
theorem dJ13_getChar_59 : decode cJ13_getChar 59 = .ok (.ireturn, 1) := dk_172 (dk_at dksJ13_getChar_2 11 rfl rfl)
abbrev cJ13_compareTo : ByteArray := prog_34_method_29_code
def yJ13_compareTo : MethodName := ⟨RJ13, "compareTo", "([B[B)I"⟩
def dkwJ13_compareTo_0 : List UInt8 := [42, 184, 0, 48, 61, 43, 184, 0, 48, 62, 42, 43, 28, 29, 184, 0, 176, 172]
abbrev dktJ13_compareTo_0 : List UInt8 := dkwJ13_compareTo_0 ++ []
theorem dksJ13_compareTo_0 : cJ13_compareTo.data.toList.drop 0 = dktJ13_compareTo_0 := by decide +kernel
theorem dJ13_compareTo_0 : decode cJ13_compareTo 0 = .ok (.aload_n 0, 1) := dk_42 (dk_at dksJ13_compareTo_0 0 rfl rfl)
theorem dJ13_compareTo_1 : decode cJ13_compareTo 1 = .ok (.invokestatic 48, 3) := dk_184 0 48 (dk_at dksJ13_compareTo_0 1 rfl rfl)
theorem dJ13_compareTo_4 : decode cJ13_compareTo 4 = .ok (.istore_n 2, 1) := dk_61 (dk_at dksJ13_compareTo_0 4 rfl rfl)
theorem dJ13_compareTo_5 : decode cJ13_compareTo 5 = .ok (.aload_n 1, 1) := dk_43 (dk_at dksJ13_compareTo_0 5 rfl rfl)
theorem dJ13_compareTo_6 : decode cJ13_compareTo 6 = .ok (.invokestatic 48, 3) := dk_184 0 48 (dk_at dksJ13_compareTo_0 6 rfl rfl)
theorem dJ13_compareTo_9 : decode cJ13_compareTo 9 = .ok (.istore_n 3, 1) := dk_62 (dk_at dksJ13_compareTo_0 9 rfl rfl)
theorem dJ13_compareTo_10 : decode cJ13_compareTo 10 = .ok (.aload_n 0, 1) := dk_42 (dk_at dksJ13_compareTo_0 10 rfl rfl)
theorem dJ13_compareTo_11 : decode cJ13_compareTo 11 = .ok (.aload_n 1, 1) := dk_43 (dk_at dksJ13_compareTo_0 11 rfl rfl)
theorem dJ13_compareTo_12 : decode cJ13_compareTo 12 = .ok (.iload_n 2, 1) := dk_28 (dk_at dksJ13_compareTo_0 12 rfl rfl)
theorem dJ13_compareTo_13 : decode cJ13_compareTo 13 = .ok (.iload_n 3, 1) := dk_29 (dk_at dksJ13_compareTo_0 13 rfl rfl)
theorem dJ13_compareTo_14 : decode cJ13_compareTo 14 = .ok (.invokestatic 176, 3) := dk_184 0 176 (dk_at dksJ13_compareTo_0 14 rfl rfl)
theorem dJ13_compareTo_17 : decode cJ13_compareTo 17 = .ok (.ireturn, 1) := dk_172 (dk_at dksJ13_compareTo_0 17 rfl rfl)
abbrev cJ13_compareValues : ByteArray := prog_34_method_31_code
def yJ13_compareValues : MethodName := ⟨RJ13, "compareValues", "([B[BII)I"⟩
def dkwJ13_compareValues_2 : List UInt8 := [132, 5, 1, 167, 255, 217, 28, 29, 100, 172]
abbrev dktJ13_compareValues_2 : List UInt8 := dkwJ13_compareValues_2 ++ []
def dkwJ13_compareValues_1 : List UInt8 := [54, 6, 43, 21, 5, 184, 0, 71, 54, 7, 21, 6, 21, 7, 159, 0, 9, 21, 6, 21, 7, 100, 172]
abbrev dktJ13_compareValues_1 : List UInt8 := dkwJ13_compareValues_1 ++ dktJ13_compareValues_2
def dkwJ13_compareValues_0 : List UInt8 := [28, 29, 184, 0, 183, 54, 4, 3, 54, 5, 21, 5, 21, 4, 162, 0, 38, 42, 21, 5, 184, 0, 71]
abbrev dktJ13_compareValues_0 : List UInt8 := dkwJ13_compareValues_0 ++ dktJ13_compareValues_1
theorem dksJ13_compareValues_0 : cJ13_compareValues.data.toList.drop 0 = dktJ13_compareValues_0 := by decide +kernel
theorem dksJ13_compareValues_1 : cJ13_compareValues.data.toList.drop 23 = dktJ13_compareValues_1 := dk_seg dksJ13_compareValues_0 23 rfl rfl
theorem dksJ13_compareValues_2 : cJ13_compareValues.data.toList.drop 46 = dktJ13_compareValues_2 := dk_seg dksJ13_compareValues_1 23 rfl rfl
theorem dJ13_compareValues_0 : decode cJ13_compareValues 0 = .ok (.iload_n 2, 1) := dk_28 (dk_at dksJ13_compareValues_0 0 rfl rfl)
theorem dJ13_compareValues_1 : decode cJ13_compareValues 1 = .ok (.iload_n 3, 1) := dk_29 (dk_at dksJ13_compareValues_0 1 rfl rfl)
theorem dJ13_compareValues_2 : decode cJ13_compareValues 2 = .ok (.invokestatic 183, 3) := dk_184 0 183 (dk_at dksJ13_compareValues_0 2 rfl rfl)
theorem dJ13_compareValues_5 : decode cJ13_compareValues 5 = .ok (.istore 4, 2) := dk_54 4 (dk_at dksJ13_compareValues_0 5 rfl rfl)
theorem dJ13_compareValues_7 : decode cJ13_compareValues 7 = .ok (.iconst 0, 1) := dk_3 (dk_at dksJ13_compareValues_0 7 rfl rfl)
theorem dJ13_compareValues_8 : decode cJ13_compareValues 8 = .ok (.istore 5, 2) := dk_54 5 (dk_at dksJ13_compareValues_0 8 rfl rfl)
theorem dJ13_compareValues_10 : decode cJ13_compareValues 10 = .ok (.iload 5, 2) := dk_21 5 (dk_at dksJ13_compareValues_0 10 rfl rfl)
theorem dJ13_compareValues_12 : decode cJ13_compareValues 12 = .ok (.iload 4, 2) := dk_21 4 (dk_at dksJ13_compareValues_0 12 rfl rfl)
theorem dJ13_compareValues_14 : decode cJ13_compareValues 14 = .ok (.if_icmp .ge 38, 3) := dk_162 0 38 (dk_at dksJ13_compareValues_0 14 rfl rfl)
theorem dJ13_compareValues_17 : decode cJ13_compareValues 17 = .ok (.aload_n 0, 1) := dk_42 (dk_at dksJ13_compareValues_0 17 rfl rfl)
theorem dJ13_compareValues_18 : decode cJ13_compareValues 18 = .ok (.iload 5, 2) := dk_21 5 (dk_at dksJ13_compareValues_0 18 rfl rfl)
theorem dJ13_compareValues_20 : decode cJ13_compareValues 20 = .ok (.invokestatic 71, 3) := dk_184 0 71 (dk_at dksJ13_compareValues_0 20 rfl rfl)
theorem dJ13_compareValues_23 : decode cJ13_compareValues 23 = .ok (.istore 6, 2) := dk_54 6 (dk_at dksJ13_compareValues_1 0 rfl rfl)
theorem dJ13_compareValues_25 : decode cJ13_compareValues 25 = .ok (.aload_n 1, 1) := dk_43 (dk_at dksJ13_compareValues_1 2 rfl rfl)
theorem dJ13_compareValues_26 : decode cJ13_compareValues 26 = .ok (.iload 5, 2) := dk_21 5 (dk_at dksJ13_compareValues_1 3 rfl rfl)
theorem dJ13_compareValues_28 : decode cJ13_compareValues 28 = .ok (.invokestatic 71, 3) := dk_184 0 71 (dk_at dksJ13_compareValues_1 5 rfl rfl)
theorem dJ13_compareValues_31 : decode cJ13_compareValues 31 = .ok (.istore 7, 2) := dk_54 7 (dk_at dksJ13_compareValues_1 8 rfl rfl)
theorem dJ13_compareValues_33 : decode cJ13_compareValues 33 = .ok (.iload 6, 2) := dk_21 6 (dk_at dksJ13_compareValues_1 10 rfl rfl)
theorem dJ13_compareValues_35 : decode cJ13_compareValues 35 = .ok (.iload 7, 2) := dk_21 7 (dk_at dksJ13_compareValues_1 12 rfl rfl)
theorem dJ13_compareValues_37 : decode cJ13_compareValues 37 = .ok (.if_icmp .eq 9, 3) := dk_159 0 9 (dk_at dksJ13_compareValues_1 14 rfl rfl)
theorem dJ13_compareValues_40 : decode cJ13_compareValues 40 = .ok (.iload 6, 2) := dk_21 6 (dk_at dksJ13_compareValues_1 17 rfl rfl)
theorem dJ13_compareValues_42 : decode cJ13_compareValues 42 = .ok (.iload 7, 2) := dk_21 7 (dk_at dksJ13_compareValues_1 19 rfl rfl)
theorem dJ13_compareValues_44 : decode cJ13_compareValues 44 = .ok (.isub, 1) := dk_100 (dk_at dksJ13_compareValues_1 21 rfl rfl)
theorem dJ13_compareValues_45 : decode cJ13_compareValues 45 = .ok (.ireturn, 1) := dk_172 (dk_at dksJ13_compareValues_1 22 rfl rfl)
theorem dJ13_compareValues_46 : decode cJ13_compareValues 46 = .ok (.iinc 5 1, 3) := dk_132 5 1 (dk_at dksJ13_compareValues_2 0 rfl rfl)
theorem dJ13_compareValues_49 : decode cJ13_compareValues 49 = .ok (.goto (-39), 3) := dk_167 255 217 (dk_at dksJ13_compareValues_2 3 rfl rfl)
theorem dJ13_compareValues_52 : decode cJ13_compareValues 52 = .ok (.iload_n 2, 1) := dk_28 (dk_at dksJ13_compareValues_2 6 rfl rfl)
theorem dJ13_compareValues_53 : decode cJ13_compareValues 53 = .ok (.iload_n 3, 1) := dk_29 (dk_at dksJ13_compareValues_2 7 rfl rfl)
theorem dJ13_compareValues_54 : decode cJ13_compareValues 54 = .ok (.isub, 1) := dk_100 (dk_at dksJ13_compareValues_2 8 rfl rfl)
theorem dJ13_compareValues_55 : decode cJ13_compareValues 55 = .ok (.ireturn, 1) := dk_172 (dk_at dksJ13_compareValues_2 9 rfl rfl)
abbrev cJ13_compareToLatin1 : ByteArray := prog_34_method_32_code
def yJ13_compareToLatin1 : MethodName := ⟨RJ13, "compareToLatin1", "([B[B)I"⟩
def dkwJ13_compareToLatin1_0 : List UInt8 := [43, 42, 184, 0, 189, 116, 172]
abbrev dktJ13_compareToLatin1_0 : List UInt8 := dkwJ13_compareToLatin1_0 ++ []
theorem dksJ13_compareToLatin1_0 : cJ13_compareToLatin1.data.toList.drop 0 = dktJ13_compareToLatin1_0 := by decide +kernel
theorem dJ13_compareToLatin1_0 : decode cJ13_compareToLatin1 0 = .ok (.aload_n 1, 1) := dk_43 (dk_at dksJ13_compareToLatin1_0 0 rfl rfl)
theorem dJ13_compareToLatin1_1 : decode cJ13_compareToLatin1 1 = .ok (.aload_n 0, 1) := dk_42 (dk_at dksJ13_compareToLatin1_0 1 rfl rfl)
theorem dJ13_compareToLatin1_2 : decode cJ13_compareToLatin1 2 = .ok (.invokestatic 189, 3) := dk_184 0 189 (dk_at dksJ13_compareToLatin1_0 2 rfl rfl)
theorem dJ13_compareToLatin1_5 : decode cJ13_compareToLatin1 5 = .ok (.ineg, 1) := dk_116 (dk_at dksJ13_compareToLatin1_0 5 rfl rfl)
theorem dJ13_compareToLatin1_6 : decode cJ13_compareToLatin1 6 = .ok (.ireturn, 1) := dk_172 (dk_at dksJ13_compareToLatin1_0 6 rfl rfl)
theorem q206 : (Jvm.Cond.initialized "java/lang/StringUTF16") ∈ lw_all := lw_g (lw_at lw_m1 21 rfl) rfl
theorem q827 : (Jvm.Cond.static ({ cls := "java/lang/StringUTF16", name := "charAt", desc := "([BI)C" } : Jvm.MethodName)) ∈ lw_all := lw_g (lw_at lw_m3 162 rfl) rfl
theorem q828 : (Jvm.Cond.code ({ cls := "java/lang/StringUTF16", name := "charAt", desc := "([BI)C" } : Jvm.MethodName) prog_34_method_83_code (2 : Nat) (Option.some Jvm.ClassFile.FieldType.char)) ∈ lw_all := lw_g (lw_at lw_m3 163 rfl) rfl
theorem q829 : (Jvm.Cond.methodLink "java/lang/StringUTF16" (67 : Nat) ({ cls := "java/lang/StringUTF16", name := "checkIndex", desc := "(I[B)V" } : Jvm.MethodName)) ∈ lw_all := lw_g (lw_at lw_m3 164 rfl) rfl
theorem q830 : (Jvm.Cond.static ({ cls := "java/lang/StringUTF16", name := "checkIndex", desc := "(I[B)V" } : Jvm.MethodName)) ∈ lw_all := lw_g (lw_at lw_m3 165 rfl) rfl
theorem q831 : (Jvm.Cond.code ({ cls := "java/lang/StringUTF16", name := "checkIndex", desc := "(I[B)V" } : Jvm.MethodName) prog_34_method_91_code (2 : Nat) (Option.none : Option Jvm.ClassFile.FieldType)) ∈ lw_all := lw_g (lw_at lw_m3 166 rfl) rfl
theorem q832 : (Jvm.Cond.methodLink "java/lang/StringUTF16" (48 : Nat) ({ cls := "java/lang/StringUTF16", name := "length", desc := "([B)I" } : Jvm.MethodName)) ∈ lw_all := lw_g (lw_at lw_m3 167 rfl) rfl
theorem q833 : (Jvm.Cond.static ({ cls := "java/lang/StringUTF16", name := "length", desc := "([B)I" } : Jvm.MethodName)) ∈ lw_all := lw_g (lw_at lw_m3 168 rfl) rfl
theorem q834 : (Jvm.Cond.code ({ cls := "java/lang/StringUTF16", name := "length", desc := "([B)I" } : Jvm.MethodName) prog_34_method_6_code (1 : Nat) (Option.some Jvm.ClassFile.FieldType.int)) ∈ lw_all := lw_g (lw_at lw_m3 169 rfl) rfl
theorem q835 : (Jvm.Cond.methodLink "java/lang/StringUTF16" (414 : Nat) ({ cls := "java/lang/String", name := "checkIndex", desc := "(II)V" } : Jvm.MethodName)) ∈ lw_all := lw_g (lw_at lw_m3 170 rfl) rfl
theorem q836 : (Jvm.Cond.methodLink "java/lang/StringUTF16" (71 : Nat) ({ cls := "java/lang/StringUTF16", name := "getChar", desc := "([BI)C" } : Jvm.MethodName)) ∈ lw_all := lw_g (lw_at lw_m3 171 rfl) rfl
theorem q837 : (Jvm.Cond.static ({ cls := "java/lang/StringUTF16", name := "getChar", desc := "([BI)C" } : Jvm.MethodName)) ∈ lw_all := lw_g (lw_at lw_m3 172 rfl) rfl
theorem q838 : (Jvm.Cond.code ({ cls := "java/lang/StringUTF16", name := "getChar", desc := "([BI)C" } : Jvm.MethodName) prog_34_method_5_code (2 : Nat) (Option.some Jvm.ClassFile.FieldType.char)) ∈ lw_all := lw_g (lw_at lw_m3 173 rfl) rfl
theorem q839 : (Jvm.Cond.fieldLink "java/lang/StringUTF16" (44 : Nat) "java/lang/StringUTF16" "$assertionsDisabled" "Z") ∈ lw_all := lw_g (lw_at lw_m3 174 rfl) rfl
theorem q840 : (Jvm.Cond.laysStatic "java/lang/StringUTF16" "$assertionsDisabled" "Z") ∈ lw_tbl := lw_at lw_m3 175 rfl
theorem q841 : (Jvm.Cond.fieldLink "java/lang/StringUTF16" (59 : Nat) "java/lang/StringUTF16" "HI_BYTE_SHIFT" "I") ∈ lw_all := lw_g (lw_at lw_m3 176 rfl) rfl
theorem q842 : (Jvm.Cond.laysStatic "java/lang/StringUTF16" "HI_BYTE_SHIFT" "I") ∈ lw_tbl := lw_at lw_m3 177 rfl
theorem q843 : (Jvm.Cond.fieldLink "java/lang/StringUTF16" (63 : Nat) "java/lang/StringUTF16" "LO_BYTE_SHIFT" "I") ∈ lw_all := lw_g (lw_at lw_m3 178 rfl) rfl
theorem q844 : (Jvm.Cond.laysStatic "java/lang/StringUTF16" "LO_BYTE_SHIFT" "I") ∈ lw_tbl := lw_at lw_m3 179 rfl
theorem q1515 : (Jvm.Cond.static ({ cls := "java/lang/StringUTF16", name := "compareTo", desc := "([B[B)I" } : Jvm.MethodName)) ∈ lw_all := lw_g (lw_at lw_m6 130 rfl) rfl
theorem q1516 : (Jvm.Cond.code ({ cls := "java/lang/StringUTF16", name := "compareTo", desc := "([B[B)I" } : Jvm.MethodName) prog_34_method_29_code (4 : Nat) (Option.some Jvm.ClassFile.FieldType.int)) ∈ lw_all := lw_g (lw_at lw_m6 131 rfl) rfl
theorem q1517 : (Jvm.Cond.methodLink "java/lang/StringUTF16" (176 : Nat) ({ cls := "java/lang/StringUTF16", name := "compareValues", desc := "([B[BII)I" } : Jvm.MethodName)) ∈ lw_all := lw_g (lw_at lw_m6 132 rfl) rfl
theorem q1518 : (Jvm.Cond.static ({ cls := "java/lang/StringUTF16", name := "compareValues", desc := "([B[BII)I" } : Jvm.MethodName)) ∈ lw_all := lw_g (lw_at lw_m6 133 rfl) rfl
theorem q1519 : (Jvm.Cond.code ({ cls := "java/lang/StringUTF16", name := "compareValues", desc := "([B[BII)I" } : Jvm.MethodName) prog_34_method_31_code (8 : Nat) (Option.some Jvm.ClassFile.FieldType.int)) ∈ lw_all := lw_g (lw_at lw_m6 134 rfl) rfl
theorem q1520 : (Jvm.Cond.methodLink "java/lang/StringUTF16" (183 : Nat) ({ cls := "java/lang/Math", name := "min", desc := "(II)I" } : Jvm.MethodName)) ∈ lw_all := lw_g (lw_at lw_m6 135 rfl) rfl
theorem q1533 : (Jvm.Cond.static ({ cls := "java/lang/StringUTF16", name := "compareToLatin1", desc := "([B[B)I" } : Jvm.MethodName)) ∈ lw_all := lw_g (lw_at lw_m6 148 rfl) rfl
theorem q1534 : (Jvm.Cond.code ({ cls := "java/lang/StringUTF16", name := "compareToLatin1", desc := "([B[B)I" } : Jvm.MethodName) prog_34_method_32_code (2 : Nat) (Option.some Jvm.ClassFile.FieldType.int)) ∈ lw_all := lw_g (lw_at lw_m6 149 rfl) rfl
theorem q1535 : (Jvm.Cond.methodLink "java/lang/StringUTF16" (189 : Nat) ({ cls := "java/lang/StringLatin1", name := "compareToUTF16", desc := "([B[B)I" } : Jvm.MethodName)) ∈ lw_all := lw_g (lw_at lw_m6 150 rfl) rfl
/-! java/lang/Throwable -/
set_option maxRecDepth 100000
def RJ14 : String := "java/lang/Throwable"
def TJ14 : u_T := fun k => match k with
  | 0 => ("java/lang/Throwable", "cause", "Ljava/lang/Throwable;", false)
  | 1 => ("java/lang/Throwable", "stackTrace", "[Ljava/lang/StackTraceElement;", false)
  | 2 => ("java/lang/Throwable", "suppressedExceptions", "Ljava/util/List;", false)
  | 3 => ("java/lang/Throwable", "detailMessage", "Ljava/lang/String;", false)
  | _ => ("java/lang/Throwable", "backtrace", "Ljava/lang/Object;", false)
def tyJ14 : Nat → FieldType := fun k => match k with
  | 0 => .object "java/lang/Throwable"
  | 1 => .array (.object "java/lang/StackTraceElement")
  | 2 => .object "java/util/List"
  | 3 => .object "java/lang/String"
  | _ => .object "java/lang/Object"
abbrev wsJ140 : List Cond := u_ws RJ14 TJ14 5
theorem nmJ14 : ∀ a, a < 5 → ∀ b, b < 5 → a ≠ b → (TJ14 a).2.1 ≠ (TJ14 b).2.1 := by decide +kernel
theorem tyJ14_ok : ∀ k, k < 5 → parseFieldDescriptor (TJ14 k).2.2.1 = some (tyJ14 k) := by decide +kernel
abbrev cJ14_init : ByteArray := prog_36_method_1_code
def yJ14_init : MethodName := ⟨RJ14, "<init>", "()V"⟩
def dkwJ14_init_1 : List UInt8 := [182, 0, 27, 87, 177]
abbrev dktJ14_init_1 : List UInt8 := dkwJ14_init_1 ++ []
def dkwJ14_init_0 : List UInt8 := [42, 183, 0, 1, 42, 42, 181, 0, 7, 42, 178, 0, 13, 181, 0, 17, 42, 178, 0, 20, 181, 0, 24, 42]
abbrev dktJ14_init_0 : List UInt8 := dkwJ14_init_0 ++ dktJ14_init_1
theorem dksJ14_init_0 : cJ14_init.data.toList.drop 0 = dktJ14_init_0 := by decide +kernel
theorem dksJ14_init_1 : cJ14_init.data.toList.drop 24 = dktJ14_init_1 := dk_seg dksJ14_init_0 24 rfl rfl
theorem dJ14_init_0 : decode cJ14_init 0 = .ok (.aload_n 0, 1) := dk_42 (dk_at dksJ14_init_0 0 rfl rfl)
theorem dJ14_init_1 : decode cJ14_init 1 = .ok (.invokespecial 1, 3) := dk_183 0 1 (dk_at dksJ14_init_0 1 rfl rfl)
theorem dJ14_init_4 : decode cJ14_init 4 = .ok (.aload_n 0, 1) := dk_42 (dk_at dksJ14_init_0 4 rfl rfl)
theorem dJ14_init_5 : decode cJ14_init 5 = .ok (.aload_n 0, 1) := dk_42 (dk_at dksJ14_init_0 5 rfl rfl)
theorem dJ14_init_6 : decode cJ14_init 6 = .ok (.putfield 7, 3) := dk_181 0 7 (dk_at dksJ14_init_0 6 rfl rfl)
theorem dJ14_init_9 : decode cJ14_init 9 = .ok (.aload_n 0, 1) := dk_42 (dk_at dksJ14_init_0 9 rfl rfl)
theorem dJ14_init_10 : decode cJ14_init 10 = .ok (.getstatic 13, 3) := dk_178 0 13 (dk_at dksJ14_init_0 10 rfl rfl)
theorem dJ14_init_13 : decode cJ14_init 13 = .ok (.putfield 17, 3) := dk_181 0 17 (dk_at dksJ14_init_0 13 rfl rfl)
theorem dJ14_init_16 : decode cJ14_init 16 = .ok (.aload_n 0, 1) := dk_42 (dk_at dksJ14_init_0 16 rfl rfl)
theorem dJ14_init_17 : decode cJ14_init 17 = .ok (.getstatic 20, 3) := dk_178 0 20 (dk_at dksJ14_init_0 17 rfl rfl)
theorem dJ14_init_20 : decode cJ14_init 20 = .ok (.putfield 24, 3) := dk_181 0 24 (dk_at dksJ14_init_0 20 rfl rfl)
theorem dJ14_init_23 : decode cJ14_init 23 = .ok (.aload_n 0, 1) := dk_42 (dk_at dksJ14_init_0 23 rfl rfl)
theorem dJ14_init_24 : decode cJ14_init 24 = .ok (.invokevirtual 27, 3) := dk_182 0 27 (dk_at dksJ14_init_1 0 rfl rfl)
theorem dJ14_init_27 : decode cJ14_init 27 = .ok (.pop, 1) := dk_87 (dk_at dksJ14_init_1 3 rfl rfl)
theorem dJ14_init_28 : decode cJ14_init 28 = .ok (.return_, 1) := dk_177 (dk_at dksJ14_init_1 4 rfl rfl)
theorem q207 : (Jvm.Cond.initialized "java/lang/Throwable") ∈ lw_all := lw_g (lw_at lw_m1 22 rfl) rfl
theorem q871 : (Jvm.Cond.declares ({ cls := "java/lang/Throwable", name := "<init>", desc := "()V" } : Jvm.MethodName)) ∈ lw_tbl := lw_at lw_m3 206 rfl
theorem q872 : (Jvm.Cond.declares ({ cls := "java/lang/Throwable", name := "<init>", desc := "(Ljava/lang/String;)V" } : Jvm.MethodName)) ∈ lw_tbl := lw_at lw_m3 207 rfl
theorem q876 : (Jvm.Cond.lays "java/lang/Throwable" "java/lang/Throwable" "cause" "Ljava/lang/Throwable;") ∈ lw_all := lw_g (lw_at lw_m3 211 rfl) rfl
theorem q878 : (Jvm.Cond.lays "java/lang/Throwable" "java/lang/Throwable" "stackTrace" "[Ljava/lang/StackTraceElement;") ∈ lw_all := lw_g (lw_at lw_m3 213 rfl) rfl
theorem q880 : (Jvm.Cond.lays "java/lang/Throwable" "java/lang/Throwable" "suppressedExceptions" "Ljava/util/List;") ∈ lw_all := lw_g (lw_at lw_m3 215 rfl) rfl
theorem q882 : (Jvm.Cond.lays "java/lang/Throwable" "java/lang/Throwable" "detailMessage" "Ljava/lang/String;") ∈ lw_all := lw_g (lw_at lw_m3 217 rfl) rfl
theorem q884 : (Jvm.Cond.lays "java/lang/Throwable" "java/lang/Throwable" "backtrace" "Ljava/lang/Object;") ∈ lw_all := lw_g (lw_at lw_m3 219 rfl) rfl
theorem q885 : (Jvm.Cond.fieldLink "java/lang/Throwable" (198 : Nat) "java/lang/Throwable" "backtrace" "Ljava/lang/Object;") ∈ lw_all := lw_g (lw_at lw_m3 220 rfl) rfl
theorem q886 : (Jvm.Cond.superclass "java/lang/Throwable" "java/lang/Object") ∈ lw_all := lw_g (lw_at lw_m3 221 rfl) rfl
theorem q887 : (Jvm.Cond.instanceMethod ({ cls := "java/lang/Throwable", name := "<init>", desc := "()V" } : Jvm.MethodName)) ∈ lw_all := lw_g (lw_at lw_m3 222 rfl) rfl
theorem q888 : (Jvm.Cond.code ({ cls := "java/lang/Throwable", name := "<init>", desc := "()V" } : Jvm.MethodName) prog_36_method_1_code (1 : Nat) (Option.none : Option Jvm.ClassFile.FieldType)) ∈ lw_all := lw_g (lw_at lw_m3 223 rfl) rfl
theorem q889 : (Jvm.Cond.methodLink "java/lang/Throwable" (1 : Nat) ({ cls := "java/lang/Object", name := "<init>", desc := "()V" } : Jvm.MethodName)) ∈ lw_all := lw_g (lw_at lw_m3 224 rfl) rfl
theorem q890 : (Jvm.Cond.fieldLink "java/lang/Throwable" (13 : Nat) "java/lang/Throwable" "UNASSIGNED_STACK" "[Ljava/lang/StackTraceElement;") ∈ lw_all := lw_g (lw_at lw_m3 225 rfl) rfl
theorem q891 : (Jvm.Cond.laysStatic "java/lang/Throwable" "UNASSIGNED_STACK" "[Ljava/lang/StackTraceElement;") ∈ lw_tbl := lw_at lw_m3 226 rfl
theorem q892 : (Jvm.Cond.fieldLink "java/lang/Throwable" (20 : Nat) "java/lang/Throwable" "SUPPRESSED_SENTINEL" "Ljava/util/List;") ∈ lw_all := lw_g (lw_at lw_m3 227 rfl) rfl
theorem q893 : (Jvm.Cond.laysStatic "java/lang/Throwable" "SUPPRESSED_SENTINEL" "Ljava/util/List;") ∈ lw_tbl := lw_at lw_m3 228 rfl
theorem q894 : (Jvm.Cond.methodLink "java/lang/Throwable" (27 : Nat) ({ cls := "java/lang/Throwable", name := "fillInStackTrace", desc := "()Ljava/lang/Throwable;" } : Jvm.MethodName)) ∈ lw_all := lw_g (lw_at lw_m3 229 rfl) rfl
theorem q895 : (Jvm.Cond.instanceMethod ({ cls := "java/lang/Throwable", name := "fillInStackTrace", desc := "()Ljava/lang/Throwable;" } : Jvm.MethodName)) ∈ lw_all := lw_g (lw_at lw_m3 230 rfl) rfl
theorem q896 : (Jvm.Cond.sameMethod "java/lang/Throwable" "java/lang/Throwable" "fillInStackTrace" "()Ljava/lang/Throwable;") ∈ lw_all := lw_g (lw_at lw_m3 231 rfl) rfl
theorem q898 : (Jvm.Cond.codeSync ({ cls := "java/lang/Throwable", name := "fillInStackTrace", desc := "()Ljava/lang/Throwable;" } : Jvm.MethodName) prog_36_method_18_code (1 : Nat) (Option.some (Jvm.ClassFile.FieldType.object "java/lang/Throwable"))) ∈ lw_all := lw_g (lw_at lw_m3 233 rfl) rfl
theorem q899 : (Jvm.Cond.methodLink "java/lang/Throwable" (202 : Nat) ({ cls := "java/lang/Throwable", name := "fillInStackTrace", desc := "(I)Ljava/lang/Throwable;" } : Jvm.MethodName)) ∈ lw_all := lw_g (lw_at lw_m3 234 rfl) rfl
theorem q900 : (Jvm.Cond.privateMethod ({ cls := "java/lang/Throwable", name := "fillInStackTrace", desc := "(I)Ljava/lang/Throwable;" } : Jvm.MethodName)) ∈ lw_tbl := lw_at lw_m3 235 rfl
theorem q901 : (Jvm.Cond.instanceMethod ({ cls := "java/lang/Throwable", name := "fillInStackTrace", desc := "(I)Ljava/lang/Throwable;" } : Jvm.MethodName)) ∈ lw_all := lw_g (lw_at lw_m3 236 rfl) rfl
theorem q902 : (Jvm.Cond.instantiable "java/lang/Throwable" (6 : Nat)) ∈ lw_all := lw_g (lw_at lw_m3 237 rfl) rfl
theorem q903 : (Jvm.Cond.native ({ cls := "java/lang/Throwable", name := "fillInStackTrace", desc := "(I)Ljava/lang/Throwable;" } : Jvm.MethodName)) ∈ lw_all := lw_g (lw_at lw_m3 238 rfl) rfl
theorem q915 : (Jvm.Cond.fieldLink "java/lang/Throwable" (198 : Nat) "java/lang/Throwable" "backtrace" "Ljava/lang/Object;") ∈ lw_all := lw_g (lw_at lw_m4 10 rfl) rfl
theorem q916 : (Jvm.Cond.fieldLink "java/lang/Throwable" (7 : Nat) "java/lang/Throwable" "cause" "Ljava/lang/Throwable;") ∈ lw_all := lw_g (lw_at lw_m4 11 rfl) rfl
theorem q917 : (Jvm.Cond.fieldLink "java/lang/Throwable" (17 : Nat) "java/lang/Throwable" "stackTrace" "[Ljava/lang/StackTraceElement;") ∈ lw_all := lw_g (lw_at lw_m4 12 rfl) rfl
theorem q918 : (Jvm.Cond.fieldLink "java/lang/Throwable" (24 : Nat) "java/lang/Throwable" "suppressedExceptions" "Ljava/util/List;") ∈ lw_all := lw_g (lw_at lw_m4 13 rfl) rfl
theorem q923 : (Jvm.Cond.soleField "java/lang/Throwable" "backtrace") ∈ lw_all := lw_g (lw_at lw_m4 18 rfl) rfl
theorem q924 : (Jvm.Cond.soleField "java/lang/Throwable" "detailMessage") ∈ lw_all := lw_g (lw_at lw_m4 19 rfl) rfl
theorem q925 : (Jvm.Cond.soleField "java/lang/Throwable" "cause") ∈ lw_all := lw_g (lw_at lw_m4 20 rfl) rfl
theorem q926 : (Jvm.Cond.soleField "java/lang/Throwable" "stackTrace") ∈ lw_all := lw_g (lw_at lw_m4 21 rfl) rfl
theorem q928 : (Jvm.Cond.soleField "java/lang/Throwable" "depth") ∈ lw_all := lw_g (lw_at lw_m4 23 rfl) rfl
theorem q929 : (Jvm.Cond.soleField "java/lang/Throwable" "suppressedExceptions") ∈ lw_all := lw_g (lw_at lw_m4 24 rfl) rfl
theorem q3105 : (Jvm.Cond.sameMethod "java/lang/Throwable" "java/lang/Throwable" "fillInStackTrace" "(I)Ljava/lang/Throwable;") ∈ lw_all := lw_g (lw_at lw_m13 40 rfl) rfl
theorem q3144 : (Jvm.Cond.castable "java/lang/Throwable" "java/lang/Object") ∈ lw_tbl := lw_at lw_m13 79 rfl
theorem in_J14 : ∀ w ∈ wsJ140, w ∈ lw_all := lw_in wsJ140 [876, 878, 880, 882, 884] (by decide +kernel) (by decide +kernel)
/-! java/lang/Exception -/
set_option maxRecDepth 100000
def RJ15 : String := "java/lang/Exception"
abbrev cJ15_init : ByteArray := prog_25_method_1_code
def yJ15_init : MethodName := ⟨RJ15, "<init>", "()V"⟩
theorem dJ15_init_0 : decode cJ15_init 0 = .ok (.aload_n 0, 1) := by decide +kernel
theorem dJ15_init_1 : decode cJ15_init 1 = .ok (.invokespecial 1, 3) := by decide +kernel
theorem dJ15_init_4 : decode cJ15_init 4 = .ok (.return_, 1) := by decide +kernel
theorem q208 : (Jvm.Cond.initialized "java/lang/Exception") ∈ lw_all := lw_g (lw_at lw_m1 23 rfl) rfl
theorem q869 : (Jvm.Cond.declares ({ cls := "java/lang/Exception", name := "<init>", desc := "()V" } : Jvm.MethodName)) ∈ lw_tbl := lw_at lw_m3 204 rfl
theorem q870 : (Jvm.Cond.declares ({ cls := "java/lang/Exception", name := "<init>", desc := "(Ljava/lang/String;)V" } : Jvm.MethodName)) ∈ lw_tbl := lw_at lw_m3 205 rfl
theorem q908 : (Jvm.Cond.instanceMethod ({ cls := "java/lang/Exception", name := "<init>", desc := "()V" } : Jvm.MethodName)) ∈ lw_all := lw_g (lw_at lw_m4 3 rfl) rfl
theorem q909 : (Jvm.Cond.code ({ cls := "java/lang/Exception", name := "<init>", desc := "()V" } : Jvm.MethodName) prog_25_method_1_code (1 : Nat) (Option.none : Option Jvm.ClassFile.FieldType)) ∈ lw_all := lw_g (lw_at lw_m4 4 rfl) rfl
theorem q910 : (Jvm.Cond.methodLink "java/lang/Exception" (1 : Nat) ({ cls := "java/lang/Throwable", name := "<init>", desc := "()V" } : Jvm.MethodName)) ∈ lw_all := lw_g (lw_at lw_m4 5 rfl) rfl
/-! java/util/AbstractMap -/
set_option maxRecDepth 100000
def RJ16 : String := "java/util/AbstractMap"
abbrev cJ16_init : ByteArray := prog_41_method_1_code
def yJ16_init : MethodName := ⟨RJ16, "<init>", "()V"⟩
theorem dJ16_init_0 : decode cJ16_init 0 = .ok (.aload_n 0, 1) := by decide +kernel
theorem dJ16_init_1 : decode cJ16_init 1 = .ok (.invokespecial 1, 3) := by decide +kernel
theorem dJ16_init_4 : decode cJ16_init 4 = .ok (.return_, 1) := by decide +kernel
abbrev cJ16_isEmpty : ByteArray := prog_41_method_3_code
def yJ16_isEmpty : MethodName := ⟨RJ16, "isEmpty", "()Z"⟩
def dkwJ16_isEmpty_0 : List UInt8 := [42, 182, 0, 19, 154, 0, 7, 4, 167, 0, 4, 3, 172]
abbrev dktJ16_isEmpty_0 : List UInt8 := dkwJ16_isEmpty_0 ++ []
theorem dksJ16_isEmpty_0 : cJ16_isEmpty.data.toList.drop 0 = dktJ16_isEmpty_0 := by decide +kernel
theorem dJ16_isEmpty_0 : decode cJ16_isEmpty 0 = .ok (.aload_n 0, 1) := dk_42 (dk_at dksJ16_isEmpty_0 0 rfl rfl)
theorem dJ16_isEmpty_1 : decode cJ16_isEmpty 1 = .ok (.invokevirtual 19, 3) := dk_182 0 19 (dk_at dksJ16_isEmpty_0 1 rfl rfl)
theorem dJ16_isEmpty_4 : decode cJ16_isEmpty 4 = .ok (.ifCond .ne 7, 3) := dk_154 0 7 (dk_at dksJ16_isEmpty_0 4 rfl rfl)
theorem dJ16_isEmpty_7 : decode cJ16_isEmpty 7 = .ok (.iconst 1, 1) := dk_4 (dk_at dksJ16_isEmpty_0 7 rfl rfl)
theorem dJ16_isEmpty_8 : decode cJ16_isEmpty 8 = .ok (.goto 4, 3) := dk_167 0 4 (dk_at dksJ16_isEmpty_0 8 rfl rfl)
theorem dJ16_isEmpty_11 : decode cJ16_isEmpty 11 = .ok (.iconst 0, 1) := dk_3 (dk_at dksJ16_isEmpty_0 11 rfl rfl)
theorem dJ16_isEmpty_12 : decode cJ16_isEmpty 12 = .ok (.ireturn, 1) := dk_172 (dk_at dksJ16_isEmpty_0 12 rfl rfl)
theorem q212 : (Jvm.Cond.initialized "java/util/AbstractMap") ∈ lw_all := lw_g (lw_at lw_m1 27 rfl) rfl
theorem q1064 : (Jvm.Cond.instanceMethod ({ cls := "java/util/AbstractMap", name := "<init>", desc := "()V" } : Jvm.MethodName)) ∈ lw_all := lw_g (lw_at lw_m4 159 rfl) rfl
theorem q1065 : (Jvm.Cond.code ({ cls := "java/util/AbstractMap", name := "<init>", desc := "()V" } : Jvm.MethodName) prog_41_method_1_code (1 : Nat) (Option.none : Option Jvm.ClassFile.FieldType)) ∈ lw_all := lw_g (lw_at lw_m4 160 rfl) rfl
theorem q1066 : (Jvm.Cond.methodLink "java/util/AbstractMap" (1 : Nat) ({ cls := "java/lang/Object", name := "<init>", desc := "()V" } : Jvm.MethodName)) ∈ lw_all := lw_g (lw_at lw_m4 161 rfl) rfl
theorem q1089 : (Jvm.Cond.soleField "java/util/AbstractMap" "keySet") ∈ lw_all := lw_g (lw_at lw_m4 184 rfl) rfl
theorem q1091 : (Jvm.Cond.soleField "java/util/AbstractMap" "values") ∈ lw_all := lw_g (lw_at lw_m4 186 rfl) rfl
theorem q1809 : (Jvm.Cond.instanceMethod ({ cls := "java/util/AbstractMap", name := "isEmpty", desc := "()Z" } : Jvm.MethodName)) ∈ lw_all := lw_g (lw_at lw_m7 184 rfl) rfl
theorem q1810 : (Jvm.Cond.publicMethod ({ cls := "java/util/AbstractMap", name := "isEmpty", desc := "()Z" } : Jvm.MethodName)) ∈ lw_tbl := lw_at lw_m7 185 rfl
theorem q1811 : (Jvm.Cond.code ({ cls := "java/util/AbstractMap", name := "isEmpty", desc := "()Z" } : Jvm.MethodName) prog_41_method_3_code (1 : Nat) (Option.some Jvm.ClassFile.FieldType.boolean)) ∈ lw_all := lw_g (lw_at lw_m7 186 rfl) rfl
theorem q1812 : (Jvm.Cond.methodLink "java/util/AbstractMap" (19 : Nat) ({ cls := "java/util/AbstractMap", name := "size", desc := "()I" } : Jvm.MethodName)) ∈ lw_all := lw_g (lw_at lw_m7 187 rfl) rfl
theorem q1813 : (Jvm.Cond.instanceMethod ({ cls := "java/util/AbstractMap", name := "size", desc := "()I" } : Jvm.MethodName)) ∈ lw_all := lw_g (lw_at lw_m7 188 rfl) rfl
theorem q1814 : (Jvm.Cond.sameMethod "java/util/AbstractMap" "java/util/AbstractMap" "size" "()I") ∈ lw_all := lw_g (lw_at lw_m7 189 rfl) rfl
theorem q1816 : (Jvm.Cond.declares ({ cls := "java/util/AbstractMap", name := "size", desc := "()I" } : Jvm.MethodName)) ∈ lw_tbl := lw_at lw_m7 191 rfl
/-! java/util/TreeMap -/
set_option maxRecDepth 100000
def RJ17 : String := "java/util/TreeMap"
def TJ17 : u_T := fun k => match k with
  | 0 => ("java/util/AbstractMap", "keySet", "Ljava/util/Set;", false)
  | 1 => ("java/util/AbstractMap", "values", "Ljava/util/Collection;", false)
  | 2 => ("java/util/TreeMap", "comparator", "Ljava/util/Comparator;", true)
  | 3 => ("java/util/TreeMap", "root", "Ljava/util/TreeMap$Entry;", false)
  | 4 => ("java/util/TreeMap", "size", "I", false)
  | 5 => ("java/util/TreeMap", "modCount", "I", false)
  | 6 => ("java/util/TreeMap", "entrySet", "Ljava/util/TreeMap$EntrySet;", false)
  | 7 => ("java/util/TreeMap", "navigableKeySet", "Ljava/util/TreeMap$KeySet;", false)
  | _ => ("java/util/TreeMap", "descendingMap", "Ljava/util/NavigableMap;", false)
def tyJ17 : Nat → FieldType := fun k => match k with
  | 0 => .object "java/util/Set"
  | 1 => .object "java/util/Collection"
  | 2 => .object "java/util/Comparator"
  | 3 => .object "java/util/TreeMap$Entry"
  | 4 => .int
  | 5 => .int
  | 6 => .object "java/util/TreeMap$EntrySet"
  | 7 => .object "java/util/TreeMap$KeySet"
  | _ => .object "java/util/NavigableMap"
abbrev wsJ170 : List Cond := u_ws RJ17 TJ17 9
theorem nmJ17 : ∀ a, a < 9 → ∀ b, b < 9 → a ≠ b → (TJ17 a).2.1 ≠ (TJ17 b).2.1 := by decide +kernel
theorem tyJ17_ok : ∀ k, k < 9 → parseFieldDescriptor (TJ17 k).2.2.1 = some (tyJ17 k) := by decide +kernel
abbrev cJ17_init : ByteArray := prog_66_method_1_code
def yJ17_init : MethodName := ⟨RJ17, "<init>", "()V"⟩
def dkwJ17_init_0 : List UInt8 := [42, 183, 0, 1, 42, 3, 181, 0, 7, 42, 3, 181, 0, 13, 42, 1, 181, 0, 16, 177]
abbrev dktJ17_init_0 : List UInt8 := dkwJ17_init_0 ++ []
theorem dksJ17_init_0 : cJ17_init.data.toList.drop 0 = dktJ17_init_0 := by decide +kernel
theorem dJ17_init_0 : decode cJ17_init 0 = .ok (.aload_n 0, 1) := dk_42 (dk_at dksJ17_init_0 0 rfl rfl)
theorem dJ17_init_1 : decode cJ17_init 1 = .ok (.invokespecial 1, 3) := dk_183 0 1 (dk_at dksJ17_init_0 1 rfl rfl)
theorem dJ17_init_4 : decode cJ17_init 4 = .ok (.aload_n 0, 1) := dk_42 (dk_at dksJ17_init_0 4 rfl rfl)
theorem dJ17_init_5 : decode cJ17_init 5 = .ok (.iconst 0, 1) := dk_3 (dk_at dksJ17_init_0 5 rfl rfl)
theorem dJ17_init_6 : decode cJ17_init 6 = .ok (.putfield 7, 3) := dk_181 0 7 (dk_at dksJ17_init_0 6 rfl rfl)
theorem dJ17_init_9 : decode cJ17_init 9 = .ok (.aload_n 0, 1) := dk_42 (dk_at dksJ17_init_0 9 rfl rfl)
theorem dJ17_init_10 : decode cJ17_init 10 = .ok (.iconst 0, 1) := dk_3 (dk_at dksJ17_init_0 10 rfl rfl)
theorem dJ17_init_11 : decode cJ17_init 11 = .ok (.putfield 13, 3) := dk_181 0 13 (dk_at dksJ17_init_0 11 rfl rfl)
theorem dJ17_init_14 : decode cJ17_init 14 = .ok (.aload_n 0, 1) := dk_42 (dk_at dksJ17_init_0 14 rfl rfl)
theorem dJ17_init_15 : decode cJ17_init 15 = .ok (.aconst_null, 1) := dk_1 (dk_at dksJ17_init_0 15 rfl rfl)
theorem dJ17_init_16 : decode cJ17_init 16 = .ok (.putfield 16, 3) := dk_181 0 16 (dk_at dksJ17_init_0 16 rfl rfl)
theorem dJ17_init_19 : decode cJ17_init 19 = .ok (.return_, 1) := dk_177 (dk_at dksJ17_init_0 19 rfl rfl)
abbrev cJ17_size : ByteArray := prog_66_method_5_code
def yJ17_size : MethodName := ⟨RJ17, "size", "()I"⟩
theorem dJ17_size_0 : decode cJ17_size 0 = .ok (.aload_n 0, 1) := by decide +kernel
theorem dJ17_size_1 : decode cJ17_size 1 = .ok (.getfield 7, 3) := by decide +kernel
theorem dJ17_size_4 : decode cJ17_size 4 = .ok (.ireturn, 1) := by decide +kernel
abbrev cJ17_successor : ByteArray := prog_66_method_74_code
def yJ17_successor : MethodName := ⟨RJ17, "successor", "(Ljava/util/TreeMap$Entry;)Ljava/util/TreeMap$Entry;"⟩
def dkwJ17_successor_2 : List UInt8 := [44, 43, 180, 0, 114, 166, 0, 13, 43, 77, 43, 180, 0, 124, 76, 167, 255, 237, 43, 176]
abbrev dktJ17_successor_2 : List UInt8 := dkwJ17_successor_2 ++ []
def dkwJ17_successor_1 : List UInt8 := [198, 0, 11, 43, 180, 0, 111, 76, 167, 255, 244, 43, 176, 42, 180, 0, 124, 76, 42, 77, 43, 198, 0, 21]
abbrev dktJ17_successor_1 : List UInt8 := dkwJ17_successor_1 ++ dktJ17_successor_2
def dkwJ17_successor_0 : List UInt8 := [42, 199, 0, 5, 1, 176, 42, 180, 0, 114, 198, 0, 25, 42, 180, 0, 114, 76, 43, 180, 0, 111]
abbrev dktJ17_successor_0 : List UInt8 := dkwJ17_successor_0 ++ dktJ17_successor_1
theorem dksJ17_successor_0 : cJ17_successor.data.toList.drop 0 = dktJ17_successor_0 := by decide +kernel
theorem dksJ17_successor_1 : cJ17_successor.data.toList.drop 22 = dktJ17_successor_1 := dk_seg dksJ17_successor_0 22 rfl rfl
theorem dksJ17_successor_2 : cJ17_successor.data.toList.drop 46 = dktJ17_successor_2 := dk_seg dksJ17_successor_1 24 rfl rfl
theorem dJ17_successor_0 : decode cJ17_successor 0 = .ok (.aload_n 0, 1) := dk_42 (dk_at dksJ17_successor_0 0 rfl rfl)
theorem dJ17_successor_1 : decode cJ17_successor 1 = .ok (.ifnonnull 5, 3) := dk_199 0 5 (dk_at dksJ17_successor_0 1 rfl rfl)
theorem dJ17_successor_4 : decode cJ17_successor 4 = .ok (.aconst_null, 1) := dk_1 (dk_at dksJ17_successor_0 4 rfl rfl)
theorem dJ17_successor_5 : decode cJ17_successor 5 = .ok (.areturn, 1) := dk_176 (dk_at dksJ17_successor_0 5 rfl rfl)
theorem dJ17_successor_6 : decode cJ17_successor 6 = .ok (.aload_n 0, 1) := dk_42 (dk_at dksJ17_successor_0 6 rfl rfl)
theorem dJ17_successor_7 : decode cJ17_successor 7 = .ok (.getfield 114, 3) := dk_180 0 114 (dk_at dksJ17_successor_0 7 rfl rfl)
theorem dJ17_successor_10 : decode cJ17_successor 10 = .ok (.ifnull 25, 3) := dk_198 0 25 (dk_at dksJ17_successor_0 10 rfl rfl)
theorem dJ17_successor_13 : decode cJ17_successor 13 = .ok (.aload_n 0, 1) := dk_42 (dk_at dksJ17_successor_0 13 rfl rfl)
theorem dJ17_successor_14 : decode cJ17_successor 14 = .ok (.getfield 114, 3) := dk_180 0 114 (dk_at dksJ17_successor_0 14 rfl rfl)
theorem dJ17_successor_17 : decode cJ17_successor 17 = .ok (.astore_n 1, 1) := dk_76 (dk_at dksJ17_successor_0 17 rfl rfl)
theorem dJ17_successor_18 : decode cJ17_successor 18 = .ok (.aload_n 1, 1) := dk_43 (dk_at dksJ17_successor_0 18 rfl rfl)
theorem dJ17_successor_19 : decode cJ17_successor 19 = .ok (.getfield 111, 3) := dk_180 0 111 (dk_at dksJ17_successor_0 19 rfl rfl)
theorem dJ17_successor_22 : decode cJ17_successor 22 = .ok (.ifnull 11, 3) := dk_198 0 11 (dk_at dksJ17_successor_1 0 rfl rfl)
theorem dJ17_successor_25 : decode cJ17_successor 25 = .ok (.aload_n 1, 1) := dk_43 (dk_at dksJ17_successor_1 3 rfl rfl)
theorem dJ17_successor_26 : decode cJ17_successor 26 = .ok (.getfield 111, 3) := dk_180 0 111 (dk_at dksJ17_successor_1 4 rfl rfl)
theorem dJ17_successor_29 : decode cJ17_successor 29 = .ok (.astore_n 1, 1) := dk_76 (dk_at dksJ17_successor_1 7 rfl rfl)
theorem dJ17_successor_30 : decode cJ17_successor 30 = .ok (.goto (-12), 3) := dk_167 255 244 (dk_at dksJ17_successor_1 8 rfl rfl)
theorem dJ17_successor_33 : decode cJ17_successor 33 = .ok (.aload_n 1, 1) := dk_43 (dk_at dksJ17_successor_1 11 rfl rfl)
theorem dJ17_successor_34 : decode cJ17_successor 34 = .ok (.areturn, 1) := dk_176 (dk_at dksJ17_successor_1 12 rfl rfl)
theorem dJ17_successor_35 : decode cJ17_successor 35 = .ok (.aload_n 0, 1) := dk_42 (dk_at dksJ17_successor_1 13 rfl rfl)
theorem dJ17_successor_36 : decode cJ17_successor 36 = .ok (.getfield 124, 3) := dk_180 0 124 (dk_at dksJ17_successor_1 14 rfl rfl)
theorem dJ17_successor_39 : decode cJ17_successor 39 = .ok (.astore_n 1, 1) := dk_76 (dk_at dksJ17_successor_1 17 rfl rfl)
theorem dJ17_successor_40 : decode cJ17_successor 40 = .ok (.aload_n 0, 1) := dk_42 (dk_at dksJ17_successor_1 18 rfl rfl)
theorem dJ17_successor_41 : decode cJ17_successor 41 = .ok (.astore_n 2, 1) := dk_77 (dk_at dksJ17_successor_1 19 rfl rfl)
theorem dJ17_successor_42 : decode cJ17_successor 42 = .ok (.aload_n 1, 1) := dk_43 (dk_at dksJ17_successor_1 20 rfl rfl)
theorem dJ17_successor_43 : decode cJ17_successor 43 = .ok (.ifnull 21, 3) := dk_198 0 21 (dk_at dksJ17_successor_1 21 rfl rfl)
theorem dJ17_successor_46 : decode cJ17_successor 46 = .ok (.aload_n 2, 1) := dk_44 (dk_at dksJ17_successor_2 0 rfl rfl)
theorem dJ17_successor_47 : decode cJ17_successor 47 = .ok (.aload_n 1, 1) := dk_43 (dk_at dksJ17_successor_2 1 rfl rfl)
theorem dJ17_successor_48 : decode cJ17_successor 48 = .ok (.getfield 114, 3) := dk_180 0 114 (dk_at dksJ17_successor_2 2 rfl rfl)
theorem dJ17_successor_51 : decode cJ17_successor 51 = .ok (.if_acmp .ne 13, 3) := dk_166 0 13 (dk_at dksJ17_successor_2 5 rfl rfl)
theorem dJ17_successor_54 : decode cJ17_successor 54 = .ok (.aload_n 1, 1) := dk_43 (dk_at dksJ17_successor_2 8 rfl rfl)
theorem dJ17_successor_55 : decode cJ17_successor 55 = .ok (.astore_n 2, 1) := dk_77 (dk_at dksJ17_successor_2 9 rfl rfl)
theorem dJ17_successor_56 : decode cJ17_successor 56 = .ok (.aload_n 1, 1) := dk_43 (dk_at dksJ17_successor_2 10 rfl rfl)
theorem dJ17_successor_57 : decode cJ17_successor 57 = .ok (.getfield 124, 3) := dk_180 0 124 (dk_at dksJ17_successor_2 11 rfl rfl)
theorem dJ17_successor_60 : decode cJ17_successor 60 = .ok (.astore_n 1, 1) := dk_76 (dk_at dksJ17_successor_2 14 rfl rfl)
theorem dJ17_successor_61 : decode cJ17_successor 61 = .ok (.goto (-19), 3) := dk_167 255 237 (dk_at dksJ17_successor_2 15 rfl rfl)
theorem dJ17_successor_64 : decode cJ17_successor 64 = .ok (.aload_n 1, 1) := dk_43 (dk_at dksJ17_successor_2 18 rfl rfl)
theorem dJ17_successor_65 : decode cJ17_successor 65 = .ok (.areturn, 1) := dk_176 (dk_at dksJ17_successor_2 19 rfl rfl)
abbrev cJ17_put : ByteArray := prog_66_method_21_code
def yJ17_put : MethodName := ⟨RJ17, "put", "(Ljava/lang/Object;Ljava/lang/Object;)Ljava/lang/Object;"⟩
def dkwJ17_put_0 : List UInt8 := [42, 43, 44, 4, 182, 0, 127, 176]
abbrev dktJ17_put_0 : List UInt8 := dkwJ17_put_0 ++ []
theorem dksJ17_put_0 : cJ17_put.data.toList.drop 0 = dktJ17_put_0 := by decide +kernel
theorem dJ17_put_0 : decode cJ17_put 0 = .ok (.aload_n 0, 1) := dk_42 (dk_at dksJ17_put_0 0 rfl rfl)
theorem dJ17_put_1 : decode cJ17_put 1 = .ok (.aload_n 1, 1) := dk_43 (dk_at dksJ17_put_0 1 rfl rfl)
theorem dJ17_put_2 : decode cJ17_put 2 = .ok (.aload_n 2, 1) := dk_44 (dk_at dksJ17_put_0 2 rfl rfl)
theorem dJ17_put_3 : decode cJ17_put 3 = .ok (.iconst 1, 1) := dk_4 (dk_at dksJ17_put_0 3 rfl rfl)
theorem dJ17_put_4 : decode cJ17_put 4 = .ok (.invokevirtual 127, 3) := dk_182 0 127 (dk_at dksJ17_put_0 4 rfl rfl)
theorem dJ17_put_7 : decode cJ17_put 7 = .ok (.areturn, 1) := dk_176 (dk_at dksJ17_put_0 7 rfl rfl)
abbrev cJ17_put_2 : ByteArray := prog_66_method_31_code
def yJ17_put_2 : MethodName := ⟨RJ17, "put", "(Ljava/lang/Object;Ljava/lang/Object;Z)Ljava/lang/Object;"⟩
def dkwJ17_put_2_9 : List UInt8 := [4, 167, 0, 4, 3, 182, 0, 139, 1, 176]
abbrev dktJ17_put_2_9 : List UInt8 := dkwJ17_put_2_9 ++ []
def dkwJ17_put_2_8 : List UInt8 := [25, 4, 44, 181, 0, 58, 25, 9, 176, 25, 4, 199, 255, 181, 42, 43, 44, 25, 6, 21, 5, 156, 0, 7]
abbrev dktJ17_put_2_8 : List UInt8 := dkwJ17_put_2_8 ++ dktJ17_put_2_9
def dkwJ17_put_2_7 : List UInt8 := [180, 0, 114, 58, 4, 167, 0, 28, 25, 4, 180, 0, 58, 58, 9, 29, 154, 0, 8, 25, 9, 199, 0, 9]
abbrev dktJ17_put_2_7 : List UInt8 := dkwJ17_put_2_7 ++ dktJ17_put_2_8
def dkwJ17_put_2_6 : List UInt8 := [21, 5, 156, 0, 13, 25, 4, 180, 0, 111, 58, 4, 167, 0, 43, 21, 5, 158, 0, 13, 25, 4]
abbrev dktJ17_put_2_6 : List UInt8 := dkwJ17_put_2_6 ++ dktJ17_put_2_7
def dkwJ17_put_2_5 : List UInt8 := [192, 0, 99, 58, 8, 25, 4, 58, 6, 25, 8, 25, 4, 180, 0, 105, 185, 0, 107, 2, 0, 54, 5]
abbrev dktJ17_put_2_5 : List UInt8 := dkwJ17_put_2_5 ++ dktJ17_put_2_6
def dkwJ17_put_2_4 : List UInt8 := [25, 4, 44, 181, 0, 58, 25, 8, 176, 25, 4, 199, 255, 180, 167, 0, 92, 43, 184, 0, 95, 87, 43]
abbrev dktJ17_put_2_4 : List UInt8 := dkwJ17_put_2_4 ++ dktJ17_put_2_5
def dkwJ17_put_2_3 : List UInt8 := [180, 0, 114, 58, 4, 167, 0, 28, 25, 4, 180, 0, 58, 58, 8, 29, 154, 0, 8, 25, 8, 199, 0, 9]
abbrev dktJ17_put_2_3 : List UInt8 := dkwJ17_put_2_3 ++ dktJ17_put_2_4
def dkwJ17_put_2_2 : List UInt8 := [54, 5, 21, 5, 156, 0, 13, 25, 4, 180, 0, 111, 58, 4, 167, 0, 43, 21, 5, 158, 0, 13, 25, 4]
abbrev dktJ17_put_2_2 : List UInt8 := dkwJ17_put_2_2 ++ dktJ17_put_2_3
def dkwJ17_put_2_1 : List UInt8 := [58, 7, 25, 7, 198, 0, 85, 25, 4, 58, 6, 25, 7, 43, 25, 4, 180, 0, 105, 185, 0, 117, 3, 0]
abbrev dktJ17_put_2_1 : List UInt8 := dkwJ17_put_2_1 ++ dktJ17_put_2_2
def dkwJ17_put_2_0 : List UInt8 := [42, 180, 0, 101, 58, 4, 25, 4, 199, 0, 11, 42, 43, 44, 182, 0, 135, 1, 176, 42, 180, 0, 16]
abbrev dktJ17_put_2_0 : List UInt8 := dkwJ17_put_2_0 ++ dktJ17_put_2_1
theorem dksJ17_put_2_0 : cJ17_put_2.data.toList.drop 0 = dktJ17_put_2_0 := by decide +kernel
theorem dksJ17_put_2_1 : cJ17_put_2.data.toList.drop 23 = dktJ17_put_2_1 := dk_seg dksJ17_put_2_0 23 rfl rfl
theorem dksJ17_put_2_2 : cJ17_put_2.data.toList.drop 47 = dktJ17_put_2_2 := dk_seg dksJ17_put_2_1 24 rfl rfl
theorem dksJ17_put_2_3 : cJ17_put_2.data.toList.drop 71 = dktJ17_put_2_3 := dk_seg dksJ17_put_2_2 24 rfl rfl
theorem dksJ17_put_2_4 : cJ17_put_2.data.toList.drop 95 = dktJ17_put_2_4 := dk_seg dksJ17_put_2_3 24 rfl rfl
theorem dksJ17_put_2_5 : cJ17_put_2.data.toList.drop 118 = dktJ17_put_2_5 := dk_seg dksJ17_put_2_4 23 rfl rfl
theorem dksJ17_put_2_6 : cJ17_put_2.data.toList.drop 141 = dktJ17_put_2_6 := dk_seg dksJ17_put_2_5 23 rfl rfl
theorem dksJ17_put_2_7 : cJ17_put_2.data.toList.drop 163 = dktJ17_put_2_7 := dk_seg dksJ17_put_2_6 22 rfl rfl
theorem dksJ17_put_2_8 : cJ17_put_2.data.toList.drop 187 = dktJ17_put_2_8 := dk_seg dksJ17_put_2_7 24 rfl rfl
theorem dksJ17_put_2_9 : cJ17_put_2.data.toList.drop 211 = dktJ17_put_2_9 := dk_seg dksJ17_put_2_8 24 rfl rfl
theorem dJ17_put_2_0 : decode cJ17_put_2 0 = .ok (.aload_n 0, 1) := dk_42 (dk_at dksJ17_put_2_0 0 rfl rfl)
theorem dJ17_put_2_1 : decode cJ17_put_2 1 = .ok (.getfield 101, 3) := dk_180 0 101 (dk_at dksJ17_put_2_0 1 rfl rfl)
theorem dJ17_put_2_4 : decode cJ17_put_2 4 = .ok (.astore 4, 2) := dk_58 4 (dk_at dksJ17_put_2_0 4 rfl rfl)
theorem dJ17_put_2_6 : decode cJ17_put_2 6 = .ok (.aload 4, 2) := dk_25 4 (dk_at dksJ17_put_2_0 6 rfl rfl)
theorem dJ17_put_2_8 : decode cJ17_put_2 8 = .ok (.ifnonnull 11, 3) := dk_199 0 11 (dk_at dksJ17_put_2_0 8 rfl rfl)
theorem dJ17_put_2_11 : decode cJ17_put_2 11 = .ok (.aload_n 0, 1) := dk_42 (dk_at dksJ17_put_2_0 11 rfl rfl)
theorem dJ17_put_2_12 : decode cJ17_put_2 12 = .ok (.aload_n 1, 1) := dk_43 (dk_at dksJ17_put_2_0 12 rfl rfl)
theorem dJ17_put_2_13 : decode cJ17_put_2 13 = .ok (.aload_n 2, 1) := dk_44 (dk_at dksJ17_put_2_0 13 rfl rfl)
theorem dJ17_put_2_14 : decode cJ17_put_2 14 = .ok (.invokevirtual 135, 3) := dk_182 0 135 (dk_at dksJ17_put_2_0 14 rfl rfl)
theorem dJ17_put_2_17 : decode cJ17_put_2 17 = .ok (.aconst_null, 1) := dk_1 (dk_at dksJ17_put_2_0 17 rfl rfl)
theorem dJ17_put_2_18 : decode cJ17_put_2 18 = .ok (.areturn, 1) := dk_176 (dk_at dksJ17_put_2_0 18 rfl rfl)
theorem dJ17_put_2_19 : decode cJ17_put_2 19 = .ok (.aload_n 0, 1) := dk_42 (dk_at dksJ17_put_2_0 19 rfl rfl)
theorem dJ17_put_2_20 : decode cJ17_put_2 20 = .ok (.getfield 16, 3) := dk_180 0 16 (dk_at dksJ17_put_2_0 20 rfl rfl)
theorem dJ17_put_2_23 : decode cJ17_put_2 23 = .ok (.astore 7, 2) := dk_58 7 (dk_at dksJ17_put_2_1 0 rfl rfl)
theorem dJ17_put_2_25 : decode cJ17_put_2 25 = .ok (.aload 7, 2) := dk_25 7 (dk_at dksJ17_put_2_1 2 rfl rfl)
theorem dJ17_put_2_27 : decode cJ17_put_2 27 = .ok (.ifnull 85, 3) := dk_198 0 85 (dk_at dksJ17_put_2_1 4 rfl rfl)
theorem dJ17_put_2_30 : decode cJ17_put_2 30 = .ok (.aload 4, 2) := dk_25 4 (dk_at dksJ17_put_2_1 7 rfl rfl)
theorem dJ17_put_2_32 : decode cJ17_put_2 32 = .ok (.astore 6, 2) := dk_58 6 (dk_at dksJ17_put_2_1 9 rfl rfl)
theorem dJ17_put_2_34 : decode cJ17_put_2 34 = .ok (.aload 7, 2) := dk_25 7 (dk_at dksJ17_put_2_1 11 rfl rfl)
theorem dJ17_put_2_36 : decode cJ17_put_2 36 = .ok (.aload_n 1, 1) := dk_43 (dk_at dksJ17_put_2_1 13 rfl rfl)
theorem dJ17_put_2_37 : decode cJ17_put_2 37 = .ok (.aload 4, 2) := dk_25 4 (dk_at dksJ17_put_2_1 14 rfl rfl)
theorem dJ17_put_2_39 : decode cJ17_put_2 39 = .ok (.getfield 105, 3) := dk_180 0 105 (dk_at dksJ17_put_2_1 16 rfl rfl)
theorem dJ17_put_2_42 : decode cJ17_put_2 42 = .ok (.invokeinterface 117 3, 5) := by decide +kernel
theorem dJ17_put_2_47 : decode cJ17_put_2 47 = .ok (.istore 5, 2) := dk_54 5 (dk_at dksJ17_put_2_2 0 rfl rfl)
theorem dJ17_put_2_49 : decode cJ17_put_2 49 = .ok (.iload 5, 2) := dk_21 5 (dk_at dksJ17_put_2_2 2 rfl rfl)
theorem dJ17_put_2_51 : decode cJ17_put_2 51 = .ok (.ifCond .ge 13, 3) := dk_156 0 13 (dk_at dksJ17_put_2_2 4 rfl rfl)
theorem dJ17_put_2_54 : decode cJ17_put_2 54 = .ok (.aload 4, 2) := dk_25 4 (dk_at dksJ17_put_2_2 7 rfl rfl)
theorem dJ17_put_2_56 : decode cJ17_put_2 56 = .ok (.getfield 111, 3) := dk_180 0 111 (dk_at dksJ17_put_2_2 9 rfl rfl)
theorem dJ17_put_2_59 : decode cJ17_put_2 59 = .ok (.astore 4, 2) := dk_58 4 (dk_at dksJ17_put_2_2 12 rfl rfl)
theorem dJ17_put_2_61 : decode cJ17_put_2 61 = .ok (.goto 43, 3) := dk_167 0 43 (dk_at dksJ17_put_2_2 14 rfl rfl)
theorem dJ17_put_2_64 : decode cJ17_put_2 64 = .ok (.iload 5, 2) := dk_21 5 (dk_at dksJ17_put_2_2 17 rfl rfl)
theorem dJ17_put_2_66 : decode cJ17_put_2 66 = .ok (.ifCond .le 13, 3) := dk_158 0 13 (dk_at dksJ17_put_2_2 19 rfl rfl)
theorem dJ17_put_2_69 : decode cJ17_put_2 69 = .ok (.aload 4, 2) := dk_25 4 (dk_at dksJ17_put_2_2 22 rfl rfl)
theorem dJ17_put_2_71 : decode cJ17_put_2 71 = .ok (.getfield 114, 3) := dk_180 0 114 (dk_at dksJ17_put_2_3 0 rfl rfl)
theorem dJ17_put_2_74 : decode cJ17_put_2 74 = .ok (.astore 4, 2) := dk_58 4 (dk_at dksJ17_put_2_3 3 rfl rfl)
theorem dJ17_put_2_76 : decode cJ17_put_2 76 = .ok (.goto 28, 3) := dk_167 0 28 (dk_at dksJ17_put_2_3 5 rfl rfl)
theorem dJ17_put_2_79 : decode cJ17_put_2 79 = .ok (.aload 4, 2) := dk_25 4 (dk_at dksJ17_put_2_3 8 rfl rfl)
theorem dJ17_put_2_81 : decode cJ17_put_2 81 = .ok (.getfield 58, 3) := dk_180 0 58 (dk_at dksJ17_put_2_3 10 rfl rfl)
theorem dJ17_put_2_84 : decode cJ17_put_2 84 = .ok (.astore 8, 2) := dk_58 8 (dk_at dksJ17_put_2_3 13 rfl rfl)
theorem dJ17_put_2_86 : decode cJ17_put_2 86 = .ok (.iload_n 3, 1) := dk_29 (dk_at dksJ17_put_2_3 15 rfl rfl)
theorem dJ17_put_2_87 : decode cJ17_put_2 87 = .ok (.ifCond .ne 8, 3) := dk_154 0 8 (dk_at dksJ17_put_2_3 16 rfl rfl)
theorem dJ17_put_2_90 : decode cJ17_put_2 90 = .ok (.aload 8, 2) := dk_25 8 (dk_at dksJ17_put_2_3 19 rfl rfl)
theorem dJ17_put_2_92 : decode cJ17_put_2 92 = .ok (.ifnonnull 9, 3) := dk_199 0 9 (dk_at dksJ17_put_2_3 21 rfl rfl)
theorem dJ17_put_2_95 : decode cJ17_put_2 95 = .ok (.aload 4, 2) := dk_25 4 (dk_at dksJ17_put_2_4 0 rfl rfl)
theorem dJ17_put_2_97 : decode cJ17_put_2 97 = .ok (.aload_n 2, 1) := dk_44 (dk_at dksJ17_put_2_4 2 rfl rfl)
theorem dJ17_put_2_98 : decode cJ17_put_2 98 = .ok (.putfield 58, 3) := dk_181 0 58 (dk_at dksJ17_put_2_4 3 rfl rfl)
theorem dJ17_put_2_101 : decode cJ17_put_2 101 = .ok (.aload 8, 2) := dk_25 8 (dk_at dksJ17_put_2_4 6 rfl rfl)
theorem dJ17_put_2_103 : decode cJ17_put_2 103 = .ok (.areturn, 1) := dk_176 (dk_at dksJ17_put_2_4 8 rfl rfl)
theorem dJ17_put_2_104 : decode cJ17_put_2 104 = .ok (.aload 4, 2) := dk_25 4 (dk_at dksJ17_put_2_4 9 rfl rfl)
theorem dJ17_put_2_106 : decode cJ17_put_2 106 = .ok (.ifnonnull (-76), 3) := dk_199 255 180 (dk_at dksJ17_put_2_4 11 rfl rfl)
theorem dJ17_put_2_109 : decode cJ17_put_2 109 = .ok (.goto 92, 3) := dk_167 0 92 (dk_at dksJ17_put_2_4 14 rfl rfl)
theorem dJ17_put_2_112 : decode cJ17_put_2 112 = .ok (.aload_n 1, 1) := dk_43 (dk_at dksJ17_put_2_4 17 rfl rfl)
theorem dJ17_put_2_113 : decode cJ17_put_2 113 = .ok (.invokestatic 95, 3) := dk_184 0 95 (dk_at dksJ17_put_2_4 18 rfl rfl)
theorem dJ17_put_2_116 : decode cJ17_put_2 116 = .ok (.pop, 1) := dk_87 (dk_at dksJ17_put_2_4 21 rfl rfl)
theorem dJ17_put_2_117 : decode cJ17_put_2 117 = .ok (.aload_n 1, 1) := dk_43 (dk_at dksJ17_put_2_4 22 rfl rfl)
theorem dJ17_put_2_118 : decode cJ17_put_2 118 = .ok (.checkcast 99, 3) := dk_192 0 99 (dk_at dksJ17_put_2_5 0 rfl rfl)
theorem dJ17_put_2_121 : decode cJ17_put_2 121 = .ok (.astore 8, 2) := dk_58 8 (dk_at dksJ17_put_2_5 3 rfl rfl)
theorem dJ17_put_2_123 : decode cJ17_put_2 123 = .ok (.aload 4, 2) := dk_25 4 (dk_at dksJ17_put_2_5 5 rfl rfl)
theorem dJ17_put_2_125 : decode cJ17_put_2 125 = .ok (.astore 6, 2) := dk_58 6 (dk_at dksJ17_put_2_5 7 rfl rfl)
theorem dJ17_put_2_127 : decode cJ17_put_2 127 = .ok (.aload 8, 2) := dk_25 8 (dk_at dksJ17_put_2_5 9 rfl rfl)
theorem dJ17_put_2_129 : decode cJ17_put_2 129 = .ok (.aload 4, 2) := dk_25 4 (dk_at dksJ17_put_2_5 11 rfl rfl)
theorem dJ17_put_2_131 : decode cJ17_put_2 131 = .ok (.getfield 105, 3) := dk_180 0 105 (dk_at dksJ17_put_2_5 13 rfl rfl)
theorem dJ17_put_2_134 : decode cJ17_put_2 134 = .ok (.invokeinterface 107 2, 5) := by decide +kernel
theorem dJ17_put_2_139 : decode cJ17_put_2 139 = .ok (.istore 5, 2) := dk_54 5 (dk_at dksJ17_put_2_5 21 rfl rfl)
theorem dJ17_put_2_141 : decode cJ17_put_2 141 = .ok (.iload 5, 2) := dk_21 5 (dk_at dksJ17_put_2_6 0 rfl rfl)
theorem dJ17_put_2_143 : decode cJ17_put_2 143 = .ok (.ifCond .ge 13, 3) := dk_156 0 13 (dk_at dksJ17_put_2_6 2 rfl rfl)
theorem dJ17_put_2_146 : decode cJ17_put_2 146 = .ok (.aload 4, 2) := dk_25 4 (dk_at dksJ17_put_2_6 5 rfl rfl)
theorem dJ17_put_2_148 : decode cJ17_put_2 148 = .ok (.getfield 111, 3) := dk_180 0 111 (dk_at dksJ17_put_2_6 7 rfl rfl)
theorem dJ17_put_2_151 : decode cJ17_put_2 151 = .ok (.astore 4, 2) := dk_58 4 (dk_at dksJ17_put_2_6 10 rfl rfl)
theorem dJ17_put_2_153 : decode cJ17_put_2 153 = .ok (.goto 43, 3) := dk_167 0 43 (dk_at dksJ17_put_2_6 12 rfl rfl)
theorem dJ17_put_2_156 : decode cJ17_put_2 156 = .ok (.iload 5, 2) := dk_21 5 (dk_at dksJ17_put_2_6 15 rfl rfl)
theorem dJ17_put_2_158 : decode cJ17_put_2 158 = .ok (.ifCond .le 13, 3) := dk_158 0 13 (dk_at dksJ17_put_2_6 17 rfl rfl)
theorem dJ17_put_2_161 : decode cJ17_put_2 161 = .ok (.aload 4, 2) := dk_25 4 (dk_at dksJ17_put_2_6 20 rfl rfl)
theorem dJ17_put_2_163 : decode cJ17_put_2 163 = .ok (.getfield 114, 3) := dk_180 0 114 (dk_at dksJ17_put_2_7 0 rfl rfl)
theorem dJ17_put_2_166 : decode cJ17_put_2 166 = .ok (.astore 4, 2) := dk_58 4 (dk_at dksJ17_put_2_7 3 rfl rfl)
theorem dJ17_put_2_168 : decode cJ17_put_2 168 = .ok (.goto 28, 3) := dk_167 0 28 (dk_at dksJ17_put_2_7 5 rfl rfl)
theorem dJ17_put_2_171 : decode cJ17_put_2 171 = .ok (.aload 4, 2) := dk_25 4 (dk_at dksJ17_put_2_7 8 rfl rfl)
theorem dJ17_put_2_173 : decode cJ17_put_2 173 = .ok (.getfield 58, 3) := dk_180 0 58 (dk_at dksJ17_put_2_7 10 rfl rfl)
theorem dJ17_put_2_176 : decode cJ17_put_2 176 = .ok (.astore 9, 2) := dk_58 9 (dk_at dksJ17_put_2_7 13 rfl rfl)
theorem dJ17_put_2_178 : decode cJ17_put_2 178 = .ok (.iload_n 3, 1) := dk_29 (dk_at dksJ17_put_2_7 15 rfl rfl)
theorem dJ17_put_2_179 : decode cJ17_put_2 179 = .ok (.ifCond .ne 8, 3) := dk_154 0 8 (dk_at dksJ17_put_2_7 16 rfl rfl)
theorem dJ17_put_2_182 : decode cJ17_put_2 182 = .ok (.aload 9, 2) := dk_25 9 (dk_at dksJ17_put_2_7 19 rfl rfl)
theorem dJ17_put_2_184 : decode cJ17_put_2 184 = .ok (.ifnonnull 9, 3) := dk_199 0 9 (dk_at dksJ17_put_2_7 21 rfl rfl)
theorem dJ17_put_2_187 : decode cJ17_put_2 187 = .ok (.aload 4, 2) := dk_25 4 (dk_at dksJ17_put_2_8 0 rfl rfl)
theorem dJ17_put_2_189 : decode cJ17_put_2 189 = .ok (.aload_n 2, 1) := dk_44 (dk_at dksJ17_put_2_8 2 rfl rfl)
theorem dJ17_put_2_190 : decode cJ17_put_2 190 = .ok (.putfield 58, 3) := dk_181 0 58 (dk_at dksJ17_put_2_8 3 rfl rfl)
theorem dJ17_put_2_193 : decode cJ17_put_2 193 = .ok (.aload 9, 2) := dk_25 9 (dk_at dksJ17_put_2_8 6 rfl rfl)
theorem dJ17_put_2_195 : decode cJ17_put_2 195 = .ok (.areturn, 1) := dk_176 (dk_at dksJ17_put_2_8 8 rfl rfl)
theorem dJ17_put_2_196 : decode cJ17_put_2 196 = .ok (.aload 4, 2) := dk_25 4 (dk_at dksJ17_put_2_8 9 rfl rfl)
theorem dJ17_put_2_198 : decode cJ17_put_2 198 = .ok (.ifnonnull (-75), 3) := dk_199 255 181 (dk_at dksJ17_put_2_8 11 rfl rfl)
theorem dJ17_put_2_201 : decode cJ17_put_2 201 = .ok (.aload_n 0, 1) := dk_42 (dk_at dksJ17_put_2_8 14 rfl rfl)
theorem dJ17_put_2_202 : decode cJ17_put_2 202 = .ok (.aload_n 1, 1) := dk_43 (dk_at dksJ17_put_2_8 15 rfl rfl)
theorem dJ17_put_2_203 : decode cJ17_put_2 203 = .ok (.aload_n 2, 1) := dk_44 (dk_at dksJ17_put_2_8 16 rfl rfl)
theorem dJ17_put_2_204 : decode cJ17_put_2 204 = .ok (.aload 6, 2) := dk_25 6 (dk_at dksJ17_put_2_8 17 rfl rfl)
theorem dJ17_put_2_206 : decode cJ17_put_2 206 = .ok (.iload 5, 2) := dk_21 5 (dk_at dksJ17_put_2_8 19 rfl rfl)
theorem dJ17_put_2_208 : decode cJ17_put_2 208 = .ok (.ifCond .ge 7, 3) := dk_156 0 7 (dk_at dksJ17_put_2_8 21 rfl rfl)
theorem dJ17_put_2_211 : decode cJ17_put_2 211 = .ok (.iconst 1, 1) := dk_4 (dk_at dksJ17_put_2_9 0 rfl rfl)
theorem dJ17_put_2_212 : decode cJ17_put_2 212 = .ok (.goto 4, 3) := dk_167 0 4 (dk_at dksJ17_put_2_9 1 rfl rfl)
theorem dJ17_put_2_215 : decode cJ17_put_2 215 = .ok (.iconst 0, 1) := dk_3 (dk_at dksJ17_put_2_9 4 rfl rfl)
theorem dJ17_put_2_216 : decode cJ17_put_2 216 = .ok (.invokevirtual 139, 3) := dk_182 0 139 (dk_at dksJ17_put_2_9 5 rfl rfl)
theorem dJ17_put_2_219 : decode cJ17_put_2 219 = .ok (.aconst_null, 1) := dk_1 (dk_at dksJ17_put_2_9 8 rfl rfl)
theorem dJ17_put_2_220 : decode cJ17_put_2 220 = .ok (.areturn, 1) := dk_176 (dk_at dksJ17_put_2_9 9 rfl rfl)
abbrev cJ17_addEntryToEmptyMap : ByteArray := prog_66_method_30_code
def yJ17_addEntryToEmptyMap : MethodName := ⟨RJ17, "addEntryToEmptyMap", "(Ljava/lang/Object;Ljava/lang/Object;)V"⟩
def dkwJ17_addEntryToEmptyMap_1 : List UInt8 := [181, 0, 7, 42, 89, 180, 0, 13, 4, 96, 181, 0, 13, 177]
abbrev dktJ17_addEntryToEmptyMap_1 : List UInt8 := dkwJ17_addEntryToEmptyMap_1 ++ []
def dkwJ17_addEntryToEmptyMap_0 : List UInt8 := [42, 43, 43, 182, 0, 123, 87, 42, 187, 0, 59, 89, 43, 44, 1, 183, 0, 167, 181, 0, 101, 42, 4]
abbrev dktJ17_addEntryToEmptyMap_0 : List UInt8 := dkwJ17_addEntryToEmptyMap_0 ++ dktJ17_addEntryToEmptyMap_1
theorem dksJ17_addEntryToEmptyMap_0 : cJ17_addEntryToEmptyMap.data.toList.drop 0 = dktJ17_addEntryToEmptyMap_0 := by decide +kernel
theorem dksJ17_addEntryToEmptyMap_1 : cJ17_addEntryToEmptyMap.data.toList.drop 23 = dktJ17_addEntryToEmptyMap_1 := dk_seg dksJ17_addEntryToEmptyMap_0 23 rfl rfl
theorem dJ17_addEntryToEmptyMap_0 : decode cJ17_addEntryToEmptyMap 0 = .ok (.aload_n 0, 1) := dk_42 (dk_at dksJ17_addEntryToEmptyMap_0 0 rfl rfl)
theorem dJ17_addEntryToEmptyMap_1 : decode cJ17_addEntryToEmptyMap 1 = .ok (.aload_n 1, 1) := dk_43 (dk_at dksJ17_addEntryToEmptyMap_0 1 rfl rfl)
theorem dJ17_addEntryToEmptyMap_2 : decode cJ17_addEntryToEmptyMap 2 = .ok (.aload_n 1, 1) := dk_43 (dk_at dksJ17_addEntryToEmptyMap_0 2 rfl rfl)
theorem dJ17_addEntryToEmptyMap_3 : decode cJ17_addEntryToEmptyMap 3 = .ok (.invokevirtual 123, 3) := dk_182 0 123 (dk_at dksJ17_addEntryToEmptyMap_0 3 rfl rfl)
theorem dJ17_addEntryToEmptyMap_6 : decode cJ17_addEntryToEmptyMap 6 = .ok (.pop, 1) := dk_87 (dk_at dksJ17_addEntryToEmptyMap_0 6 rfl rfl)
theorem dJ17_addEntryToEmptyMap_7 : decode cJ17_addEntryToEmptyMap 7 = .ok (.aload_n 0, 1) := dk_42 (dk_at dksJ17_addEntryToEmptyMap_0 7 rfl rfl)
theorem dJ17_addEntryToEmptyMap_8 : decode cJ17_addEntryToEmptyMap 8 = .ok (.new 59, 3) := dk_187 0 59 (dk_at dksJ17_addEntryToEmptyMap_0 8 rfl rfl)
theorem dJ17_addEntryToEmptyMap_11 : decode cJ17_addEntryToEmptyMap 11 = .ok (.dup, 1) := dk_89 (dk_at dksJ17_addEntryToEmptyMap_0 11 rfl rfl)
theorem dJ17_addEntryToEmptyMap_12 : decode cJ17_addEntryToEmptyMap 12 = .ok (.aload_n 1, 1) := dk_43 (dk_at dksJ17_addEntryToEmptyMap_0 12 rfl rfl)
theorem dJ17_addEntryToEmptyMap_13 : decode cJ17_addEntryToEmptyMap 13 = .ok (.aload_n 2, 1) := dk_44 (dk_at dksJ17_addEntryToEmptyMap_0 13 rfl rfl)
theorem dJ17_addEntryToEmptyMap_14 : decode cJ17_addEntryToEmptyMap 14 = .ok (.aconst_null, 1) := dk_1 (dk_at dksJ17_addEntryToEmptyMap_0 14 rfl rfl)
theorem dJ17_addEntryToEmptyMap_15 : decode cJ17_addEntryToEmptyMap 15 = .ok (.invokespecial 167, 3) := dk_183 0 167 (dk_at dksJ17_addEntryToEmptyMap_0 15 rfl rfl)
theorem dJ17_addEntryToEmptyMap_18 : decode cJ17_addEntryToEmptyMap 18 = .ok (.putfield 101, 3) := dk_181 0 101 (dk_at dksJ17_addEntryToEmptyMap_0 18 rfl rfl)
theorem dJ17_addEntryToEmptyMap_21 : decode cJ17_addEntryToEmptyMap 21 = .ok (.aload_n 0, 1) := dk_42 (dk_at dksJ17_addEntryToEmptyMap_0 21 rfl rfl)
theorem dJ17_addEntryToEmptyMap_22 : decode cJ17_addEntryToEmptyMap 22 = .ok (.iconst 1, 1) := dk_4 (dk_at dksJ17_addEntryToEmptyMap_0 22 rfl rfl)
theorem dJ17_addEntryToEmptyMap_23 : decode cJ17_addEntryToEmptyMap 23 = .ok (.putfield 7, 3) := dk_181 0 7 (dk_at dksJ17_addEntryToEmptyMap_1 0 rfl rfl)
theorem dJ17_addEntryToEmptyMap_26 : decode cJ17_addEntryToEmptyMap 26 = .ok (.aload_n 0, 1) := dk_42 (dk_at dksJ17_addEntryToEmptyMap_1 3 rfl rfl)
theorem dJ17_addEntryToEmptyMap_27 : decode cJ17_addEntryToEmptyMap 27 = .ok (.dup, 1) := dk_89 (dk_at dksJ17_addEntryToEmptyMap_1 4 rfl rfl)
theorem dJ17_addEntryToEmptyMap_28 : decode cJ17_addEntryToEmptyMap 28 = .ok (.getfield 13, 3) := dk_180 0 13 (dk_at dksJ17_addEntryToEmptyMap_1 5 rfl rfl)
theorem dJ17_addEntryToEmptyMap_31 : decode cJ17_addEntryToEmptyMap 31 = .ok (.iconst 1, 1) := dk_4 (dk_at dksJ17_addEntryToEmptyMap_1 8 rfl rfl)
theorem dJ17_addEntryToEmptyMap_32 : decode cJ17_addEntryToEmptyMap 32 = .ok (.iadd, 1) := dk_96 (dk_at dksJ17_addEntryToEmptyMap_1 9 rfl rfl)
theorem dJ17_addEntryToEmptyMap_33 : decode cJ17_addEntryToEmptyMap 33 = .ok (.putfield 13, 3) := dk_181 0 13 (dk_at dksJ17_addEntryToEmptyMap_1 10 rfl rfl)
theorem dJ17_addEntryToEmptyMap_36 : decode cJ17_addEntryToEmptyMap 36 = .ok (.return_, 1) := dk_177 (dk_at dksJ17_addEntryToEmptyMap_1 13 rfl rfl)
abbrev cJ17_compare : ByteArray := prog_66_method_67_code
def yJ17_compare : MethodName := ⟨RJ17, "compare", "(Ljava/lang/Object;Ljava/lang/Object;)I"⟩
def dkwJ17_compare_1 : List UInt8 := [43, 44, 185, 0, 117, 3, 0, 172]
abbrev dktJ17_compare_1 : List UInt8 := dkwJ17_compare_1 ++ []
def dkwJ17_compare_0 : List UInt8 := [42, 180, 0, 16, 199, 0, 16, 43, 192, 0, 99, 44, 185, 0, 107, 2, 0, 167, 0, 14, 42, 180, 0, 16]
abbrev dktJ17_compare_0 : List UInt8 := dkwJ17_compare_0 ++ dktJ17_compare_1
theorem dksJ17_compare_0 : cJ17_compare.data.toList.drop 0 = dktJ17_compare_0 := by decide +kernel
theorem dksJ17_compare_1 : cJ17_compare.data.toList.drop 24 = dktJ17_compare_1 := dk_seg dksJ17_compare_0 24 rfl rfl
theorem dJ17_compare_0 : decode cJ17_compare 0 = .ok (.aload_n 0, 1) := dk_42 (dk_at dksJ17_compare_0 0 rfl rfl)
theorem dJ17_compare_1 : decode cJ17_compare 1 = .ok (.getfield 16, 3) := dk_180 0 16 (dk_at dksJ17_compare_0 1 rfl rfl)
theorem dJ17_compare_4 : decode cJ17_compare 4 = .ok (.ifnonnull 16, 3) := dk_199 0 16 (dk_at dksJ17_compare_0 4 rfl rfl)
theorem dJ17_compare_7 : decode cJ17_compare 7 = .ok (.aload_n 1, 1) := dk_43 (dk_at dksJ17_compare_0 7 rfl rfl)
theorem dJ17_compare_8 : decode cJ17_compare 8 = .ok (.checkcast 99, 3) := dk_192 0 99 (dk_at dksJ17_compare_0 8 rfl rfl)
theorem dJ17_compare_11 : decode cJ17_compare 11 = .ok (.aload_n 2, 1) := dk_44 (dk_at dksJ17_compare_0 11 rfl rfl)
theorem dJ17_compare_12 : decode cJ17_compare 12 = .ok (.invokeinterface 107 2, 5) := by decide +kernel
theorem dJ17_compare_17 : decode cJ17_compare 17 = .ok (.goto 14, 3) := dk_167 0 14 (dk_at dksJ17_compare_0 17 rfl rfl)
theorem dJ17_compare_20 : decode cJ17_compare 20 = .ok (.aload_n 0, 1) := dk_42 (dk_at dksJ17_compare_0 20 rfl rfl)
theorem dJ17_compare_21 : decode cJ17_compare 21 = .ok (.getfield 16, 3) := dk_180 0 16 (dk_at dksJ17_compare_0 21 rfl rfl)
theorem dJ17_compare_24 : decode cJ17_compare 24 = .ok (.aload_n 1, 1) := dk_43 (dk_at dksJ17_compare_1 0 rfl rfl)
theorem dJ17_compare_25 : decode cJ17_compare 25 = .ok (.aload_n 2, 1) := dk_44 (dk_at dksJ17_compare_1 1 rfl rfl)
theorem dJ17_compare_26 : decode cJ17_compare 26 = .ok (.invokeinterface 117 3, 5) := by decide +kernel
theorem dJ17_compare_31 : decode cJ17_compare 31 = .ok (.ireturn, 1) := dk_172 (dk_at dksJ17_compare_1 7 rfl rfl)
abbrev cJ17_addEntry : ByteArray := prog_66_method_29_code
def yJ17_addEntry : MethodName := ⟨RJ17, "addEntry", "(Ljava/lang/Object;Ljava/lang/Object;Ljava/util/TreeMap$Entry;Z)V"⟩
def dkwJ17_addEntry_2 : List UInt8 := [181, 0, 7, 42, 89, 180, 0, 13, 4, 96, 181, 0, 13, 177]
abbrev dktJ17_addEntry_2 : List UInt8 := dkwJ17_addEntry_2 ++ []
def dkwJ17_addEntry_1 : List UInt8 := [167, 0, 9, 45, 25, 5, 181, 0, 114, 42, 25, 5, 182, 0, 170, 42, 89, 180, 0, 7, 4, 96]
abbrev dktJ17_addEntry_1 : List UInt8 := dkwJ17_addEntry_1 ++ dktJ17_addEntry_2
def dkwJ17_addEntry_0 : List UInt8 := [187, 0, 59, 89, 43, 44, 45, 183, 0, 167, 58, 5, 21, 4, 153, 0, 12, 45, 25, 5, 181, 0, 111]
abbrev dktJ17_addEntry_0 : List UInt8 := dkwJ17_addEntry_0 ++ dktJ17_addEntry_1
theorem dksJ17_addEntry_0 : cJ17_addEntry.data.toList.drop 0 = dktJ17_addEntry_0 := by decide +kernel
theorem dksJ17_addEntry_1 : cJ17_addEntry.data.toList.drop 23 = dktJ17_addEntry_1 := dk_seg dksJ17_addEntry_0 23 rfl rfl
theorem dksJ17_addEntry_2 : cJ17_addEntry.data.toList.drop 45 = dktJ17_addEntry_2 := dk_seg dksJ17_addEntry_1 22 rfl rfl
theorem dJ17_addEntry_0 : decode cJ17_addEntry 0 = .ok (.new 59, 3) := dk_187 0 59 (dk_at dksJ17_addEntry_0 0 rfl rfl)
theorem dJ17_addEntry_3 : decode cJ17_addEntry 3 = .ok (.dup, 1) := dk_89 (dk_at dksJ17_addEntry_0 3 rfl rfl)
theorem dJ17_addEntry_4 : decode cJ17_addEntry 4 = .ok (.aload_n 1, 1) := dk_43 (dk_at dksJ17_addEntry_0 4 rfl rfl)
theorem dJ17_addEntry_5 : decode cJ17_addEntry 5 = .ok (.aload_n 2, 1) := dk_44 (dk_at dksJ17_addEntry_0 5 rfl rfl)
theorem dJ17_addEntry_6 : decode cJ17_addEntry 6 = .ok (.aload_n 3, 1) := dk_45 (dk_at dksJ17_addEntry_0 6 rfl rfl)
theorem dJ17_addEntry_7 : decode cJ17_addEntry 7 = .ok (.invokespecial 167, 3) := dk_183 0 167 (dk_at dksJ17_addEntry_0 7 rfl rfl)
theorem dJ17_addEntry_10 : decode cJ17_addEntry 10 = .ok (.astore 5, 2) := dk_58 5 (dk_at dksJ17_addEntry_0 10 rfl rfl)
theorem dJ17_addEntry_12 : decode cJ17_addEntry 12 = .ok (.iload 4, 2) := dk_21 4 (dk_at dksJ17_addEntry_0 12 rfl rfl)
theorem dJ17_addEntry_14 : decode cJ17_addEntry 14 = .ok (.ifCond .eq 12, 3) := dk_153 0 12 (dk_at dksJ17_addEntry_0 14 rfl rfl)
theorem dJ17_addEntry_17 : decode cJ17_addEntry 17 = .ok (.aload_n 3, 1) := dk_45 (dk_at dksJ17_addEntry_0 17 rfl rfl)
theorem dJ17_addEntry_18 : decode cJ17_addEntry 18 = .ok (.aload 5, 2) := dk_25 5 (dk_at dksJ17_addEntry_0 18 rfl rfl)
theorem dJ17_addEntry_20 : decode cJ17_addEntry 20 = .ok (.putfield 111, 3) := dk_181 0 111 (dk_at dksJ17_addEntry_0 20 rfl rfl)
theorem dJ17_addEntry_23 : decode cJ17_addEntry 23 = .ok (.goto 9, 3) := dk_167 0 9 (dk_at dksJ17_addEntry_1 0 rfl rfl)
theorem dJ17_addEntry_26 : decode cJ17_addEntry 26 = .ok (.aload_n 3, 1) := dk_45 (dk_at dksJ17_addEntry_1 3 rfl rfl)
theorem dJ17_addEntry_27 : decode cJ17_addEntry 27 = .ok (.aload 5, 2) := dk_25 5 (dk_at dksJ17_addEntry_1 4 rfl rfl)
theorem dJ17_addEntry_29 : decode cJ17_addEntry 29 = .ok (.putfield 114, 3) := dk_181 0 114 (dk_at dksJ17_addEntry_1 6 rfl rfl)
theorem dJ17_addEntry_32 : decode cJ17_addEntry 32 = .ok (.aload_n 0, 1) := dk_42 (dk_at dksJ17_addEntry_1 9 rfl rfl)
theorem dJ17_addEntry_33 : decode cJ17_addEntry 33 = .ok (.aload 5, 2) := dk_25 5 (dk_at dksJ17_addEntry_1 10 rfl rfl)
theorem dJ17_addEntry_35 : decode cJ17_addEntry 35 = .ok (.invokevirtual 170, 3) := dk_182 0 170 (dk_at dksJ17_addEntry_1 12 rfl rfl)
theorem dJ17_addEntry_38 : decode cJ17_addEntry 38 = .ok (.aload_n 0, 1) := dk_42 (dk_at dksJ17_addEntry_1 15 rfl rfl)
theorem dJ17_addEntry_39 : decode cJ17_addEntry 39 = .ok (.dup, 1) := dk_89 (dk_at dksJ17_addEntry_1 16 rfl rfl)
theorem dJ17_addEntry_40 : decode cJ17_addEntry 40 = .ok (.getfield 7, 3) := dk_180 0 7 (dk_at dksJ17_addEntry_1 17 rfl rfl)
theorem dJ17_addEntry_43 : decode cJ17_addEntry 43 = .ok (.iconst 1, 1) := dk_4 (dk_at dksJ17_addEntry_1 20 rfl rfl)
theorem dJ17_addEntry_44 : decode cJ17_addEntry 44 = .ok (.iadd, 1) := dk_96 (dk_at dksJ17_addEntry_1 21 rfl rfl)
theorem dJ17_addEntry_45 : decode cJ17_addEntry 45 = .ok (.putfield 7, 3) := dk_181 0 7 (dk_at dksJ17_addEntry_2 0 rfl rfl)
theorem dJ17_addEntry_48 : decode cJ17_addEntry 48 = .ok (.aload_n 0, 1) := dk_42 (dk_at dksJ17_addEntry_2 3 rfl rfl)
theorem dJ17_addEntry_49 : decode cJ17_addEntry 49 = .ok (.dup, 1) := dk_89 (dk_at dksJ17_addEntry_2 4 rfl rfl)
theorem dJ17_addEntry_50 : decode cJ17_addEntry 50 = .ok (.getfield 13, 3) := dk_180 0 13 (dk_at dksJ17_addEntry_2 5 rfl rfl)
theorem dJ17_addEntry_53 : decode cJ17_addEntry 53 = .ok (.iconst 1, 1) := dk_4 (dk_at dksJ17_addEntry_2 8 rfl rfl)
theorem dJ17_addEntry_54 : decode cJ17_addEntry 54 = .ok (.iadd, 1) := dk_96 (dk_at dksJ17_addEntry_2 9 rfl rfl)
theorem dJ17_addEntry_55 : decode cJ17_addEntry 55 = .ok (.putfield 13, 3) := dk_181 0 13 (dk_at dksJ17_addEntry_2 10 rfl rfl)
theorem dJ17_addEntry_58 : decode cJ17_addEntry 58 = .ok (.return_, 1) := dk_177 (dk_at dksJ17_addEntry_2 13 rfl rfl)
abbrev cJ17_fixAfterInsertion : ByteArray := prog_66_method_83_code
def yJ17_fixAfterInsertion : MethodName := ⟨RJ17, "fixAfterInsertion", "(Ljava/util/TreeMap$Entry;)V"⟩
def dkwJ17_fixAfterInsertion_11 : List UInt8 := [42, 180, 0, 101, 4, 181, 1, 34, 177]
abbrev dktJ17_fixAfterInsertion_11 : List UInt8 := dkwJ17_fixAfterInsertion_11 ++ []
def dkwJ17_fixAfterInsertion_10 : List UInt8 := [184, 1, 38, 184, 1, 38, 3, 184, 1, 51, 42, 43, 184, 1, 38, 184, 1, 38, 182, 1, 55, 167, 255, 6]
abbrev dktJ17_fixAfterInsertion_10 : List UInt8 := dkwJ17_fixAfterInsertion_10 ++ dktJ17_fixAfterInsertion_11
def dkwJ17_fixAfterInsertion_9 : List UInt8 := [166, 0, 13, 43, 184, 1, 38, 76, 42, 43, 182, 1, 58, 43, 184, 1, 38, 4, 184, 1, 51, 43]
abbrev dktJ17_fixAfterInsertion_9 : List UInt8 := dkwJ17_fixAfterInsertion_9 ++ dktJ17_fixAfterInsertion_10
def dkwJ17_fixAfterInsertion_8 : List UInt8 := [184, 1, 51, 43, 184, 1, 38, 184, 1, 38, 76, 167, 0, 54, 43, 43, 184, 1, 38, 184, 1, 41]
abbrev dktJ17_fixAfterInsertion_8 : List UInt8 := dkwJ17_fixAfterInsertion_8 ++ dktJ17_fixAfterInsertion_9
def dkwJ17_fixAfterInsertion_7 : List UInt8 := [154, 0, 38, 43, 184, 1, 38, 4, 184, 1, 51, 44, 4, 184, 1, 51, 43, 184, 1, 38, 184, 1, 38, 3]
abbrev dktJ17_fixAfterInsertion_7 : List UInt8 := dkwJ17_fixAfterInsertion_7 ++ dktJ17_fixAfterInsertion_8
def dkwJ17_fixAfterInsertion_6 : List UInt8 := [184, 1, 38, 182, 1, 58, 167, 255, 113, 43, 184, 1, 38, 184, 1, 38, 184, 1, 41, 77, 44, 184, 1, 47]
abbrev dktJ17_fixAfterInsertion_6 : List UInt8 := dkwJ17_fixAfterInsertion_6 ++ dktJ17_fixAfterInsertion_7
def dkwJ17_fixAfterInsertion_5 : List UInt8 := [43, 184, 1, 38, 4, 184, 1, 51, 43, 184, 1, 38, 184, 1, 38, 3, 184, 1, 51, 42, 43, 184, 1, 38]
abbrev dktJ17_fixAfterInsertion_5 : List UInt8 := dkwJ17_fixAfterInsertion_5 ++ dktJ17_fixAfterInsertion_6
def dkwJ17_fixAfterInsertion_4 : List UInt8 := [167, 0, 54, 43, 43, 184, 1, 38, 184, 1, 44, 166, 0, 13, 43, 184, 1, 38, 76, 42, 43, 182, 1, 55]
abbrev dktJ17_fixAfterInsertion_4 : List UInt8 := dkwJ17_fixAfterInsertion_4 ++ dktJ17_fixAfterInsertion_5
def dkwJ17_fixAfterInsertion_3 : List UInt8 := [184, 1, 51, 43, 184, 1, 38, 184, 1, 38, 3, 184, 1, 51, 43, 184, 1, 38, 184, 1, 38, 76]
abbrev dktJ17_fixAfterInsertion_3 : List UInt8 := dkwJ17_fixAfterInsertion_3 ++ dktJ17_fixAfterInsertion_4
def dkwJ17_fixAfterInsertion_2 : List UInt8 := [184, 1, 38, 184, 1, 44, 77, 44, 184, 1, 47, 154, 0, 38, 43, 184, 1, 38, 4, 184, 1, 51, 44, 4]
abbrev dktJ17_fixAfterInsertion_2 : List UInt8 := dkwJ17_fixAfterInsertion_2 ++ dktJ17_fixAfterInsertion_3
def dkwJ17_fixAfterInsertion_1 : List UInt8 := [154, 0, 234, 43, 184, 1, 38, 43, 184, 1, 38, 184, 1, 38, 184, 1, 41, 166, 0, 110, 43, 184, 1, 38]
abbrev dktJ17_fixAfterInsertion_1 : List UInt8 := dkwJ17_fixAfterInsertion_1 ++ dktJ17_fixAfterInsertion_2
def dkwJ17_fixAfterInsertion_0 : List UInt8 := [43, 3, 181, 1, 34, 43, 198, 0, 252, 43, 42, 180, 0, 101, 165, 0, 244, 43, 180, 0, 124, 180, 1, 34]
abbrev dktJ17_fixAfterInsertion_0 : List UInt8 := dkwJ17_fixAfterInsertion_0 ++ dktJ17_fixAfterInsertion_1
theorem dksJ17_fixAfterInsertion_0 : cJ17_fixAfterInsertion.data.toList.drop 0 = dktJ17_fixAfterInsertion_0 := by decide +kernel
theorem dksJ17_fixAfterInsertion_1 : cJ17_fixAfterInsertion.data.toList.drop 24 = dktJ17_fixAfterInsertion_1 := dk_seg dksJ17_fixAfterInsertion_0 24 rfl rfl
theorem dksJ17_fixAfterInsertion_2 : cJ17_fixAfterInsertion.data.toList.drop 48 = dktJ17_fixAfterInsertion_2 := dk_seg dksJ17_fixAfterInsertion_1 24 rfl rfl
theorem dksJ17_fixAfterInsertion_3 : cJ17_fixAfterInsertion.data.toList.drop 72 = dktJ17_fixAfterInsertion_3 := dk_seg dksJ17_fixAfterInsertion_2 24 rfl rfl
theorem dksJ17_fixAfterInsertion_4 : cJ17_fixAfterInsertion.data.toList.drop 94 = dktJ17_fixAfterInsertion_4 := dk_seg dksJ17_fixAfterInsertion_3 22 rfl rfl
theorem dksJ17_fixAfterInsertion_5 : cJ17_fixAfterInsertion.data.toList.drop 118 = dktJ17_fixAfterInsertion_5 := dk_seg dksJ17_fixAfterInsertion_4 24 rfl rfl
theorem dksJ17_fixAfterInsertion_6 : cJ17_fixAfterInsertion.data.toList.drop 142 = dktJ17_fixAfterInsertion_6 := dk_seg dksJ17_fixAfterInsertion_5 24 rfl rfl
theorem dksJ17_fixAfterInsertion_7 : cJ17_fixAfterInsertion.data.toList.drop 166 = dktJ17_fixAfterInsertion_7 := dk_seg dksJ17_fixAfterInsertion_6 24 rfl rfl
theorem dksJ17_fixAfterInsertion_8 : cJ17_fixAfterInsertion.data.toList.drop 190 = dktJ17_fixAfterInsertion_8 := dk_seg dksJ17_fixAfterInsertion_7 24 rfl rfl
theorem dksJ17_fixAfterInsertion_9 : cJ17_fixAfterInsertion.data.toList.drop 212 = dktJ17_fixAfterInsertion_9 := dk_seg dksJ17_fixAfterInsertion_8 22 rfl rfl
theorem dksJ17_fixAfterInsertion_10 : cJ17_fixAfterInsertion.data.toList.drop 234 = dktJ17_fixAfterInsertion_10 := dk_seg dksJ17_fixAfterInsertion_9 22 rfl rfl
theorem dksJ17_fixAfterInsertion_11 : cJ17_fixAfterInsertion.data.toList.drop 258 = dktJ17_fixAfterInsertion_11 := dk_seg dksJ17_fixAfterInsertion_10 24 rfl rfl
theorem dJ17_fixAfterInsertion_0 : decode cJ17_fixAfterInsertion 0 = .ok (.aload_n 1, 1) := dk_43 (dk_at dksJ17_fixAfterInsertion_0 0 rfl rfl)
theorem dJ17_fixAfterInsertion_1 : decode cJ17_fixAfterInsertion 1 = .ok (.iconst 0, 1) := dk_3 (dk_at dksJ17_fixAfterInsertion_0 1 rfl rfl)
theorem dJ17_fixAfterInsertion_2 : decode cJ17_fixAfterInsertion 2 = .ok (.putfield 290, 3) := dk_181 1 34 (dk_at dksJ17_fixAfterInsertion_0 2 rfl rfl)
theorem dJ17_fixAfterInsertion_5 : decode cJ17_fixAfterInsertion 5 = .ok (.aload_n 1, 1) := dk_43 (dk_at dksJ17_fixAfterInsertion_0 5 rfl rfl)
theorem dJ17_fixAfterInsertion_6 : decode cJ17_fixAfterInsertion 6 = .ok (.ifnull 252, 3) := dk_198 0 252 (dk_at dksJ17_fixAfterInsertion_0 6 rfl rfl)
theorem dJ17_fixAfterInsertion_9 : decode cJ17_fixAfterInsertion 9 = .ok (.aload_n 1, 1) := dk_43 (dk_at dksJ17_fixAfterInsertion_0 9 rfl rfl)
theorem dJ17_fixAfterInsertion_10 : decode cJ17_fixAfterInsertion 10 = .ok (.aload_n 0, 1) := dk_42 (dk_at dksJ17_fixAfterInsertion_0 10 rfl rfl)
theorem dJ17_fixAfterInsertion_11 : decode cJ17_fixAfterInsertion 11 = .ok (.getfield 101, 3) := dk_180 0 101 (dk_at dksJ17_fixAfterInsertion_0 11 rfl rfl)
theorem dJ17_fixAfterInsertion_14 : decode cJ17_fixAfterInsertion 14 = .ok (.if_acmp .eq 244, 3) := dk_165 0 244 (dk_at dksJ17_fixAfterInsertion_0 14 rfl rfl)
theorem dJ17_fixAfterInsertion_17 : decode cJ17_fixAfterInsertion 17 = .ok (.aload_n 1, 1) := dk_43 (dk_at dksJ17_fixAfterInsertion_0 17 rfl rfl)
theorem dJ17_fixAfterInsertion_18 : decode cJ17_fixAfterInsertion 18 = .ok (.getfield 124, 3) := dk_180 0 124 (dk_at dksJ17_fixAfterInsertion_0 18 rfl rfl)
theorem dJ17_fixAfterInsertion_21 : decode cJ17_fixAfterInsertion 21 = .ok (.getfield 290, 3) := dk_180 1 34 (dk_at dksJ17_fixAfterInsertion_0 21 rfl rfl)
theorem dJ17_fixAfterInsertion_24 : decode cJ17_fixAfterInsertion 24 = .ok (.ifCond .ne 234, 3) := dk_154 0 234 (dk_at dksJ17_fixAfterInsertion_1 0 rfl rfl)
theorem dJ17_fixAfterInsertion_27 : decode cJ17_fixAfterInsertion 27 = .ok (.aload_n 1, 1) := dk_43 (dk_at dksJ17_fixAfterInsertion_1 3 rfl rfl)
theorem dJ17_fixAfterInsertion_28 : decode cJ17_fixAfterInsertion 28 = .ok (.invokestatic 294, 3) := dk_184 1 38 (dk_at dksJ17_fixAfterInsertion_1 4 rfl rfl)
theorem dJ17_fixAfterInsertion_31 : decode cJ17_fixAfterInsertion 31 = .ok (.aload_n 1, 1) := dk_43 (dk_at dksJ17_fixAfterInsertion_1 7 rfl rfl)
theorem dJ17_fixAfterInsertion_32 : decode cJ17_fixAfterInsertion 32 = .ok (.invokestatic 294, 3) := dk_184 1 38 (dk_at dksJ17_fixAfterInsertion_1 8 rfl rfl)
theorem dJ17_fixAfterInsertion_35 : decode cJ17_fixAfterInsertion 35 = .ok (.invokestatic 294, 3) := dk_184 1 38 (dk_at dksJ17_fixAfterInsertion_1 11 rfl rfl)
theorem dJ17_fixAfterInsertion_38 : decode cJ17_fixAfterInsertion 38 = .ok (.invokestatic 297, 3) := dk_184 1 41 (dk_at dksJ17_fixAfterInsertion_1 14 rfl rfl)
theorem dJ17_fixAfterInsertion_41 : decode cJ17_fixAfterInsertion 41 = .ok (.if_acmp .ne 110, 3) := dk_166 0 110 (dk_at dksJ17_fixAfterInsertion_1 17 rfl rfl)
theorem dJ17_fixAfterInsertion_44 : decode cJ17_fixAfterInsertion 44 = .ok (.aload_n 1, 1) := dk_43 (dk_at dksJ17_fixAfterInsertion_1 20 rfl rfl)
theorem dJ17_fixAfterInsertion_45 : decode cJ17_fixAfterInsertion 45 = .ok (.invokestatic 294, 3) := dk_184 1 38 (dk_at dksJ17_fixAfterInsertion_1 21 rfl rfl)
theorem dJ17_fixAfterInsertion_48 : decode cJ17_fixAfterInsertion 48 = .ok (.invokestatic 294, 3) := dk_184 1 38 (dk_at dksJ17_fixAfterInsertion_2 0 rfl rfl)
theorem dJ17_fixAfterInsertion_51 : decode cJ17_fixAfterInsertion 51 = .ok (.invokestatic 300, 3) := dk_184 1 44 (dk_at dksJ17_fixAfterInsertion_2 3 rfl rfl)
theorem dJ17_fixAfterInsertion_54 : decode cJ17_fixAfterInsertion 54 = .ok (.astore_n 2, 1) := dk_77 (dk_at dksJ17_fixAfterInsertion_2 6 rfl rfl)
theorem dJ17_fixAfterInsertion_55 : decode cJ17_fixAfterInsertion 55 = .ok (.aload_n 2, 1) := dk_44 (dk_at dksJ17_fixAfterInsertion_2 7 rfl rfl)
theorem dJ17_fixAfterInsertion_56 : decode cJ17_fixAfterInsertion 56 = .ok (.invokestatic 303, 3) := dk_184 1 47 (dk_at dksJ17_fixAfterInsertion_2 8 rfl rfl)
theorem dJ17_fixAfterInsertion_59 : decode cJ17_fixAfterInsertion 59 = .ok (.ifCond .ne 38, 3) := dk_154 0 38 (dk_at dksJ17_fixAfterInsertion_2 11 rfl rfl)
theorem dJ17_fixAfterInsertion_62 : decode cJ17_fixAfterInsertion 62 = .ok (.aload_n 1, 1) := dk_43 (dk_at dksJ17_fixAfterInsertion_2 14 rfl rfl)
theorem dJ17_fixAfterInsertion_63 : decode cJ17_fixAfterInsertion 63 = .ok (.invokestatic 294, 3) := dk_184 1 38 (dk_at dksJ17_fixAfterInsertion_2 15 rfl rfl)
theorem dJ17_fixAfterInsertion_66 : decode cJ17_fixAfterInsertion 66 = .ok (.iconst 1, 1) := dk_4 (dk_at dksJ17_fixAfterInsertion_2 18 rfl rfl)
theorem dJ17_fixAfterInsertion_67 : decode cJ17_fixAfterInsertion 67 = .ok (.invokestatic 307, 3) := dk_184 1 51 (dk_at dksJ17_fixAfterInsertion_2 19 rfl rfl)
theorem dJ17_fixAfterInsertion_70 : decode cJ17_fixAfterInsertion 70 = .ok (.aload_n 2, 1) := dk_44 (dk_at dksJ17_fixAfterInsertion_2 22 rfl rfl)
theorem dJ17_fixAfterInsertion_71 : decode cJ17_fixAfterInsertion 71 = .ok (.iconst 1, 1) := dk_4 (dk_at dksJ17_fixAfterInsertion_2 23 rfl rfl)
theorem dJ17_fixAfterInsertion_72 : decode cJ17_fixAfterInsertion 72 = .ok (.invokestatic 307, 3) := dk_184 1 51 (dk_at dksJ17_fixAfterInsertion_3 0 rfl rfl)
theorem dJ17_fixAfterInsertion_75 : decode cJ17_fixAfterInsertion 75 = .ok (.aload_n 1, 1) := dk_43 (dk_at dksJ17_fixAfterInsertion_3 3 rfl rfl)
theorem dJ17_fixAfterInsertion_76 : decode cJ17_fixAfterInsertion 76 = .ok (.invokestatic 294, 3) := dk_184 1 38 (dk_at dksJ17_fixAfterInsertion_3 4 rfl rfl)
theorem dJ17_fixAfterInsertion_79 : decode cJ17_fixAfterInsertion 79 = .ok (.invokestatic 294, 3) := dk_184 1 38 (dk_at dksJ17_fixAfterInsertion_3 7 rfl rfl)
theorem dJ17_fixAfterInsertion_82 : decode cJ17_fixAfterInsertion 82 = .ok (.iconst 0, 1) := dk_3 (dk_at dksJ17_fixAfterInsertion_3 10 rfl rfl)
theorem dJ17_fixAfterInsertion_83 : decode cJ17_fixAfterInsertion 83 = .ok (.invokestatic 307, 3) := dk_184 1 51 (dk_at dksJ17_fixAfterInsertion_3 11 rfl rfl)
theorem dJ17_fixAfterInsertion_86 : decode cJ17_fixAfterInsertion 86 = .ok (.aload_n 1, 1) := dk_43 (dk_at dksJ17_fixAfterInsertion_3 14 rfl rfl)
theorem dJ17_fixAfterInsertion_87 : decode cJ17_fixAfterInsertion 87 = .ok (.invokestatic 294, 3) := dk_184 1 38 (dk_at dksJ17_fixAfterInsertion_3 15 rfl rfl)
theorem dJ17_fixAfterInsertion_90 : decode cJ17_fixAfterInsertion 90 = .ok (.invokestatic 294, 3) := dk_184 1 38 (dk_at dksJ17_fixAfterInsertion_3 18 rfl rfl)
theorem dJ17_fixAfterInsertion_93 : decode cJ17_fixAfterInsertion 93 = .ok (.astore_n 1, 1) := dk_76 (dk_at dksJ17_fixAfterInsertion_3 21 rfl rfl)
theorem dJ17_fixAfterInsertion_94 : decode cJ17_fixAfterInsertion 94 = .ok (.goto 54, 3) := dk_167 0 54 (dk_at dksJ17_fixAfterInsertion_4 0 rfl rfl)
theorem dJ17_fixAfterInsertion_97 : decode cJ17_fixAfterInsertion 97 = .ok (.aload_n 1, 1) := dk_43 (dk_at dksJ17_fixAfterInsertion_4 3 rfl rfl)
theorem dJ17_fixAfterInsertion_98 : decode cJ17_fixAfterInsertion 98 = .ok (.aload_n 1, 1) := dk_43 (dk_at dksJ17_fixAfterInsertion_4 4 rfl rfl)
theorem dJ17_fixAfterInsertion_99 : decode cJ17_fixAfterInsertion 99 = .ok (.invokestatic 294, 3) := dk_184 1 38 (dk_at dksJ17_fixAfterInsertion_4 5 rfl rfl)
theorem dJ17_fixAfterInsertion_102 : decode cJ17_fixAfterInsertion 102 = .ok (.invokestatic 300, 3) := dk_184 1 44 (dk_at dksJ17_fixAfterInsertion_4 8 rfl rfl)
theorem dJ17_fixAfterInsertion_105 : decode cJ17_fixAfterInsertion 105 = .ok (.if_acmp .ne 13, 3) := dk_166 0 13 (dk_at dksJ17_fixAfterInsertion_4 11 rfl rfl)
theorem dJ17_fixAfterInsertion_108 : decode cJ17_fixAfterInsertion 108 = .ok (.aload_n 1, 1) := dk_43 (dk_at dksJ17_fixAfterInsertion_4 14 rfl rfl)
theorem dJ17_fixAfterInsertion_109 : decode cJ17_fixAfterInsertion 109 = .ok (.invokestatic 294, 3) := dk_184 1 38 (dk_at dksJ17_fixAfterInsertion_4 15 rfl rfl)
theorem dJ17_fixAfterInsertion_112 : decode cJ17_fixAfterInsertion 112 = .ok (.astore_n 1, 1) := dk_76 (dk_at dksJ17_fixAfterInsertion_4 18 rfl rfl)
theorem dJ17_fixAfterInsertion_113 : decode cJ17_fixAfterInsertion 113 = .ok (.aload_n 0, 1) := dk_42 (dk_at dksJ17_fixAfterInsertion_4 19 rfl rfl)
theorem dJ17_fixAfterInsertion_114 : decode cJ17_fixAfterInsertion 114 = .ok (.aload_n 1, 1) := dk_43 (dk_at dksJ17_fixAfterInsertion_4 20 rfl rfl)
theorem dJ17_fixAfterInsertion_115 : decode cJ17_fixAfterInsertion 115 = .ok (.invokevirtual 311, 3) := dk_182 1 55 (dk_at dksJ17_fixAfterInsertion_4 21 rfl rfl)
theorem dJ17_fixAfterInsertion_118 : decode cJ17_fixAfterInsertion 118 = .ok (.aload_n 1, 1) := dk_43 (dk_at dksJ17_fixAfterInsertion_5 0 rfl rfl)
theorem dJ17_fixAfterInsertion_119 : decode cJ17_fixAfterInsertion 119 = .ok (.invokestatic 294, 3) := dk_184 1 38 (dk_at dksJ17_fixAfterInsertion_5 1 rfl rfl)
theorem dJ17_fixAfterInsertion_122 : decode cJ17_fixAfterInsertion 122 = .ok (.iconst 1, 1) := dk_4 (dk_at dksJ17_fixAfterInsertion_5 4 rfl rfl)
theorem dJ17_fixAfterInsertion_123 : decode cJ17_fixAfterInsertion 123 = .ok (.invokestatic 307, 3) := dk_184 1 51 (dk_at dksJ17_fixAfterInsertion_5 5 rfl rfl)
theorem dJ17_fixAfterInsertion_126 : decode cJ17_fixAfterInsertion 126 = .ok (.aload_n 1, 1) := dk_43 (dk_at dksJ17_fixAfterInsertion_5 8 rfl rfl)
theorem dJ17_fixAfterInsertion_127 : decode cJ17_fixAfterInsertion 127 = .ok (.invokestatic 294, 3) := dk_184 1 38 (dk_at dksJ17_fixAfterInsertion_5 9 rfl rfl)
theorem dJ17_fixAfterInsertion_130 : decode cJ17_fixAfterInsertion 130 = .ok (.invokestatic 294, 3) := dk_184 1 38 (dk_at dksJ17_fixAfterInsertion_5 12 rfl rfl)
theorem dJ17_fixAfterInsertion_133 : decode cJ17_fixAfterInsertion 133 = .ok (.iconst 0, 1) := dk_3 (dk_at dksJ17_fixAfterInsertion_5 15 rfl rfl)
theorem dJ17_fixAfterInsertion_134 : decode cJ17_fixAfterInsertion 134 = .ok (.invokestatic 307, 3) := dk_184 1 51 (dk_at dksJ17_fixAfterInsertion_5 16 rfl rfl)
theorem dJ17_fixAfterInsertion_137 : decode cJ17_fixAfterInsertion 137 = .ok (.aload_n 0, 1) := dk_42 (dk_at dksJ17_fixAfterInsertion_5 19 rfl rfl)
theorem dJ17_fixAfterInsertion_138 : decode cJ17_fixAfterInsertion 138 = .ok (.aload_n 1, 1) := dk_43 (dk_at dksJ17_fixAfterInsertion_5 20 rfl rfl)
theorem dJ17_fixAfterInsertion_139 : decode cJ17_fixAfterInsertion 139 = .ok (.invokestatic 294, 3) := dk_184 1 38 (dk_at dksJ17_fixAfterInsertion_5 21 rfl rfl)
theorem dJ17_fixAfterInsertion_142 : decode cJ17_fixAfterInsertion 142 = .ok (.invokestatic 294, 3) := dk_184 1 38 (dk_at dksJ17_fixAfterInsertion_6 0 rfl rfl)
theorem dJ17_fixAfterInsertion_145 : decode cJ17_fixAfterInsertion 145 = .ok (.invokevirtual 314, 3) := dk_182 1 58 (dk_at dksJ17_fixAfterInsertion_6 3 rfl rfl)
theorem dJ17_fixAfterInsertion_148 : decode cJ17_fixAfterInsertion 148 = .ok (.goto (-143), 3) := dk_167 255 113 (dk_at dksJ17_fixAfterInsertion_6 6 rfl rfl)
theorem dJ17_fixAfterInsertion_151 : decode cJ17_fixAfterInsertion 151 = .ok (.aload_n 1, 1) := dk_43 (dk_at dksJ17_fixAfterInsertion_6 9 rfl rfl)
theorem dJ17_fixAfterInsertion_152 : decode cJ17_fixAfterInsertion 152 = .ok (.invokestatic 294, 3) := dk_184 1 38 (dk_at dksJ17_fixAfterInsertion_6 10 rfl rfl)
theorem dJ17_fixAfterInsertion_155 : decode cJ17_fixAfterInsertion 155 = .ok (.invokestatic 294, 3) := dk_184 1 38 (dk_at dksJ17_fixAfterInsertion_6 13 rfl rfl)
theorem dJ17_fixAfterInsertion_158 : decode cJ17_fixAfterInsertion 158 = .ok (.invokestatic 297, 3) := dk_184 1 41 (dk_at dksJ17_fixAfterInsertion_6 16 rfl rfl)
theorem dJ17_fixAfterInsertion_161 : decode cJ17_fixAfterInsertion 161 = .ok (.astore_n 2, 1) := dk_77 (dk_at dksJ17_fixAfterInsertion_6 19 rfl rfl)
theorem dJ17_fixAfterInsertion_162 : decode cJ17_fixAfterInsertion 162 = .ok (.aload_n 2, 1) := dk_44 (dk_at dksJ17_fixAfterInsertion_6 20 rfl rfl)
theorem dJ17_fixAfterInsertion_163 : decode cJ17_fixAfterInsertion 163 = .ok (.invokestatic 303, 3) := dk_184 1 47 (dk_at dksJ17_fixAfterInsertion_6 21 rfl rfl)
theorem dJ17_fixAfterInsertion_166 : decode cJ17_fixAfterInsertion 166 = .ok (.ifCond .ne 38, 3) := dk_154 0 38 (dk_at dksJ17_fixAfterInsertion_7 0 rfl rfl)
theorem dJ17_fixAfterInsertion_169 : decode cJ17_fixAfterInsertion 169 = .ok (.aload_n 1, 1) := dk_43 (dk_at dksJ17_fixAfterInsertion_7 3 rfl rfl)
theorem dJ17_fixAfterInsertion_170 : decode cJ17_fixAfterInsertion 170 = .ok (.invokestatic 294, 3) := dk_184 1 38 (dk_at dksJ17_fixAfterInsertion_7 4 rfl rfl)
theorem dJ17_fixAfterInsertion_173 : decode cJ17_fixAfterInsertion 173 = .ok (.iconst 1, 1) := dk_4 (dk_at dksJ17_fixAfterInsertion_7 7 rfl rfl)
theorem dJ17_fixAfterInsertion_174 : decode cJ17_fixAfterInsertion 174 = .ok (.invokestatic 307, 3) := dk_184 1 51 (dk_at dksJ17_fixAfterInsertion_7 8 rfl rfl)
theorem dJ17_fixAfterInsertion_177 : decode cJ17_fixAfterInsertion 177 = .ok (.aload_n 2, 1) := dk_44 (dk_at dksJ17_fixAfterInsertion_7 11 rfl rfl)
theorem dJ17_fixAfterInsertion_178 : decode cJ17_fixAfterInsertion 178 = .ok (.iconst 1, 1) := dk_4 (dk_at dksJ17_fixAfterInsertion_7 12 rfl rfl)
theorem dJ17_fixAfterInsertion_179 : decode cJ17_fixAfterInsertion 179 = .ok (.invokestatic 307, 3) := dk_184 1 51 (dk_at dksJ17_fixAfterInsertion_7 13 rfl rfl)
theorem dJ17_fixAfterInsertion_182 : decode cJ17_fixAfterInsertion 182 = .ok (.aload_n 1, 1) := dk_43 (dk_at dksJ17_fixAfterInsertion_7 16 rfl rfl)
theorem dJ17_fixAfterInsertion_183 : decode cJ17_fixAfterInsertion 183 = .ok (.invokestatic 294, 3) := dk_184 1 38 (dk_at dksJ17_fixAfterInsertion_7 17 rfl rfl)
theorem dJ17_fixAfterInsertion_186 : decode cJ17_fixAfterInsertion 186 = .ok (.invokestatic 294, 3) := dk_184 1 38 (dk_at dksJ17_fixAfterInsertion_7 20 rfl rfl)
theorem dJ17_fixAfterInsertion_189 : decode cJ17_fixAfterInsertion 189 = .ok (.iconst 0, 1) := dk_3 (dk_at dksJ17_fixAfterInsertion_7 23 rfl rfl)
theorem dJ17_fixAfterInsertion_190 : decode cJ17_fixAfterInsertion 190 = .ok (.invokestatic 307, 3) := dk_184 1 51 (dk_at dksJ17_fixAfterInsertion_8 0 rfl rfl)
theorem dJ17_fixAfterInsertion_193 : decode cJ17_fixAfterInsertion 193 = .ok (.aload_n 1, 1) := dk_43 (dk_at dksJ17_fixAfterInsertion_8 3 rfl rfl)
theorem dJ17_fixAfterInsertion_194 : decode cJ17_fixAfterInsertion 194 = .ok (.invokestatic 294, 3) := dk_184 1 38 (dk_at dksJ17_fixAfterInsertion_8 4 rfl rfl)
theorem dJ17_fixAfterInsertion_197 : decode cJ17_fixAfterInsertion 197 = .ok (.invokestatic 294, 3) := dk_184 1 38 (dk_at dksJ17_fixAfterInsertion_8 7 rfl rfl)
theorem dJ17_fixAfterInsertion_200 : decode cJ17_fixAfterInsertion 200 = .ok (.astore_n 1, 1) := dk_76 (dk_at dksJ17_fixAfterInsertion_8 10 rfl rfl)
theorem dJ17_fixAfterInsertion_201 : decode cJ17_fixAfterInsertion 201 = .ok (.goto 54, 3) := dk_167 0 54 (dk_at dksJ17_fixAfterInsertion_8 11 rfl rfl)
theorem dJ17_fixAfterInsertion_204 : decode cJ17_fixAfterInsertion 204 = .ok (.aload_n 1, 1) := dk_43 (dk_at dksJ17_fixAfterInsertion_8 14 rfl rfl)
theorem dJ17_fixAfterInsertion_205 : decode cJ17_fixAfterInsertion 205 = .ok (.aload_n 1, 1) := dk_43 (dk_at dksJ17_fixAfterInsertion_8 15 rfl rfl)
theorem dJ17_fixAfterInsertion_206 : decode cJ17_fixAfterInsertion 206 = .ok (.invokestatic 294, 3) := dk_184 1 38 (dk_at dksJ17_fixAfterInsertion_8 16 rfl rfl)
theorem dJ17_fixAfterInsertion_209 : decode cJ17_fixAfterInsertion 209 = .ok (.invokestatic 297, 3) := dk_184 1 41 (dk_at dksJ17_fixAfterInsertion_8 19 rfl rfl)
theorem dJ17_fixAfterInsertion_212 : decode cJ17_fixAfterInsertion 212 = .ok (.if_acmp .ne 13, 3) := dk_166 0 13 (dk_at dksJ17_fixAfterInsertion_9 0 rfl rfl)
theorem dJ17_fixAfterInsertion_215 : decode cJ17_fixAfterInsertion 215 = .ok (.aload_n 1, 1) := dk_43 (dk_at dksJ17_fixAfterInsertion_9 3 rfl rfl)
theorem dJ17_fixAfterInsertion_216 : decode cJ17_fixAfterInsertion 216 = .ok (.invokestatic 294, 3) := dk_184 1 38 (dk_at dksJ17_fixAfterInsertion_9 4 rfl rfl)
theorem dJ17_fixAfterInsertion_219 : decode cJ17_fixAfterInsertion 219 = .ok (.astore_n 1, 1) := dk_76 (dk_at dksJ17_fixAfterInsertion_9 7 rfl rfl)
theorem dJ17_fixAfterInsertion_220 : decode cJ17_fixAfterInsertion 220 = .ok (.aload_n 0, 1) := dk_42 (dk_at dksJ17_fixAfterInsertion_9 8 rfl rfl)
theorem dJ17_fixAfterInsertion_221 : decode cJ17_fixAfterInsertion 221 = .ok (.aload_n 1, 1) := dk_43 (dk_at dksJ17_fixAfterInsertion_9 9 rfl rfl)
theorem dJ17_fixAfterInsertion_222 : decode cJ17_fixAfterInsertion 222 = .ok (.invokevirtual 314, 3) := dk_182 1 58 (dk_at dksJ17_fixAfterInsertion_9 10 rfl rfl)
theorem dJ17_fixAfterInsertion_225 : decode cJ17_fixAfterInsertion 225 = .ok (.aload_n 1, 1) := dk_43 (dk_at dksJ17_fixAfterInsertion_9 13 rfl rfl)
theorem dJ17_fixAfterInsertion_226 : decode cJ17_fixAfterInsertion 226 = .ok (.invokestatic 294, 3) := dk_184 1 38 (dk_at dksJ17_fixAfterInsertion_9 14 rfl rfl)
theorem dJ17_fixAfterInsertion_229 : decode cJ17_fixAfterInsertion 229 = .ok (.iconst 1, 1) := dk_4 (dk_at dksJ17_fixAfterInsertion_9 17 rfl rfl)
theorem dJ17_fixAfterInsertion_230 : decode cJ17_fixAfterInsertion 230 = .ok (.invokestatic 307, 3) := dk_184 1 51 (dk_at dksJ17_fixAfterInsertion_9 18 rfl rfl)
theorem dJ17_fixAfterInsertion_233 : decode cJ17_fixAfterInsertion 233 = .ok (.aload_n 1, 1) := dk_43 (dk_at dksJ17_fixAfterInsertion_9 21 rfl rfl)
theorem dJ17_fixAfterInsertion_234 : decode cJ17_fixAfterInsertion 234 = .ok (.invokestatic 294, 3) := dk_184 1 38 (dk_at dksJ17_fixAfterInsertion_10 0 rfl rfl)
theorem dJ17_fixAfterInsertion_237 : decode cJ17_fixAfterInsertion 237 = .ok (.invokestatic 294, 3) := dk_184 1 38 (dk_at dksJ17_fixAfterInsertion_10 3 rfl rfl)
theorem dJ17_fixAfterInsertion_240 : decode cJ17_fixAfterInsertion 240 = .ok (.iconst 0, 1) := dk_3 (dk_at dksJ17_fixAfterInsertion_10 6 rfl rfl)
theorem dJ17_fixAfterInsertion_241 : decode cJ17_fixAfterInsertion 241 = .ok (.invokestatic 307, 3) := dk_184 1 51 (dk_at dksJ17_fixAfterInsertion_10 7 rfl rfl)
theorem dJ17_fixAfterInsertion_244 : decode cJ17_fixAfterInsertion 244 = .ok (.aload_n 0, 1) := dk_42 (dk_at dksJ17_fixAfterInsertion_10 10 rfl rfl)
theorem dJ17_fixAfterInsertion_245 : decode cJ17_fixAfterInsertion 245 = .ok (.aload_n 1, 1) := dk_43 (dk_at dksJ17_fixAfterInsertion_10 11 rfl rfl)
theorem dJ17_fixAfterInsertion_246 : decode cJ17_fixAfterInsertion 246 = .ok (.invokestatic 294, 3) := dk_184 1 38 (dk_at dksJ17_fixAfterInsertion_10 12 rfl rfl)
theorem dJ17_fixAfterInsertion_249 : decode cJ17_fixAfterInsertion 249 = .ok (.invokestatic 294, 3) := dk_184 1 38 (dk_at dksJ17_fixAfterInsertion_10 15 rfl rfl)
theorem dJ17_fixAfterInsertion_252 : decode cJ17_fixAfterInsertion 252 = .ok (.invokevirtual 311, 3) := dk_182 1 55 (dk_at dksJ17_fixAfterInsertion_10 18 rfl rfl)
theorem dJ17_fixAfterInsertion_255 : decode cJ17_fixAfterInsertion 255 = .ok (.goto (-250), 3) := dk_167 255 6 (dk_at dksJ17_fixAfterInsertion_10 21 rfl rfl)
theorem dJ17_fixAfterInsertion_258 : decode cJ17_fixAfterInsertion 258 = .ok (.aload_n 0, 1) := dk_42 (dk_at dksJ17_fixAfterInsertion_11 0 rfl rfl)
theorem dJ17_fixAfterInsertion_259 : decode cJ17_fixAfterInsertion 259 = .ok (.getfield 101, 3) := dk_180 0 101 (dk_at dksJ17_fixAfterInsertion_11 1 rfl rfl)
theorem dJ17_fixAfterInsertion_262 : decode cJ17_fixAfterInsertion 262 = .ok (.iconst 1, 1) := dk_4 (dk_at dksJ17_fixAfterInsertion_11 4 rfl rfl)
theorem dJ17_fixAfterInsertion_263 : decode cJ17_fixAfterInsertion 263 = .ok (.putfield 290, 3) := dk_181 1 34 (dk_at dksJ17_fixAfterInsertion_11 5 rfl rfl)
theorem dJ17_fixAfterInsertion_266 : decode cJ17_fixAfterInsertion 266 = .ok (.return_, 1) := dk_177 (dk_at dksJ17_fixAfterInsertion_11 8 rfl rfl)
abbrev cJ17_parentOf : ByteArray := prog_66_method_77_code
def yJ17_parentOf : MethodName := ⟨RJ17, "parentOf", "(Ljava/util/TreeMap$Entry;)Ljava/util/TreeMap$Entry;"⟩
def dkwJ17_parentOf_0 : List UInt8 := [42, 199, 0, 7, 1, 167, 0, 7, 42, 180, 0, 124, 176]
abbrev dktJ17_parentOf_0 : List UInt8 := dkwJ17_parentOf_0 ++ []
theorem dksJ17_parentOf_0 : cJ17_parentOf.data.toList.drop 0 = dktJ17_parentOf_0 := by decide +kernel
theorem dJ17_parentOf_0 : decode cJ17_parentOf 0 = .ok (.aload_n 0, 1) := dk_42 (dk_at dksJ17_parentOf_0 0 rfl rfl)
theorem dJ17_parentOf_1 : decode cJ17_parentOf 1 = .ok (.ifnonnull 7, 3) := dk_199 0 7 (dk_at dksJ17_parentOf_0 1 rfl rfl)
theorem dJ17_parentOf_4 : decode cJ17_parentOf 4 = .ok (.aconst_null, 1) := dk_1 (dk_at dksJ17_parentOf_0 4 rfl rfl)
theorem dJ17_parentOf_5 : decode cJ17_parentOf 5 = .ok (.goto 7, 3) := dk_167 0 7 (dk_at dksJ17_parentOf_0 5 rfl rfl)
theorem dJ17_parentOf_8 : decode cJ17_parentOf 8 = .ok (.aload_n 0, 1) := dk_42 (dk_at dksJ17_parentOf_0 8 rfl rfl)
theorem dJ17_parentOf_9 : decode cJ17_parentOf 9 = .ok (.getfield 124, 3) := dk_180 0 124 (dk_at dksJ17_parentOf_0 9 rfl rfl)
theorem dJ17_parentOf_12 : decode cJ17_parentOf 12 = .ok (.areturn, 1) := dk_176 (dk_at dksJ17_parentOf_0 12 rfl rfl)
abbrev cJ17_leftOf : ByteArray := prog_66_method_79_code
def yJ17_leftOf : MethodName := ⟨RJ17, "leftOf", "(Ljava/util/TreeMap$Entry;)Ljava/util/TreeMap$Entry;"⟩
def dkwJ17_leftOf_0 : List UInt8 := [42, 199, 0, 7, 1, 167, 0, 7, 42, 180, 0, 111, 176]
abbrev dktJ17_leftOf_0 : List UInt8 := dkwJ17_leftOf_0 ++ []
theorem dksJ17_leftOf_0 : cJ17_leftOf.data.toList.drop 0 = dktJ17_leftOf_0 := by decide +kernel
theorem dJ17_leftOf_0 : decode cJ17_leftOf 0 = .ok (.aload_n 0, 1) := dk_42 (dk_at dksJ17_leftOf_0 0 rfl rfl)
theorem dJ17_leftOf_1 : decode cJ17_leftOf 1 = .ok (.ifnonnull 7, 3) := dk_199 0 7 (dk_at dksJ17_leftOf_0 1 rfl rfl)
theorem dJ17_leftOf_4 : decode cJ17_leftOf 4 = .ok (.aconst_null, 1) := dk_1 (dk_at dksJ17_leftOf_0 4 rfl rfl)
theorem dJ17_leftOf_5 : decode cJ17_leftOf 5 = .ok (.goto 7, 3) := dk_167 0 7 (dk_at dksJ17_leftOf_0 5 rfl rfl)
theorem dJ17_leftOf_8 : decode cJ17_leftOf 8 = .ok (.aload_n 0, 1) := dk_42 (dk_at dksJ17_leftOf_0 8 rfl rfl)
theorem dJ17_leftOf_9 : decode cJ17_leftOf 9 = .ok (.getfield 111, 3) := dk_180 0 111 (dk_at dksJ17_leftOf_0 9 rfl rfl)
theorem dJ17_leftOf_12 : decode cJ17_leftOf 12 = .ok (.areturn, 1) := dk_176 (dk_at dksJ17_leftOf_0 12 rfl rfl)
abbrev cJ17_rightOf : ByteArray := prog_66_method_80_code
def yJ17_rightOf : MethodName := ⟨RJ17, "rightOf", "(Ljava/util/TreeMap$Entry;)Ljava/util/TreeMap$Entry;"⟩
def dkwJ17_rightOf_0 : List UInt8 := [42, 199, 0, 7, 1, 167, 0, 7, 42, 180, 0, 114, 176]
abbrev dktJ17_rightOf_0 : List UInt8 := dkwJ17_rightOf_0 ++ []
theorem dksJ17_rightOf_0 : cJ17_rightOf.data.toList.drop 0 = dktJ17_rightOf_0 := by decide +kernel
theorem dJ17_rightOf_0 : decode cJ17_rightOf 0 = .ok (.aload_n 0, 1) := dk_42 (dk_at dksJ17_rightOf_0 0 rfl rfl)
theorem dJ17_rightOf_1 : decode cJ17_rightOf 1 = .ok (.ifnonnull 7, 3) := dk_199 0 7 (dk_at dksJ17_rightOf_0 1 rfl rfl)
theorem dJ17_rightOf_4 : decode cJ17_rightOf 4 = .ok (.aconst_null, 1) := dk_1 (dk_at dksJ17_rightOf_0 4 rfl rfl)
theorem dJ17_rightOf_5 : decode cJ17_rightOf 5 = .ok (.goto 7, 3) := dk_167 0 7 (dk_at dksJ17_rightOf_0 5 rfl rfl)
theorem dJ17_rightOf_8 : decode cJ17_rightOf 8 = .ok (.aload_n 0, 1) := dk_42 (dk_at dksJ17_rightOf_0 8 rfl rfl)
theorem dJ17_rightOf_9 : decode cJ17_rightOf 9 = .ok (.getfield 114, 3) := dk_180 0 114 (dk_at dksJ17_rightOf_0 9 rfl rfl)
theorem dJ17_rightOf_12 : decode cJ17_rightOf 12 = .ok (.areturn, 1) := dk_176 (dk_at dksJ17_rightOf_0 12 rfl rfl)
abbrev cJ17_colorOf : ByteArray := prog_66_method_76_code
def yJ17_colorOf : MethodName := ⟨RJ17, "colorOf", "(Ljava/util/TreeMap$Entry;)Z"⟩
def dkwJ17_colorOf_0 : List UInt8 := [42, 199, 0, 7, 4, 167, 0, 7, 42, 180, 1, 34, 172]
abbrev dktJ17_colorOf_0 : List UInt8 := dkwJ17_colorOf_0 ++ []
theorem dksJ17_colorOf_0 : cJ17_colorOf.data.toList.drop 0 = dktJ17_colorOf_0 := by decide +kernel
theorem dJ17_colorOf_0 : decode cJ17_colorOf 0 = .ok (.aload_n 0, 1) := dk_42 (dk_at dksJ17_colorOf_0 0 rfl rfl)
theorem dJ17_colorOf_1 : decode cJ17_colorOf 1 = .ok (.ifnonnull 7, 3) := dk_199 0 7 (dk_at dksJ17_colorOf_0 1 rfl rfl)
theorem dJ17_colorOf_4 : decode cJ17_colorOf 4 = .ok (.iconst 1, 1) := dk_4 (dk_at dksJ17_colorOf_0 4 rfl rfl)
theorem dJ17_colorOf_5 : decode cJ17_colorOf 5 = .ok (.goto 7, 3) := dk_167 0 7 (dk_at dksJ17_colorOf_0 5 rfl rfl)
theorem dJ17_colorOf_8 : decode cJ17_colorOf 8 = .ok (.aload_n 0, 1) := dk_42 (dk_at dksJ17_colorOf_0 8 rfl rfl)
theorem dJ17_colorOf_9 : decode cJ17_colorOf 9 = .ok (.getfield 290, 3) := dk_180 1 34 (dk_at dksJ17_colorOf_0 9 rfl rfl)
theorem dJ17_colorOf_12 : decode cJ17_colorOf 12 = .ok (.ireturn, 1) := dk_172 (dk_at dksJ17_colorOf_0 12 rfl rfl)
abbrev cJ17_setColor : ByteArray := prog_66_method_78_code
def yJ17_setColor : MethodName := ⟨RJ17, "setColor", "(Ljava/util/TreeMap$Entry;Z)V"⟩
def dkwJ17_setColor_0 : List UInt8 := [42, 198, 0, 8, 42, 27, 181, 1, 34, 177]
abbrev dktJ17_setColor_0 : List UInt8 := dkwJ17_setColor_0 ++ []
theorem dksJ17_setColor_0 : cJ17_setColor.data.toList.drop 0 = dktJ17_setColor_0 := by decide +kernel
theorem dJ17_setColor_0 : decode cJ17_setColor 0 = .ok (.aload_n 0, 1) := dk_42 (dk_at dksJ17_setColor_0 0 rfl rfl)
theorem dJ17_setColor_1 : decode cJ17_setColor 1 = .ok (.ifnull 8, 3) := dk_198 0 8 (dk_at dksJ17_setColor_0 1 rfl rfl)
theorem dJ17_setColor_4 : decode cJ17_setColor 4 = .ok (.aload_n 0, 1) := dk_42 (dk_at dksJ17_setColor_0 4 rfl rfl)
theorem dJ17_setColor_5 : decode cJ17_setColor 5 = .ok (.iload_n 1, 1) := dk_27 (dk_at dksJ17_setColor_0 5 rfl rfl)
theorem dJ17_setColor_6 : decode cJ17_setColor 6 = .ok (.putfield 290, 3) := dk_181 1 34 (dk_at dksJ17_setColor_0 6 rfl rfl)
theorem dJ17_setColor_9 : decode cJ17_setColor 9 = .ok (.return_, 1) := dk_177 (dk_at dksJ17_setColor_0 9 rfl rfl)
abbrev cJ17_rotateLeft : ByteArray := prog_66_method_81_code
def yJ17_rotateLeft : MethodName := ⟨RJ17, "rotateLeft", "(Ljava/util/TreeMap$Entry;)V"⟩
def dkwJ17_rotateLeft_4 : List UInt8 := [177]
abbrev dktJ17_rotateLeft_4 : List UInt8 := dkwJ17_rotateLeft_4 ++ []
def dkwJ17_rotateLeft_3 : List UInt8 := [181, 0, 111, 167, 0, 11, 43, 180, 0, 124, 44, 181, 0, 114, 44, 43, 181, 0, 111, 43, 44, 181, 0, 124]
abbrev dktJ17_rotateLeft_3 : List UInt8 := dkwJ17_rotateLeft_3 ++ dktJ17_rotateLeft_4
def dkwJ17_rotateLeft_2 : List UInt8 := [44, 181, 0, 101, 167, 0, 33, 43, 180, 0, 124, 180, 0, 111, 43, 166, 0, 14, 43, 180, 0, 124, 44]
abbrev dktJ17_rotateLeft_2 : List UInt8 := dkwJ17_rotateLeft_2 ++ dktJ17_rotateLeft_3
def dkwJ17_rotateLeft_1 : List UInt8 := [44, 180, 0, 111, 43, 181, 0, 124, 44, 43, 180, 0, 124, 181, 0, 124, 43, 180, 0, 124, 199, 0, 11, 42]
abbrev dktJ17_rotateLeft_1 : List UInt8 := dkwJ17_rotateLeft_1 ++ dktJ17_rotateLeft_2
def dkwJ17_rotateLeft_0 : List UInt8 := [43, 198, 0, 94, 43, 180, 0, 114, 77, 43, 44, 180, 0, 111, 181, 0, 114, 44, 180, 0, 111, 198, 0, 11]
abbrev dktJ17_rotateLeft_0 : List UInt8 := dkwJ17_rotateLeft_0 ++ dktJ17_rotateLeft_1
theorem dksJ17_rotateLeft_0 : cJ17_rotateLeft.data.toList.drop 0 = dktJ17_rotateLeft_0 := by decide +kernel
theorem dksJ17_rotateLeft_1 : cJ17_rotateLeft.data.toList.drop 24 = dktJ17_rotateLeft_1 := dk_seg dksJ17_rotateLeft_0 24 rfl rfl
theorem dksJ17_rotateLeft_2 : cJ17_rotateLeft.data.toList.drop 48 = dktJ17_rotateLeft_2 := dk_seg dksJ17_rotateLeft_1 24 rfl rfl
theorem dksJ17_rotateLeft_3 : cJ17_rotateLeft.data.toList.drop 71 = dktJ17_rotateLeft_3 := dk_seg dksJ17_rotateLeft_2 23 rfl rfl
theorem dksJ17_rotateLeft_4 : cJ17_rotateLeft.data.toList.drop 95 = dktJ17_rotateLeft_4 := dk_seg dksJ17_rotateLeft_3 24 rfl rfl
theorem dJ17_rotateLeft_0 : decode cJ17_rotateLeft 0 = .ok (.aload_n 1, 1) := dk_43 (dk_at dksJ17_rotateLeft_0 0 rfl rfl)
theorem dJ17_rotateLeft_1 : decode cJ17_rotateLeft 1 = .ok (.ifnull 94, 3) := dk_198 0 94 (dk_at dksJ17_rotateLeft_0 1 rfl rfl)
theorem dJ17_rotateLeft_4 : decode cJ17_rotateLeft 4 = .ok (.aload_n 1, 1) := dk_43 (dk_at dksJ17_rotateLeft_0 4 rfl rfl)
theorem dJ17_rotateLeft_5 : decode cJ17_rotateLeft 5 = .ok (.getfield 114, 3) := dk_180 0 114 (dk_at dksJ17_rotateLeft_0 5 rfl rfl)
theorem dJ17_rotateLeft_8 : decode cJ17_rotateLeft 8 = .ok (.astore_n 2, 1) := dk_77 (dk_at dksJ17_rotateLeft_0 8 rfl rfl)
theorem dJ17_rotateLeft_9 : decode cJ17_rotateLeft 9 = .ok (.aload_n 1, 1) := dk_43 (dk_at dksJ17_rotateLeft_0 9 rfl rfl)
theorem dJ17_rotateLeft_10 : decode cJ17_rotateLeft 10 = .ok (.aload_n 2, 1) := dk_44 (dk_at dksJ17_rotateLeft_0 10 rfl rfl)
theorem dJ17_rotateLeft_11 : decode cJ17_rotateLeft 11 = .ok (.getfield 111, 3) := dk_180 0 111 (dk_at dksJ17_rotateLeft_0 11 rfl rfl)
theorem dJ17_rotateLeft_14 : decode cJ17_rotateLeft 14 = .ok (.putfield 114, 3) := dk_181 0 114 (dk_at dksJ17_rotateLeft_0 14 rfl rfl)
theorem dJ17_rotateLeft_17 : decode cJ17_rotateLeft 17 = .ok (.aload_n 2, 1) := dk_44 (dk_at dksJ17_rotateLeft_0 17 rfl rfl)
theorem dJ17_rotateLeft_18 : decode cJ17_rotateLeft 18 = .ok (.getfield 111, 3) := dk_180 0 111 (dk_at dksJ17_rotateLeft_0 18 rfl rfl)
theorem dJ17_rotateLeft_21 : decode cJ17_rotateLeft 21 = .ok (.ifnull 11, 3) := dk_198 0 11 (dk_at dksJ17_rotateLeft_0 21 rfl rfl)
theorem dJ17_rotateLeft_24 : decode cJ17_rotateLeft 24 = .ok (.aload_n 2, 1) := dk_44 (dk_at dksJ17_rotateLeft_1 0 rfl rfl)
theorem dJ17_rotateLeft_25 : decode cJ17_rotateLeft 25 = .ok (.getfield 111, 3) := dk_180 0 111 (dk_at dksJ17_rotateLeft_1 1 rfl rfl)
theorem dJ17_rotateLeft_28 : decode cJ17_rotateLeft 28 = .ok (.aload_n 1, 1) := dk_43 (dk_at dksJ17_rotateLeft_1 4 rfl rfl)
theorem dJ17_rotateLeft_29 : decode cJ17_rotateLeft 29 = .ok (.putfield 124, 3) := dk_181 0 124 (dk_at dksJ17_rotateLeft_1 5 rfl rfl)
theorem dJ17_rotateLeft_32 : decode cJ17_rotateLeft 32 = .ok (.aload_n 2, 1) := dk_44 (dk_at dksJ17_rotateLeft_1 8 rfl rfl)
theorem dJ17_rotateLeft_33 : decode cJ17_rotateLeft 33 = .ok (.aload_n 1, 1) := dk_43 (dk_at dksJ17_rotateLeft_1 9 rfl rfl)
theorem dJ17_rotateLeft_34 : decode cJ17_rotateLeft 34 = .ok (.getfield 124, 3) := dk_180 0 124 (dk_at dksJ17_rotateLeft_1 10 rfl rfl)
theorem dJ17_rotateLeft_37 : decode cJ17_rotateLeft 37 = .ok (.putfield 124, 3) := dk_181 0 124 (dk_at dksJ17_rotateLeft_1 13 rfl rfl)
theorem dJ17_rotateLeft_40 : decode cJ17_rotateLeft 40 = .ok (.aload_n 1, 1) := dk_43 (dk_at dksJ17_rotateLeft_1 16 rfl rfl)
theorem dJ17_rotateLeft_41 : decode cJ17_rotateLeft 41 = .ok (.getfield 124, 3) := dk_180 0 124 (dk_at dksJ17_rotateLeft_1 17 rfl rfl)
theorem dJ17_rotateLeft_44 : decode cJ17_rotateLeft 44 = .ok (.ifnonnull 11, 3) := dk_199 0 11 (dk_at dksJ17_rotateLeft_1 20 rfl rfl)
theorem dJ17_rotateLeft_47 : decode cJ17_rotateLeft 47 = .ok (.aload_n 0, 1) := dk_42 (dk_at dksJ17_rotateLeft_1 23 rfl rfl)
theorem dJ17_rotateLeft_48 : decode cJ17_rotateLeft 48 = .ok (.aload_n 2, 1) := dk_44 (dk_at dksJ17_rotateLeft_2 0 rfl rfl)
theorem dJ17_rotateLeft_49 : decode cJ17_rotateLeft 49 = .ok (.putfield 101, 3) := dk_181 0 101 (dk_at dksJ17_rotateLeft_2 1 rfl rfl)
theorem dJ17_rotateLeft_52 : decode cJ17_rotateLeft 52 = .ok (.goto 33, 3) := dk_167 0 33 (dk_at dksJ17_rotateLeft_2 4 rfl rfl)
theorem dJ17_rotateLeft_55 : decode cJ17_rotateLeft 55 = .ok (.aload_n 1, 1) := dk_43 (dk_at dksJ17_rotateLeft_2 7 rfl rfl)
theorem dJ17_rotateLeft_56 : decode cJ17_rotateLeft 56 = .ok (.getfield 124, 3) := dk_180 0 124 (dk_at dksJ17_rotateLeft_2 8 rfl rfl)
theorem dJ17_rotateLeft_59 : decode cJ17_rotateLeft 59 = .ok (.getfield 111, 3) := dk_180 0 111 (dk_at dksJ17_rotateLeft_2 11 rfl rfl)
theorem dJ17_rotateLeft_62 : decode cJ17_rotateLeft 62 = .ok (.aload_n 1, 1) := dk_43 (dk_at dksJ17_rotateLeft_2 14 rfl rfl)
theorem dJ17_rotateLeft_63 : decode cJ17_rotateLeft 63 = .ok (.if_acmp .ne 14, 3) := dk_166 0 14 (dk_at dksJ17_rotateLeft_2 15 rfl rfl)
theorem dJ17_rotateLeft_66 : decode cJ17_rotateLeft 66 = .ok (.aload_n 1, 1) := dk_43 (dk_at dksJ17_rotateLeft_2 18 rfl rfl)
theorem dJ17_rotateLeft_67 : decode cJ17_rotateLeft 67 = .ok (.getfield 124, 3) := dk_180 0 124 (dk_at dksJ17_rotateLeft_2 19 rfl rfl)
theorem dJ17_rotateLeft_70 : decode cJ17_rotateLeft 70 = .ok (.aload_n 2, 1) := dk_44 (dk_at dksJ17_rotateLeft_2 22 rfl rfl)
theorem dJ17_rotateLeft_71 : decode cJ17_rotateLeft 71 = .ok (.putfield 111, 3) := dk_181 0 111 (dk_at dksJ17_rotateLeft_3 0 rfl rfl)
theorem dJ17_rotateLeft_74 : decode cJ17_rotateLeft 74 = .ok (.goto 11, 3) := dk_167 0 11 (dk_at dksJ17_rotateLeft_3 3 rfl rfl)
theorem dJ17_rotateLeft_77 : decode cJ17_rotateLeft 77 = .ok (.aload_n 1, 1) := dk_43 (dk_at dksJ17_rotateLeft_3 6 rfl rfl)
theorem dJ17_rotateLeft_78 : decode cJ17_rotateLeft 78 = .ok (.getfield 124, 3) := dk_180 0 124 (dk_at dksJ17_rotateLeft_3 7 rfl rfl)
theorem dJ17_rotateLeft_81 : decode cJ17_rotateLeft 81 = .ok (.aload_n 2, 1) := dk_44 (dk_at dksJ17_rotateLeft_3 10 rfl rfl)
theorem dJ17_rotateLeft_82 : decode cJ17_rotateLeft 82 = .ok (.putfield 114, 3) := dk_181 0 114 (dk_at dksJ17_rotateLeft_3 11 rfl rfl)
theorem dJ17_rotateLeft_85 : decode cJ17_rotateLeft 85 = .ok (.aload_n 2, 1) := dk_44 (dk_at dksJ17_rotateLeft_3 14 rfl rfl)
theorem dJ17_rotateLeft_86 : decode cJ17_rotateLeft 86 = .ok (.aload_n 1, 1) := dk_43 (dk_at dksJ17_rotateLeft_3 15 rfl rfl)
theorem dJ17_rotateLeft_87 : decode cJ17_rotateLeft 87 = .ok (.putfield 111, 3) := dk_181 0 111 (dk_at dksJ17_rotateLeft_3 16 rfl rfl)
theorem dJ17_rotateLeft_90 : decode cJ17_rotateLeft 90 = .ok (.aload_n 1, 1) := dk_43 (dk_at dksJ17_rotateLeft_3 19 rfl rfl)
theorem dJ17_rotateLeft_91 : decode cJ17_rotateLeft 91 = .ok (.aload_n 2, 1) := dk_44 (dk_at dksJ17_rotateLeft_3 20 rfl rfl)
theorem dJ17_rotateLeft_92 : decode cJ17_rotateLeft 92 = .ok (.putfield 124, 3) := dk_181 0 124 (dk_at dksJ17_rotateLeft_3 21 rfl rfl)
theorem dJ17_rotateLeft_95 : decode cJ17_rotateLeft 95 = .ok (.return_, 1) := dk_177 (dk_at dksJ17_rotateLeft_4 0 rfl rfl)
abbrev cJ17_rotateRight : ByteArray := prog_66_method_82_code
def yJ17_rotateRight : MethodName := ⟨RJ17, "rotateRight", "(Ljava/util/TreeMap$Entry;)V"⟩
def dkwJ17_rotateRight_4 : List UInt8 := [177]
abbrev dktJ17_rotateRight_4 : List UInt8 := dkwJ17_rotateRight_4 ++ []
def dkwJ17_rotateRight_3 : List UInt8 := [181, 0, 114, 167, 0, 11, 43, 180, 0, 124, 44, 181, 0, 111, 44, 43, 181, 0, 114, 43, 44, 181, 0, 124]
abbrev dktJ17_rotateRight_3 : List UInt8 := dkwJ17_rotateRight_3 ++ dktJ17_rotateRight_4
def dkwJ17_rotateRight_2 : List UInt8 := [44, 181, 0, 101, 167, 0, 33, 43, 180, 0, 124, 180, 0, 114, 43, 166, 0, 14, 43, 180, 0, 124, 44]
abbrev dktJ17_rotateRight_2 : List UInt8 := dkwJ17_rotateRight_2 ++ dktJ17_rotateRight_3
def dkwJ17_rotateRight_1 : List UInt8 := [44, 180, 0, 114, 43, 181, 0, 124, 44, 43, 180, 0, 124, 181, 0, 124, 43, 180, 0, 124, 199, 0, 11, 42]
abbrev dktJ17_rotateRight_1 : List UInt8 := dkwJ17_rotateRight_1 ++ dktJ17_rotateRight_2
def dkwJ17_rotateRight_0 : List UInt8 := [43, 198, 0, 94, 43, 180, 0, 111, 77, 43, 44, 180, 0, 114, 181, 0, 111, 44, 180, 0, 114, 198, 0, 11]
abbrev dktJ17_rotateRight_0 : List UInt8 := dkwJ17_rotateRight_0 ++ dktJ17_rotateRight_1
theorem dksJ17_rotateRight_0 : cJ17_rotateRight.data.toList.drop 0 = dktJ17_rotateRight_0 := by decide +kernel
theorem dksJ17_rotateRight_1 : cJ17_rotateRight.data.toList.drop 24 = dktJ17_rotateRight_1 := dk_seg dksJ17_rotateRight_0 24 rfl rfl
theorem dksJ17_rotateRight_2 : cJ17_rotateRight.data.toList.drop 48 = dktJ17_rotateRight_2 := dk_seg dksJ17_rotateRight_1 24 rfl rfl
theorem dksJ17_rotateRight_3 : cJ17_rotateRight.data.toList.drop 71 = dktJ17_rotateRight_3 := dk_seg dksJ17_rotateRight_2 23 rfl rfl
theorem dksJ17_rotateRight_4 : cJ17_rotateRight.data.toList.drop 95 = dktJ17_rotateRight_4 := dk_seg dksJ17_rotateRight_3 24 rfl rfl
theorem dJ17_rotateRight_0 : decode cJ17_rotateRight 0 = .ok (.aload_n 1, 1) := dk_43 (dk_at dksJ17_rotateRight_0 0 rfl rfl)
theorem dJ17_rotateRight_1 : decode cJ17_rotateRight 1 = .ok (.ifnull 94, 3) := dk_198 0 94 (dk_at dksJ17_rotateRight_0 1 rfl rfl)
theorem dJ17_rotateRight_4 : decode cJ17_rotateRight 4 = .ok (.aload_n 1, 1) := dk_43 (dk_at dksJ17_rotateRight_0 4 rfl rfl)
theorem dJ17_rotateRight_5 : decode cJ17_rotateRight 5 = .ok (.getfield 111, 3) := dk_180 0 111 (dk_at dksJ17_rotateRight_0 5 rfl rfl)
theorem dJ17_rotateRight_8 : decode cJ17_rotateRight 8 = .ok (.astore_n 2, 1) := dk_77 (dk_at dksJ17_rotateRight_0 8 rfl rfl)
theorem dJ17_rotateRight_9 : decode cJ17_rotateRight 9 = .ok (.aload_n 1, 1) := dk_43 (dk_at dksJ17_rotateRight_0 9 rfl rfl)
theorem dJ17_rotateRight_10 : decode cJ17_rotateRight 10 = .ok (.aload_n 2, 1) := dk_44 (dk_at dksJ17_rotateRight_0 10 rfl rfl)
theorem dJ17_rotateRight_11 : decode cJ17_rotateRight 11 = .ok (.getfield 114, 3) := dk_180 0 114 (dk_at dksJ17_rotateRight_0 11 rfl rfl)
theorem dJ17_rotateRight_14 : decode cJ17_rotateRight 14 = .ok (.putfield 111, 3) := dk_181 0 111 (dk_at dksJ17_rotateRight_0 14 rfl rfl)
theorem dJ17_rotateRight_17 : decode cJ17_rotateRight 17 = .ok (.aload_n 2, 1) := dk_44 (dk_at dksJ17_rotateRight_0 17 rfl rfl)
theorem dJ17_rotateRight_18 : decode cJ17_rotateRight 18 = .ok (.getfield 114, 3) := dk_180 0 114 (dk_at dksJ17_rotateRight_0 18 rfl rfl)
theorem dJ17_rotateRight_21 : decode cJ17_rotateRight 21 = .ok (.ifnull 11, 3) := dk_198 0 11 (dk_at dksJ17_rotateRight_0 21 rfl rfl)
theorem dJ17_rotateRight_24 : decode cJ17_rotateRight 24 = .ok (.aload_n 2, 1) := dk_44 (dk_at dksJ17_rotateRight_1 0 rfl rfl)
theorem dJ17_rotateRight_25 : decode cJ17_rotateRight 25 = .ok (.getfield 114, 3) := dk_180 0 114 (dk_at dksJ17_rotateRight_1 1 rfl rfl)
theorem dJ17_rotateRight_28 : decode cJ17_rotateRight 28 = .ok (.aload_n 1, 1) := dk_43 (dk_at dksJ17_rotateRight_1 4 rfl rfl)
theorem dJ17_rotateRight_29 : decode cJ17_rotateRight 29 = .ok (.putfield 124, 3) := dk_181 0 124 (dk_at dksJ17_rotateRight_1 5 rfl rfl)
theorem dJ17_rotateRight_32 : decode cJ17_rotateRight 32 = .ok (.aload_n 2, 1) := dk_44 (dk_at dksJ17_rotateRight_1 8 rfl rfl)
theorem dJ17_rotateRight_33 : decode cJ17_rotateRight 33 = .ok (.aload_n 1, 1) := dk_43 (dk_at dksJ17_rotateRight_1 9 rfl rfl)
theorem dJ17_rotateRight_34 : decode cJ17_rotateRight 34 = .ok (.getfield 124, 3) := dk_180 0 124 (dk_at dksJ17_rotateRight_1 10 rfl rfl)
theorem dJ17_rotateRight_37 : decode cJ17_rotateRight 37 = .ok (.putfield 124, 3) := dk_181 0 124 (dk_at dksJ17_rotateRight_1 13 rfl rfl)
theorem dJ17_rotateRight_40 : decode cJ17_rotateRight 40 = .ok (.aload_n 1, 1) := dk_43 (dk_at dksJ17_rotateRight_1 16 rfl rfl)
theorem dJ17_rotateRight_41 : decode cJ17_rotateRight 41 = .ok (.getfield 124, 3) := dk_180 0 124 (dk_at dksJ17_rotateRight_1 17 rfl rfl)
theorem dJ17_rotateRight_44 : decode cJ17_rotateRight 44 = .ok (.ifnonnull 11, 3) := dk_199 0 11 (dk_at dksJ17_rotateRight_1 20 rfl rfl)
theorem dJ17_rotateRight_47 : decode cJ17_rotateRight 47 = .ok (.aload_n 0, 1) := dk_42 (dk_at dksJ17_rotateRight_1 23 rfl rfl)
theorem dJ17_rotateRight_48 : decode cJ17_rotateRight 48 = .ok (.aload_n 2, 1) := dk_44 (dk_at dksJ17_rotateRight_2 0 rfl rfl)
theorem dJ17_rotateRight_49 : decode cJ17_rotateRight 49 = .ok (.putfield 101, 3) := dk_181 0 101 (dk_at dksJ17_rotateRight_2 1 rfl rfl)
theorem dJ17_rotateRight_52 : decode cJ17_rotateRight 52 = .ok (.goto 33, 3) := dk_167 0 33 (dk_at dksJ17_rotateRight_2 4 rfl rfl)
theorem dJ17_rotateRight_55 : decode cJ17_rotateRight 55 = .ok (.aload_n 1, 1) := dk_43 (dk_at dksJ17_rotateRight_2 7 rfl rfl)
theorem dJ17_rotateRight_56 : decode cJ17_rotateRight 56 = .ok (.getfield 124, 3) := dk_180 0 124 (dk_at dksJ17_rotateRight_2 8 rfl rfl)
theorem dJ17_rotateRight_59 : decode cJ17_rotateRight 59 = .ok (.getfield 114, 3) := dk_180 0 114 (dk_at dksJ17_rotateRight_2 11 rfl rfl)
theorem dJ17_rotateRight_62 : decode cJ17_rotateRight 62 = .ok (.aload_n 1, 1) := dk_43 (dk_at dksJ17_rotateRight_2 14 rfl rfl)
theorem dJ17_rotateRight_63 : decode cJ17_rotateRight 63 = .ok (.if_acmp .ne 14, 3) := dk_166 0 14 (dk_at dksJ17_rotateRight_2 15 rfl rfl)
theorem dJ17_rotateRight_66 : decode cJ17_rotateRight 66 = .ok (.aload_n 1, 1) := dk_43 (dk_at dksJ17_rotateRight_2 18 rfl rfl)
theorem dJ17_rotateRight_67 : decode cJ17_rotateRight 67 = .ok (.getfield 124, 3) := dk_180 0 124 (dk_at dksJ17_rotateRight_2 19 rfl rfl)
theorem dJ17_rotateRight_70 : decode cJ17_rotateRight 70 = .ok (.aload_n 2, 1) := dk_44 (dk_at dksJ17_rotateRight_2 22 rfl rfl)
theorem dJ17_rotateRight_71 : decode cJ17_rotateRight 71 = .ok (.putfield 114, 3) := dk_181 0 114 (dk_at dksJ17_rotateRight_3 0 rfl rfl)
theorem dJ17_rotateRight_74 : decode cJ17_rotateRight 74 = .ok (.goto 11, 3) := dk_167 0 11 (dk_at dksJ17_rotateRight_3 3 rfl rfl)
theorem dJ17_rotateRight_77 : decode cJ17_rotateRight 77 = .ok (.aload_n 1, 1) := dk_43 (dk_at dksJ17_rotateRight_3 6 rfl rfl)
theorem dJ17_rotateRight_78 : decode cJ17_rotateRight 78 = .ok (.getfield 124, 3) := dk_180 0 124 (dk_at dksJ17_rotateRight_3 7 rfl rfl)
theorem dJ17_rotateRight_81 : decode cJ17_rotateRight 81 = .ok (.aload_n 2, 1) := dk_44 (dk_at dksJ17_rotateRight_3 10 rfl rfl)
theorem dJ17_rotateRight_82 : decode cJ17_rotateRight 82 = .ok (.putfield 111, 3) := dk_181 0 111 (dk_at dksJ17_rotateRight_3 11 rfl rfl)
theorem dJ17_rotateRight_85 : decode cJ17_rotateRight 85 = .ok (.aload_n 2, 1) := dk_44 (dk_at dksJ17_rotateRight_3 14 rfl rfl)
theorem dJ17_rotateRight_86 : decode cJ17_rotateRight 86 = .ok (.aload_n 1, 1) := dk_43 (dk_at dksJ17_rotateRight_3 15 rfl rfl)
theorem dJ17_rotateRight_87 : decode cJ17_rotateRight 87 = .ok (.putfield 114, 3) := dk_181 0 114 (dk_at dksJ17_rotateRight_3 16 rfl rfl)
theorem dJ17_rotateRight_90 : decode cJ17_rotateRight 90 = .ok (.aload_n 1, 1) := dk_43 (dk_at dksJ17_rotateRight_3 19 rfl rfl)
theorem dJ17_rotateRight_91 : decode cJ17_rotateRight 91 = .ok (.aload_n 2, 1) := dk_44 (dk_at dksJ17_rotateRight_3 20 rfl rfl)
theorem dJ17_rotateRight_92 : decode cJ17_rotateRight 92 = .ok (.putfield 124, 3) := dk_181 0 124 (dk_at dksJ17_rotateRight_3 21 rfl rfl)
theorem dJ17_rotateRight_95 : decode cJ17_rotateRight 95 = .ok (.return_, 1) := dk_177 (dk_at dksJ17_rotateRight_4 0 rfl rfl)
abbrev cJ17_navigableKeySet : ByteArray := prog_66_method_50_code
def yJ17_navigableKeySet : MethodName := ⟨RJ17, "navigableKeySet", "()Ljava/util/NavigableSet;"⟩
def dkwJ17_navigableKeySet_1 : List UInt8 := [181, 0, 191, 176]
abbrev dktJ17_navigableKeySet_1 : List UInt8 := dkwJ17_navigableKeySet_1 ++ []
def dkwJ17_navigableKeySet_0 : List UInt8 := [42, 180, 0, 191, 76, 43, 198, 0, 7, 43, 167, 0, 16, 42, 187, 0, 222, 89, 42, 183, 0, 224, 90]
abbrev dktJ17_navigableKeySet_0 : List UInt8 := dkwJ17_navigableKeySet_0 ++ dktJ17_navigableKeySet_1
theorem dksJ17_navigableKeySet_0 : cJ17_navigableKeySet.data.toList.drop 0 = dktJ17_navigableKeySet_0 := by decide +kernel
theorem dksJ17_navigableKeySet_1 : cJ17_navigableKeySet.data.toList.drop 23 = dktJ17_navigableKeySet_1 := dk_seg dksJ17_navigableKeySet_0 23 rfl rfl
theorem dJ17_navigableKeySet_0 : decode cJ17_navigableKeySet 0 = .ok (.aload_n 0, 1) := dk_42 (dk_at dksJ17_navigableKeySet_0 0 rfl rfl)
theorem dJ17_navigableKeySet_1 : decode cJ17_navigableKeySet 1 = .ok (.getfield 191, 3) := dk_180 0 191 (dk_at dksJ17_navigableKeySet_0 1 rfl rfl)
theorem dJ17_navigableKeySet_4 : decode cJ17_navigableKeySet 4 = .ok (.astore_n 1, 1) := dk_76 (dk_at dksJ17_navigableKeySet_0 4 rfl rfl)
theorem dJ17_navigableKeySet_5 : decode cJ17_navigableKeySet 5 = .ok (.aload_n 1, 1) := dk_43 (dk_at dksJ17_navigableKeySet_0 5 rfl rfl)
theorem dJ17_navigableKeySet_6 : decode cJ17_navigableKeySet 6 = .ok (.ifnull 7, 3) := dk_198 0 7 (dk_at dksJ17_navigableKeySet_0 6 rfl rfl)
theorem dJ17_navigableKeySet_9 : decode cJ17_navigableKeySet 9 = .ok (.aload_n 1, 1) := dk_43 (dk_at dksJ17_navigableKeySet_0 9 rfl rfl)
theorem dJ17_navigableKeySet_10 : decode cJ17_navigableKeySet 10 = .ok (.goto 16, 3) := dk_167 0 16 (dk_at dksJ17_navigableKeySet_0 10 rfl rfl)
theorem dJ17_navigableKeySet_13 : decode cJ17_navigableKeySet 13 = .ok (.aload_n 0, 1) := dk_42 (dk_at dksJ17_navigableKeySet_0 13 rfl rfl)
theorem dJ17_navigableKeySet_14 : decode cJ17_navigableKeySet 14 = .ok (.new 222, 3) := dk_187 0 222 (dk_at dksJ17_navigableKeySet_0 14 rfl rfl)
theorem dJ17_navigableKeySet_17 : decode cJ17_navigableKeySet 17 = .ok (.dup, 1) := dk_89 (dk_at dksJ17_navigableKeySet_0 17 rfl rfl)
theorem dJ17_navigableKeySet_18 : decode cJ17_navigableKeySet 18 = .ok (.aload_n 0, 1) := dk_42 (dk_at dksJ17_navigableKeySet_0 18 rfl rfl)
theorem dJ17_navigableKeySet_19 : decode cJ17_navigableKeySet 19 = .ok (.invokespecial 224, 3) := dk_183 0 224 (dk_at dksJ17_navigableKeySet_0 19 rfl rfl)
theorem dJ17_navigableKeySet_22 : decode cJ17_navigableKeySet 22 = .ok (.dup_x1, 1) := dk_90 (dk_at dksJ17_navigableKeySet_0 22 rfl rfl)
theorem dJ17_navigableKeySet_23 : decode cJ17_navigableKeySet 23 = .ok (.putfield 191, 3) := dk_181 0 191 (dk_at dksJ17_navigableKeySet_1 0 rfl rfl)
theorem dJ17_navigableKeySet_26 : decode cJ17_navigableKeySet 26 = .ok (.areturn, 1) := dk_176 (dk_at dksJ17_navigableKeySet_1 3 rfl rfl)
abbrev cJ17_keyIterator : ByteArray := prog_66_method_65_code
def yJ17_keyIterator : MethodName := ⟨RJ17, "keyIterator", "()Ljava/util/Iterator;"⟩
def dkwJ17_keyIterator_0 : List UInt8 := [187, 1, 13, 89, 42, 42, 182, 0, 54, 183, 1, 15, 176]
abbrev dktJ17_keyIterator_0 : List UInt8 := dkwJ17_keyIterator_0 ++ []
theorem dksJ17_keyIterator_0 : cJ17_keyIterator.data.toList.drop 0 = dktJ17_keyIterator_0 := by decide +kernel
theorem dJ17_keyIterator_0 : decode cJ17_keyIterator 0 = .ok (.new 269, 3) := dk_187 1 13 (dk_at dksJ17_keyIterator_0 0 rfl rfl)
theorem dJ17_keyIterator_3 : decode cJ17_keyIterator 3 = .ok (.dup, 1) := dk_89 (dk_at dksJ17_keyIterator_0 3 rfl rfl)
theorem dJ17_keyIterator_4 : decode cJ17_keyIterator 4 = .ok (.aload_n 0, 1) := dk_42 (dk_at dksJ17_keyIterator_0 4 rfl rfl)
theorem dJ17_keyIterator_5 : decode cJ17_keyIterator 5 = .ok (.aload_n 0, 1) := dk_42 (dk_at dksJ17_keyIterator_0 5 rfl rfl)
theorem dJ17_keyIterator_6 : decode cJ17_keyIterator 6 = .ok (.invokevirtual 54, 3) := dk_182 0 54 (dk_at dksJ17_keyIterator_0 6 rfl rfl)
theorem dJ17_keyIterator_9 : decode cJ17_keyIterator 9 = .ok (.invokespecial 271, 3) := dk_183 1 15 (dk_at dksJ17_keyIterator_0 9 rfl rfl)
theorem dJ17_keyIterator_12 : decode cJ17_keyIterator 12 = .ok (.areturn, 1) := dk_176 (dk_at dksJ17_keyIterator_0 12 rfl rfl)
abbrev cJ17_getFirstEntry : ByteArray := prog_66_method_72_code
def yJ17_getFirstEntry : MethodName := ⟨RJ17, "getFirstEntry", "()Ljava/util/TreeMap$Entry;"⟩
def dkwJ17_getFirstEntry_1 : List UInt8 := [43, 176]
abbrev dktJ17_getFirstEntry_1 : List UInt8 := dkwJ17_getFirstEntry_1 ++ []
def dkwJ17_getFirstEntry_0 : List UInt8 := [42, 180, 0, 101, 76, 43, 198, 0, 18, 43, 180, 0, 111, 198, 0, 11, 43, 180, 0, 111, 76, 167, 255, 244]
abbrev dktJ17_getFirstEntry_0 : List UInt8 := dkwJ17_getFirstEntry_0 ++ dktJ17_getFirstEntry_1
theorem dksJ17_getFirstEntry_0 : cJ17_getFirstEntry.data.toList.drop 0 = dktJ17_getFirstEntry_0 := by decide +kernel
theorem dksJ17_getFirstEntry_1 : cJ17_getFirstEntry.data.toList.drop 24 = dktJ17_getFirstEntry_1 := dk_seg dksJ17_getFirstEntry_0 24 rfl rfl
theorem dJ17_getFirstEntry_0 : decode cJ17_getFirstEntry 0 = .ok (.aload_n 0, 1) := dk_42 (dk_at dksJ17_getFirstEntry_0 0 rfl rfl)
theorem dJ17_getFirstEntry_1 : decode cJ17_getFirstEntry 1 = .ok (.getfield 101, 3) := dk_180 0 101 (dk_at dksJ17_getFirstEntry_0 1 rfl rfl)
theorem dJ17_getFirstEntry_4 : decode cJ17_getFirstEntry 4 = .ok (.astore_n 1, 1) := dk_76 (dk_at dksJ17_getFirstEntry_0 4 rfl rfl)
theorem dJ17_getFirstEntry_5 : decode cJ17_getFirstEntry 5 = .ok (.aload_n 1, 1) := dk_43 (dk_at dksJ17_getFirstEntry_0 5 rfl rfl)
theorem dJ17_getFirstEntry_6 : decode cJ17_getFirstEntry 6 = .ok (.ifnull 18, 3) := dk_198 0 18 (dk_at dksJ17_getFirstEntry_0 6 rfl rfl)
theorem dJ17_getFirstEntry_9 : decode cJ17_getFirstEntry 9 = .ok (.aload_n 1, 1) := dk_43 (dk_at dksJ17_getFirstEntry_0 9 rfl rfl)
theorem dJ17_getFirstEntry_10 : decode cJ17_getFirstEntry 10 = .ok (.getfield 111, 3) := dk_180 0 111 (dk_at dksJ17_getFirstEntry_0 10 rfl rfl)
theorem dJ17_getFirstEntry_13 : decode cJ17_getFirstEntry 13 = .ok (.ifnull 11, 3) := dk_198 0 11 (dk_at dksJ17_getFirstEntry_0 13 rfl rfl)
theorem dJ17_getFirstEntry_16 : decode cJ17_getFirstEntry 16 = .ok (.aload_n 1, 1) := dk_43 (dk_at dksJ17_getFirstEntry_0 16 rfl rfl)
theorem dJ17_getFirstEntry_17 : decode cJ17_getFirstEntry 17 = .ok (.getfield 111, 3) := dk_180 0 111 (dk_at dksJ17_getFirstEntry_0 17 rfl rfl)
theorem dJ17_getFirstEntry_20 : decode cJ17_getFirstEntry 20 = .ok (.astore_n 1, 1) := dk_76 (dk_at dksJ17_getFirstEntry_0 20 rfl rfl)
theorem dJ17_getFirstEntry_21 : decode cJ17_getFirstEntry 21 = .ok (.goto (-12), 3) := dk_167 255 244 (dk_at dksJ17_getFirstEntry_0 21 rfl rfl)
theorem dJ17_getFirstEntry_24 : decode cJ17_getFirstEntry 24 = .ok (.aload_n 1, 1) := dk_43 (dk_at dksJ17_getFirstEntry_1 0 rfl rfl)
theorem dJ17_getFirstEntry_25 : decode cJ17_getFirstEntry 25 = .ok (.areturn, 1) := dk_176 (dk_at dksJ17_getFirstEntry_1 1 rfl rfl)
abbrev cJ17_remove : ByteArray := prog_66_method_34_code
def yJ17_remove : MethodName := ⟨RJ17, "remove", "(Ljava/lang/Object;)Ljava/lang/Object;"⟩
def dkwJ17_remove_0 : List UInt8 := [42, 43, 182, 0, 50, 77, 44, 199, 0, 5, 1, 176, 44, 180, 0, 58, 78, 42, 44, 182, 0, 174, 45, 176]
abbrev dktJ17_remove_0 : List UInt8 := dkwJ17_remove_0 ++ []
theorem dksJ17_remove_0 : cJ17_remove.data.toList.drop 0 = dktJ17_remove_0 := by decide +kernel
theorem dJ17_remove_0 : decode cJ17_remove 0 = .ok (.aload_n 0, 1) := dk_42 (dk_at dksJ17_remove_0 0 rfl rfl)
theorem dJ17_remove_1 : decode cJ17_remove 1 = .ok (.aload_n 1, 1) := dk_43 (dk_at dksJ17_remove_0 1 rfl rfl)
theorem dJ17_remove_2 : decode cJ17_remove 2 = .ok (.invokevirtual 50, 3) := dk_182 0 50 (dk_at dksJ17_remove_0 2 rfl rfl)
theorem dJ17_remove_5 : decode cJ17_remove 5 = .ok (.astore_n 2, 1) := dk_77 (dk_at dksJ17_remove_0 5 rfl rfl)
theorem dJ17_remove_6 : decode cJ17_remove 6 = .ok (.aload_n 2, 1) := dk_44 (dk_at dksJ17_remove_0 6 rfl rfl)
theorem dJ17_remove_7 : decode cJ17_remove 7 = .ok (.ifnonnull 5, 3) := dk_199 0 5 (dk_at dksJ17_remove_0 7 rfl rfl)
theorem dJ17_remove_10 : decode cJ17_remove 10 = .ok (.aconst_null, 1) := dk_1 (dk_at dksJ17_remove_0 10 rfl rfl)
theorem dJ17_remove_11 : decode cJ17_remove 11 = .ok (.areturn, 1) := dk_176 (dk_at dksJ17_remove_0 11 rfl rfl)
theorem dJ17_remove_12 : decode cJ17_remove 12 = .ok (.aload_n 2, 1) := dk_44 (dk_at dksJ17_remove_0 12 rfl rfl)
theorem dJ17_remove_13 : decode cJ17_remove 13 = .ok (.getfield 58, 3) := dk_180 0 58 (dk_at dksJ17_remove_0 13 rfl rfl)
theorem dJ17_remove_16 : decode cJ17_remove 16 = .ok (.astore_n 3, 1) := dk_78 (dk_at dksJ17_remove_0 16 rfl rfl)
theorem dJ17_remove_17 : decode cJ17_remove 17 = .ok (.aload_n 0, 1) := dk_42 (dk_at dksJ17_remove_0 17 rfl rfl)
theorem dJ17_remove_18 : decode cJ17_remove 18 = .ok (.aload_n 2, 1) := dk_44 (dk_at dksJ17_remove_0 18 rfl rfl)
theorem dJ17_remove_19 : decode cJ17_remove 19 = .ok (.invokevirtual 174, 3) := dk_182 0 174 (dk_at dksJ17_remove_0 19 rfl rfl)
theorem dJ17_remove_22 : decode cJ17_remove 22 = .ok (.aload_n 3, 1) := dk_45 (dk_at dksJ17_remove_0 22 rfl rfl)
theorem dJ17_remove_23 : decode cJ17_remove 23 = .ok (.areturn, 1) := dk_176 (dk_at dksJ17_remove_0 23 rfl rfl)
abbrev cJ17_getEntry : ByteArray := prog_66_method_15_code
def yJ17_getEntry : MethodName := ⟨RJ17, "getEntry", "(Ljava/lang/Object;)Ljava/util/TreeMap$Entry;"⟩
def dkwJ17_getEntry_3 : List UInt8 := [45, 176, 167, 255, 212, 1, 176]
abbrev dktJ17_getEntry_3 : List UInt8 := dkwJ17_getEntry_3 ++ []
def dkwJ17_getEntry_2 : List UInt8 := [156, 0, 11, 45, 180, 0, 111, 78, 167, 0, 18, 21, 4, 158, 0, 11, 45, 180, 0, 114, 78, 167, 0, 5]
abbrev dktJ17_getEntry_2 : List UInt8 := dkwJ17_getEntry_2 ++ dktJ17_getEntry_3
def dkwJ17_getEntry_1 : List UInt8 := [180, 0, 101, 78, 45, 198, 0, 46, 44, 45, 180, 0, 105, 185, 0, 107, 2, 0, 54, 4, 21, 4]
abbrev dktJ17_getEntry_1 : List UInt8 := dkwJ17_getEntry_1 ++ dktJ17_getEntry_2
def dkwJ17_getEntry_0 : List UInt8 := [42, 180, 0, 16, 198, 0, 9, 42, 43, 182, 0, 92, 176, 43, 184, 0, 95, 87, 43, 192, 0, 99, 77, 42]
abbrev dktJ17_getEntry_0 : List UInt8 := dkwJ17_getEntry_0 ++ dktJ17_getEntry_1
theorem dksJ17_getEntry_0 : cJ17_getEntry.data.toList.drop 0 = dktJ17_getEntry_0 := by decide +kernel
theorem dksJ17_getEntry_1 : cJ17_getEntry.data.toList.drop 24 = dktJ17_getEntry_1 := dk_seg dksJ17_getEntry_0 24 rfl rfl
theorem dksJ17_getEntry_2 : cJ17_getEntry.data.toList.drop 46 = dktJ17_getEntry_2 := dk_seg dksJ17_getEntry_1 22 rfl rfl
theorem dksJ17_getEntry_3 : cJ17_getEntry.data.toList.drop 70 = dktJ17_getEntry_3 := dk_seg dksJ17_getEntry_2 24 rfl rfl
theorem dJ17_getEntry_0 : decode cJ17_getEntry 0 = .ok (.aload_n 0, 1) := dk_42 (dk_at dksJ17_getEntry_0 0 rfl rfl)
theorem dJ17_getEntry_1 : decode cJ17_getEntry 1 = .ok (.getfield 16, 3) := dk_180 0 16 (dk_at dksJ17_getEntry_0 1 rfl rfl)
theorem dJ17_getEntry_4 : decode cJ17_getEntry 4 = .ok (.ifnull 9, 3) := dk_198 0 9 (dk_at dksJ17_getEntry_0 4 rfl rfl)
theorem dJ17_getEntry_7 : decode cJ17_getEntry 7 = .ok (.aload_n 0, 1) := dk_42 (dk_at dksJ17_getEntry_0 7 rfl rfl)
theorem dJ17_getEntry_8 : decode cJ17_getEntry 8 = .ok (.aload_n 1, 1) := dk_43 (dk_at dksJ17_getEntry_0 8 rfl rfl)
theorem dJ17_getEntry_9 : decode cJ17_getEntry 9 = .ok (.invokevirtual 92, 3) := dk_182 0 92 (dk_at dksJ17_getEntry_0 9 rfl rfl)
theorem dJ17_getEntry_12 : decode cJ17_getEntry 12 = .ok (.areturn, 1) := dk_176 (dk_at dksJ17_getEntry_0 12 rfl rfl)
theorem dJ17_getEntry_13 : decode cJ17_getEntry 13 = .ok (.aload_n 1, 1) := dk_43 (dk_at dksJ17_getEntry_0 13 rfl rfl)
theorem dJ17_getEntry_14 : decode cJ17_getEntry 14 = .ok (.invokestatic 95, 3) := dk_184 0 95 (dk_at dksJ17_getEntry_0 14 rfl rfl)
theorem dJ17_getEntry_17 : decode cJ17_getEntry 17 = .ok (.pop, 1) := dk_87 (dk_at dksJ17_getEntry_0 17 rfl rfl)
theorem dJ17_getEntry_18 : decode cJ17_getEntry 18 = .ok (.aload_n 1, 1) := dk_43 (dk_at dksJ17_getEntry_0 18 rfl rfl)
theorem dJ17_getEntry_19 : decode cJ17_getEntry 19 = .ok (.checkcast 99, 3) := dk_192 0 99 (dk_at dksJ17_getEntry_0 19 rfl rfl)
theorem dJ17_getEntry_22 : decode cJ17_getEntry 22 = .ok (.astore_n 2, 1) := dk_77 (dk_at dksJ17_getEntry_0 22 rfl rfl)
theorem dJ17_getEntry_23 : decode cJ17_getEntry 23 = .ok (.aload_n 0, 1) := dk_42 (dk_at dksJ17_getEntry_0 23 rfl rfl)
theorem dJ17_getEntry_24 : decode cJ17_getEntry 24 = .ok (.getfield 101, 3) := dk_180 0 101 (dk_at dksJ17_getEntry_1 0 rfl rfl)
theorem dJ17_getEntry_27 : decode cJ17_getEntry 27 = .ok (.astore_n 3, 1) := dk_78 (dk_at dksJ17_getEntry_1 3 rfl rfl)
theorem dJ17_getEntry_28 : decode cJ17_getEntry 28 = .ok (.aload_n 3, 1) := dk_45 (dk_at dksJ17_getEntry_1 4 rfl rfl)
theorem dJ17_getEntry_29 : decode cJ17_getEntry 29 = .ok (.ifnull 46, 3) := dk_198 0 46 (dk_at dksJ17_getEntry_1 5 rfl rfl)
theorem dJ17_getEntry_32 : decode cJ17_getEntry 32 = .ok (.aload_n 2, 1) := dk_44 (dk_at dksJ17_getEntry_1 8 rfl rfl)
theorem dJ17_getEntry_33 : decode cJ17_getEntry 33 = .ok (.aload_n 3, 1) := dk_45 (dk_at dksJ17_getEntry_1 9 rfl rfl)
theorem dJ17_getEntry_34 : decode cJ17_getEntry 34 = .ok (.getfield 105, 3) := dk_180 0 105 (dk_at dksJ17_getEntry_1 10 rfl rfl)
theorem dJ17_getEntry_37 : decode cJ17_getEntry 37 = .ok (.invokeinterface 107 2, 5) := by decide +kernel
theorem dJ17_getEntry_42 : decode cJ17_getEntry 42 = .ok (.istore 4, 2) := dk_54 4 (dk_at dksJ17_getEntry_1 18 rfl rfl)
theorem dJ17_getEntry_44 : decode cJ17_getEntry 44 = .ok (.iload 4, 2) := dk_21 4 (dk_at dksJ17_getEntry_1 20 rfl rfl)
theorem dJ17_getEntry_46 : decode cJ17_getEntry 46 = .ok (.ifCond .ge 11, 3) := dk_156 0 11 (dk_at dksJ17_getEntry_2 0 rfl rfl)
theorem dJ17_getEntry_49 : decode cJ17_getEntry 49 = .ok (.aload_n 3, 1) := dk_45 (dk_at dksJ17_getEntry_2 3 rfl rfl)
theorem dJ17_getEntry_50 : decode cJ17_getEntry 50 = .ok (.getfield 111, 3) := dk_180 0 111 (dk_at dksJ17_getEntry_2 4 rfl rfl)
theorem dJ17_getEntry_53 : decode cJ17_getEntry 53 = .ok (.astore_n 3, 1) := dk_78 (dk_at dksJ17_getEntry_2 7 rfl rfl)
theorem dJ17_getEntry_54 : decode cJ17_getEntry 54 = .ok (.goto 18, 3) := dk_167 0 18 (dk_at dksJ17_getEntry_2 8 rfl rfl)
theorem dJ17_getEntry_57 : decode cJ17_getEntry 57 = .ok (.iload 4, 2) := dk_21 4 (dk_at dksJ17_getEntry_2 11 rfl rfl)
theorem dJ17_getEntry_59 : decode cJ17_getEntry 59 = .ok (.ifCond .le 11, 3) := dk_158 0 11 (dk_at dksJ17_getEntry_2 13 rfl rfl)
theorem dJ17_getEntry_62 : decode cJ17_getEntry 62 = .ok (.aload_n 3, 1) := dk_45 (dk_at dksJ17_getEntry_2 16 rfl rfl)
theorem dJ17_getEntry_63 : decode cJ17_getEntry 63 = .ok (.getfield 114, 3) := dk_180 0 114 (dk_at dksJ17_getEntry_2 17 rfl rfl)
theorem dJ17_getEntry_66 : decode cJ17_getEntry 66 = .ok (.astore_n 3, 1) := dk_78 (dk_at dksJ17_getEntry_2 20 rfl rfl)
theorem dJ17_getEntry_67 : decode cJ17_getEntry 67 = .ok (.goto 5, 3) := dk_167 0 5 (dk_at dksJ17_getEntry_2 21 rfl rfl)
theorem dJ17_getEntry_70 : decode cJ17_getEntry 70 = .ok (.aload_n 3, 1) := dk_45 (dk_at dksJ17_getEntry_3 0 rfl rfl)
theorem dJ17_getEntry_71 : decode cJ17_getEntry 71 = .ok (.areturn, 1) := dk_176 (dk_at dksJ17_getEntry_3 1 rfl rfl)
theorem dJ17_getEntry_72 : decode cJ17_getEntry 72 = .ok (.goto (-44), 3) := dk_167 255 212 (dk_at dksJ17_getEntry_3 2 rfl rfl)
theorem dJ17_getEntry_75 : decode cJ17_getEntry 75 = .ok (.aconst_null, 1) := dk_1 (dk_at dksJ17_getEntry_3 5 rfl rfl)
theorem dJ17_getEntry_76 : decode cJ17_getEntry 76 = .ok (.areturn, 1) := dk_176 (dk_at dksJ17_getEntry_3 6 rfl rfl)
abbrev cJ17_getEntryUsingComparator : ByteArray := prog_66_method_16_code
def yJ17_getEntryUsingComparator : MethodName := ⟨RJ17, "getEntryUsingComparator", "(Ljava/lang/Object;)Ljava/util/TreeMap$Entry;"⟩
def dkwJ17_getEntryUsingComparator_3 : List UInt8 := [1, 176]
abbrev dktJ17_getEntryUsingComparator_3 : List UInt8 := dkwJ17_getEntryUsingComparator_3 ++ []
def dkwJ17_getEntryUsingComparator_2 : List UInt8 := [167, 0, 21, 21, 5, 158, 0, 13, 25, 4, 180, 0, 114, 58, 4, 167, 0, 6, 25, 4, 176, 167, 255, 204]
abbrev dktJ17_getEntryUsingComparator_2 : List UInt8 := dkwJ17_getEntryUsingComparator_2 ++ dktJ17_getEntryUsingComparator_3
def dkwJ17_getEntryUsingComparator_1 : List UInt8 := [25, 4, 180, 0, 105, 185, 0, 117, 3, 0, 54, 5, 21, 5, 156, 0, 13, 25, 4, 180, 0, 111, 58, 4]
abbrev dktJ17_getEntryUsingComparator_1 : List UInt8 := dkwJ17_getEntryUsingComparator_1 ++ dktJ17_getEntryUsingComparator_2
def dkwJ17_getEntryUsingComparator_0 : List UInt8 := [43, 77, 42, 180, 0, 16, 78, 45, 198, 0, 64, 42, 180, 0, 101, 58, 4, 25, 4, 198, 0, 53, 45, 44]
abbrev dktJ17_getEntryUsingComparator_0 : List UInt8 := dkwJ17_getEntryUsingComparator_0 ++ dktJ17_getEntryUsingComparator_1
theorem dksJ17_getEntryUsingComparator_0 : cJ17_getEntryUsingComparator.data.toList.drop 0 = dktJ17_getEntryUsingComparator_0 := by decide +kernel
theorem dksJ17_getEntryUsingComparator_1 : cJ17_getEntryUsingComparator.data.toList.drop 24 = dktJ17_getEntryUsingComparator_1 := dk_seg dksJ17_getEntryUsingComparator_0 24 rfl rfl
theorem dksJ17_getEntryUsingComparator_2 : cJ17_getEntryUsingComparator.data.toList.drop 48 = dktJ17_getEntryUsingComparator_2 := dk_seg dksJ17_getEntryUsingComparator_1 24 rfl rfl
theorem dksJ17_getEntryUsingComparator_3 : cJ17_getEntryUsingComparator.data.toList.drop 72 = dktJ17_getEntryUsingComparator_3 := dk_seg dksJ17_getEntryUsingComparator_2 24 rfl rfl
theorem dJ17_getEntryUsingComparator_0 : decode cJ17_getEntryUsingComparator 0 = .ok (.aload_n 1, 1) := dk_43 (dk_at dksJ17_getEntryUsingComparator_0 0 rfl rfl)
theorem dJ17_getEntryUsingComparator_1 : decode cJ17_getEntryUsingComparator 1 = .ok (.astore_n 2, 1) := dk_77 (dk_at dksJ17_getEntryUsingComparator_0 1 rfl rfl)
theorem dJ17_getEntryUsingComparator_2 : decode cJ17_getEntryUsingComparator 2 = .ok (.aload_n 0, 1) := dk_42 (dk_at dksJ17_getEntryUsingComparator_0 2 rfl rfl)
theorem dJ17_getEntryUsingComparator_3 : decode cJ17_getEntryUsingComparator 3 = .ok (.getfield 16, 3) := dk_180 0 16 (dk_at dksJ17_getEntryUsingComparator_0 3 rfl rfl)
theorem dJ17_getEntryUsingComparator_6 : decode cJ17_getEntryUsingComparator 6 = .ok (.astore_n 3, 1) := dk_78 (dk_at dksJ17_getEntryUsingComparator_0 6 rfl rfl)
theorem dJ17_getEntryUsingComparator_7 : decode cJ17_getEntryUsingComparator 7 = .ok (.aload_n 3, 1) := dk_45 (dk_at dksJ17_getEntryUsingComparator_0 7 rfl rfl)
theorem dJ17_getEntryUsingComparator_8 : decode cJ17_getEntryUsingComparator 8 = .ok (.ifnull 64, 3) := dk_198 0 64 (dk_at dksJ17_getEntryUsingComparator_0 8 rfl rfl)
theorem dJ17_getEntryUsingComparator_11 : decode cJ17_getEntryUsingComparator 11 = .ok (.aload_n 0, 1) := dk_42 (dk_at dksJ17_getEntryUsingComparator_0 11 rfl rfl)
theorem dJ17_getEntryUsingComparator_12 : decode cJ17_getEntryUsingComparator 12 = .ok (.getfield 101, 3) := dk_180 0 101 (dk_at dksJ17_getEntryUsingComparator_0 12 rfl rfl)
theorem dJ17_getEntryUsingComparator_15 : decode cJ17_getEntryUsingComparator 15 = .ok (.astore 4, 2) := dk_58 4 (dk_at dksJ17_getEntryUsingComparator_0 15 rfl rfl)
theorem dJ17_getEntryUsingComparator_17 : decode cJ17_getEntryUsingComparator 17 = .ok (.aload 4, 2) := dk_25 4 (dk_at dksJ17_getEntryUsingComparator_0 17 rfl rfl)
theorem dJ17_getEntryUsingComparator_19 : decode cJ17_getEntryUsingComparator 19 = .ok (.ifnull 53, 3) := dk_198 0 53 (dk_at dksJ17_getEntryUsingComparator_0 19 rfl rfl)
theorem dJ17_getEntryUsingComparator_22 : decode cJ17_getEntryUsingComparator 22 = .ok (.aload_n 3, 1) := dk_45 (dk_at dksJ17_getEntryUsingComparator_0 22 rfl rfl)
theorem dJ17_getEntryUsingComparator_23 : decode cJ17_getEntryUsingComparator 23 = .ok (.aload_n 2, 1) := dk_44 (dk_at dksJ17_getEntryUsingComparator_0 23 rfl rfl)
theorem dJ17_getEntryUsingComparator_24 : decode cJ17_getEntryUsingComparator 24 = .ok (.aload 4, 2) := dk_25 4 (dk_at dksJ17_getEntryUsingComparator_1 0 rfl rfl)
theorem dJ17_getEntryUsingComparator_26 : decode cJ17_getEntryUsingComparator 26 = .ok (.getfield 105, 3) := dk_180 0 105 (dk_at dksJ17_getEntryUsingComparator_1 2 rfl rfl)
theorem dJ17_getEntryUsingComparator_29 : decode cJ17_getEntryUsingComparator 29 = .ok (.invokeinterface 117 3, 5) := by decide +kernel
theorem dJ17_getEntryUsingComparator_34 : decode cJ17_getEntryUsingComparator 34 = .ok (.istore 5, 2) := dk_54 5 (dk_at dksJ17_getEntryUsingComparator_1 10 rfl rfl)
theorem dJ17_getEntryUsingComparator_36 : decode cJ17_getEntryUsingComparator 36 = .ok (.iload 5, 2) := dk_21 5 (dk_at dksJ17_getEntryUsingComparator_1 12 rfl rfl)
theorem dJ17_getEntryUsingComparator_38 : decode cJ17_getEntryUsingComparator 38 = .ok (.ifCond .ge 13, 3) := dk_156 0 13 (dk_at dksJ17_getEntryUsingComparator_1 14 rfl rfl)
theorem dJ17_getEntryUsingComparator_41 : decode cJ17_getEntryUsingComparator 41 = .ok (.aload 4, 2) := dk_25 4 (dk_at dksJ17_getEntryUsingComparator_1 17 rfl rfl)
theorem dJ17_getEntryUsingComparator_43 : decode cJ17_getEntryUsingComparator 43 = .ok (.getfield 111, 3) := dk_180 0 111 (dk_at dksJ17_getEntryUsingComparator_1 19 rfl rfl)
theorem dJ17_getEntryUsingComparator_46 : decode cJ17_getEntryUsingComparator 46 = .ok (.astore 4, 2) := dk_58 4 (dk_at dksJ17_getEntryUsingComparator_1 22 rfl rfl)
theorem dJ17_getEntryUsingComparator_48 : decode cJ17_getEntryUsingComparator 48 = .ok (.goto 21, 3) := dk_167 0 21 (dk_at dksJ17_getEntryUsingComparator_2 0 rfl rfl)
theorem dJ17_getEntryUsingComparator_51 : decode cJ17_getEntryUsingComparator 51 = .ok (.iload 5, 2) := dk_21 5 (dk_at dksJ17_getEntryUsingComparator_2 3 rfl rfl)
theorem dJ17_getEntryUsingComparator_53 : decode cJ17_getEntryUsingComparator 53 = .ok (.ifCond .le 13, 3) := dk_158 0 13 (dk_at dksJ17_getEntryUsingComparator_2 5 rfl rfl)
theorem dJ17_getEntryUsingComparator_56 : decode cJ17_getEntryUsingComparator 56 = .ok (.aload 4, 2) := dk_25 4 (dk_at dksJ17_getEntryUsingComparator_2 8 rfl rfl)
theorem dJ17_getEntryUsingComparator_58 : decode cJ17_getEntryUsingComparator 58 = .ok (.getfield 114, 3) := dk_180 0 114 (dk_at dksJ17_getEntryUsingComparator_2 10 rfl rfl)
theorem dJ17_getEntryUsingComparator_61 : decode cJ17_getEntryUsingComparator 61 = .ok (.astore 4, 2) := dk_58 4 (dk_at dksJ17_getEntryUsingComparator_2 13 rfl rfl)
theorem dJ17_getEntryUsingComparator_63 : decode cJ17_getEntryUsingComparator 63 = .ok (.goto 6, 3) := dk_167 0 6 (dk_at dksJ17_getEntryUsingComparator_2 15 rfl rfl)
theorem dJ17_getEntryUsingComparator_66 : decode cJ17_getEntryUsingComparator 66 = .ok (.aload 4, 2) := dk_25 4 (dk_at dksJ17_getEntryUsingComparator_2 18 rfl rfl)
theorem dJ17_getEntryUsingComparator_68 : decode cJ17_getEntryUsingComparator 68 = .ok (.areturn, 1) := dk_176 (dk_at dksJ17_getEntryUsingComparator_2 20 rfl rfl)
theorem dJ17_getEntryUsingComparator_69 : decode cJ17_getEntryUsingComparator 69 = .ok (.goto (-52), 3) := dk_167 255 204 (dk_at dksJ17_getEntryUsingComparator_2 21 rfl rfl)
theorem dJ17_getEntryUsingComparator_72 : decode cJ17_getEntryUsingComparator 72 = .ok (.aconst_null, 1) := dk_1 (dk_at dksJ17_getEntryUsingComparator_3 0 rfl rfl)
theorem dJ17_getEntryUsingComparator_73 : decode cJ17_getEntryUsingComparator 73 = .ok (.areturn, 1) := dk_176 (dk_at dksJ17_getEntryUsingComparator_3 1 rfl rfl)
abbrev cJ17_deleteEntry : ByteArray := prog_66_method_84_code
def yJ17_deleteEntry : MethodName := ⟨RJ17, "deleteEntry", "(Ljava/util/TreeMap$Entry;)V"⟩
def dkwJ17_deleteEntry_10 : List UInt8 := [180, 0, 124, 1, 181, 0, 114, 43, 1, 181, 0, 124, 177]
abbrev dktJ17_deleteEntry_10 : List UInt8 := dkwJ17_deleteEntry_10 ++ []
def dkwJ17_deleteEntry_9 : List UInt8 := [180, 0, 124, 1, 181, 0, 111, 167, 0, 22, 43, 43, 180, 0, 124, 180, 0, 114, 166, 0, 11, 43]
abbrev dktJ17_deleteEntry_9 : List UInt8 := dkwJ17_deleteEntry_9 ++ dktJ17_deleteEntry_10
def dkwJ17_deleteEntry_8 : List UInt8 := [182, 1, 61, 43, 180, 0, 124, 198, 0, 49, 43, 43, 180, 0, 124, 180, 0, 111, 166, 0, 14, 43]
abbrev dktJ17_deleteEntry_8 : List UInt8 := dkwJ17_deleteEntry_8 ++ dktJ17_deleteEntry_9
def dkwJ17_deleteEntry_7 : List UInt8 := [180, 0, 124, 199, 0, 11, 42, 1, 181, 0, 101, 167, 0, 69, 43, 180, 1, 34, 4, 160, 0, 8, 42, 43]
abbrev dktJ17_deleteEntry_7 : List UInt8 := dkwJ17_deleteEntry_7 ++ dktJ17_deleteEntry_8
def dkwJ17_deleteEntry_6 : List UInt8 := [181, 0, 114, 181, 0, 111, 43, 180, 1, 34, 4, 160, 0, 92, 42, 44, 182, 1, 61, 167, 0, 84, 43]
abbrev dktJ17_deleteEntry_6 : List UInt8 := dkwJ17_deleteEntry_6 ++ dktJ17_deleteEntry_7
def dkwJ17_deleteEntry_5 : List UInt8 := [181, 0, 111, 167, 0, 11, 43, 180, 0, 124, 44, 181, 0, 114, 43, 43, 43, 1, 90, 181, 0, 124, 90]
abbrev dktJ17_deleteEntry_5 : List UInt8 := dkwJ17_deleteEntry_5 ++ dktJ17_deleteEntry_6
def dkwJ17_deleteEntry_4 : List UInt8 := [44, 181, 0, 101, 167, 0, 33, 43, 43, 180, 0, 124, 180, 0, 111, 166, 0, 14, 43, 180, 0, 124, 44]
abbrev dktJ17_deleteEntry_4 : List UInt8 := dkwJ17_deleteEntry_4 ++ dktJ17_deleteEntry_5
def dkwJ17_deleteEntry_3 : List UInt8 := [180, 0, 114, 77, 44, 198, 0, 87, 44, 43, 180, 0, 124, 181, 0, 124, 43, 180, 0, 124, 199, 0, 11, 42]
abbrev dktJ17_deleteEntry_3 : List UInt8 := dkwJ17_deleteEntry_3 ++ dktJ17_deleteEntry_4
def dkwJ17_deleteEntry_2 : List UInt8 := [44, 180, 0, 58, 181, 0, 58, 44, 76, 43, 180, 0, 111, 198, 0, 10, 43, 180, 0, 111, 167, 0, 7, 43]
abbrev dktJ17_deleteEntry_2 : List UInt8 := dkwJ17_deleteEntry_2 ++ dktJ17_deleteEntry_3
def dkwJ17_deleteEntry_1 : List UInt8 := [198, 0, 33, 43, 180, 0, 114, 198, 0, 26, 43, 184, 0, 68, 77, 43, 44, 180, 0, 105, 181, 0, 105, 43]
abbrev dktJ17_deleteEntry_1 : List UInt8 := dkwJ17_deleteEntry_1 ++ dktJ17_deleteEntry_2
def dkwJ17_deleteEntry_0 : List UInt8 := [42, 89, 180, 0, 13, 4, 96, 181, 0, 13, 42, 89, 180, 0, 7, 4, 100, 181, 0, 7, 43, 180, 0, 111]
abbrev dktJ17_deleteEntry_0 : List UInt8 := dkwJ17_deleteEntry_0 ++ dktJ17_deleteEntry_1
theorem dksJ17_deleteEntry_0 : cJ17_deleteEntry.data.toList.drop 0 = dktJ17_deleteEntry_0 := by decide +kernel
theorem dksJ17_deleteEntry_1 : cJ17_deleteEntry.data.toList.drop 24 = dktJ17_deleteEntry_1 := dk_seg dksJ17_deleteEntry_0 24 rfl rfl
theorem dksJ17_deleteEntry_2 : cJ17_deleteEntry.data.toList.drop 48 = dktJ17_deleteEntry_2 := dk_seg dksJ17_deleteEntry_1 24 rfl rfl
theorem dksJ17_deleteEntry_3 : cJ17_deleteEntry.data.toList.drop 72 = dktJ17_deleteEntry_3 := dk_seg dksJ17_deleteEntry_2 24 rfl rfl
theorem dksJ17_deleteEntry_4 : cJ17_deleteEntry.data.toList.drop 96 = dktJ17_deleteEntry_4 := dk_seg dksJ17_deleteEntry_3 24 rfl rfl
theorem dksJ17_deleteEntry_5 : cJ17_deleteEntry.data.toList.drop 119 = dktJ17_deleteEntry_5 := dk_seg dksJ17_deleteEntry_4 23 rfl rfl
theorem dksJ17_deleteEntry_6 : cJ17_deleteEntry.data.toList.drop 142 = dktJ17_deleteEntry_6 := dk_seg dksJ17_deleteEntry_5 23 rfl rfl
theorem dksJ17_deleteEntry_7 : cJ17_deleteEntry.data.toList.drop 165 = dktJ17_deleteEntry_7 := dk_seg dksJ17_deleteEntry_6 23 rfl rfl
theorem dksJ17_deleteEntry_8 : cJ17_deleteEntry.data.toList.drop 189 = dktJ17_deleteEntry_8 := dk_seg dksJ17_deleteEntry_7 24 rfl rfl
theorem dksJ17_deleteEntry_9 : cJ17_deleteEntry.data.toList.drop 211 = dktJ17_deleteEntry_9 := dk_seg dksJ17_deleteEntry_8 22 rfl rfl
theorem dksJ17_deleteEntry_10 : cJ17_deleteEntry.data.toList.drop 233 = dktJ17_deleteEntry_10 := dk_seg dksJ17_deleteEntry_9 22 rfl rfl
theorem dJ17_deleteEntry_0 : decode cJ17_deleteEntry 0 = .ok (.aload_n 0, 1) := dk_42 (dk_at dksJ17_deleteEntry_0 0 rfl rfl)
theorem dJ17_deleteEntry_1 : decode cJ17_deleteEntry 1 = .ok (.dup, 1) := dk_89 (dk_at dksJ17_deleteEntry_0 1 rfl rfl)
theorem dJ17_deleteEntry_2 : decode cJ17_deleteEntry 2 = .ok (.getfield 13, 3) := dk_180 0 13 (dk_at dksJ17_deleteEntry_0 2 rfl rfl)
theorem dJ17_deleteEntry_5 : decode cJ17_deleteEntry 5 = .ok (.iconst 1, 1) := dk_4 (dk_at dksJ17_deleteEntry_0 5 rfl rfl)
theorem dJ17_deleteEntry_6 : decode cJ17_deleteEntry 6 = .ok (.iadd, 1) := dk_96 (dk_at dksJ17_deleteEntry_0 6 rfl rfl)
theorem dJ17_deleteEntry_7 : decode cJ17_deleteEntry 7 = .ok (.putfield 13, 3) := dk_181 0 13 (dk_at dksJ17_deleteEntry_0 7 rfl rfl)
theorem dJ17_deleteEntry_10 : decode cJ17_deleteEntry 10 = .ok (.aload_n 0, 1) := dk_42 (dk_at dksJ17_deleteEntry_0 10 rfl rfl)
theorem dJ17_deleteEntry_11 : decode cJ17_deleteEntry 11 = .ok (.dup, 1) := dk_89 (dk_at dksJ17_deleteEntry_0 11 rfl rfl)
theorem dJ17_deleteEntry_12 : decode cJ17_deleteEntry 12 = .ok (.getfield 7, 3) := dk_180 0 7 (dk_at dksJ17_deleteEntry_0 12 rfl rfl)
theorem dJ17_deleteEntry_15 : decode cJ17_deleteEntry 15 = .ok (.iconst 1, 1) := dk_4 (dk_at dksJ17_deleteEntry_0 15 rfl rfl)
theorem dJ17_deleteEntry_16 : decode cJ17_deleteEntry 16 = .ok (.isub, 1) := dk_100 (dk_at dksJ17_deleteEntry_0 16 rfl rfl)
theorem dJ17_deleteEntry_17 : decode cJ17_deleteEntry 17 = .ok (.putfield 7, 3) := dk_181 0 7 (dk_at dksJ17_deleteEntry_0 17 rfl rfl)
theorem dJ17_deleteEntry_20 : decode cJ17_deleteEntry 20 = .ok (.aload_n 1, 1) := dk_43 (dk_at dksJ17_deleteEntry_0 20 rfl rfl)
theorem dJ17_deleteEntry_21 : decode cJ17_deleteEntry 21 = .ok (.getfield 111, 3) := dk_180 0 111 (dk_at dksJ17_deleteEntry_0 21 rfl rfl)
theorem dJ17_deleteEntry_24 : decode cJ17_deleteEntry 24 = .ok (.ifnull 33, 3) := dk_198 0 33 (dk_at dksJ17_deleteEntry_1 0 rfl rfl)
theorem dJ17_deleteEntry_27 : decode cJ17_deleteEntry 27 = .ok (.aload_n 1, 1) := dk_43 (dk_at dksJ17_deleteEntry_1 3 rfl rfl)
theorem dJ17_deleteEntry_28 : decode cJ17_deleteEntry 28 = .ok (.getfield 114, 3) := dk_180 0 114 (dk_at dksJ17_deleteEntry_1 4 rfl rfl)
theorem dJ17_deleteEntry_31 : decode cJ17_deleteEntry 31 = .ok (.ifnull 26, 3) := dk_198 0 26 (dk_at dksJ17_deleteEntry_1 7 rfl rfl)
theorem dJ17_deleteEntry_34 : decode cJ17_deleteEntry 34 = .ok (.aload_n 1, 1) := dk_43 (dk_at dksJ17_deleteEntry_1 10 rfl rfl)
theorem dJ17_deleteEntry_35 : decode cJ17_deleteEntry 35 = .ok (.invokestatic 68, 3) := dk_184 0 68 (dk_at dksJ17_deleteEntry_1 11 rfl rfl)
theorem dJ17_deleteEntry_38 : decode cJ17_deleteEntry 38 = .ok (.astore_n 2, 1) := dk_77 (dk_at dksJ17_deleteEntry_1 14 rfl rfl)
theorem dJ17_deleteEntry_39 : decode cJ17_deleteEntry 39 = .ok (.aload_n 1, 1) := dk_43 (dk_at dksJ17_deleteEntry_1 15 rfl rfl)
theorem dJ17_deleteEntry_40 : decode cJ17_deleteEntry 40 = .ok (.aload_n 2, 1) := dk_44 (dk_at dksJ17_deleteEntry_1 16 rfl rfl)
theorem dJ17_deleteEntry_41 : decode cJ17_deleteEntry 41 = .ok (.getfield 105, 3) := dk_180 0 105 (dk_at dksJ17_deleteEntry_1 17 rfl rfl)
theorem dJ17_deleteEntry_44 : decode cJ17_deleteEntry 44 = .ok (.putfield 105, 3) := dk_181 0 105 (dk_at dksJ17_deleteEntry_1 20 rfl rfl)
theorem dJ17_deleteEntry_47 : decode cJ17_deleteEntry 47 = .ok (.aload_n 1, 1) := dk_43 (dk_at dksJ17_deleteEntry_1 23 rfl rfl)
theorem dJ17_deleteEntry_48 : decode cJ17_deleteEntry 48 = .ok (.aload_n 2, 1) := dk_44 (dk_at dksJ17_deleteEntry_2 0 rfl rfl)
theorem dJ17_deleteEntry_49 : decode cJ17_deleteEntry 49 = .ok (.getfield 58, 3) := dk_180 0 58 (dk_at dksJ17_deleteEntry_2 1 rfl rfl)
theorem dJ17_deleteEntry_52 : decode cJ17_deleteEntry 52 = .ok (.putfield 58, 3) := dk_181 0 58 (dk_at dksJ17_deleteEntry_2 4 rfl rfl)
theorem dJ17_deleteEntry_55 : decode cJ17_deleteEntry 55 = .ok (.aload_n 2, 1) := dk_44 (dk_at dksJ17_deleteEntry_2 7 rfl rfl)
theorem dJ17_deleteEntry_56 : decode cJ17_deleteEntry 56 = .ok (.astore_n 1, 1) := dk_76 (dk_at dksJ17_deleteEntry_2 8 rfl rfl)
theorem dJ17_deleteEntry_57 : decode cJ17_deleteEntry 57 = .ok (.aload_n 1, 1) := dk_43 (dk_at dksJ17_deleteEntry_2 9 rfl rfl)
theorem dJ17_deleteEntry_58 : decode cJ17_deleteEntry 58 = .ok (.getfield 111, 3) := dk_180 0 111 (dk_at dksJ17_deleteEntry_2 10 rfl rfl)
theorem dJ17_deleteEntry_61 : decode cJ17_deleteEntry 61 = .ok (.ifnull 10, 3) := dk_198 0 10 (dk_at dksJ17_deleteEntry_2 13 rfl rfl)
theorem dJ17_deleteEntry_64 : decode cJ17_deleteEntry 64 = .ok (.aload_n 1, 1) := dk_43 (dk_at dksJ17_deleteEntry_2 16 rfl rfl)
theorem dJ17_deleteEntry_65 : decode cJ17_deleteEntry 65 = .ok (.getfield 111, 3) := dk_180 0 111 (dk_at dksJ17_deleteEntry_2 17 rfl rfl)
theorem dJ17_deleteEntry_68 : decode cJ17_deleteEntry 68 = .ok (.goto 7, 3) := dk_167 0 7 (dk_at dksJ17_deleteEntry_2 20 rfl rfl)
theorem dJ17_deleteEntry_71 : decode cJ17_deleteEntry 71 = .ok (.aload_n 1, 1) := dk_43 (dk_at dksJ17_deleteEntry_2 23 rfl rfl)
theorem dJ17_deleteEntry_72 : decode cJ17_deleteEntry 72 = .ok (.getfield 114, 3) := dk_180 0 114 (dk_at dksJ17_deleteEntry_3 0 rfl rfl)
theorem dJ17_deleteEntry_75 : decode cJ17_deleteEntry 75 = .ok (.astore_n 2, 1) := dk_77 (dk_at dksJ17_deleteEntry_3 3 rfl rfl)
theorem dJ17_deleteEntry_76 : decode cJ17_deleteEntry 76 = .ok (.aload_n 2, 1) := dk_44 (dk_at dksJ17_deleteEntry_3 4 rfl rfl)
theorem dJ17_deleteEntry_77 : decode cJ17_deleteEntry 77 = .ok (.ifnull 87, 3) := dk_198 0 87 (dk_at dksJ17_deleteEntry_3 5 rfl rfl)
theorem dJ17_deleteEntry_80 : decode cJ17_deleteEntry 80 = .ok (.aload_n 2, 1) := dk_44 (dk_at dksJ17_deleteEntry_3 8 rfl rfl)
theorem dJ17_deleteEntry_81 : decode cJ17_deleteEntry 81 = .ok (.aload_n 1, 1) := dk_43 (dk_at dksJ17_deleteEntry_3 9 rfl rfl)
theorem dJ17_deleteEntry_82 : decode cJ17_deleteEntry 82 = .ok (.getfield 124, 3) := dk_180 0 124 (dk_at dksJ17_deleteEntry_3 10 rfl rfl)
theorem dJ17_deleteEntry_85 : decode cJ17_deleteEntry 85 = .ok (.putfield 124, 3) := dk_181 0 124 (dk_at dksJ17_deleteEntry_3 13 rfl rfl)
theorem dJ17_deleteEntry_88 : decode cJ17_deleteEntry 88 = .ok (.aload_n 1, 1) := dk_43 (dk_at dksJ17_deleteEntry_3 16 rfl rfl)
theorem dJ17_deleteEntry_89 : decode cJ17_deleteEntry 89 = .ok (.getfield 124, 3) := dk_180 0 124 (dk_at dksJ17_deleteEntry_3 17 rfl rfl)
theorem dJ17_deleteEntry_92 : decode cJ17_deleteEntry 92 = .ok (.ifnonnull 11, 3) := dk_199 0 11 (dk_at dksJ17_deleteEntry_3 20 rfl rfl)
theorem dJ17_deleteEntry_95 : decode cJ17_deleteEntry 95 = .ok (.aload_n 0, 1) := dk_42 (dk_at dksJ17_deleteEntry_3 23 rfl rfl)
theorem dJ17_deleteEntry_96 : decode cJ17_deleteEntry 96 = .ok (.aload_n 2, 1) := dk_44 (dk_at dksJ17_deleteEntry_4 0 rfl rfl)
theorem dJ17_deleteEntry_97 : decode cJ17_deleteEntry 97 = .ok (.putfield 101, 3) := dk_181 0 101 (dk_at dksJ17_deleteEntry_4 1 rfl rfl)
theorem dJ17_deleteEntry_100 : decode cJ17_deleteEntry 100 = .ok (.goto 33, 3) := dk_167 0 33 (dk_at dksJ17_deleteEntry_4 4 rfl rfl)
theorem dJ17_deleteEntry_103 : decode cJ17_deleteEntry 103 = .ok (.aload_n 1, 1) := dk_43 (dk_at dksJ17_deleteEntry_4 7 rfl rfl)
theorem dJ17_deleteEntry_104 : decode cJ17_deleteEntry 104 = .ok (.aload_n 1, 1) := dk_43 (dk_at dksJ17_deleteEntry_4 8 rfl rfl)
theorem dJ17_deleteEntry_105 : decode cJ17_deleteEntry 105 = .ok (.getfield 124, 3) := dk_180 0 124 (dk_at dksJ17_deleteEntry_4 9 rfl rfl)
theorem dJ17_deleteEntry_108 : decode cJ17_deleteEntry 108 = .ok (.getfield 111, 3) := dk_180 0 111 (dk_at dksJ17_deleteEntry_4 12 rfl rfl)
theorem dJ17_deleteEntry_111 : decode cJ17_deleteEntry 111 = .ok (.if_acmp .ne 14, 3) := dk_166 0 14 (dk_at dksJ17_deleteEntry_4 15 rfl rfl)
theorem dJ17_deleteEntry_114 : decode cJ17_deleteEntry 114 = .ok (.aload_n 1, 1) := dk_43 (dk_at dksJ17_deleteEntry_4 18 rfl rfl)
theorem dJ17_deleteEntry_115 : decode cJ17_deleteEntry 115 = .ok (.getfield 124, 3) := dk_180 0 124 (dk_at dksJ17_deleteEntry_4 19 rfl rfl)
theorem dJ17_deleteEntry_118 : decode cJ17_deleteEntry 118 = .ok (.aload_n 2, 1) := dk_44 (dk_at dksJ17_deleteEntry_4 22 rfl rfl)
theorem dJ17_deleteEntry_119 : decode cJ17_deleteEntry 119 = .ok (.putfield 111, 3) := dk_181 0 111 (dk_at dksJ17_deleteEntry_5 0 rfl rfl)
theorem dJ17_deleteEntry_122 : decode cJ17_deleteEntry 122 = .ok (.goto 11, 3) := dk_167 0 11 (dk_at dksJ17_deleteEntry_5 3 rfl rfl)
theorem dJ17_deleteEntry_125 : decode cJ17_deleteEntry 125 = .ok (.aload_n 1, 1) := dk_43 (dk_at dksJ17_deleteEntry_5 6 rfl rfl)
theorem dJ17_deleteEntry_126 : decode cJ17_deleteEntry 126 = .ok (.getfield 124, 3) := dk_180 0 124 (dk_at dksJ17_deleteEntry_5 7 rfl rfl)
theorem dJ17_deleteEntry_129 : decode cJ17_deleteEntry 129 = .ok (.aload_n 2, 1) := dk_44 (dk_at dksJ17_deleteEntry_5 10 rfl rfl)
theorem dJ17_deleteEntry_130 : decode cJ17_deleteEntry 130 = .ok (.putfield 114, 3) := dk_181 0 114 (dk_at dksJ17_deleteEntry_5 11 rfl rfl)
theorem dJ17_deleteEntry_133 : decode cJ17_deleteEntry 133 = .ok (.aload_n 1, 1) := dk_43 (dk_at dksJ17_deleteEntry_5 14 rfl rfl)
theorem dJ17_deleteEntry_134 : decode cJ17_deleteEntry 134 = .ok (.aload_n 1, 1) := dk_43 (dk_at dksJ17_deleteEntry_5 15 rfl rfl)
theorem dJ17_deleteEntry_135 : decode cJ17_deleteEntry 135 = .ok (.aload_n 1, 1) := dk_43 (dk_at dksJ17_deleteEntry_5 16 rfl rfl)
theorem dJ17_deleteEntry_136 : decode cJ17_deleteEntry 136 = .ok (.aconst_null, 1) := dk_1 (dk_at dksJ17_deleteEntry_5 17 rfl rfl)
theorem dJ17_deleteEntry_137 : decode cJ17_deleteEntry 137 = .ok (.dup_x1, 1) := dk_90 (dk_at dksJ17_deleteEntry_5 18 rfl rfl)
theorem dJ17_deleteEntry_138 : decode cJ17_deleteEntry 138 = .ok (.putfield 124, 3) := dk_181 0 124 (dk_at dksJ17_deleteEntry_5 19 rfl rfl)
theorem dJ17_deleteEntry_141 : decode cJ17_deleteEntry 141 = .ok (.dup_x1, 1) := dk_90 (dk_at dksJ17_deleteEntry_5 22 rfl rfl)
theorem dJ17_deleteEntry_142 : decode cJ17_deleteEntry 142 = .ok (.putfield 114, 3) := dk_181 0 114 (dk_at dksJ17_deleteEntry_6 0 rfl rfl)
theorem dJ17_deleteEntry_145 : decode cJ17_deleteEntry 145 = .ok (.putfield 111, 3) := dk_181 0 111 (dk_at dksJ17_deleteEntry_6 3 rfl rfl)
theorem dJ17_deleteEntry_148 : decode cJ17_deleteEntry 148 = .ok (.aload_n 1, 1) := dk_43 (dk_at dksJ17_deleteEntry_6 6 rfl rfl)
theorem dJ17_deleteEntry_149 : decode cJ17_deleteEntry 149 = .ok (.getfield 290, 3) := dk_180 1 34 (dk_at dksJ17_deleteEntry_6 7 rfl rfl)
theorem dJ17_deleteEntry_152 : decode cJ17_deleteEntry 152 = .ok (.iconst 1, 1) := dk_4 (dk_at dksJ17_deleteEntry_6 10 rfl rfl)
theorem dJ17_deleteEntry_153 : decode cJ17_deleteEntry 153 = .ok (.if_icmp .ne 92, 3) := dk_160 0 92 (dk_at dksJ17_deleteEntry_6 11 rfl rfl)
theorem dJ17_deleteEntry_156 : decode cJ17_deleteEntry 156 = .ok (.aload_n 0, 1) := dk_42 (dk_at dksJ17_deleteEntry_6 14 rfl rfl)
theorem dJ17_deleteEntry_157 : decode cJ17_deleteEntry 157 = .ok (.aload_n 2, 1) := dk_44 (dk_at dksJ17_deleteEntry_6 15 rfl rfl)
theorem dJ17_deleteEntry_158 : decode cJ17_deleteEntry 158 = .ok (.invokevirtual 317, 3) := dk_182 1 61 (dk_at dksJ17_deleteEntry_6 16 rfl rfl)
theorem dJ17_deleteEntry_161 : decode cJ17_deleteEntry 161 = .ok (.goto 84, 3) := dk_167 0 84 (dk_at dksJ17_deleteEntry_6 19 rfl rfl)
theorem dJ17_deleteEntry_164 : decode cJ17_deleteEntry 164 = .ok (.aload_n 1, 1) := dk_43 (dk_at dksJ17_deleteEntry_6 22 rfl rfl)
theorem dJ17_deleteEntry_165 : decode cJ17_deleteEntry 165 = .ok (.getfield 124, 3) := dk_180 0 124 (dk_at dksJ17_deleteEntry_7 0 rfl rfl)
theorem dJ17_deleteEntry_168 : decode cJ17_deleteEntry 168 = .ok (.ifnonnull 11, 3) := dk_199 0 11 (dk_at dksJ17_deleteEntry_7 3 rfl rfl)
theorem dJ17_deleteEntry_171 : decode cJ17_deleteEntry 171 = .ok (.aload_n 0, 1) := dk_42 (dk_at dksJ17_deleteEntry_7 6 rfl rfl)
theorem dJ17_deleteEntry_172 : decode cJ17_deleteEntry 172 = .ok (.aconst_null, 1) := dk_1 (dk_at dksJ17_deleteEntry_7 7 rfl rfl)
theorem dJ17_deleteEntry_173 : decode cJ17_deleteEntry 173 = .ok (.putfield 101, 3) := dk_181 0 101 (dk_at dksJ17_deleteEntry_7 8 rfl rfl)
theorem dJ17_deleteEntry_176 : decode cJ17_deleteEntry 176 = .ok (.goto 69, 3) := dk_167 0 69 (dk_at dksJ17_deleteEntry_7 11 rfl rfl)
theorem dJ17_deleteEntry_179 : decode cJ17_deleteEntry 179 = .ok (.aload_n 1, 1) := dk_43 (dk_at dksJ17_deleteEntry_7 14 rfl rfl)
theorem dJ17_deleteEntry_180 : decode cJ17_deleteEntry 180 = .ok (.getfield 290, 3) := dk_180 1 34 (dk_at dksJ17_deleteEntry_7 15 rfl rfl)
theorem dJ17_deleteEntry_183 : decode cJ17_deleteEntry 183 = .ok (.iconst 1, 1) := dk_4 (dk_at dksJ17_deleteEntry_7 18 rfl rfl)
theorem dJ17_deleteEntry_184 : decode cJ17_deleteEntry 184 = .ok (.if_icmp .ne 8, 3) := dk_160 0 8 (dk_at dksJ17_deleteEntry_7 19 rfl rfl)
theorem dJ17_deleteEntry_187 : decode cJ17_deleteEntry 187 = .ok (.aload_n 0, 1) := dk_42 (dk_at dksJ17_deleteEntry_7 22 rfl rfl)
theorem dJ17_deleteEntry_188 : decode cJ17_deleteEntry 188 = .ok (.aload_n 1, 1) := dk_43 (dk_at dksJ17_deleteEntry_7 23 rfl rfl)
theorem dJ17_deleteEntry_189 : decode cJ17_deleteEntry 189 = .ok (.invokevirtual 317, 3) := dk_182 1 61 (dk_at dksJ17_deleteEntry_8 0 rfl rfl)
theorem dJ17_deleteEntry_192 : decode cJ17_deleteEntry 192 = .ok (.aload_n 1, 1) := dk_43 (dk_at dksJ17_deleteEntry_8 3 rfl rfl)
theorem dJ17_deleteEntry_193 : decode cJ17_deleteEntry 193 = .ok (.getfield 124, 3) := dk_180 0 124 (dk_at dksJ17_deleteEntry_8 4 rfl rfl)
theorem dJ17_deleteEntry_196 : decode cJ17_deleteEntry 196 = .ok (.ifnull 49, 3) := dk_198 0 49 (dk_at dksJ17_deleteEntry_8 7 rfl rfl)
theorem dJ17_deleteEntry_199 : decode cJ17_deleteEntry 199 = .ok (.aload_n 1, 1) := dk_43 (dk_at dksJ17_deleteEntry_8 10 rfl rfl)
theorem dJ17_deleteEntry_200 : decode cJ17_deleteEntry 200 = .ok (.aload_n 1, 1) := dk_43 (dk_at dksJ17_deleteEntry_8 11 rfl rfl)
theorem dJ17_deleteEntry_201 : decode cJ17_deleteEntry 201 = .ok (.getfield 124, 3) := dk_180 0 124 (dk_at dksJ17_deleteEntry_8 12 rfl rfl)
theorem dJ17_deleteEntry_204 : decode cJ17_deleteEntry 204 = .ok (.getfield 111, 3) := dk_180 0 111 (dk_at dksJ17_deleteEntry_8 15 rfl rfl)
theorem dJ17_deleteEntry_207 : decode cJ17_deleteEntry 207 = .ok (.if_acmp .ne 14, 3) := dk_166 0 14 (dk_at dksJ17_deleteEntry_8 18 rfl rfl)
theorem dJ17_deleteEntry_210 : decode cJ17_deleteEntry 210 = .ok (.aload_n 1, 1) := dk_43 (dk_at dksJ17_deleteEntry_8 21 rfl rfl)
theorem dJ17_deleteEntry_211 : decode cJ17_deleteEntry 211 = .ok (.getfield 124, 3) := dk_180 0 124 (dk_at dksJ17_deleteEntry_9 0 rfl rfl)
theorem dJ17_deleteEntry_214 : decode cJ17_deleteEntry 214 = .ok (.aconst_null, 1) := dk_1 (dk_at dksJ17_deleteEntry_9 3 rfl rfl)
theorem dJ17_deleteEntry_215 : decode cJ17_deleteEntry 215 = .ok (.putfield 111, 3) := dk_181 0 111 (dk_at dksJ17_deleteEntry_9 4 rfl rfl)
theorem dJ17_deleteEntry_218 : decode cJ17_deleteEntry 218 = .ok (.goto 22, 3) := dk_167 0 22 (dk_at dksJ17_deleteEntry_9 7 rfl rfl)
theorem dJ17_deleteEntry_221 : decode cJ17_deleteEntry 221 = .ok (.aload_n 1, 1) := dk_43 (dk_at dksJ17_deleteEntry_9 10 rfl rfl)
theorem dJ17_deleteEntry_222 : decode cJ17_deleteEntry 222 = .ok (.aload_n 1, 1) := dk_43 (dk_at dksJ17_deleteEntry_9 11 rfl rfl)
theorem dJ17_deleteEntry_223 : decode cJ17_deleteEntry 223 = .ok (.getfield 124, 3) := dk_180 0 124 (dk_at dksJ17_deleteEntry_9 12 rfl rfl)
theorem dJ17_deleteEntry_226 : decode cJ17_deleteEntry 226 = .ok (.getfield 114, 3) := dk_180 0 114 (dk_at dksJ17_deleteEntry_9 15 rfl rfl)
theorem dJ17_deleteEntry_229 : decode cJ17_deleteEntry 229 = .ok (.if_acmp .ne 11, 3) := dk_166 0 11 (dk_at dksJ17_deleteEntry_9 18 rfl rfl)
theorem dJ17_deleteEntry_232 : decode cJ17_deleteEntry 232 = .ok (.aload_n 1, 1) := dk_43 (dk_at dksJ17_deleteEntry_9 21 rfl rfl)
theorem dJ17_deleteEntry_233 : decode cJ17_deleteEntry 233 = .ok (.getfield 124, 3) := dk_180 0 124 (dk_at dksJ17_deleteEntry_10 0 rfl rfl)
theorem dJ17_deleteEntry_236 : decode cJ17_deleteEntry 236 = .ok (.aconst_null, 1) := dk_1 (dk_at dksJ17_deleteEntry_10 3 rfl rfl)
theorem dJ17_deleteEntry_237 : decode cJ17_deleteEntry 237 = .ok (.putfield 114, 3) := dk_181 0 114 (dk_at dksJ17_deleteEntry_10 4 rfl rfl)
theorem dJ17_deleteEntry_240 : decode cJ17_deleteEntry 240 = .ok (.aload_n 1, 1) := dk_43 (dk_at dksJ17_deleteEntry_10 7 rfl rfl)
theorem dJ17_deleteEntry_241 : decode cJ17_deleteEntry 241 = .ok (.aconst_null, 1) := dk_1 (dk_at dksJ17_deleteEntry_10 8 rfl rfl)
theorem dJ17_deleteEntry_242 : decode cJ17_deleteEntry 242 = .ok (.putfield 124, 3) := dk_181 0 124 (dk_at dksJ17_deleteEntry_10 9 rfl rfl)
theorem dJ17_deleteEntry_245 : decode cJ17_deleteEntry 245 = .ok (.return_, 1) := dk_177 (dk_at dksJ17_deleteEntry_10 12 rfl rfl)
abbrev cJ17_fixAfterDeletion : ByteArray := prog_66_method_85_code
def yJ17_fixAfterDeletion : MethodName := ⟨RJ17, "fixAfterDeletion", "(Ljava/util/TreeMap$Entry;)V"⟩
def dkwJ17_fixAfterDeletion_14 : List UInt8 := [182, 1, 58, 42, 180, 0, 101, 76, 167, 254, 170, 43, 4, 184, 1, 51, 177]
abbrev dktJ17_fixAfterDeletion_14 : List UInt8 := dkwJ17_fixAfterDeletion_14 ++ []
def dkwJ17_fixAfterDeletion_13 : List UInt8 := [184, 1, 51, 43, 184, 1, 38, 4, 184, 1, 51, 44, 184, 1, 41, 4, 184, 1, 51, 42, 43, 184, 1, 38]
abbrev dktJ17_fixAfterDeletion_13 : List UInt8 := dkwJ17_fixAfterDeletion_13 ++ dktJ17_fixAfterDeletion_14
def dkwJ17_fixAfterDeletion_12 : List UInt8 := [184, 1, 51, 42, 44, 182, 1, 55, 43, 184, 1, 38, 184, 1, 41, 77, 44, 43, 184, 1, 38, 184, 1, 47]
abbrev dktJ17_fixAfterDeletion_12 : List UInt8 := dkwJ17_fixAfterDeletion_12 ++ dktJ17_fixAfterDeletion_13
def dkwJ17_fixAfterDeletion_11 : List UInt8 := [167, 0, 80, 44, 184, 1, 41, 184, 1, 47, 4, 160, 0, 29, 44, 184, 1, 44, 4, 184, 1, 51, 44, 3]
abbrev dktJ17_fixAfterDeletion_11 : List UInt8 := dkwJ17_fixAfterDeletion_11 ++ dktJ17_fixAfterDeletion_12
def dkwJ17_fixAfterDeletion_10 : List UInt8 := [160, 0, 27, 44, 184, 1, 41, 184, 1, 47, 4, 160, 0, 16, 44, 3, 184, 1, 51, 43, 184, 1, 38, 76]
abbrev dktJ17_fixAfterDeletion_10 : List UInt8 := dkwJ17_fixAfterDeletion_10 ++ dktJ17_fixAfterDeletion_11
def dkwJ17_fixAfterDeletion_9 : List UInt8 := [42, 43, 184, 1, 38, 182, 1, 58, 43, 184, 1, 38, 184, 1, 41, 77, 44, 184, 1, 44, 184, 1, 47, 4]
abbrev dktJ17_fixAfterDeletion_9 : List UInt8 := dkwJ17_fixAfterDeletion_9 ++ dktJ17_fixAfterDeletion_10
def dkwJ17_fixAfterDeletion_8 : List UInt8 := [184, 1, 41, 77, 44, 184, 1, 47, 154, 0, 32, 44, 4, 184, 1, 51, 43, 184, 1, 38, 3, 184, 1, 51]
abbrev dktJ17_fixAfterDeletion_8 : List UInt8 := dkwJ17_fixAfterDeletion_8 ++ dktJ17_fixAfterDeletion_9
def dkwJ17_fixAfterDeletion_7 : List UInt8 := [4, 184, 1, 51, 42, 43, 184, 1, 38, 182, 1, 55, 42, 180, 0, 101, 76, 167, 255, 73, 43, 184, 1, 38]
abbrev dktJ17_fixAfterDeletion_7 : List UInt8 := dkwJ17_fixAfterDeletion_7 ++ dktJ17_fixAfterDeletion_8
def dkwJ17_fixAfterDeletion_6 : List UInt8 := [77, 44, 43, 184, 1, 38, 184, 1, 47, 184, 1, 51, 43, 184, 1, 38, 4, 184, 1, 51, 44, 184, 1, 44]
abbrev dktJ17_fixAfterDeletion_6 : List UInt8 := dkwJ17_fixAfterDeletion_6 ++ dktJ17_fixAfterDeletion_7
def dkwJ17_fixAfterDeletion_5 : List UInt8 := [184, 1, 41, 4, 184, 1, 51, 44, 3, 184, 1, 51, 42, 44, 182, 1, 58, 43, 184, 1, 38, 184, 1, 44]
abbrev dktJ17_fixAfterDeletion_5 : List UInt8 := dkwJ17_fixAfterDeletion_5 ++ dktJ17_fixAfterDeletion_6
def dkwJ17_fixAfterDeletion_4 : List UInt8 := [184, 1, 51, 43, 184, 1, 38, 76, 167, 0, 80, 44, 184, 1, 44, 184, 1, 47, 4, 160, 0, 29, 44]
abbrev dktJ17_fixAfterDeletion_4 : List UInt8 := dkwJ17_fixAfterDeletion_4 ++ dktJ17_fixAfterDeletion_5
def dkwJ17_fixAfterDeletion_3 : List UInt8 := [184, 1, 41, 184, 1, 47, 4, 160, 0, 27, 44, 184, 1, 44, 184, 1, 47, 4, 160, 0, 16, 44, 3]
abbrev dktJ17_fixAfterDeletion_3 : List UInt8 := dkwJ17_fixAfterDeletion_3 ++ dktJ17_fixAfterDeletion_4
def dkwJ17_fixAfterDeletion_2 : List UInt8 := [184, 1, 38, 3, 184, 1, 51, 42, 43, 184, 1, 38, 182, 1, 55, 43, 184, 1, 38, 184, 1, 44, 77, 44]
abbrev dktJ17_fixAfterDeletion_2 : List UInt8 := dkwJ17_fixAfterDeletion_2 ++ dktJ17_fixAfterDeletion_3
def dkwJ17_fixAfterDeletion_1 : List UInt8 := [166, 0, 162, 43, 184, 1, 38, 184, 1, 44, 77, 44, 184, 1, 47, 154, 0, 32, 44, 4, 184, 1, 51, 43]
abbrev dktJ17_fixAfterDeletion_1 : List UInt8 := dkwJ17_fixAfterDeletion_1 ++ dktJ17_fixAfterDeletion_2
def dkwJ17_fixAfterDeletion_0 : List UInt8 := [43, 42, 180, 0, 101, 165, 1, 84, 43, 184, 1, 47, 4, 160, 1, 76, 43, 43, 184, 1, 38, 184, 1, 41]
abbrev dktJ17_fixAfterDeletion_0 : List UInt8 := dkwJ17_fixAfterDeletion_0 ++ dktJ17_fixAfterDeletion_1
theorem dksJ17_fixAfterDeletion_0 : cJ17_fixAfterDeletion.data.toList.drop 0 = dktJ17_fixAfterDeletion_0 := by decide +kernel
theorem dksJ17_fixAfterDeletion_1 : cJ17_fixAfterDeletion.data.toList.drop 24 = dktJ17_fixAfterDeletion_1 := dk_seg dksJ17_fixAfterDeletion_0 24 rfl rfl
theorem dksJ17_fixAfterDeletion_2 : cJ17_fixAfterDeletion.data.toList.drop 48 = dktJ17_fixAfterDeletion_2 := dk_seg dksJ17_fixAfterDeletion_1 24 rfl rfl
theorem dksJ17_fixAfterDeletion_3 : cJ17_fixAfterDeletion.data.toList.drop 72 = dktJ17_fixAfterDeletion_3 := dk_seg dksJ17_fixAfterDeletion_2 24 rfl rfl
theorem dksJ17_fixAfterDeletion_4 : cJ17_fixAfterDeletion.data.toList.drop 95 = dktJ17_fixAfterDeletion_4 := dk_seg dksJ17_fixAfterDeletion_3 23 rfl rfl
theorem dksJ17_fixAfterDeletion_5 : cJ17_fixAfterDeletion.data.toList.drop 118 = dktJ17_fixAfterDeletion_5 := dk_seg dksJ17_fixAfterDeletion_4 23 rfl rfl
theorem dksJ17_fixAfterDeletion_6 : cJ17_fixAfterDeletion.data.toList.drop 142 = dktJ17_fixAfterDeletion_6 := dk_seg dksJ17_fixAfterDeletion_5 24 rfl rfl
theorem dksJ17_fixAfterDeletion_7 : cJ17_fixAfterDeletion.data.toList.drop 166 = dktJ17_fixAfterDeletion_7 := dk_seg dksJ17_fixAfterDeletion_6 24 rfl rfl
theorem dksJ17_fixAfterDeletion_8 : cJ17_fixAfterDeletion.data.toList.drop 190 = dktJ17_fixAfterDeletion_8 := dk_seg dksJ17_fixAfterDeletion_7 24 rfl rfl
theorem dksJ17_fixAfterDeletion_9 : cJ17_fixAfterDeletion.data.toList.drop 214 = dktJ17_fixAfterDeletion_9 := dk_seg dksJ17_fixAfterDeletion_8 24 rfl rfl
theorem dksJ17_fixAfterDeletion_10 : cJ17_fixAfterDeletion.data.toList.drop 238 = dktJ17_fixAfterDeletion_10 := dk_seg dksJ17_fixAfterDeletion_9 24 rfl rfl
theorem dksJ17_fixAfterDeletion_11 : cJ17_fixAfterDeletion.data.toList.drop 262 = dktJ17_fixAfterDeletion_11 := dk_seg dksJ17_fixAfterDeletion_10 24 rfl rfl
theorem dksJ17_fixAfterDeletion_12 : cJ17_fixAfterDeletion.data.toList.drop 286 = dktJ17_fixAfterDeletion_12 := dk_seg dksJ17_fixAfterDeletion_11 24 rfl rfl
theorem dksJ17_fixAfterDeletion_13 : cJ17_fixAfterDeletion.data.toList.drop 310 = dktJ17_fixAfterDeletion_13 := dk_seg dksJ17_fixAfterDeletion_12 24 rfl rfl
theorem dksJ17_fixAfterDeletion_14 : cJ17_fixAfterDeletion.data.toList.drop 334 = dktJ17_fixAfterDeletion_14 := dk_seg dksJ17_fixAfterDeletion_13 24 rfl rfl
theorem dJ17_fixAfterDeletion_0 : decode cJ17_fixAfterDeletion 0 = .ok (.aload_n 1, 1) := dk_43 (dk_at dksJ17_fixAfterDeletion_0 0 rfl rfl)
theorem dJ17_fixAfterDeletion_1 : decode cJ17_fixAfterDeletion 1 = .ok (.aload_n 0, 1) := dk_42 (dk_at dksJ17_fixAfterDeletion_0 1 rfl rfl)
theorem dJ17_fixAfterDeletion_2 : decode cJ17_fixAfterDeletion 2 = .ok (.getfield 101, 3) := dk_180 0 101 (dk_at dksJ17_fixAfterDeletion_0 2 rfl rfl)
theorem dJ17_fixAfterDeletion_5 : decode cJ17_fixAfterDeletion 5 = .ok (.if_acmp .eq 340, 3) := dk_165 1 84 (dk_at dksJ17_fixAfterDeletion_0 5 rfl rfl)
theorem dJ17_fixAfterDeletion_8 : decode cJ17_fixAfterDeletion 8 = .ok (.aload_n 1, 1) := dk_43 (dk_at dksJ17_fixAfterDeletion_0 8 rfl rfl)
theorem dJ17_fixAfterDeletion_9 : decode cJ17_fixAfterDeletion 9 = .ok (.invokestatic 303, 3) := dk_184 1 47 (dk_at dksJ17_fixAfterDeletion_0 9 rfl rfl)
theorem dJ17_fixAfterDeletion_12 : decode cJ17_fixAfterDeletion 12 = .ok (.iconst 1, 1) := dk_4 (dk_at dksJ17_fixAfterDeletion_0 12 rfl rfl)
theorem dJ17_fixAfterDeletion_13 : decode cJ17_fixAfterDeletion 13 = .ok (.if_icmp .ne 332, 3) := dk_160 1 76 (dk_at dksJ17_fixAfterDeletion_0 13 rfl rfl)
theorem dJ17_fixAfterDeletion_16 : decode cJ17_fixAfterDeletion 16 = .ok (.aload_n 1, 1) := dk_43 (dk_at dksJ17_fixAfterDeletion_0 16 rfl rfl)
theorem dJ17_fixAfterDeletion_17 : decode cJ17_fixAfterDeletion 17 = .ok (.aload_n 1, 1) := dk_43 (dk_at dksJ17_fixAfterDeletion_0 17 rfl rfl)
theorem dJ17_fixAfterDeletion_18 : decode cJ17_fixAfterDeletion 18 = .ok (.invokestatic 294, 3) := dk_184 1 38 (dk_at dksJ17_fixAfterDeletion_0 18 rfl rfl)
theorem dJ17_fixAfterDeletion_21 : decode cJ17_fixAfterDeletion 21 = .ok (.invokestatic 297, 3) := dk_184 1 41 (dk_at dksJ17_fixAfterDeletion_0 21 rfl rfl)
theorem dJ17_fixAfterDeletion_24 : decode cJ17_fixAfterDeletion 24 = .ok (.if_acmp .ne 162, 3) := dk_166 0 162 (dk_at dksJ17_fixAfterDeletion_1 0 rfl rfl)
theorem dJ17_fixAfterDeletion_27 : decode cJ17_fixAfterDeletion 27 = .ok (.aload_n 1, 1) := dk_43 (dk_at dksJ17_fixAfterDeletion_1 3 rfl rfl)
theorem dJ17_fixAfterDeletion_28 : decode cJ17_fixAfterDeletion 28 = .ok (.invokestatic 294, 3) := dk_184 1 38 (dk_at dksJ17_fixAfterDeletion_1 4 rfl rfl)
theorem dJ17_fixAfterDeletion_31 : decode cJ17_fixAfterDeletion 31 = .ok (.invokestatic 300, 3) := dk_184 1 44 (dk_at dksJ17_fixAfterDeletion_1 7 rfl rfl)
theorem dJ17_fixAfterDeletion_34 : decode cJ17_fixAfterDeletion 34 = .ok (.astore_n 2, 1) := dk_77 (dk_at dksJ17_fixAfterDeletion_1 10 rfl rfl)
theorem dJ17_fixAfterDeletion_35 : decode cJ17_fixAfterDeletion 35 = .ok (.aload_n 2, 1) := dk_44 (dk_at dksJ17_fixAfterDeletion_1 11 rfl rfl)
theorem dJ17_fixAfterDeletion_36 : decode cJ17_fixAfterDeletion 36 = .ok (.invokestatic 303, 3) := dk_184 1 47 (dk_at dksJ17_fixAfterDeletion_1 12 rfl rfl)
theorem dJ17_fixAfterDeletion_39 : decode cJ17_fixAfterDeletion 39 = .ok (.ifCond .ne 32, 3) := dk_154 0 32 (dk_at dksJ17_fixAfterDeletion_1 15 rfl rfl)
theorem dJ17_fixAfterDeletion_42 : decode cJ17_fixAfterDeletion 42 = .ok (.aload_n 2, 1) := dk_44 (dk_at dksJ17_fixAfterDeletion_1 18 rfl rfl)
theorem dJ17_fixAfterDeletion_43 : decode cJ17_fixAfterDeletion 43 = .ok (.iconst 1, 1) := dk_4 (dk_at dksJ17_fixAfterDeletion_1 19 rfl rfl)
theorem dJ17_fixAfterDeletion_44 : decode cJ17_fixAfterDeletion 44 = .ok (.invokestatic 307, 3) := dk_184 1 51 (dk_at dksJ17_fixAfterDeletion_1 20 rfl rfl)
theorem dJ17_fixAfterDeletion_47 : decode cJ17_fixAfterDeletion 47 = .ok (.aload_n 1, 1) := dk_43 (dk_at dksJ17_fixAfterDeletion_1 23 rfl rfl)
theorem dJ17_fixAfterDeletion_48 : decode cJ17_fixAfterDeletion 48 = .ok (.invokestatic 294, 3) := dk_184 1 38 (dk_at dksJ17_fixAfterDeletion_2 0 rfl rfl)
theorem dJ17_fixAfterDeletion_51 : decode cJ17_fixAfterDeletion 51 = .ok (.iconst 0, 1) := dk_3 (dk_at dksJ17_fixAfterDeletion_2 3 rfl rfl)
theorem dJ17_fixAfterDeletion_52 : decode cJ17_fixAfterDeletion 52 = .ok (.invokestatic 307, 3) := dk_184 1 51 (dk_at dksJ17_fixAfterDeletion_2 4 rfl rfl)
theorem dJ17_fixAfterDeletion_55 : decode cJ17_fixAfterDeletion 55 = .ok (.aload_n 0, 1) := dk_42 (dk_at dksJ17_fixAfterDeletion_2 7 rfl rfl)
theorem dJ17_fixAfterDeletion_56 : decode cJ17_fixAfterDeletion 56 = .ok (.aload_n 1, 1) := dk_43 (dk_at dksJ17_fixAfterDeletion_2 8 rfl rfl)
theorem dJ17_fixAfterDeletion_57 : decode cJ17_fixAfterDeletion 57 = .ok (.invokestatic 294, 3) := dk_184 1 38 (dk_at dksJ17_fixAfterDeletion_2 9 rfl rfl)
theorem dJ17_fixAfterDeletion_60 : decode cJ17_fixAfterDeletion 60 = .ok (.invokevirtual 311, 3) := dk_182 1 55 (dk_at dksJ17_fixAfterDeletion_2 12 rfl rfl)
theorem dJ17_fixAfterDeletion_63 : decode cJ17_fixAfterDeletion 63 = .ok (.aload_n 1, 1) := dk_43 (dk_at dksJ17_fixAfterDeletion_2 15 rfl rfl)
theorem dJ17_fixAfterDeletion_64 : decode cJ17_fixAfterDeletion 64 = .ok (.invokestatic 294, 3) := dk_184 1 38 (dk_at dksJ17_fixAfterDeletion_2 16 rfl rfl)
theorem dJ17_fixAfterDeletion_67 : decode cJ17_fixAfterDeletion 67 = .ok (.invokestatic 300, 3) := dk_184 1 44 (dk_at dksJ17_fixAfterDeletion_2 19 rfl rfl)
theorem dJ17_fixAfterDeletion_70 : decode cJ17_fixAfterDeletion 70 = .ok (.astore_n 2, 1) := dk_77 (dk_at dksJ17_fixAfterDeletion_2 22 rfl rfl)
theorem dJ17_fixAfterDeletion_71 : decode cJ17_fixAfterDeletion 71 = .ok (.aload_n 2, 1) := dk_44 (dk_at dksJ17_fixAfterDeletion_2 23 rfl rfl)
theorem dJ17_fixAfterDeletion_72 : decode cJ17_fixAfterDeletion 72 = .ok (.invokestatic 297, 3) := dk_184 1 41 (dk_at dksJ17_fixAfterDeletion_3 0 rfl rfl)
theorem dJ17_fixAfterDeletion_75 : decode cJ17_fixAfterDeletion 75 = .ok (.invokestatic 303, 3) := dk_184 1 47 (dk_at dksJ17_fixAfterDeletion_3 3 rfl rfl)
theorem dJ17_fixAfterDeletion_78 : decode cJ17_fixAfterDeletion 78 = .ok (.iconst 1, 1) := dk_4 (dk_at dksJ17_fixAfterDeletion_3 6 rfl rfl)
theorem dJ17_fixAfterDeletion_79 : decode cJ17_fixAfterDeletion 79 = .ok (.if_icmp .ne 27, 3) := dk_160 0 27 (dk_at dksJ17_fixAfterDeletion_3 7 rfl rfl)
theorem dJ17_fixAfterDeletion_82 : decode cJ17_fixAfterDeletion 82 = .ok (.aload_n 2, 1) := dk_44 (dk_at dksJ17_fixAfterDeletion_3 10 rfl rfl)
theorem dJ17_fixAfterDeletion_83 : decode cJ17_fixAfterDeletion 83 = .ok (.invokestatic 300, 3) := dk_184 1 44 (dk_at dksJ17_fixAfterDeletion_3 11 rfl rfl)
theorem dJ17_fixAfterDeletion_86 : decode cJ17_fixAfterDeletion 86 = .ok (.invokestatic 303, 3) := dk_184 1 47 (dk_at dksJ17_fixAfterDeletion_3 14 rfl rfl)
theorem dJ17_fixAfterDeletion_89 : decode cJ17_fixAfterDeletion 89 = .ok (.iconst 1, 1) := dk_4 (dk_at dksJ17_fixAfterDeletion_3 17 rfl rfl)
theorem dJ17_fixAfterDeletion_90 : decode cJ17_fixAfterDeletion 90 = .ok (.if_icmp .ne 16, 3) := dk_160 0 16 (dk_at dksJ17_fixAfterDeletion_3 18 rfl rfl)
theorem dJ17_fixAfterDeletion_93 : decode cJ17_fixAfterDeletion 93 = .ok (.aload_n 2, 1) := dk_44 (dk_at dksJ17_fixAfterDeletion_3 21 rfl rfl)
theorem dJ17_fixAfterDeletion_94 : decode cJ17_fixAfterDeletion 94 = .ok (.iconst 0, 1) := dk_3 (dk_at dksJ17_fixAfterDeletion_3 22 rfl rfl)
theorem dJ17_fixAfterDeletion_95 : decode cJ17_fixAfterDeletion 95 = .ok (.invokestatic 307, 3) := dk_184 1 51 (dk_at dksJ17_fixAfterDeletion_4 0 rfl rfl)
theorem dJ17_fixAfterDeletion_98 : decode cJ17_fixAfterDeletion 98 = .ok (.aload_n 1, 1) := dk_43 (dk_at dksJ17_fixAfterDeletion_4 3 rfl rfl)
theorem dJ17_fixAfterDeletion_99 : decode cJ17_fixAfterDeletion 99 = .ok (.invokestatic 294, 3) := dk_184 1 38 (dk_at dksJ17_fixAfterDeletion_4 4 rfl rfl)
theorem dJ17_fixAfterDeletion_102 : decode cJ17_fixAfterDeletion 102 = .ok (.astore_n 1, 1) := dk_76 (dk_at dksJ17_fixAfterDeletion_4 7 rfl rfl)
theorem dJ17_fixAfterDeletion_103 : decode cJ17_fixAfterDeletion 103 = .ok (.goto 80, 3) := dk_167 0 80 (dk_at dksJ17_fixAfterDeletion_4 8 rfl rfl)
theorem dJ17_fixAfterDeletion_106 : decode cJ17_fixAfterDeletion 106 = .ok (.aload_n 2, 1) := dk_44 (dk_at dksJ17_fixAfterDeletion_4 11 rfl rfl)
theorem dJ17_fixAfterDeletion_107 : decode cJ17_fixAfterDeletion 107 = .ok (.invokestatic 300, 3) := dk_184 1 44 (dk_at dksJ17_fixAfterDeletion_4 12 rfl rfl)
theorem dJ17_fixAfterDeletion_110 : decode cJ17_fixAfterDeletion 110 = .ok (.invokestatic 303, 3) := dk_184 1 47 (dk_at dksJ17_fixAfterDeletion_4 15 rfl rfl)
theorem dJ17_fixAfterDeletion_113 : decode cJ17_fixAfterDeletion 113 = .ok (.iconst 1, 1) := dk_4 (dk_at dksJ17_fixAfterDeletion_4 18 rfl rfl)
theorem dJ17_fixAfterDeletion_114 : decode cJ17_fixAfterDeletion 114 = .ok (.if_icmp .ne 29, 3) := dk_160 0 29 (dk_at dksJ17_fixAfterDeletion_4 19 rfl rfl)
theorem dJ17_fixAfterDeletion_117 : decode cJ17_fixAfterDeletion 117 = .ok (.aload_n 2, 1) := dk_44 (dk_at dksJ17_fixAfterDeletion_4 22 rfl rfl)
theorem dJ17_fixAfterDeletion_118 : decode cJ17_fixAfterDeletion 118 = .ok (.invokestatic 297, 3) := dk_184 1 41 (dk_at dksJ17_fixAfterDeletion_5 0 rfl rfl)
theorem dJ17_fixAfterDeletion_121 : decode cJ17_fixAfterDeletion 121 = .ok (.iconst 1, 1) := dk_4 (dk_at dksJ17_fixAfterDeletion_5 3 rfl rfl)
theorem dJ17_fixAfterDeletion_122 : decode cJ17_fixAfterDeletion 122 = .ok (.invokestatic 307, 3) := dk_184 1 51 (dk_at dksJ17_fixAfterDeletion_5 4 rfl rfl)
theorem dJ17_fixAfterDeletion_125 : decode cJ17_fixAfterDeletion 125 = .ok (.aload_n 2, 1) := dk_44 (dk_at dksJ17_fixAfterDeletion_5 7 rfl rfl)
theorem dJ17_fixAfterDeletion_126 : decode cJ17_fixAfterDeletion 126 = .ok (.iconst 0, 1) := dk_3 (dk_at dksJ17_fixAfterDeletion_5 8 rfl rfl)
theorem dJ17_fixAfterDeletion_127 : decode cJ17_fixAfterDeletion 127 = .ok (.invokestatic 307, 3) := dk_184 1 51 (dk_at dksJ17_fixAfterDeletion_5 9 rfl rfl)
theorem dJ17_fixAfterDeletion_130 : decode cJ17_fixAfterDeletion 130 = .ok (.aload_n 0, 1) := dk_42 (dk_at dksJ17_fixAfterDeletion_5 12 rfl rfl)
theorem dJ17_fixAfterDeletion_131 : decode cJ17_fixAfterDeletion 131 = .ok (.aload_n 2, 1) := dk_44 (dk_at dksJ17_fixAfterDeletion_5 13 rfl rfl)
theorem dJ17_fixAfterDeletion_132 : decode cJ17_fixAfterDeletion 132 = .ok (.invokevirtual 314, 3) := dk_182 1 58 (dk_at dksJ17_fixAfterDeletion_5 14 rfl rfl)
theorem dJ17_fixAfterDeletion_135 : decode cJ17_fixAfterDeletion 135 = .ok (.aload_n 1, 1) := dk_43 (dk_at dksJ17_fixAfterDeletion_5 17 rfl rfl)
theorem dJ17_fixAfterDeletion_136 : decode cJ17_fixAfterDeletion 136 = .ok (.invokestatic 294, 3) := dk_184 1 38 (dk_at dksJ17_fixAfterDeletion_5 18 rfl rfl)
theorem dJ17_fixAfterDeletion_139 : decode cJ17_fixAfterDeletion 139 = .ok (.invokestatic 300, 3) := dk_184 1 44 (dk_at dksJ17_fixAfterDeletion_5 21 rfl rfl)
theorem dJ17_fixAfterDeletion_142 : decode cJ17_fixAfterDeletion 142 = .ok (.astore_n 2, 1) := dk_77 (dk_at dksJ17_fixAfterDeletion_6 0 rfl rfl)
theorem dJ17_fixAfterDeletion_143 : decode cJ17_fixAfterDeletion 143 = .ok (.aload_n 2, 1) := dk_44 (dk_at dksJ17_fixAfterDeletion_6 1 rfl rfl)
theorem dJ17_fixAfterDeletion_144 : decode cJ17_fixAfterDeletion 144 = .ok (.aload_n 1, 1) := dk_43 (dk_at dksJ17_fixAfterDeletion_6 2 rfl rfl)
theorem dJ17_fixAfterDeletion_145 : decode cJ17_fixAfterDeletion 145 = .ok (.invokestatic 294, 3) := dk_184 1 38 (dk_at dksJ17_fixAfterDeletion_6 3 rfl rfl)
theorem dJ17_fixAfterDeletion_148 : decode cJ17_fixAfterDeletion 148 = .ok (.invokestatic 303, 3) := dk_184 1 47 (dk_at dksJ17_fixAfterDeletion_6 6 rfl rfl)
theorem dJ17_fixAfterDeletion_151 : decode cJ17_fixAfterDeletion 151 = .ok (.invokestatic 307, 3) := dk_184 1 51 (dk_at dksJ17_fixAfterDeletion_6 9 rfl rfl)
theorem dJ17_fixAfterDeletion_154 : decode cJ17_fixAfterDeletion 154 = .ok (.aload_n 1, 1) := dk_43 (dk_at dksJ17_fixAfterDeletion_6 12 rfl rfl)
theorem dJ17_fixAfterDeletion_155 : decode cJ17_fixAfterDeletion 155 = .ok (.invokestatic 294, 3) := dk_184 1 38 (dk_at dksJ17_fixAfterDeletion_6 13 rfl rfl)
theorem dJ17_fixAfterDeletion_158 : decode cJ17_fixAfterDeletion 158 = .ok (.iconst 1, 1) := dk_4 (dk_at dksJ17_fixAfterDeletion_6 16 rfl rfl)
theorem dJ17_fixAfterDeletion_159 : decode cJ17_fixAfterDeletion 159 = .ok (.invokestatic 307, 3) := dk_184 1 51 (dk_at dksJ17_fixAfterDeletion_6 17 rfl rfl)
theorem dJ17_fixAfterDeletion_162 : decode cJ17_fixAfterDeletion 162 = .ok (.aload_n 2, 1) := dk_44 (dk_at dksJ17_fixAfterDeletion_6 20 rfl rfl)
theorem dJ17_fixAfterDeletion_163 : decode cJ17_fixAfterDeletion 163 = .ok (.invokestatic 300, 3) := dk_184 1 44 (dk_at dksJ17_fixAfterDeletion_6 21 rfl rfl)
theorem dJ17_fixAfterDeletion_166 : decode cJ17_fixAfterDeletion 166 = .ok (.iconst 1, 1) := dk_4 (dk_at dksJ17_fixAfterDeletion_7 0 rfl rfl)
theorem dJ17_fixAfterDeletion_167 : decode cJ17_fixAfterDeletion 167 = .ok (.invokestatic 307, 3) := dk_184 1 51 (dk_at dksJ17_fixAfterDeletion_7 1 rfl rfl)
theorem dJ17_fixAfterDeletion_170 : decode cJ17_fixAfterDeletion 170 = .ok (.aload_n 0, 1) := dk_42 (dk_at dksJ17_fixAfterDeletion_7 4 rfl rfl)
theorem dJ17_fixAfterDeletion_171 : decode cJ17_fixAfterDeletion 171 = .ok (.aload_n 1, 1) := dk_43 (dk_at dksJ17_fixAfterDeletion_7 5 rfl rfl)
theorem dJ17_fixAfterDeletion_172 : decode cJ17_fixAfterDeletion 172 = .ok (.invokestatic 294, 3) := dk_184 1 38 (dk_at dksJ17_fixAfterDeletion_7 6 rfl rfl)
theorem dJ17_fixAfterDeletion_175 : decode cJ17_fixAfterDeletion 175 = .ok (.invokevirtual 311, 3) := dk_182 1 55 (dk_at dksJ17_fixAfterDeletion_7 9 rfl rfl)
theorem dJ17_fixAfterDeletion_178 : decode cJ17_fixAfterDeletion 178 = .ok (.aload_n 0, 1) := dk_42 (dk_at dksJ17_fixAfterDeletion_7 12 rfl rfl)
theorem dJ17_fixAfterDeletion_179 : decode cJ17_fixAfterDeletion 179 = .ok (.getfield 101, 3) := dk_180 0 101 (dk_at dksJ17_fixAfterDeletion_7 13 rfl rfl)
theorem dJ17_fixAfterDeletion_182 : decode cJ17_fixAfterDeletion 182 = .ok (.astore_n 1, 1) := dk_76 (dk_at dksJ17_fixAfterDeletion_7 16 rfl rfl)
theorem dJ17_fixAfterDeletion_183 : decode cJ17_fixAfterDeletion 183 = .ok (.goto (-183), 3) := dk_167 255 73 (dk_at dksJ17_fixAfterDeletion_7 17 rfl rfl)
theorem dJ17_fixAfterDeletion_186 : decode cJ17_fixAfterDeletion 186 = .ok (.aload_n 1, 1) := dk_43 (dk_at dksJ17_fixAfterDeletion_7 20 rfl rfl)
theorem dJ17_fixAfterDeletion_187 : decode cJ17_fixAfterDeletion 187 = .ok (.invokestatic 294, 3) := dk_184 1 38 (dk_at dksJ17_fixAfterDeletion_7 21 rfl rfl)
theorem dJ17_fixAfterDeletion_190 : decode cJ17_fixAfterDeletion 190 = .ok (.invokestatic 297, 3) := dk_184 1 41 (dk_at dksJ17_fixAfterDeletion_8 0 rfl rfl)
theorem dJ17_fixAfterDeletion_193 : decode cJ17_fixAfterDeletion 193 = .ok (.astore_n 2, 1) := dk_77 (dk_at dksJ17_fixAfterDeletion_8 3 rfl rfl)
theorem dJ17_fixAfterDeletion_194 : decode cJ17_fixAfterDeletion 194 = .ok (.aload_n 2, 1) := dk_44 (dk_at dksJ17_fixAfterDeletion_8 4 rfl rfl)
theorem dJ17_fixAfterDeletion_195 : decode cJ17_fixAfterDeletion 195 = .ok (.invokestatic 303, 3) := dk_184 1 47 (dk_at dksJ17_fixAfterDeletion_8 5 rfl rfl)
theorem dJ17_fixAfterDeletion_198 : decode cJ17_fixAfterDeletion 198 = .ok (.ifCond .ne 32, 3) := dk_154 0 32 (dk_at dksJ17_fixAfterDeletion_8 8 rfl rfl)
theorem dJ17_fixAfterDeletion_201 : decode cJ17_fixAfterDeletion 201 = .ok (.aload_n 2, 1) := dk_44 (dk_at dksJ17_fixAfterDeletion_8 11 rfl rfl)
theorem dJ17_fixAfterDeletion_202 : decode cJ17_fixAfterDeletion 202 = .ok (.iconst 1, 1) := dk_4 (dk_at dksJ17_fixAfterDeletion_8 12 rfl rfl)
theorem dJ17_fixAfterDeletion_203 : decode cJ17_fixAfterDeletion 203 = .ok (.invokestatic 307, 3) := dk_184 1 51 (dk_at dksJ17_fixAfterDeletion_8 13 rfl rfl)
theorem dJ17_fixAfterDeletion_206 : decode cJ17_fixAfterDeletion 206 = .ok (.aload_n 1, 1) := dk_43 (dk_at dksJ17_fixAfterDeletion_8 16 rfl rfl)
theorem dJ17_fixAfterDeletion_207 : decode cJ17_fixAfterDeletion 207 = .ok (.invokestatic 294, 3) := dk_184 1 38 (dk_at dksJ17_fixAfterDeletion_8 17 rfl rfl)
theorem dJ17_fixAfterDeletion_210 : decode cJ17_fixAfterDeletion 210 = .ok (.iconst 0, 1) := dk_3 (dk_at dksJ17_fixAfterDeletion_8 20 rfl rfl)
theorem dJ17_fixAfterDeletion_211 : decode cJ17_fixAfterDeletion 211 = .ok (.invokestatic 307, 3) := dk_184 1 51 (dk_at dksJ17_fixAfterDeletion_8 21 rfl rfl)
theorem dJ17_fixAfterDeletion_214 : decode cJ17_fixAfterDeletion 214 = .ok (.aload_n 0, 1) := dk_42 (dk_at dksJ17_fixAfterDeletion_9 0 rfl rfl)
theorem dJ17_fixAfterDeletion_215 : decode cJ17_fixAfterDeletion 215 = .ok (.aload_n 1, 1) := dk_43 (dk_at dksJ17_fixAfterDeletion_9 1 rfl rfl)
theorem dJ17_fixAfterDeletion_216 : decode cJ17_fixAfterDeletion 216 = .ok (.invokestatic 294, 3) := dk_184 1 38 (dk_at dksJ17_fixAfterDeletion_9 2 rfl rfl)
theorem dJ17_fixAfterDeletion_219 : decode cJ17_fixAfterDeletion 219 = .ok (.invokevirtual 314, 3) := dk_182 1 58 (dk_at dksJ17_fixAfterDeletion_9 5 rfl rfl)
theorem dJ17_fixAfterDeletion_222 : decode cJ17_fixAfterDeletion 222 = .ok (.aload_n 1, 1) := dk_43 (dk_at dksJ17_fixAfterDeletion_9 8 rfl rfl)
theorem dJ17_fixAfterDeletion_223 : decode cJ17_fixAfterDeletion 223 = .ok (.invokestatic 294, 3) := dk_184 1 38 (dk_at dksJ17_fixAfterDeletion_9 9 rfl rfl)
theorem dJ17_fixAfterDeletion_226 : decode cJ17_fixAfterDeletion 226 = .ok (.invokestatic 297, 3) := dk_184 1 41 (dk_at dksJ17_fixAfterDeletion_9 12 rfl rfl)
theorem dJ17_fixAfterDeletion_229 : decode cJ17_fixAfterDeletion 229 = .ok (.astore_n 2, 1) := dk_77 (dk_at dksJ17_fixAfterDeletion_9 15 rfl rfl)
theorem dJ17_fixAfterDeletion_230 : decode cJ17_fixAfterDeletion 230 = .ok (.aload_n 2, 1) := dk_44 (dk_at dksJ17_fixAfterDeletion_9 16 rfl rfl)
theorem dJ17_fixAfterDeletion_231 : decode cJ17_fixAfterDeletion 231 = .ok (.invokestatic 300, 3) := dk_184 1 44 (dk_at dksJ17_fixAfterDeletion_9 17 rfl rfl)
theorem dJ17_fixAfterDeletion_234 : decode cJ17_fixAfterDeletion 234 = .ok (.invokestatic 303, 3) := dk_184 1 47 (dk_at dksJ17_fixAfterDeletion_9 20 rfl rfl)
theorem dJ17_fixAfterDeletion_237 : decode cJ17_fixAfterDeletion 237 = .ok (.iconst 1, 1) := dk_4 (dk_at dksJ17_fixAfterDeletion_9 23 rfl rfl)
theorem dJ17_fixAfterDeletion_238 : decode cJ17_fixAfterDeletion 238 = .ok (.if_icmp .ne 27, 3) := dk_160 0 27 (dk_at dksJ17_fixAfterDeletion_10 0 rfl rfl)
theorem dJ17_fixAfterDeletion_241 : decode cJ17_fixAfterDeletion 241 = .ok (.aload_n 2, 1) := dk_44 (dk_at dksJ17_fixAfterDeletion_10 3 rfl rfl)
theorem dJ17_fixAfterDeletion_242 : decode cJ17_fixAfterDeletion 242 = .ok (.invokestatic 297, 3) := dk_184 1 41 (dk_at dksJ17_fixAfterDeletion_10 4 rfl rfl)
theorem dJ17_fixAfterDeletion_245 : decode cJ17_fixAfterDeletion 245 = .ok (.invokestatic 303, 3) := dk_184 1 47 (dk_at dksJ17_fixAfterDeletion_10 7 rfl rfl)
theorem dJ17_fixAfterDeletion_248 : decode cJ17_fixAfterDeletion 248 = .ok (.iconst 1, 1) := dk_4 (dk_at dksJ17_fixAfterDeletion_10 10 rfl rfl)
theorem dJ17_fixAfterDeletion_249 : decode cJ17_fixAfterDeletion 249 = .ok (.if_icmp .ne 16, 3) := dk_160 0 16 (dk_at dksJ17_fixAfterDeletion_10 11 rfl rfl)
theorem dJ17_fixAfterDeletion_252 : decode cJ17_fixAfterDeletion 252 = .ok (.aload_n 2, 1) := dk_44 (dk_at dksJ17_fixAfterDeletion_10 14 rfl rfl)
theorem dJ17_fixAfterDeletion_253 : decode cJ17_fixAfterDeletion 253 = .ok (.iconst 0, 1) := dk_3 (dk_at dksJ17_fixAfterDeletion_10 15 rfl rfl)
theorem dJ17_fixAfterDeletion_254 : decode cJ17_fixAfterDeletion 254 = .ok (.invokestatic 307, 3) := dk_184 1 51 (dk_at dksJ17_fixAfterDeletion_10 16 rfl rfl)
theorem dJ17_fixAfterDeletion_257 : decode cJ17_fixAfterDeletion 257 = .ok (.aload_n 1, 1) := dk_43 (dk_at dksJ17_fixAfterDeletion_10 19 rfl rfl)
theorem dJ17_fixAfterDeletion_258 : decode cJ17_fixAfterDeletion 258 = .ok (.invokestatic 294, 3) := dk_184 1 38 (dk_at dksJ17_fixAfterDeletion_10 20 rfl rfl)
theorem dJ17_fixAfterDeletion_261 : decode cJ17_fixAfterDeletion 261 = .ok (.astore_n 1, 1) := dk_76 (dk_at dksJ17_fixAfterDeletion_10 23 rfl rfl)
theorem dJ17_fixAfterDeletion_262 : decode cJ17_fixAfterDeletion 262 = .ok (.goto 80, 3) := dk_167 0 80 (dk_at dksJ17_fixAfterDeletion_11 0 rfl rfl)
theorem dJ17_fixAfterDeletion_265 : decode cJ17_fixAfterDeletion 265 = .ok (.aload_n 2, 1) := dk_44 (dk_at dksJ17_fixAfterDeletion_11 3 rfl rfl)
theorem dJ17_fixAfterDeletion_266 : decode cJ17_fixAfterDeletion 266 = .ok (.invokestatic 297, 3) := dk_184 1 41 (dk_at dksJ17_fixAfterDeletion_11 4 rfl rfl)
theorem dJ17_fixAfterDeletion_269 : decode cJ17_fixAfterDeletion 269 = .ok (.invokestatic 303, 3) := dk_184 1 47 (dk_at dksJ17_fixAfterDeletion_11 7 rfl rfl)
theorem dJ17_fixAfterDeletion_272 : decode cJ17_fixAfterDeletion 272 = .ok (.iconst 1, 1) := dk_4 (dk_at dksJ17_fixAfterDeletion_11 10 rfl rfl)
theorem dJ17_fixAfterDeletion_273 : decode cJ17_fixAfterDeletion 273 = .ok (.if_icmp .ne 29, 3) := dk_160 0 29 (dk_at dksJ17_fixAfterDeletion_11 11 rfl rfl)
theorem dJ17_fixAfterDeletion_276 : decode cJ17_fixAfterDeletion 276 = .ok (.aload_n 2, 1) := dk_44 (dk_at dksJ17_fixAfterDeletion_11 14 rfl rfl)
theorem dJ17_fixAfterDeletion_277 : decode cJ17_fixAfterDeletion 277 = .ok (.invokestatic 300, 3) := dk_184 1 44 (dk_at dksJ17_fixAfterDeletion_11 15 rfl rfl)
theorem dJ17_fixAfterDeletion_280 : decode cJ17_fixAfterDeletion 280 = .ok (.iconst 1, 1) := dk_4 (dk_at dksJ17_fixAfterDeletion_11 18 rfl rfl)
theorem dJ17_fixAfterDeletion_281 : decode cJ17_fixAfterDeletion 281 = .ok (.invokestatic 307, 3) := dk_184 1 51 (dk_at dksJ17_fixAfterDeletion_11 19 rfl rfl)
theorem dJ17_fixAfterDeletion_284 : decode cJ17_fixAfterDeletion 284 = .ok (.aload_n 2, 1) := dk_44 (dk_at dksJ17_fixAfterDeletion_11 22 rfl rfl)
theorem dJ17_fixAfterDeletion_285 : decode cJ17_fixAfterDeletion 285 = .ok (.iconst 0, 1) := dk_3 (dk_at dksJ17_fixAfterDeletion_11 23 rfl rfl)
theorem dJ17_fixAfterDeletion_286 : decode cJ17_fixAfterDeletion 286 = .ok (.invokestatic 307, 3) := dk_184 1 51 (dk_at dksJ17_fixAfterDeletion_12 0 rfl rfl)
theorem dJ17_fixAfterDeletion_289 : decode cJ17_fixAfterDeletion 289 = .ok (.aload_n 0, 1) := dk_42 (dk_at dksJ17_fixAfterDeletion_12 3 rfl rfl)
theorem dJ17_fixAfterDeletion_290 : decode cJ17_fixAfterDeletion 290 = .ok (.aload_n 2, 1) := dk_44 (dk_at dksJ17_fixAfterDeletion_12 4 rfl rfl)
theorem dJ17_fixAfterDeletion_291 : decode cJ17_fixAfterDeletion 291 = .ok (.invokevirtual 311, 3) := dk_182 1 55 (dk_at dksJ17_fixAfterDeletion_12 5 rfl rfl)
theorem dJ17_fixAfterDeletion_294 : decode cJ17_fixAfterDeletion 294 = .ok (.aload_n 1, 1) := dk_43 (dk_at dksJ17_fixAfterDeletion_12 8 rfl rfl)
theorem dJ17_fixAfterDeletion_295 : decode cJ17_fixAfterDeletion 295 = .ok (.invokestatic 294, 3) := dk_184 1 38 (dk_at dksJ17_fixAfterDeletion_12 9 rfl rfl)
theorem dJ17_fixAfterDeletion_298 : decode cJ17_fixAfterDeletion 298 = .ok (.invokestatic 297, 3) := dk_184 1 41 (dk_at dksJ17_fixAfterDeletion_12 12 rfl rfl)
theorem dJ17_fixAfterDeletion_301 : decode cJ17_fixAfterDeletion 301 = .ok (.astore_n 2, 1) := dk_77 (dk_at dksJ17_fixAfterDeletion_12 15 rfl rfl)
theorem dJ17_fixAfterDeletion_302 : decode cJ17_fixAfterDeletion 302 = .ok (.aload_n 2, 1) := dk_44 (dk_at dksJ17_fixAfterDeletion_12 16 rfl rfl)
theorem dJ17_fixAfterDeletion_303 : decode cJ17_fixAfterDeletion 303 = .ok (.aload_n 1, 1) := dk_43 (dk_at dksJ17_fixAfterDeletion_12 17 rfl rfl)
theorem dJ17_fixAfterDeletion_304 : decode cJ17_fixAfterDeletion 304 = .ok (.invokestatic 294, 3) := dk_184 1 38 (dk_at dksJ17_fixAfterDeletion_12 18 rfl rfl)
theorem dJ17_fixAfterDeletion_307 : decode cJ17_fixAfterDeletion 307 = .ok (.invokestatic 303, 3) := dk_184 1 47 (dk_at dksJ17_fixAfterDeletion_12 21 rfl rfl)
theorem dJ17_fixAfterDeletion_310 : decode cJ17_fixAfterDeletion 310 = .ok (.invokestatic 307, 3) := dk_184 1 51 (dk_at dksJ17_fixAfterDeletion_13 0 rfl rfl)
theorem dJ17_fixAfterDeletion_313 : decode cJ17_fixAfterDeletion 313 = .ok (.aload_n 1, 1) := dk_43 (dk_at dksJ17_fixAfterDeletion_13 3 rfl rfl)
theorem dJ17_fixAfterDeletion_314 : decode cJ17_fixAfterDeletion 314 = .ok (.invokestatic 294, 3) := dk_184 1 38 (dk_at dksJ17_fixAfterDeletion_13 4 rfl rfl)
theorem dJ17_fixAfterDeletion_317 : decode cJ17_fixAfterDeletion 317 = .ok (.iconst 1, 1) := dk_4 (dk_at dksJ17_fixAfterDeletion_13 7 rfl rfl)
theorem dJ17_fixAfterDeletion_318 : decode cJ17_fixAfterDeletion 318 = .ok (.invokestatic 307, 3) := dk_184 1 51 (dk_at dksJ17_fixAfterDeletion_13 8 rfl rfl)
theorem dJ17_fixAfterDeletion_321 : decode cJ17_fixAfterDeletion 321 = .ok (.aload_n 2, 1) := dk_44 (dk_at dksJ17_fixAfterDeletion_13 11 rfl rfl)
theorem dJ17_fixAfterDeletion_322 : decode cJ17_fixAfterDeletion 322 = .ok (.invokestatic 297, 3) := dk_184 1 41 (dk_at dksJ17_fixAfterDeletion_13 12 rfl rfl)
theorem dJ17_fixAfterDeletion_325 : decode cJ17_fixAfterDeletion 325 = .ok (.iconst 1, 1) := dk_4 (dk_at dksJ17_fixAfterDeletion_13 15 rfl rfl)
theorem dJ17_fixAfterDeletion_326 : decode cJ17_fixAfterDeletion 326 = .ok (.invokestatic 307, 3) := dk_184 1 51 (dk_at dksJ17_fixAfterDeletion_13 16 rfl rfl)
theorem dJ17_fixAfterDeletion_329 : decode cJ17_fixAfterDeletion 329 = .ok (.aload_n 0, 1) := dk_42 (dk_at dksJ17_fixAfterDeletion_13 19 rfl rfl)
theorem dJ17_fixAfterDeletion_330 : decode cJ17_fixAfterDeletion 330 = .ok (.aload_n 1, 1) := dk_43 (dk_at dksJ17_fixAfterDeletion_13 20 rfl rfl)
theorem dJ17_fixAfterDeletion_331 : decode cJ17_fixAfterDeletion 331 = .ok (.invokestatic 294, 3) := dk_184 1 38 (dk_at dksJ17_fixAfterDeletion_13 21 rfl rfl)
theorem dJ17_fixAfterDeletion_334 : decode cJ17_fixAfterDeletion 334 = .ok (.invokevirtual 314, 3) := dk_182 1 58 (dk_at dksJ17_fixAfterDeletion_14 0 rfl rfl)
theorem dJ17_fixAfterDeletion_337 : decode cJ17_fixAfterDeletion 337 = .ok (.aload_n 0, 1) := dk_42 (dk_at dksJ17_fixAfterDeletion_14 3 rfl rfl)
theorem dJ17_fixAfterDeletion_338 : decode cJ17_fixAfterDeletion 338 = .ok (.getfield 101, 3) := dk_180 0 101 (dk_at dksJ17_fixAfterDeletion_14 4 rfl rfl)
theorem dJ17_fixAfterDeletion_341 : decode cJ17_fixAfterDeletion 341 = .ok (.astore_n 1, 1) := dk_76 (dk_at dksJ17_fixAfterDeletion_14 7 rfl rfl)
theorem dJ17_fixAfterDeletion_342 : decode cJ17_fixAfterDeletion 342 = .ok (.goto (-342), 3) := dk_167 254 170 (dk_at dksJ17_fixAfterDeletion_14 8 rfl rfl)
theorem dJ17_fixAfterDeletion_345 : decode cJ17_fixAfterDeletion 345 = .ok (.aload_n 1, 1) := dk_43 (dk_at dksJ17_fixAfterDeletion_14 11 rfl rfl)
theorem dJ17_fixAfterDeletion_346 : decode cJ17_fixAfterDeletion 346 = .ok (.iconst 1, 1) := dk_4 (dk_at dksJ17_fixAfterDeletion_14 12 rfl rfl)
theorem dJ17_fixAfterDeletion_347 : decode cJ17_fixAfterDeletion 347 = .ok (.invokestatic 307, 3) := dk_184 1 51 (dk_at dksJ17_fixAfterDeletion_14 13 rfl rfl)
theorem dJ17_fixAfterDeletion_350 : decode cJ17_fixAfterDeletion 350 = .ok (.return_, 1) := dk_177 (dk_at dksJ17_fixAfterDeletion_14 16 rfl rfl)
abbrev cJ17_clear : ByteArray := prog_66_method_35_code
def yJ17_clear : MethodName := ⟨RJ17, "clear", "()V"⟩
def dkwJ17_clear_0 : List UInt8 := [42, 89, 180, 0, 13, 4, 96, 181, 0, 13, 42, 3, 181, 0, 7, 42, 1, 181, 0, 101, 177]
abbrev dktJ17_clear_0 : List UInt8 := dkwJ17_clear_0 ++ []
theorem dksJ17_clear_0 : cJ17_clear.data.toList.drop 0 = dktJ17_clear_0 := by decide +kernel
theorem dJ17_clear_0 : decode cJ17_clear 0 = .ok (.aload_n 0, 1) := dk_42 (dk_at dksJ17_clear_0 0 rfl rfl)
theorem dJ17_clear_1 : decode cJ17_clear 1 = .ok (.dup, 1) := dk_89 (dk_at dksJ17_clear_0 1 rfl rfl)
theorem dJ17_clear_2 : decode cJ17_clear 2 = .ok (.getfield 13, 3) := dk_180 0 13 (dk_at dksJ17_clear_0 2 rfl rfl)
theorem dJ17_clear_5 : decode cJ17_clear 5 = .ok (.iconst 1, 1) := dk_4 (dk_at dksJ17_clear_0 5 rfl rfl)
theorem dJ17_clear_6 : decode cJ17_clear 6 = .ok (.iadd, 1) := dk_96 (dk_at dksJ17_clear_0 6 rfl rfl)
theorem dJ17_clear_7 : decode cJ17_clear 7 = .ok (.putfield 13, 3) := dk_181 0 13 (dk_at dksJ17_clear_0 7 rfl rfl)
theorem dJ17_clear_10 : decode cJ17_clear 10 = .ok (.aload_n 0, 1) := dk_42 (dk_at dksJ17_clear_0 10 rfl rfl)
theorem dJ17_clear_11 : decode cJ17_clear 11 = .ok (.iconst 0, 1) := dk_3 (dk_at dksJ17_clear_0 11 rfl rfl)
theorem dJ17_clear_12 : decode cJ17_clear 12 = .ok (.putfield 7, 3) := dk_181 0 7 (dk_at dksJ17_clear_0 12 rfl rfl)
theorem dJ17_clear_15 : decode cJ17_clear 15 = .ok (.aload_n 0, 1) := dk_42 (dk_at dksJ17_clear_0 15 rfl rfl)
theorem dJ17_clear_16 : decode cJ17_clear 16 = .ok (.aconst_null, 1) := dk_1 (dk_at dksJ17_clear_0 16 rfl rfl)
theorem dJ17_clear_17 : decode cJ17_clear 17 = .ok (.putfield 101, 3) := dk_181 0 101 (dk_at dksJ17_clear_0 17 rfl rfl)
theorem dJ17_clear_20 : decode cJ17_clear 20 = .ok (.return_, 1) := dk_177 (dk_at dksJ17_clear_0 20 rfl rfl)
abbrev cJ17_get : ByteArray := prog_66_method_8_code
def yJ17_get : MethodName := ⟨RJ17, "get", "(Ljava/lang/Object;)Ljava/lang/Object;"⟩
def dkwJ17_get_0 : List UInt8 := [42, 43, 182, 0, 50, 77, 44, 199, 0, 7, 1, 167, 0, 7, 44, 180, 0, 58, 176]
abbrev dktJ17_get_0 : List UInt8 := dkwJ17_get_0 ++ []
theorem dksJ17_get_0 : cJ17_get.data.toList.drop 0 = dktJ17_get_0 := by decide +kernel
theorem dJ17_get_0 : decode cJ17_get 0 = .ok (.aload_n 0, 1) := dk_42 (dk_at dksJ17_get_0 0 rfl rfl)
theorem dJ17_get_1 : decode cJ17_get 1 = .ok (.aload_n 1, 1) := dk_43 (dk_at dksJ17_get_0 1 rfl rfl)
theorem dJ17_get_2 : decode cJ17_get 2 = .ok (.invokevirtual 50, 3) := dk_182 0 50 (dk_at dksJ17_get_0 2 rfl rfl)
theorem dJ17_get_5 : decode cJ17_get 5 = .ok (.astore_n 2, 1) := dk_77 (dk_at dksJ17_get_0 5 rfl rfl)
theorem dJ17_get_6 : decode cJ17_get 6 = .ok (.aload_n 2, 1) := dk_44 (dk_at dksJ17_get_0 6 rfl rfl)
theorem dJ17_get_7 : decode cJ17_get 7 = .ok (.ifnonnull 7, 3) := dk_199 0 7 (dk_at dksJ17_get_0 7 rfl rfl)
theorem dJ17_get_10 : decode cJ17_get 10 = .ok (.aconst_null, 1) := dk_1 (dk_at dksJ17_get_0 10 rfl rfl)
theorem dJ17_get_11 : decode cJ17_get 11 = .ok (.goto 7, 3) := dk_167 0 7 (dk_at dksJ17_get_0 11 rfl rfl)
theorem dJ17_get_14 : decode cJ17_get 14 = .ok (.aload_n 2, 1) := dk_44 (dk_at dksJ17_get_0 14 rfl rfl)
theorem dJ17_get_15 : decode cJ17_get 15 = .ok (.getfield 58, 3) := dk_180 0 58 (dk_at dksJ17_get_0 15 rfl rfl)
theorem dJ17_get_18 : decode cJ17_get 18 = .ok (.areturn, 1) := dk_176 (dk_at dksJ17_get_0 18 rfl rfl)
abbrev cJ17_containsKey : ByteArray := prog_66_method_6_code
def yJ17_containsKey : MethodName := ⟨RJ17, "containsKey", "(Ljava/lang/Object;)Z"⟩
def dkwJ17_containsKey_0 : List UInt8 := [42, 43, 182, 0, 50, 198, 0, 7, 4, 167, 0, 4, 3, 172]
abbrev dktJ17_containsKey_0 : List UInt8 := dkwJ17_containsKey_0 ++ []
theorem dksJ17_containsKey_0 : cJ17_containsKey.data.toList.drop 0 = dktJ17_containsKey_0 := by decide +kernel
theorem dJ17_containsKey_0 : decode cJ17_containsKey 0 = .ok (.aload_n 0, 1) := dk_42 (dk_at dksJ17_containsKey_0 0 rfl rfl)
theorem dJ17_containsKey_1 : decode cJ17_containsKey 1 = .ok (.aload_n 1, 1) := dk_43 (dk_at dksJ17_containsKey_0 1 rfl rfl)
theorem dJ17_containsKey_2 : decode cJ17_containsKey 2 = .ok (.invokevirtual 50, 3) := dk_182 0 50 (dk_at dksJ17_containsKey_0 2 rfl rfl)
theorem dJ17_containsKey_5 : decode cJ17_containsKey 5 = .ok (.ifnull 7, 3) := dk_198 0 7 (dk_at dksJ17_containsKey_0 5 rfl rfl)
theorem dJ17_containsKey_8 : decode cJ17_containsKey 8 = .ok (.iconst 1, 1) := dk_4 (dk_at dksJ17_containsKey_0 8 rfl rfl)
theorem dJ17_containsKey_9 : decode cJ17_containsKey 9 = .ok (.goto 4, 3) := dk_167 0 4 (dk_at dksJ17_containsKey_0 9 rfl rfl)
theorem dJ17_containsKey_12 : decode cJ17_containsKey 12 = .ok (.iconst 0, 1) := dk_3 (dk_at dksJ17_containsKey_0 12 rfl rfl)
theorem dJ17_containsKey_13 : decode cJ17_containsKey 13 = .ok (.ireturn, 1) := dk_172 (dk_at dksJ17_containsKey_0 13 rfl rfl)
theorem q213 : (Jvm.Cond.initialized "java/util/TreeMap") ∈ lw_all := lw_g (lw_at lw_m1 28 rfl) rfl
theorem q350 : (Jvm.Cond.selects "java/util/TreeMap" ({ cls := "java/lang/Object", name := "getClass", desc := "()Ljava/lang/Class;" } : Jvm.MethodName) ({ cls := "java/lang/Object", name := "getClass", desc := "()Ljava/lang/Class;" } : Jvm.MethodName)) ∈ lw_all := lw_g (lw_at lw_m1 165 rfl) rfl
theorem q1059 : (Jvm.Cond.instantiable "java/util/TreeMap" (9 : Nat)) ∈ lw_all := lw_g (lw_at lw_m4 154 rfl) rfl
theorem q1061 : (Jvm.Cond.instanceMethod ({ cls := "java/util/TreeMap", name := "<init>", desc := "()V" } : Jvm.MethodName)) ∈ lw_all := lw_g (lw_at lw_m4 156 rfl) rfl
theorem q1062 : (Jvm.Cond.code ({ cls := "java/util/TreeMap", name := "<init>", desc := "()V" } : Jvm.MethodName) prog_66_method_1_code (1 : Nat) (Option.none : Option Jvm.ClassFile.FieldType)) ∈ lw_all := lw_g (lw_at lw_m4 157 rfl) rfl
theorem q1063 : (Jvm.Cond.methodLink "java/util/TreeMap" (1 : Nat) ({ cls := "java/util/AbstractMap", name := "<init>", desc := "()V" } : Jvm.MethodName)) ∈ lw_all := lw_g (lw_at lw_m4 158 rfl) rfl
theorem q1067 : (Jvm.Cond.fieldLink "java/util/TreeMap" (16 : Nat) "java/util/TreeMap" "comparator" "Ljava/util/Comparator;") ∈ lw_all := lw_g (lw_at lw_m4 162 rfl) rfl
theorem q1068 : (Jvm.Cond.fieldLink "java/util/TreeMap" (101 : Nat) "java/util/TreeMap" "root" "Ljava/util/TreeMap$Entry;") ∈ lw_all := lw_g (lw_at lw_m4 163 rfl) rfl
theorem q1069 : (Jvm.Cond.fieldLink "java/util/TreeMap" (7 : Nat) "java/util/TreeMap" "size" "I") ∈ lw_all := lw_g (lw_at lw_m4 164 rfl) rfl
theorem q1070 : (Jvm.Cond.fieldLink "java/util/TreeMap" (13 : Nat) "java/util/TreeMap" "modCount" "I") ∈ lw_all := lw_g (lw_at lw_m4 165 rfl) rfl
theorem q1072 : (Jvm.Cond.fieldLink "java/util/TreeMap" (188 : Nat) "java/util/TreeMap" "entrySet" "Ljava/util/TreeMap$EntrySet;") ∈ lw_all := lw_g (lw_at lw_m4 167 rfl) rfl
theorem q1073 : (Jvm.Cond.fieldLink "java/util/TreeMap" (191 : Nat) "java/util/TreeMap" "navigableKeySet" "Ljava/util/TreeMap$KeySet;") ∈ lw_all := lw_g (lw_at lw_m4 168 rfl) rfl
theorem q1074 : (Jvm.Cond.laysFinal "java/util/TreeMap" "java/util/TreeMap" "comparator" "Ljava/util/Comparator;") ∈ lw_all := lw_g (lw_at lw_m4 169 rfl) rfl
theorem q1075 : (Jvm.Cond.soleField "java/util/TreeMap" "comparator") ∈ lw_all := lw_g (lw_at lw_m4 170 rfl) rfl
theorem q1076 : (Jvm.Cond.lays "java/util/TreeMap" "java/util/TreeMap" "root" "Ljava/util/TreeMap$Entry;") ∈ lw_all := lw_g (lw_at lw_m4 171 rfl) rfl
theorem q1077 : (Jvm.Cond.soleField "java/util/TreeMap" "root") ∈ lw_all := lw_g (lw_at lw_m4 172 rfl) rfl
theorem q1078 : (Jvm.Cond.lays "java/util/TreeMap" "java/util/TreeMap" "size" "I") ∈ lw_all := lw_g (lw_at lw_m4 173 rfl) rfl
theorem q1079 : (Jvm.Cond.soleField "java/util/TreeMap" "size") ∈ lw_all := lw_g (lw_at lw_m4 174 rfl) rfl
theorem q1080 : (Jvm.Cond.lays "java/util/TreeMap" "java/util/TreeMap" "modCount" "I") ∈ lw_all := lw_g (lw_at lw_m4 175 rfl) rfl
theorem q1081 : (Jvm.Cond.soleField "java/util/TreeMap" "modCount") ∈ lw_all := lw_g (lw_at lw_m4 176 rfl) rfl
theorem q1082 : (Jvm.Cond.lays "java/util/TreeMap" "java/util/TreeMap" "entrySet" "Ljava/util/TreeMap$EntrySet;") ∈ lw_all := lw_g (lw_at lw_m4 177 rfl) rfl
theorem q1083 : (Jvm.Cond.soleField "java/util/TreeMap" "entrySet") ∈ lw_all := lw_g (lw_at lw_m4 178 rfl) rfl
theorem q1084 : (Jvm.Cond.lays "java/util/TreeMap" "java/util/TreeMap" "navigableKeySet" "Ljava/util/TreeMap$KeySet;") ∈ lw_all := lw_g (lw_at lw_m4 179 rfl) rfl
theorem q1085 : (Jvm.Cond.soleField "java/util/TreeMap" "navigableKeySet") ∈ lw_all := lw_g (lw_at lw_m4 180 rfl) rfl
theorem q1086 : (Jvm.Cond.lays "java/util/TreeMap" "java/util/TreeMap" "descendingMap" "Ljava/util/NavigableMap;") ∈ lw_all := lw_g (lw_at lw_m4 181 rfl) rfl
theorem q1087 : (Jvm.Cond.soleField "java/util/TreeMap" "descendingMap") ∈ lw_all := lw_g (lw_at lw_m4 182 rfl) rfl
theorem q1088 : (Jvm.Cond.lays "java/util/TreeMap" "java/util/AbstractMap" "keySet" "Ljava/util/Set;") ∈ lw_all := lw_g (lw_at lw_m4 183 rfl) rfl
theorem q1090 : (Jvm.Cond.lays "java/util/TreeMap" "java/util/AbstractMap" "values" "Ljava/util/Collection;") ∈ lw_all := lw_g (lw_at lw_m4 185 rfl) rfl
theorem q1092 : (Jvm.Cond.superclass "java/util/TreeMap" "java/util/AbstractMap") ∈ lw_all := lw_g (lw_at lw_m4 187 rfl) rfl
theorem q1553 : (Jvm.Cond.instanceMethod ({ cls := "java/util/TreeMap", name := "size", desc := "()I" } : Jvm.MethodName)) ∈ lw_all := lw_g (lw_at lw_m6 168 rfl) rfl
theorem q1554 : (Jvm.Cond.selects "java/util/TreeMap" ({ cls := "java/util/TreeMap", name := "size", desc := "()I" } : Jvm.MethodName) ({ cls := "java/util/TreeMap", name := "size", desc := "()I" } : Jvm.MethodName)) ∈ lw_all := lw_g (lw_at lw_m6 169 rfl) rfl
theorem q1555 : (Jvm.Cond.code ({ cls := "java/util/TreeMap", name := "size", desc := "()I" } : Jvm.MethodName) prog_66_method_5_code (1 : Nat) (Option.some Jvm.ClassFile.FieldType.int)) ∈ lw_all := lw_g (lw_at lw_m6 170 rfl) rfl
theorem q1562 : (Jvm.Cond.castable "java/util/TreeMap" "java/util/NavigableMap") ∈ lw_tbl := lw_at lw_m6 177 rfl
theorem q1563 : (Jvm.Cond.selects "java/util/TreeMap" ({ cls := "java/util/Map", name := "size", desc := "()I" } : Jvm.MethodName) ({ cls := "java/util/TreeMap", name := "size", desc := "()I" } : Jvm.MethodName)) ∈ lw_all := lw_g (lw_at lw_m6 178 rfl) rfl
theorem q1564 : (Jvm.Cond.unhidden "java/util/TreeMap" "size" "()I") ∈ lw_tbl := lw_at lw_m6 179 rfl
theorem q1565 : (Jvm.Cond.publicMethod ({ cls := "java/util/TreeMap", name := "size", desc := "()I" } : Jvm.MethodName)) ∈ lw_tbl := lw_at lw_m6 180 rfl
theorem q1644 : (Jvm.Cond.static ({ cls := "java/util/TreeMap", name := "successor", desc := "(Ljava/util/TreeMap$Entry;)Ljava/util/TreeMap$Entry;" } : Jvm.MethodName)) ∈ lw_all := lw_g (lw_at lw_m7 19 rfl) rfl
theorem q1645 : (Jvm.Cond.code ({ cls := "java/util/TreeMap", name := "successor", desc := "(Ljava/util/TreeMap$Entry;)Ljava/util/TreeMap$Entry;" } : Jvm.MethodName) prog_66_method_74_code (3 : Nat) (Option.some (Jvm.ClassFile.FieldType.object "java/util/TreeMap$Entry"))) ∈ lw_all := lw_g (lw_at lw_m7 20 rfl) rfl
theorem q1714 : (Jvm.Cond.selects "java/util/TreeMap" ({ cls := "java/util/Map", name := "put", desc := "(Ljava/lang/Object;Ljava/lang/Object;)Ljava/lang/Object;" } : Jvm.MethodName) ({ cls := "java/util/TreeMap", name := "put", desc := "(Ljava/lang/Object;Ljava/lang/Object;)Ljava/lang/Object;" } : Jvm.MethodName)) ∈ lw_all := lw_g (lw_at lw_m7 89 rfl) rfl
theorem q1715 : (Jvm.Cond.unhidden "java/util/TreeMap" "put" "(Ljava/lang/Object;Ljava/lang/Object;)Ljava/lang/Object;") ∈ lw_tbl := lw_at lw_m7 90 rfl
theorem q1716 : (Jvm.Cond.instanceMethod ({ cls := "java/util/TreeMap", name := "put", desc := "(Ljava/lang/Object;Ljava/lang/Object;)Ljava/lang/Object;" } : Jvm.MethodName)) ∈ lw_all := lw_g (lw_at lw_m7 91 rfl) rfl
theorem q1717 : (Jvm.Cond.publicMethod ({ cls := "java/util/TreeMap", name := "put", desc := "(Ljava/lang/Object;Ljava/lang/Object;)Ljava/lang/Object;" } : Jvm.MethodName)) ∈ lw_tbl := lw_at lw_m7 92 rfl
theorem q1718 : (Jvm.Cond.code ({ cls := "java/util/TreeMap", name := "put", desc := "(Ljava/lang/Object;Ljava/lang/Object;)Ljava/lang/Object;" } : Jvm.MethodName) prog_66_method_21_code (3 : Nat) (Option.some (Jvm.ClassFile.FieldType.object "java/lang/Object"))) ∈ lw_all := lw_g (lw_at lw_m7 93 rfl) rfl
theorem q1719 : (Jvm.Cond.methodLink "java/util/TreeMap" (127 : Nat) ({ cls := "java/util/TreeMap", name := "put", desc := "(Ljava/lang/Object;Ljava/lang/Object;Z)Ljava/lang/Object;" } : Jvm.MethodName)) ∈ lw_all := lw_g (lw_at lw_m7 94 rfl) rfl
theorem q1720 : (Jvm.Cond.privateMethod ({ cls := "java/util/TreeMap", name := "put", desc := "(Ljava/lang/Object;Ljava/lang/Object;Z)Ljava/lang/Object;" } : Jvm.MethodName)) ∈ lw_tbl := lw_at lw_m7 95 rfl
theorem q1721 : (Jvm.Cond.instanceMethod ({ cls := "java/util/TreeMap", name := "put", desc := "(Ljava/lang/Object;Ljava/lang/Object;Z)Ljava/lang/Object;" } : Jvm.MethodName)) ∈ lw_all := lw_g (lw_at lw_m7 96 rfl) rfl
theorem q1722 : (Jvm.Cond.code ({ cls := "java/util/TreeMap", name := "put", desc := "(Ljava/lang/Object;Ljava/lang/Object;Z)Ljava/lang/Object;" } : Jvm.MethodName) prog_66_method_31_code (10 : Nat) (Option.some (Jvm.ClassFile.FieldType.object "java/lang/Object"))) ∈ lw_all := lw_g (lw_at lw_m7 97 rfl) rfl
theorem q1723 : (Jvm.Cond.methodLink "java/util/TreeMap" (135 : Nat) ({ cls := "java/util/TreeMap", name := "addEntryToEmptyMap", desc := "(Ljava/lang/Object;Ljava/lang/Object;)V" } : Jvm.MethodName)) ∈ lw_all := lw_g (lw_at lw_m7 98 rfl) rfl
theorem q1724 : (Jvm.Cond.privateMethod ({ cls := "java/util/TreeMap", name := "addEntryToEmptyMap", desc := "(Ljava/lang/Object;Ljava/lang/Object;)V" } : Jvm.MethodName)) ∈ lw_tbl := lw_at lw_m7 99 rfl
theorem q1725 : (Jvm.Cond.instanceMethod ({ cls := "java/util/TreeMap", name := "addEntryToEmptyMap", desc := "(Ljava/lang/Object;Ljava/lang/Object;)V" } : Jvm.MethodName)) ∈ lw_all := lw_g (lw_at lw_m7 100 rfl) rfl
theorem q1726 : (Jvm.Cond.code ({ cls := "java/util/TreeMap", name := "addEntryToEmptyMap", desc := "(Ljava/lang/Object;Ljava/lang/Object;)V" } : Jvm.MethodName) prog_66_method_30_code (3 : Nat) (Option.none : Option Jvm.ClassFile.FieldType)) ∈ lw_all := lw_g (lw_at lw_m7 101 rfl) rfl
theorem q1727 : (Jvm.Cond.methodLink "java/util/TreeMap" (123 : Nat) ({ cls := "java/util/TreeMap", name := "compare", desc := "(Ljava/lang/Object;Ljava/lang/Object;)I" } : Jvm.MethodName)) ∈ lw_all := lw_g (lw_at lw_m7 102 rfl) rfl
theorem q1728 : (Jvm.Cond.instanceMethod ({ cls := "java/util/TreeMap", name := "compare", desc := "(Ljava/lang/Object;Ljava/lang/Object;)I" } : Jvm.MethodName)) ∈ lw_all := lw_g (lw_at lw_m7 103 rfl) rfl
theorem q1729 : (Jvm.Cond.selects "java/util/TreeMap" ({ cls := "java/util/TreeMap", name := "compare", desc := "(Ljava/lang/Object;Ljava/lang/Object;)I" } : Jvm.MethodName) ({ cls := "java/util/TreeMap", name := "compare", desc := "(Ljava/lang/Object;Ljava/lang/Object;)I" } : Jvm.MethodName)) ∈ lw_all := lw_g (lw_at lw_m7 104 rfl) rfl
theorem q1730 : (Jvm.Cond.code ({ cls := "java/util/TreeMap", name := "compare", desc := "(Ljava/lang/Object;Ljava/lang/Object;)I" } : Jvm.MethodName) prog_66_method_67_code (3 : Nat) (Option.some Jvm.ClassFile.FieldType.int)) ∈ lw_all := lw_g (lw_at lw_m7 105 rfl) rfl
theorem q1731 : (Jvm.Cond.classLink "java/util/TreeMap" (99 : Nat) "java/lang/Comparable") ∈ lw_all := lw_g (lw_at lw_m7 106 rfl) rfl
theorem q1732 : (Jvm.Cond.interfaceEntry "java/util/TreeMap" (107 : Nat)) ∈ lw_tbl := lw_at lw_m7 107 rfl
theorem q1733 : (Jvm.Cond.methodLink "java/util/TreeMap" (107 : Nat) ({ cls := "java/lang/Comparable", name := "compareTo", desc := "(Ljava/lang/Object;)I" } : Jvm.MethodName)) ∈ lw_all := lw_g (lw_at lw_m7 108 rfl) rfl
theorem q1734 : (Jvm.Cond.interfaceEntry "java/util/TreeMap" (117 : Nat)) ∈ lw_tbl := lw_at lw_m7 109 rfl
theorem q1735 : (Jvm.Cond.methodLink "java/util/TreeMap" (117 : Nat) ({ cls := "java/util/Comparator", name := "compare", desc := "(Ljava/lang/Object;Ljava/lang/Object;)I" } : Jvm.MethodName)) ∈ lw_all := lw_g (lw_at lw_m7 110 rfl) rfl
theorem q1736 : (Jvm.Cond.classLink "java/util/TreeMap" (59 : Nat) "java/util/TreeMap$Entry") ∈ lw_all := lw_g (lw_at lw_m7 111 rfl) rfl
theorem q1738 : (Jvm.Cond.methodLink "java/util/TreeMap" (167 : Nat) ({ cls := "java/util/TreeMap$Entry", name := "<init>", desc := "(Ljava/lang/Object;Ljava/lang/Object;Ljava/util/TreeMap$Entry;)V" } : Jvm.MethodName)) ∈ lw_all := lw_g (lw_at lw_m7 113 rfl) rfl
theorem q1744 : (Jvm.Cond.fieldLink "java/util/TreeMap" (105 : Nat) "java/util/TreeMap$Entry" "key" "Ljava/lang/Object;") ∈ lw_all := lw_g (lw_at lw_m7 119 rfl) rfl
theorem q1746 : (Jvm.Cond.fieldLink "java/util/TreeMap" (58 : Nat) "java/util/TreeMap$Entry" "value" "Ljava/lang/Object;") ∈ lw_all := lw_g (lw_at lw_m7 121 rfl) rfl
theorem q1747 : (Jvm.Cond.fieldLink "java/util/TreeMap" (111 : Nat) "java/util/TreeMap$Entry" "left" "Ljava/util/TreeMap$Entry;") ∈ lw_all := lw_g (lw_at lw_m7 122 rfl) rfl
theorem q1748 : (Jvm.Cond.fieldLink "java/util/TreeMap" (114 : Nat) "java/util/TreeMap$Entry" "right" "Ljava/util/TreeMap$Entry;") ∈ lw_all := lw_g (lw_at lw_m7 123 rfl) rfl
theorem q1750 : (Jvm.Cond.fieldLink "java/util/TreeMap" (124 : Nat) "java/util/TreeMap$Entry" "parent" "Ljava/util/TreeMap$Entry;") ∈ lw_all := lw_g (lw_at lw_m7 125 rfl) rfl
theorem q1752 : (Jvm.Cond.fieldLink "java/util/TreeMap" (290 : Nat) "java/util/TreeMap$Entry" "color" "Z") ∈ lw_all := lw_g (lw_at lw_m7 127 rfl) rfl
theorem q1766 : (Jvm.Cond.methodLink "java/util/TreeMap" (95 : Nat) ({ cls := "java/util/Objects", name := "requireNonNull", desc := "(Ljava/lang/Object;)Ljava/lang/Object;" } : Jvm.MethodName)) ∈ lw_all := lw_g (lw_at lw_m7 141 rfl) rfl
theorem q1769 : (Jvm.Cond.methodLink "java/util/TreeMap" (139 : Nat) ({ cls := "java/util/TreeMap", name := "addEntry", desc := "(Ljava/lang/Object;Ljava/lang/Object;Ljava/util/TreeMap$Entry;Z)V" } : Jvm.MethodName)) ∈ lw_all := lw_g (lw_at lw_m7 144 rfl) rfl
theorem q1770 : (Jvm.Cond.privateMethod ({ cls := "java/util/TreeMap", name := "addEntry", desc := "(Ljava/lang/Object;Ljava/lang/Object;Ljava/util/TreeMap$Entry;Z)V" } : Jvm.MethodName)) ∈ lw_tbl := lw_at lw_m7 145 rfl
theorem q1771 : (Jvm.Cond.instanceMethod ({ cls := "java/util/TreeMap", name := "addEntry", desc := "(Ljava/lang/Object;Ljava/lang/Object;Ljava/util/TreeMap$Entry;Z)V" } : Jvm.MethodName)) ∈ lw_all := lw_g (lw_at lw_m7 146 rfl) rfl
theorem q1772 : (Jvm.Cond.code ({ cls := "java/util/TreeMap", name := "addEntry", desc := "(Ljava/lang/Object;Ljava/lang/Object;Ljava/util/TreeMap$Entry;Z)V" } : Jvm.MethodName) prog_66_method_29_code (6 : Nat) (Option.none : Option Jvm.ClassFile.FieldType)) ∈ lw_all := lw_g (lw_at lw_m7 147 rfl) rfl
theorem q1773 : (Jvm.Cond.methodLink "java/util/TreeMap" (170 : Nat) ({ cls := "java/util/TreeMap", name := "fixAfterInsertion", desc := "(Ljava/util/TreeMap$Entry;)V" } : Jvm.MethodName)) ∈ lw_all := lw_g (lw_at lw_m7 148 rfl) rfl
theorem q1774 : (Jvm.Cond.privateMethod ({ cls := "java/util/TreeMap", name := "fixAfterInsertion", desc := "(Ljava/util/TreeMap$Entry;)V" } : Jvm.MethodName)) ∈ lw_tbl := lw_at lw_m7 149 rfl
theorem q1775 : (Jvm.Cond.instanceMethod ({ cls := "java/util/TreeMap", name := "fixAfterInsertion", desc := "(Ljava/util/TreeMap$Entry;)V" } : Jvm.MethodName)) ∈ lw_all := lw_g (lw_at lw_m7 150 rfl) rfl
theorem q1776 : (Jvm.Cond.code ({ cls := "java/util/TreeMap", name := "fixAfterInsertion", desc := "(Ljava/util/TreeMap$Entry;)V" } : Jvm.MethodName) prog_66_method_83_code (3 : Nat) (Option.none : Option Jvm.ClassFile.FieldType)) ∈ lw_all := lw_g (lw_at lw_m7 151 rfl) rfl
theorem q1777 : (Jvm.Cond.methodLink "java/util/TreeMap" (294 : Nat) ({ cls := "java/util/TreeMap", name := "parentOf", desc := "(Ljava/util/TreeMap$Entry;)Ljava/util/TreeMap$Entry;" } : Jvm.MethodName)) ∈ lw_all := lw_g (lw_at lw_m7 152 rfl) rfl
theorem q1778 : (Jvm.Cond.static ({ cls := "java/util/TreeMap", name := "parentOf", desc := "(Ljava/util/TreeMap$Entry;)Ljava/util/TreeMap$Entry;" } : Jvm.MethodName)) ∈ lw_all := lw_g (lw_at lw_m7 153 rfl) rfl
theorem q1779 : (Jvm.Cond.code ({ cls := "java/util/TreeMap", name := "parentOf", desc := "(Ljava/util/TreeMap$Entry;)Ljava/util/TreeMap$Entry;" } : Jvm.MethodName) prog_66_method_77_code (1 : Nat) (Option.some (Jvm.ClassFile.FieldType.object "java/util/TreeMap$Entry"))) ∈ lw_all := lw_g (lw_at lw_m7 154 rfl) rfl
theorem q1780 : (Jvm.Cond.methodLink "java/util/TreeMap" (297 : Nat) ({ cls := "java/util/TreeMap", name := "leftOf", desc := "(Ljava/util/TreeMap$Entry;)Ljava/util/TreeMap$Entry;" } : Jvm.MethodName)) ∈ lw_all := lw_g (lw_at lw_m7 155 rfl) rfl
theorem q1781 : (Jvm.Cond.static ({ cls := "java/util/TreeMap", name := "leftOf", desc := "(Ljava/util/TreeMap$Entry;)Ljava/util/TreeMap$Entry;" } : Jvm.MethodName)) ∈ lw_all := lw_g (lw_at lw_m7 156 rfl) rfl
theorem q1782 : (Jvm.Cond.code ({ cls := "java/util/TreeMap", name := "leftOf", desc := "(Ljava/util/TreeMap$Entry;)Ljava/util/TreeMap$Entry;" } : Jvm.MethodName) prog_66_method_79_code (1 : Nat) (Option.some (Jvm.ClassFile.FieldType.object "java/util/TreeMap$Entry"))) ∈ lw_all := lw_g (lw_at lw_m7 157 rfl) rfl
theorem q1783 : (Jvm.Cond.methodLink "java/util/TreeMap" (300 : Nat) ({ cls := "java/util/TreeMap", name := "rightOf", desc := "(Ljava/util/TreeMap$Entry;)Ljava/util/TreeMap$Entry;" } : Jvm.MethodName)) ∈ lw_all := lw_g (lw_at lw_m7 158 rfl) rfl
theorem q1784 : (Jvm.Cond.static ({ cls := "java/util/TreeMap", name := "rightOf", desc := "(Ljava/util/TreeMap$Entry;)Ljava/util/TreeMap$Entry;" } : Jvm.MethodName)) ∈ lw_all := lw_g (lw_at lw_m7 159 rfl) rfl
theorem q1785 : (Jvm.Cond.code ({ cls := "java/util/TreeMap", name := "rightOf", desc := "(Ljava/util/TreeMap$Entry;)Ljava/util/TreeMap$Entry;" } : Jvm.MethodName) prog_66_method_80_code (1 : Nat) (Option.some (Jvm.ClassFile.FieldType.object "java/util/TreeMap$Entry"))) ∈ lw_all := lw_g (lw_at lw_m7 160 rfl) rfl
theorem q1786 : (Jvm.Cond.methodLink "java/util/TreeMap" (303 : Nat) ({ cls := "java/util/TreeMap", name := "colorOf", desc := "(Ljava/util/TreeMap$Entry;)Z" } : Jvm.MethodName)) ∈ lw_all := lw_g (lw_at lw_m7 161 rfl) rfl
theorem q1787 : (Jvm.Cond.static ({ cls := "java/util/TreeMap", name := "colorOf", desc := "(Ljava/util/TreeMap$Entry;)Z" } : Jvm.MethodName)) ∈ lw_all := lw_g (lw_at lw_m7 162 rfl) rfl
theorem q1788 : (Jvm.Cond.code ({ cls := "java/util/TreeMap", name := "colorOf", desc := "(Ljava/util/TreeMap$Entry;)Z" } : Jvm.MethodName) prog_66_method_76_code (1 : Nat) (Option.some Jvm.ClassFile.FieldType.boolean)) ∈ lw_all := lw_g (lw_at lw_m7 163 rfl) rfl
theorem q1789 : (Jvm.Cond.methodLink "java/util/TreeMap" (307 : Nat) ({ cls := "java/util/TreeMap", name := "setColor", desc := "(Ljava/util/TreeMap$Entry;Z)V" } : Jvm.MethodName)) ∈ lw_all := lw_g (lw_at lw_m7 164 rfl) rfl
theorem q1790 : (Jvm.Cond.static ({ cls := "java/util/TreeMap", name := "setColor", desc := "(Ljava/util/TreeMap$Entry;Z)V" } : Jvm.MethodName)) ∈ lw_all := lw_g (lw_at lw_m7 165 rfl) rfl
theorem q1791 : (Jvm.Cond.code ({ cls := "java/util/TreeMap", name := "setColor", desc := "(Ljava/util/TreeMap$Entry;Z)V" } : Jvm.MethodName) prog_66_method_78_code (2 : Nat) (Option.none : Option Jvm.ClassFile.FieldType)) ∈ lw_all := lw_g (lw_at lw_m7 166 rfl) rfl
theorem q1792 : (Jvm.Cond.methodLink "java/util/TreeMap" (311 : Nat) ({ cls := "java/util/TreeMap", name := "rotateLeft", desc := "(Ljava/util/TreeMap$Entry;)V" } : Jvm.MethodName)) ∈ lw_all := lw_g (lw_at lw_m7 167 rfl) rfl
theorem q1793 : (Jvm.Cond.privateMethod ({ cls := "java/util/TreeMap", name := "rotateLeft", desc := "(Ljava/util/TreeMap$Entry;)V" } : Jvm.MethodName)) ∈ lw_tbl := lw_at lw_m7 168 rfl
theorem q1794 : (Jvm.Cond.instanceMethod ({ cls := "java/util/TreeMap", name := "rotateLeft", desc := "(Ljava/util/TreeMap$Entry;)V" } : Jvm.MethodName)) ∈ lw_all := lw_g (lw_at lw_m7 169 rfl) rfl
theorem q1795 : (Jvm.Cond.code ({ cls := "java/util/TreeMap", name := "rotateLeft", desc := "(Ljava/util/TreeMap$Entry;)V" } : Jvm.MethodName) prog_66_method_81_code (3 : Nat) (Option.none : Option Jvm.ClassFile.FieldType)) ∈ lw_all := lw_g (lw_at lw_m7 170 rfl) rfl
theorem q1796 : (Jvm.Cond.methodLink "java/util/TreeMap" (314 : Nat) ({ cls := "java/util/TreeMap", name := "rotateRight", desc := "(Ljava/util/TreeMap$Entry;)V" } : Jvm.MethodName)) ∈ lw_all := lw_g (lw_at lw_m7 171 rfl) rfl
theorem q1797 : (Jvm.Cond.privateMethod ({ cls := "java/util/TreeMap", name := "rotateRight", desc := "(Ljava/util/TreeMap$Entry;)V" } : Jvm.MethodName)) ∈ lw_tbl := lw_at lw_m7 172 rfl
theorem q1798 : (Jvm.Cond.instanceMethod ({ cls := "java/util/TreeMap", name := "rotateRight", desc := "(Ljava/util/TreeMap$Entry;)V" } : Jvm.MethodName)) ∈ lw_all := lw_g (lw_at lw_m7 173 rfl) rfl
theorem q1799 : (Jvm.Cond.code ({ cls := "java/util/TreeMap", name := "rotateRight", desc := "(Ljava/util/TreeMap$Entry;)V" } : Jvm.MethodName) prog_66_method_82_code (3 : Nat) (Option.none : Option Jvm.ClassFile.FieldType)) ∈ lw_all := lw_g (lw_at lw_m7 174 rfl) rfl
theorem q1807 : (Jvm.Cond.selects "java/util/TreeMap" ({ cls := "java/util/Map", name := "isEmpty", desc := "()Z" } : Jvm.MethodName) ({ cls := "java/util/AbstractMap", name := "isEmpty", desc := "()Z" } : Jvm.MethodName)) ∈ lw_all := lw_g (lw_at lw_m7 182 rfl) rfl
theorem q1808 : (Jvm.Cond.unhidden "java/util/TreeMap" "isEmpty" "()Z") ∈ lw_tbl := lw_at lw_m7 183 rfl
theorem q1815 : (Jvm.Cond.selects "java/util/TreeMap" ({ cls := "java/util/AbstractMap", name := "size", desc := "()I" } : Jvm.MethodName) ({ cls := "java/util/TreeMap", name := "size", desc := "()I" } : Jvm.MethodName)) ∈ lw_all := lw_g (lw_at lw_m7 190 rfl) rfl
theorem q1829 : (Jvm.Cond.selects "java/util/TreeMap" ({ cls := "java/util/NavigableMap", name := "navigableKeySet", desc := "()Ljava/util/NavigableSet;" } : Jvm.MethodName) ({ cls := "java/util/TreeMap", name := "navigableKeySet", desc := "()Ljava/util/NavigableSet;" } : Jvm.MethodName)) ∈ lw_all := lw_g (lw_at lw_m7 204 rfl) rfl
theorem q1830 : (Jvm.Cond.unhidden "java/util/TreeMap" "navigableKeySet" "()Ljava/util/NavigableSet;") ∈ lw_tbl := lw_at lw_m7 205 rfl
theorem q1831 : (Jvm.Cond.instanceMethod ({ cls := "java/util/TreeMap", name := "navigableKeySet", desc := "()Ljava/util/NavigableSet;" } : Jvm.MethodName)) ∈ lw_all := lw_g (lw_at lw_m7 206 rfl) rfl
theorem q1832 : (Jvm.Cond.publicMethod ({ cls := "java/util/TreeMap", name := "navigableKeySet", desc := "()Ljava/util/NavigableSet;" } : Jvm.MethodName)) ∈ lw_tbl := lw_at lw_m7 207 rfl
theorem q1833 : (Jvm.Cond.code ({ cls := "java/util/TreeMap", name := "navigableKeySet", desc := "()Ljava/util/NavigableSet;" } : Jvm.MethodName) prog_66_method_50_code (2 : Nat) (Option.some (Jvm.ClassFile.FieldType.object "java/util/NavigableSet"))) ∈ lw_all := lw_g (lw_at lw_m7 208 rfl) rfl
theorem q1834 : (Jvm.Cond.classLink "java/util/TreeMap" (222 : Nat) "java/util/TreeMap$KeySet") ∈ lw_all := lw_g (lw_at lw_m7 209 rfl) rfl
theorem q1836 : (Jvm.Cond.methodLink "java/util/TreeMap" (224 : Nat) ({ cls := "java/util/TreeMap$KeySet", name := "<init>", desc := "(Ljava/util/NavigableMap;)V" } : Jvm.MethodName)) ∈ lw_all := lw_g (lw_at lw_m7 211 rfl) rfl
theorem q1856 : (Jvm.Cond.instanceMethod ({ cls := "java/util/TreeMap", name := "keyIterator", desc := "()Ljava/util/Iterator;" } : Jvm.MethodName)) ∈ lw_all := lw_g (lw_at lw_m7 231 rfl) rfl
theorem q1857 : (Jvm.Cond.selects "java/util/TreeMap" ({ cls := "java/util/TreeMap", name := "keyIterator", desc := "()Ljava/util/Iterator;" } : Jvm.MethodName) ({ cls := "java/util/TreeMap", name := "keyIterator", desc := "()Ljava/util/Iterator;" } : Jvm.MethodName)) ∈ lw_all := lw_g (lw_at lw_m7 232 rfl) rfl
theorem q1858 : (Jvm.Cond.code ({ cls := "java/util/TreeMap", name := "keyIterator", desc := "()Ljava/util/Iterator;" } : Jvm.MethodName) prog_66_method_65_code (1 : Nat) (Option.some (Jvm.ClassFile.FieldType.object "java/util/Iterator"))) ∈ lw_all := lw_g (lw_at lw_m7 233 rfl) rfl
theorem q1859 : (Jvm.Cond.classLink "java/util/TreeMap" (269 : Nat) "java/util/TreeMap$KeyIterator") ∈ lw_all := lw_g (lw_at lw_m7 234 rfl) rfl
theorem q1861 : (Jvm.Cond.methodLink "java/util/TreeMap" (54 : Nat) ({ cls := "java/util/TreeMap", name := "getFirstEntry", desc := "()Ljava/util/TreeMap$Entry;" } : Jvm.MethodName)) ∈ lw_all := lw_g (lw_at lw_m7 236 rfl) rfl
theorem q1862 : (Jvm.Cond.instanceMethod ({ cls := "java/util/TreeMap", name := "getFirstEntry", desc := "()Ljava/util/TreeMap$Entry;" } : Jvm.MethodName)) ∈ lw_all := lw_g (lw_at lw_m7 237 rfl) rfl
theorem q1863 : (Jvm.Cond.selects "java/util/TreeMap" ({ cls := "java/util/TreeMap", name := "getFirstEntry", desc := "()Ljava/util/TreeMap$Entry;" } : Jvm.MethodName) ({ cls := "java/util/TreeMap", name := "getFirstEntry", desc := "()Ljava/util/TreeMap$Entry;" } : Jvm.MethodName)) ∈ lw_all := lw_g (lw_at lw_m7 238 rfl) rfl
theorem q1864 : (Jvm.Cond.code ({ cls := "java/util/TreeMap", name := "getFirstEntry", desc := "()Ljava/util/TreeMap$Entry;" } : Jvm.MethodName) prog_66_method_72_code (2 : Nat) (Option.some (Jvm.ClassFile.FieldType.object "java/util/TreeMap$Entry"))) ∈ lw_all := lw_g (lw_at lw_m7 239 rfl) rfl
theorem q1865 : (Jvm.Cond.methodLink "java/util/TreeMap" (271 : Nat) ({ cls := "java/util/TreeMap$KeyIterator", name := "<init>", desc := "(Ljava/util/TreeMap;Ljava/util/TreeMap$Entry;)V" } : Jvm.MethodName)) ∈ lw_all := lw_g (lw_at lw_m8 0 rfl) rfl
theorem q1909 : (Jvm.Cond.selects "java/util/TreeMap" ({ cls := "java/util/Map", name := "remove", desc := "(Ljava/lang/Object;)Ljava/lang/Object;" } : Jvm.MethodName) ({ cls := "java/util/TreeMap", name := "remove", desc := "(Ljava/lang/Object;)Ljava/lang/Object;" } : Jvm.MethodName)) ∈ lw_all := lw_g (lw_at lw_m8 44 rfl) rfl
theorem q1910 : (Jvm.Cond.unhidden "java/util/TreeMap" "remove" "(Ljava/lang/Object;)Ljava/lang/Object;") ∈ lw_tbl := lw_at lw_m8 45 rfl
theorem q1911 : (Jvm.Cond.instanceMethod ({ cls := "java/util/TreeMap", name := "remove", desc := "(Ljava/lang/Object;)Ljava/lang/Object;" } : Jvm.MethodName)) ∈ lw_all := lw_g (lw_at lw_m8 46 rfl) rfl
theorem q1912 : (Jvm.Cond.publicMethod ({ cls := "java/util/TreeMap", name := "remove", desc := "(Ljava/lang/Object;)Ljava/lang/Object;" } : Jvm.MethodName)) ∈ lw_tbl := lw_at lw_m8 47 rfl
theorem q1913 : (Jvm.Cond.code ({ cls := "java/util/TreeMap", name := "remove", desc := "(Ljava/lang/Object;)Ljava/lang/Object;" } : Jvm.MethodName) prog_66_method_34_code (4 : Nat) (Option.some (Jvm.ClassFile.FieldType.object "java/lang/Object"))) ∈ lw_all := lw_g (lw_at lw_m8 48 rfl) rfl
theorem q1914 : (Jvm.Cond.methodLink "java/util/TreeMap" (50 : Nat) ({ cls := "java/util/TreeMap", name := "getEntry", desc := "(Ljava/lang/Object;)Ljava/util/TreeMap$Entry;" } : Jvm.MethodName)) ∈ lw_all := lw_g (lw_at lw_m8 49 rfl) rfl
theorem q1915 : (Jvm.Cond.instanceMethod ({ cls := "java/util/TreeMap", name := "getEntry", desc := "(Ljava/lang/Object;)Ljava/util/TreeMap$Entry;" } : Jvm.MethodName)) ∈ lw_all := lw_g (lw_at lw_m8 50 rfl) rfl
theorem q1916 : (Jvm.Cond.selects "java/util/TreeMap" ({ cls := "java/util/TreeMap", name := "getEntry", desc := "(Ljava/lang/Object;)Ljava/util/TreeMap$Entry;" } : Jvm.MethodName) ({ cls := "java/util/TreeMap", name := "getEntry", desc := "(Ljava/lang/Object;)Ljava/util/TreeMap$Entry;" } : Jvm.MethodName)) ∈ lw_all := lw_g (lw_at lw_m8 51 rfl) rfl
theorem q1917 : (Jvm.Cond.code ({ cls := "java/util/TreeMap", name := "getEntry", desc := "(Ljava/lang/Object;)Ljava/util/TreeMap$Entry;" } : Jvm.MethodName) prog_66_method_15_code (5 : Nat) (Option.some (Jvm.ClassFile.FieldType.object "java/util/TreeMap$Entry"))) ∈ lw_all := lw_g (lw_at lw_m8 52 rfl) rfl
theorem q1918 : (Jvm.Cond.methodLink "java/util/TreeMap" (92 : Nat) ({ cls := "java/util/TreeMap", name := "getEntryUsingComparator", desc := "(Ljava/lang/Object;)Ljava/util/TreeMap$Entry;" } : Jvm.MethodName)) ∈ lw_all := lw_g (lw_at lw_m8 53 rfl) rfl
theorem q1919 : (Jvm.Cond.instanceMethod ({ cls := "java/util/TreeMap", name := "getEntryUsingComparator", desc := "(Ljava/lang/Object;)Ljava/util/TreeMap$Entry;" } : Jvm.MethodName)) ∈ lw_all := lw_g (lw_at lw_m8 54 rfl) rfl
theorem q1920 : (Jvm.Cond.selects "java/util/TreeMap" ({ cls := "java/util/TreeMap", name := "getEntryUsingComparator", desc := "(Ljava/lang/Object;)Ljava/util/TreeMap$Entry;" } : Jvm.MethodName) ({ cls := "java/util/TreeMap", name := "getEntryUsingComparator", desc := "(Ljava/lang/Object;)Ljava/util/TreeMap$Entry;" } : Jvm.MethodName)) ∈ lw_all := lw_g (lw_at lw_m8 55 rfl) rfl
theorem q1921 : (Jvm.Cond.code ({ cls := "java/util/TreeMap", name := "getEntryUsingComparator", desc := "(Ljava/lang/Object;)Ljava/util/TreeMap$Entry;" } : Jvm.MethodName) prog_66_method_16_code (6 : Nat) (Option.some (Jvm.ClassFile.FieldType.object "java/util/TreeMap$Entry"))) ∈ lw_all := lw_g (lw_at lw_m8 56 rfl) rfl
theorem q1922 : (Jvm.Cond.methodLink "java/util/TreeMap" (174 : Nat) ({ cls := "java/util/TreeMap", name := "deleteEntry", desc := "(Ljava/util/TreeMap$Entry;)V" } : Jvm.MethodName)) ∈ lw_all := lw_g (lw_at lw_m8 57 rfl) rfl
theorem q1923 : (Jvm.Cond.privateMethod ({ cls := "java/util/TreeMap", name := "deleteEntry", desc := "(Ljava/util/TreeMap$Entry;)V" } : Jvm.MethodName)) ∈ lw_tbl := lw_at lw_m8 58 rfl
theorem q1924 : (Jvm.Cond.instanceMethod ({ cls := "java/util/TreeMap", name := "deleteEntry", desc := "(Ljava/util/TreeMap$Entry;)V" } : Jvm.MethodName)) ∈ lw_all := lw_g (lw_at lw_m8 59 rfl) rfl
theorem q1925 : (Jvm.Cond.code ({ cls := "java/util/TreeMap", name := "deleteEntry", desc := "(Ljava/util/TreeMap$Entry;)V" } : Jvm.MethodName) prog_66_method_84_code (3 : Nat) (Option.none : Option Jvm.ClassFile.FieldType)) ∈ lw_all := lw_g (lw_at lw_m8 60 rfl) rfl
theorem q1926 : (Jvm.Cond.methodLink "java/util/TreeMap" (68 : Nat) ({ cls := "java/util/TreeMap", name := "successor", desc := "(Ljava/util/TreeMap$Entry;)Ljava/util/TreeMap$Entry;" } : Jvm.MethodName)) ∈ lw_all := lw_g (lw_at lw_m8 61 rfl) rfl
theorem q1927 : (Jvm.Cond.methodLink "java/util/TreeMap" (317 : Nat) ({ cls := "java/util/TreeMap", name := "fixAfterDeletion", desc := "(Ljava/util/TreeMap$Entry;)V" } : Jvm.MethodName)) ∈ lw_all := lw_g (lw_at lw_m8 62 rfl) rfl
theorem q1928 : (Jvm.Cond.privateMethod ({ cls := "java/util/TreeMap", name := "fixAfterDeletion", desc := "(Ljava/util/TreeMap$Entry;)V" } : Jvm.MethodName)) ∈ lw_tbl := lw_at lw_m8 63 rfl
theorem q1929 : (Jvm.Cond.instanceMethod ({ cls := "java/util/TreeMap", name := "fixAfterDeletion", desc := "(Ljava/util/TreeMap$Entry;)V" } : Jvm.MethodName)) ∈ lw_all := lw_g (lw_at lw_m8 64 rfl) rfl
theorem q1930 : (Jvm.Cond.code ({ cls := "java/util/TreeMap", name := "fixAfterDeletion", desc := "(Ljava/util/TreeMap$Entry;)V" } : Jvm.MethodName) prog_66_method_85_code (3 : Nat) (Option.none : Option Jvm.ClassFile.FieldType)) ∈ lw_all := lw_g (lw_at lw_m8 65 rfl) rfl
theorem q1964 : (Jvm.Cond.instanceMethod ({ cls := "java/util/TreeMap", name := "clear", desc := "()V" } : Jvm.MethodName)) ∈ lw_all := lw_g (lw_at lw_m8 99 rfl) rfl
theorem q1965 : (Jvm.Cond.selects "java/util/TreeMap" ({ cls := "java/util/TreeMap", name := "clear", desc := "()V" } : Jvm.MethodName) ({ cls := "java/util/TreeMap", name := "clear", desc := "()V" } : Jvm.MethodName)) ∈ lw_all := lw_g (lw_at lw_m8 100 rfl) rfl
theorem q1966 : (Jvm.Cond.code ({ cls := "java/util/TreeMap", name := "clear", desc := "()V" } : Jvm.MethodName) prog_66_method_35_code (1 : Nat) (Option.none : Option Jvm.ClassFile.FieldType)) ∈ lw_all := lw_g (lw_at lw_m8 101 rfl) rfl
theorem q2026 : (Jvm.Cond.instanceMethod ({ cls := "java/util/TreeMap", name := "get", desc := "(Ljava/lang/Object;)Ljava/lang/Object;" } : Jvm.MethodName)) ∈ lw_all := lw_g (lw_at lw_m8 161 rfl) rfl
theorem q2027 : (Jvm.Cond.selects "java/util/TreeMap" ({ cls := "java/util/TreeMap", name := "get", desc := "(Ljava/lang/Object;)Ljava/lang/Object;" } : Jvm.MethodName) ({ cls := "java/util/TreeMap", name := "get", desc := "(Ljava/lang/Object;)Ljava/lang/Object;" } : Jvm.MethodName)) ∈ lw_all := lw_g (lw_at lw_m8 162 rfl) rfl
theorem q2028 : (Jvm.Cond.code ({ cls := "java/util/TreeMap", name := "get", desc := "(Ljava/lang/Object;)Ljava/lang/Object;" } : Jvm.MethodName) prog_66_method_8_code (3 : Nat) (Option.some (Jvm.ClassFile.FieldType.object "java/lang/Object"))) ∈ lw_all := lw_g (lw_at lw_m8 163 rfl) rfl
theorem q2349 : (Jvm.Cond.selects "java/util/TreeMap" ({ cls := "java/util/Map", name := "containsKey", desc := "(Ljava/lang/Object;)Z" } : Jvm.MethodName) ({ cls := "java/util/TreeMap", name := "containsKey", desc := "(Ljava/lang/Object;)Z" } : Jvm.MethodName)) ∈ lw_all := lw_g (lw_at lw_m10 4 rfl) rfl
theorem q2350 : (Jvm.Cond.unhidden "java/util/TreeMap" "containsKey" "(Ljava/lang/Object;)Z") ∈ lw_tbl := lw_at lw_m10 5 rfl
theorem q2351 : (Jvm.Cond.instanceMethod ({ cls := "java/util/TreeMap", name := "containsKey", desc := "(Ljava/lang/Object;)Z" } : Jvm.MethodName)) ∈ lw_all := lw_g (lw_at lw_m10 6 rfl) rfl
theorem q2352 : (Jvm.Cond.publicMethod ({ cls := "java/util/TreeMap", name := "containsKey", desc := "(Ljava/lang/Object;)Z" } : Jvm.MethodName)) ∈ lw_tbl := lw_at lw_m10 7 rfl
theorem q2353 : (Jvm.Cond.code ({ cls := "java/util/TreeMap", name := "containsKey", desc := "(Ljava/lang/Object;)Z" } : Jvm.MethodName) prog_66_method_6_code (2 : Nat) (Option.some Jvm.ClassFile.FieldType.boolean)) ∈ lw_all := lw_g (lw_at lw_m10 8 rfl) rfl
theorem q3106 : (Jvm.Cond.selects "java/util/TreeMap" ({ cls := "java/util/TreeMap", name := "put", desc := "(Ljava/lang/Object;Ljava/lang/Object;)Ljava/lang/Object;" } : Jvm.MethodName) ({ cls := "java/util/TreeMap", name := "put", desc := "(Ljava/lang/Object;Ljava/lang/Object;)Ljava/lang/Object;" } : Jvm.MethodName)) ∈ lw_all := lw_g (lw_at lw_m13 41 rfl) rfl
theorem q3127 : (Jvm.Cond.castable "java/util/TreeMap" "java/lang/Object") ∈ lw_tbl := lw_at lw_m13 62 rfl
theorem in_J17 : ∀ w ∈ wsJ170, w ∈ lw_all := lw_in wsJ170 [1088, 1090, 1074, 1076, 1078, 1080, 1082, 1084, 1086] (by decide +kernel) (by decide +kernel)
/-! java/lang/Integer -/
set_option maxRecDepth 100000
def RJ18 : String := "java/lang/Integer"
def TJ18 : u_T := fun k => match k with
  | _ => ("java/lang/Integer", "value", "I", true)
def tyJ18 : Nat → FieldType := fun k => match k with
  | _ => .int
abbrev wsJ180 : List Cond := u_ws RJ18 TJ18 1
theorem nmJ18 : ∀ a, a < 1 → ∀ b, b < 1 → a ≠ b → (TJ18 a).2.1 ≠ (TJ18 b).2.1 := by decide +kernel
theorem tyJ18_ok : ∀ k, k < 1 → parseFieldDescriptor (TJ18 k).2.2.1 = some (tyJ18 k) := by decide +kernel
abbrev cJ18_numberOfTrailingZeros : ByteArray := prog_26_method_48_code
def yJ18_numberOfTrailingZeros : MethodName := ⟨RJ18, "numberOfTrailingZeros", "(I)I"⟩
def dkwJ18_numberOfTrailingZeros_3 : List UInt8 := [5, 124, 59, 27, 26, 4, 124, 96, 172]
abbrev dktJ18_numberOfTrailingZeros_3 : List UInt8 := dkwJ18_numberOfTrailingZeros_3 ++ []
def dkwJ18_numberOfTrailingZeros_2 : List UInt8 := [124, 59, 26, 16, 16, 164, 0, 10, 132, 1, 4, 26, 7, 124, 59, 26, 7, 164, 0, 10, 132, 1, 2, 26]
abbrev dktJ18_numberOfTrailingZeros_2 : List UInt8 := dkwJ18_numberOfTrailingZeros_2 ++ dktJ18_numberOfTrailingZeros_3
def dkwJ18_numberOfTrailingZeros_1 : List UInt8 := [164, 0, 11, 132, 1, 16, 26, 16, 16, 124, 59, 26, 17, 1, 0, 164, 0, 11, 132, 1, 8, 26, 16, 8]
abbrev dktJ18_numberOfTrailingZeros_1 : List UInt8 := dkwJ18_numberOfTrailingZeros_1 ++ dktJ18_numberOfTrailingZeros_2
def dkwJ18_numberOfTrailingZeros_0 : List UInt8 := [26, 2, 130, 26, 4, 100, 126, 59, 26, 157, 0, 8, 26, 16, 32, 126, 172, 4, 60, 26, 19, 1, 8]
abbrev dktJ18_numberOfTrailingZeros_0 : List UInt8 := dkwJ18_numberOfTrailingZeros_0 ++ dktJ18_numberOfTrailingZeros_1
theorem dksJ18_numberOfTrailingZeros_0 : cJ18_numberOfTrailingZeros.data.toList.drop 0 = dktJ18_numberOfTrailingZeros_0 := by decide +kernel
theorem dksJ18_numberOfTrailingZeros_1 : cJ18_numberOfTrailingZeros.data.toList.drop 23 = dktJ18_numberOfTrailingZeros_1 := dk_seg dksJ18_numberOfTrailingZeros_0 23 rfl rfl
theorem dksJ18_numberOfTrailingZeros_2 : cJ18_numberOfTrailingZeros.data.toList.drop 47 = dktJ18_numberOfTrailingZeros_2 := dk_seg dksJ18_numberOfTrailingZeros_1 24 rfl rfl
theorem dksJ18_numberOfTrailingZeros_3 : cJ18_numberOfTrailingZeros.data.toList.drop 71 = dktJ18_numberOfTrailingZeros_3 := dk_seg dksJ18_numberOfTrailingZeros_2 24 rfl rfl
theorem dJ18_numberOfTrailingZeros_0 : decode cJ18_numberOfTrailingZeros 0 = .ok (.iload_n 0, 1) := dk_26 (dk_at dksJ18_numberOfTrailingZeros_0 0 rfl rfl)
theorem dJ18_numberOfTrailingZeros_1 : decode cJ18_numberOfTrailingZeros 1 = .ok (.iconst (-1), 1) := dk_2 (dk_at dksJ18_numberOfTrailingZeros_0 1 rfl rfl)
theorem dJ18_numberOfTrailingZeros_2 : decode cJ18_numberOfTrailingZeros 2 = .ok (.ixor, 1) := dk_130 (dk_at dksJ18_numberOfTrailingZeros_0 2 rfl rfl)
theorem dJ18_numberOfTrailingZeros_3 : decode cJ18_numberOfTrailingZeros 3 = .ok (.iload_n 0, 1) := dk_26 (dk_at dksJ18_numberOfTrailingZeros_0 3 rfl rfl)
theorem dJ18_numberOfTrailingZeros_4 : decode cJ18_numberOfTrailingZeros 4 = .ok (.iconst 1, 1) := dk_4 (dk_at dksJ18_numberOfTrailingZeros_0 4 rfl rfl)
theorem dJ18_numberOfTrailingZeros_5 : decode cJ18_numberOfTrailingZeros 5 = .ok (.isub, 1) := dk_100 (dk_at dksJ18_numberOfTrailingZeros_0 5 rfl rfl)
theorem dJ18_numberOfTrailingZeros_6 : decode cJ18_numberOfTrailingZeros 6 = .ok (.iand, 1) := dk_126 (dk_at dksJ18_numberOfTrailingZeros_0 6 rfl rfl)
theorem dJ18_numberOfTrailingZeros_7 : decode cJ18_numberOfTrailingZeros 7 = .ok (.istore_n 0, 1) := dk_59 (dk_at dksJ18_numberOfTrailingZeros_0 7 rfl rfl)
theorem dJ18_numberOfTrailingZeros_8 : decode cJ18_numberOfTrailingZeros 8 = .ok (.iload_n 0, 1) := dk_26 (dk_at dksJ18_numberOfTrailingZeros_0 8 rfl rfl)
theorem dJ18_numberOfTrailingZeros_9 : decode cJ18_numberOfTrailingZeros 9 = .ok (.ifCond .gt 8, 3) := dk_157 0 8 (dk_at dksJ18_numberOfTrailingZeros_0 9 rfl rfl)
theorem dJ18_numberOfTrailingZeros_12 : decode cJ18_numberOfTrailingZeros 12 = .ok (.iload_n 0, 1) := dk_26 (dk_at dksJ18_numberOfTrailingZeros_0 12 rfl rfl)
theorem dJ18_numberOfTrailingZeros_13 : decode cJ18_numberOfTrailingZeros 13 = .ok (.bipush 32, 2) := dk_16 32 (dk_at dksJ18_numberOfTrailingZeros_0 13 rfl rfl)
theorem dJ18_numberOfTrailingZeros_15 : decode cJ18_numberOfTrailingZeros 15 = .ok (.iand, 1) := dk_126 (dk_at dksJ18_numberOfTrailingZeros_0 15 rfl rfl)
theorem dJ18_numberOfTrailingZeros_16 : decode cJ18_numberOfTrailingZeros 16 = .ok (.ireturn, 1) := dk_172 (dk_at dksJ18_numberOfTrailingZeros_0 16 rfl rfl)
theorem dJ18_numberOfTrailingZeros_17 : decode cJ18_numberOfTrailingZeros 17 = .ok (.iconst 1, 1) := dk_4 (dk_at dksJ18_numberOfTrailingZeros_0 17 rfl rfl)
theorem dJ18_numberOfTrailingZeros_18 : decode cJ18_numberOfTrailingZeros 18 = .ok (.istore_n 1, 1) := dk_60 (dk_at dksJ18_numberOfTrailingZeros_0 18 rfl rfl)
theorem dJ18_numberOfTrailingZeros_19 : decode cJ18_numberOfTrailingZeros 19 = .ok (.iload_n 0, 1) := dk_26 (dk_at dksJ18_numberOfTrailingZeros_0 19 rfl rfl)
theorem dJ18_numberOfTrailingZeros_20 : decode cJ18_numberOfTrailingZeros 20 = .ok (.ldc_w 264, 3) := dk_19 1 8 (dk_at dksJ18_numberOfTrailingZeros_0 20 rfl rfl)
theorem dJ18_numberOfTrailingZeros_23 : decode cJ18_numberOfTrailingZeros 23 = .ok (.if_icmp .le 11, 3) := dk_164 0 11 (dk_at dksJ18_numberOfTrailingZeros_1 0 rfl rfl)
theorem dJ18_numberOfTrailingZeros_26 : decode cJ18_numberOfTrailingZeros 26 = .ok (.iinc 1 16, 3) := dk_132 1 16 (dk_at dksJ18_numberOfTrailingZeros_1 3 rfl rfl)
theorem dJ18_numberOfTrailingZeros_29 : decode cJ18_numberOfTrailingZeros 29 = .ok (.iload_n 0, 1) := dk_26 (dk_at dksJ18_numberOfTrailingZeros_1 6 rfl rfl)
theorem dJ18_numberOfTrailingZeros_30 : decode cJ18_numberOfTrailingZeros 30 = .ok (.bipush 16, 2) := dk_16 16 (dk_at dksJ18_numberOfTrailingZeros_1 7 rfl rfl)
theorem dJ18_numberOfTrailingZeros_32 : decode cJ18_numberOfTrailingZeros 32 = .ok (.iushr, 1) := dk_124 (dk_at dksJ18_numberOfTrailingZeros_1 9 rfl rfl)
theorem dJ18_numberOfTrailingZeros_33 : decode cJ18_numberOfTrailingZeros 33 = .ok (.istore_n 0, 1) := dk_59 (dk_at dksJ18_numberOfTrailingZeros_1 10 rfl rfl)
theorem dJ18_numberOfTrailingZeros_34 : decode cJ18_numberOfTrailingZeros 34 = .ok (.iload_n 0, 1) := dk_26 (dk_at dksJ18_numberOfTrailingZeros_1 11 rfl rfl)
theorem dJ18_numberOfTrailingZeros_35 : decode cJ18_numberOfTrailingZeros 35 = .ok (.sipush 256, 3) := dk_17 1 0 (dk_at dksJ18_numberOfTrailingZeros_1 12 rfl rfl)
theorem dJ18_numberOfTrailingZeros_38 : decode cJ18_numberOfTrailingZeros 38 = .ok (.if_icmp .le 11, 3) := dk_164 0 11 (dk_at dksJ18_numberOfTrailingZeros_1 15 rfl rfl)
theorem dJ18_numberOfTrailingZeros_41 : decode cJ18_numberOfTrailingZeros 41 = .ok (.iinc 1 8, 3) := dk_132 1 8 (dk_at dksJ18_numberOfTrailingZeros_1 18 rfl rfl)
theorem dJ18_numberOfTrailingZeros_44 : decode cJ18_numberOfTrailingZeros 44 = .ok (.iload_n 0, 1) := dk_26 (dk_at dksJ18_numberOfTrailingZeros_1 21 rfl rfl)
theorem dJ18_numberOfTrailingZeros_45 : decode cJ18_numberOfTrailingZeros 45 = .ok (.bipush 8, 2) := dk_16 8 (dk_at dksJ18_numberOfTrailingZeros_1 22 rfl rfl)
theorem dJ18_numberOfTrailingZeros_47 : decode cJ18_numberOfTrailingZeros 47 = .ok (.iushr, 1) := dk_124 (dk_at dksJ18_numberOfTrailingZeros_2 0 rfl rfl)
theorem dJ18_numberOfTrailingZeros_48 : decode cJ18_numberOfTrailingZeros 48 = .ok (.istore_n 0, 1) := dk_59 (dk_at dksJ18_numberOfTrailingZeros_2 1 rfl rfl)
theorem dJ18_numberOfTrailingZeros_49 : decode cJ18_numberOfTrailingZeros 49 = .ok (.iload_n 0, 1) := dk_26 (dk_at dksJ18_numberOfTrailingZeros_2 2 rfl rfl)
theorem dJ18_numberOfTrailingZeros_50 : decode cJ18_numberOfTrailingZeros 50 = .ok (.bipush 16, 2) := dk_16 16 (dk_at dksJ18_numberOfTrailingZeros_2 3 rfl rfl)
theorem dJ18_numberOfTrailingZeros_52 : decode cJ18_numberOfTrailingZeros 52 = .ok (.if_icmp .le 10, 3) := dk_164 0 10 (dk_at dksJ18_numberOfTrailingZeros_2 5 rfl rfl)
theorem dJ18_numberOfTrailingZeros_55 : decode cJ18_numberOfTrailingZeros 55 = .ok (.iinc 1 4, 3) := dk_132 1 4 (dk_at dksJ18_numberOfTrailingZeros_2 8 rfl rfl)
theorem dJ18_numberOfTrailingZeros_58 : decode cJ18_numberOfTrailingZeros 58 = .ok (.iload_n 0, 1) := dk_26 (dk_at dksJ18_numberOfTrailingZeros_2 11 rfl rfl)
theorem dJ18_numberOfTrailingZeros_59 : decode cJ18_numberOfTrailingZeros 59 = .ok (.iconst 4, 1) := dk_7 (dk_at dksJ18_numberOfTrailingZeros_2 12 rfl rfl)
theorem dJ18_numberOfTrailingZeros_60 : decode cJ18_numberOfTrailingZeros 60 = .ok (.iushr, 1) := dk_124 (dk_at dksJ18_numberOfTrailingZeros_2 13 rfl rfl)
theorem dJ18_numberOfTrailingZeros_61 : decode cJ18_numberOfTrailingZeros 61 = .ok (.istore_n 0, 1) := dk_59 (dk_at dksJ18_numberOfTrailingZeros_2 14 rfl rfl)
theorem dJ18_numberOfTrailingZeros_62 : decode cJ18_numberOfTrailingZeros 62 = .ok (.iload_n 0, 1) := dk_26 (dk_at dksJ18_numberOfTrailingZeros_2 15 rfl rfl)
theorem dJ18_numberOfTrailingZeros_63 : decode cJ18_numberOfTrailingZeros 63 = .ok (.iconst 4, 1) := dk_7 (dk_at dksJ18_numberOfTrailingZeros_2 16 rfl rfl)
theorem dJ18_numberOfTrailingZeros_64 : decode cJ18_numberOfTrailingZeros 64 = .ok (.if_icmp .le 10, 3) := dk_164 0 10 (dk_at dksJ18_numberOfTrailingZeros_2 17 rfl rfl)
theorem dJ18_numberOfTrailingZeros_67 : decode cJ18_numberOfTrailingZeros 67 = .ok (.iinc 1 2, 3) := dk_132 1 2 (dk_at dksJ18_numberOfTrailingZeros_2 20 rfl rfl)
theorem dJ18_numberOfTrailingZeros_70 : decode cJ18_numberOfTrailingZeros 70 = .ok (.iload_n 0, 1) := dk_26 (dk_at dksJ18_numberOfTrailingZeros_2 23 rfl rfl)
theorem dJ18_numberOfTrailingZeros_71 : decode cJ18_numberOfTrailingZeros 71 = .ok (.iconst 2, 1) := dk_5 (dk_at dksJ18_numberOfTrailingZeros_3 0 rfl rfl)
theorem dJ18_numberOfTrailingZeros_72 : decode cJ18_numberOfTrailingZeros 72 = .ok (.iushr, 1) := dk_124 (dk_at dksJ18_numberOfTrailingZeros_3 1 rfl rfl)
theorem dJ18_numberOfTrailingZeros_73 : decode cJ18_numberOfTrailingZeros 73 = .ok (.istore_n 0, 1) := dk_59 (dk_at dksJ18_numberOfTrailingZeros_3 2 rfl rfl)
theorem dJ18_numberOfTrailingZeros_74 : decode cJ18_numberOfTrailingZeros 74 = .ok (.iload_n 1, 1) := dk_27 (dk_at dksJ18_numberOfTrailingZeros_3 3 rfl rfl)
theorem dJ18_numberOfTrailingZeros_75 : decode cJ18_numberOfTrailingZeros 75 = .ok (.iload_n 0, 1) := dk_26 (dk_at dksJ18_numberOfTrailingZeros_3 4 rfl rfl)
theorem dJ18_numberOfTrailingZeros_76 : decode cJ18_numberOfTrailingZeros 76 = .ok (.iconst 1, 1) := dk_4 (dk_at dksJ18_numberOfTrailingZeros_3 5 rfl rfl)
theorem dJ18_numberOfTrailingZeros_77 : decode cJ18_numberOfTrailingZeros 77 = .ok (.iushr, 1) := dk_124 (dk_at dksJ18_numberOfTrailingZeros_3 6 rfl rfl)
theorem dJ18_numberOfTrailingZeros_78 : decode cJ18_numberOfTrailingZeros 78 = .ok (.iadd, 1) := dk_96 (dk_at dksJ18_numberOfTrailingZeros_3 7 rfl rfl)
theorem dJ18_numberOfTrailingZeros_79 : decode cJ18_numberOfTrailingZeros 79 = .ok (.ireturn, 1) := dk_172 (dk_at dksJ18_numberOfTrailingZeros_3 8 rfl rfl)
abbrev cJ18_compareTo : ByteArray := prog_26_method_63_code
def yJ18_compareTo : MethodName := ⟨RJ18, "compareTo", "(Ljava/lang/Object;)I"⟩
def dkwJ18_compareTo_0 : List UInt8 := [42, 43, 192, 0, 1, 182, 1, 28, 172]
abbrev dktJ18_compareTo_0 : List UInt8 := dkwJ18_compareTo_0 ++ []
theorem dksJ18_compareTo_0 : cJ18_compareTo.data.toList.drop 0 = dktJ18_compareTo_0 := by decide +kernel
theorem dJ18_compareTo_0 : decode cJ18_compareTo 0 = .ok (.aload_n 0, 1) := dk_42 (dk_at dksJ18_compareTo_0 0 rfl rfl)
theorem dJ18_compareTo_1 : decode cJ18_compareTo 1 = .ok (.aload_n 1, 1) := dk_43 (dk_at dksJ18_compareTo_0 1 rfl rfl)
theorem dJ18_compareTo_2 : decode cJ18_compareTo 2 = .ok (.checkcast 1, 3) := dk_192 0 1 (dk_at dksJ18_compareTo_0 2 rfl rfl)
theorem dJ18_compareTo_5 : decode cJ18_compareTo 5 = .ok (.invokevirtual 284, 3) := dk_182 1 28 (dk_at dksJ18_compareTo_0 5 rfl rfl)
theorem dJ18_compareTo_8 : decode cJ18_compareTo 8 = .ok (.ireturn, 1) := dk_172 (dk_at dksJ18_compareTo_0 8 rfl rfl)
abbrev cJ18_compareTo_2 : ByteArray := prog_26_method_39_code
def yJ18_compareTo_2 : MethodName := ⟨RJ18, "compareTo", "(Ljava/lang/Integer;)I"⟩
def dkwJ18_compareTo_2_0 : List UInt8 := [42, 180, 0, 205, 43, 180, 0, 205, 184, 1, 3, 172]
abbrev dktJ18_compareTo_2_0 : List UInt8 := dkwJ18_compareTo_2_0 ++ []
theorem dksJ18_compareTo_2_0 : cJ18_compareTo_2.data.toList.drop 0 = dktJ18_compareTo_2_0 := by decide +kernel
theorem dJ18_compareTo_2_0 : decode cJ18_compareTo_2 0 = .ok (.aload_n 0, 1) := dk_42 (dk_at dksJ18_compareTo_2_0 0 rfl rfl)
theorem dJ18_compareTo_2_1 : decode cJ18_compareTo_2 1 = .ok (.getfield 205, 3) := dk_180 0 205 (dk_at dksJ18_compareTo_2_0 1 rfl rfl)
theorem dJ18_compareTo_2_4 : decode cJ18_compareTo_2 4 = .ok (.aload_n 1, 1) := dk_43 (dk_at dksJ18_compareTo_2_0 4 rfl rfl)
theorem dJ18_compareTo_2_5 : decode cJ18_compareTo_2 5 = .ok (.getfield 205, 3) := dk_180 0 205 (dk_at dksJ18_compareTo_2_0 5 rfl rfl)
theorem dJ18_compareTo_2_8 : decode cJ18_compareTo_2 8 = .ok (.invokestatic 259, 3) := dk_184 1 3 (dk_at dksJ18_compareTo_2_0 8 rfl rfl)
theorem dJ18_compareTo_2_11 : decode cJ18_compareTo_2 11 = .ok (.ireturn, 1) := dk_172 (dk_at dksJ18_compareTo_2_0 11 rfl rfl)
abbrev cJ18_compare : ByteArray := prog_26_method_40_code
def yJ18_compare : MethodName := ⟨RJ18, "compare", "(II)I"⟩
def dkwJ18_compare_0 : List UInt8 := [26, 27, 162, 0, 7, 2, 167, 0, 13, 26, 27, 160, 0, 7, 3, 167, 0, 4, 4, 172]
abbrev dktJ18_compare_0 : List UInt8 := dkwJ18_compare_0 ++ []
theorem dksJ18_compare_0 : cJ18_compare.data.toList.drop 0 = dktJ18_compare_0 := by decide +kernel
theorem dJ18_compare_0 : decode cJ18_compare 0 = .ok (.iload_n 0, 1) := dk_26 (dk_at dksJ18_compare_0 0 rfl rfl)
theorem dJ18_compare_1 : decode cJ18_compare 1 = .ok (.iload_n 1, 1) := dk_27 (dk_at dksJ18_compare_0 1 rfl rfl)
theorem dJ18_compare_2 : decode cJ18_compare 2 = .ok (.if_icmp .ge 7, 3) := dk_162 0 7 (dk_at dksJ18_compare_0 2 rfl rfl)
theorem dJ18_compare_5 : decode cJ18_compare 5 = .ok (.iconst (-1), 1) := dk_2 (dk_at dksJ18_compare_0 5 rfl rfl)
theorem dJ18_compare_6 : decode cJ18_compare 6 = .ok (.goto 13, 3) := dk_167 0 13 (dk_at dksJ18_compare_0 6 rfl rfl)
theorem dJ18_compare_9 : decode cJ18_compare 9 = .ok (.iload_n 0, 1) := dk_26 (dk_at dksJ18_compare_0 9 rfl rfl)
theorem dJ18_compare_10 : decode cJ18_compare 10 = .ok (.iload_n 1, 1) := dk_27 (dk_at dksJ18_compare_0 10 rfl rfl)
theorem dJ18_compare_11 : decode cJ18_compare 11 = .ok (.if_icmp .ne 7, 3) := dk_160 0 7 (dk_at dksJ18_compare_0 11 rfl rfl)
theorem dJ18_compare_14 : decode cJ18_compare 14 = .ok (.iconst 0, 1) := dk_3 (dk_at dksJ18_compare_0 14 rfl rfl)
theorem dJ18_compare_15 : decode cJ18_compare 15 = .ok (.goto 4, 3) := dk_167 0 4 (dk_at dksJ18_compare_0 15 rfl rfl)
theorem dJ18_compare_18 : decode cJ18_compare 18 = .ok (.iconst 1, 1) := dk_4 (dk_at dksJ18_compare_0 18 rfl rfl)
theorem dJ18_compare_19 : decode cJ18_compare 19 = .ok (.ireturn, 1) := dk_172 (dk_at dksJ18_compare_0 19 rfl rfl)
abbrev cJ18_numberOfLeadingZeros : ByteArray := prog_26_method_47_code
def yJ18_numberOfLeadingZeros : MethodName := ⟨RJ18, "numberOfLeadingZeros", "(I)I"⟩
def dkwJ18_numberOfLeadingZeros_3 : List UInt8 := [5, 124, 59, 27, 26, 4, 124, 100, 172]
abbrev dktJ18_numberOfLeadingZeros_3 : List UInt8 := dkwJ18_numberOfLeadingZeros_3 ++ []
def dkwJ18_numberOfLeadingZeros_2 : List UInt8 := [124, 59, 26, 16, 16, 161, 0, 10, 132, 1, 252, 26, 7, 124, 59, 26, 7, 161, 0, 10, 132, 1, 254, 26]
abbrev dktJ18_numberOfLeadingZeros_2 : List UInt8 := dkwJ18_numberOfLeadingZeros_2 ++ dktJ18_numberOfLeadingZeros_3
def dkwJ18_numberOfLeadingZeros_1 : List UInt8 := [161, 0, 11, 132, 1, 240, 26, 16, 16, 124, 59, 26, 17, 1, 0, 161, 0, 11, 132, 1, 248, 26, 16, 8]
abbrev dktJ18_numberOfLeadingZeros_1 : List UInt8 := dkwJ18_numberOfLeadingZeros_1 ++ dktJ18_numberOfLeadingZeros_2
def dkwJ18_numberOfLeadingZeros_0 : List UInt8 := [26, 157, 0, 14, 26, 154, 0, 8, 16, 32, 167, 0, 4, 3, 172, 16, 31, 60, 26, 19, 1, 8]
abbrev dktJ18_numberOfLeadingZeros_0 : List UInt8 := dkwJ18_numberOfLeadingZeros_0 ++ dktJ18_numberOfLeadingZeros_1
theorem dksJ18_numberOfLeadingZeros_0 : cJ18_numberOfLeadingZeros.data.toList.drop 0 = dktJ18_numberOfLeadingZeros_0 := by decide +kernel
theorem dksJ18_numberOfLeadingZeros_1 : cJ18_numberOfLeadingZeros.data.toList.drop 22 = dktJ18_numberOfLeadingZeros_1 := dk_seg dksJ18_numberOfLeadingZeros_0 22 rfl rfl
theorem dksJ18_numberOfLeadingZeros_2 : cJ18_numberOfLeadingZeros.data.toList.drop 46 = dktJ18_numberOfLeadingZeros_2 := dk_seg dksJ18_numberOfLeadingZeros_1 24 rfl rfl
theorem dksJ18_numberOfLeadingZeros_3 : cJ18_numberOfLeadingZeros.data.toList.drop 70 = dktJ18_numberOfLeadingZeros_3 := dk_seg dksJ18_numberOfLeadingZeros_2 24 rfl rfl
theorem dJ18_numberOfLeadingZeros_0 : decode cJ18_numberOfLeadingZeros 0 = .ok (.iload_n 0, 1) := dk_26 (dk_at dksJ18_numberOfLeadingZeros_0 0 rfl rfl)
theorem dJ18_numberOfLeadingZeros_1 : decode cJ18_numberOfLeadingZeros 1 = .ok (.ifCond .gt 14, 3) := dk_157 0 14 (dk_at dksJ18_numberOfLeadingZeros_0 1 rfl rfl)
theorem dJ18_numberOfLeadingZeros_4 : decode cJ18_numberOfLeadingZeros 4 = .ok (.iload_n 0, 1) := dk_26 (dk_at dksJ18_numberOfLeadingZeros_0 4 rfl rfl)
theorem dJ18_numberOfLeadingZeros_5 : decode cJ18_numberOfLeadingZeros 5 = .ok (.ifCond .ne 8, 3) := dk_154 0 8 (dk_at dksJ18_numberOfLeadingZeros_0 5 rfl rfl)
theorem dJ18_numberOfLeadingZeros_8 : decode cJ18_numberOfLeadingZeros 8 = .ok (.bipush 32, 2) := dk_16 32 (dk_at dksJ18_numberOfLeadingZeros_0 8 rfl rfl)
theorem dJ18_numberOfLeadingZeros_10 : decode cJ18_numberOfLeadingZeros 10 = .ok (.goto 4, 3) := dk_167 0 4 (dk_at dksJ18_numberOfLeadingZeros_0 10 rfl rfl)
theorem dJ18_numberOfLeadingZeros_13 : decode cJ18_numberOfLeadingZeros 13 = .ok (.iconst 0, 1) := dk_3 (dk_at dksJ18_numberOfLeadingZeros_0 13 rfl rfl)
theorem dJ18_numberOfLeadingZeros_14 : decode cJ18_numberOfLeadingZeros 14 = .ok (.ireturn, 1) := dk_172 (dk_at dksJ18_numberOfLeadingZeros_0 14 rfl rfl)
theorem dJ18_numberOfLeadingZeros_15 : decode cJ18_numberOfLeadingZeros 15 = .ok (.bipush 31, 2) := dk_16 31 (dk_at dksJ18_numberOfLeadingZeros_0 15 rfl rfl)
theorem dJ18_numberOfLeadingZeros_17 : decode cJ18_numberOfLeadingZeros 17 = .ok (.istore_n 1, 1) := dk_60 (dk_at dksJ18_numberOfLeadingZeros_0 17 rfl rfl)
theorem dJ18_numberOfLeadingZeros_18 : decode cJ18_numberOfLeadingZeros 18 = .ok (.iload_n 0, 1) := dk_26 (dk_at dksJ18_numberOfLeadingZeros_0 18 rfl rfl)
theorem dJ18_numberOfLeadingZeros_19 : decode cJ18_numberOfLeadingZeros 19 = .ok (.ldc_w 264, 3) := dk_19 1 8 (dk_at dksJ18_numberOfLeadingZeros_0 19 rfl rfl)
theorem dJ18_numberOfLeadingZeros_22 : decode cJ18_numberOfLeadingZeros 22 = .ok (.if_icmp .lt 11, 3) := dk_161 0 11 (dk_at dksJ18_numberOfLeadingZeros_1 0 rfl rfl)
theorem dJ18_numberOfLeadingZeros_25 : decode cJ18_numberOfLeadingZeros 25 = .ok (.iinc 1 (-16), 3) := dk_132 1 240 (dk_at dksJ18_numberOfLeadingZeros_1 3 rfl rfl)
theorem dJ18_numberOfLeadingZeros_28 : decode cJ18_numberOfLeadingZeros 28 = .ok (.iload_n 0, 1) := dk_26 (dk_at dksJ18_numberOfLeadingZeros_1 6 rfl rfl)
theorem dJ18_numberOfLeadingZeros_29 : decode cJ18_numberOfLeadingZeros 29 = .ok (.bipush 16, 2) := dk_16 16 (dk_at dksJ18_numberOfLeadingZeros_1 7 rfl rfl)
theorem dJ18_numberOfLeadingZeros_31 : decode cJ18_numberOfLeadingZeros 31 = .ok (.iushr, 1) := dk_124 (dk_at dksJ18_numberOfLeadingZeros_1 9 rfl rfl)
theorem dJ18_numberOfLeadingZeros_32 : decode cJ18_numberOfLeadingZeros 32 = .ok (.istore_n 0, 1) := dk_59 (dk_at dksJ18_numberOfLeadingZeros_1 10 rfl rfl)
theorem dJ18_numberOfLeadingZeros_33 : decode cJ18_numberOfLeadingZeros 33 = .ok (.iload_n 0, 1) := dk_26 (dk_at dksJ18_numberOfLeadingZeros_1 11 rfl rfl)
theorem dJ18_numberOfLeadingZeros_34 : decode cJ18_numberOfLeadingZeros 34 = .ok (.sipush 256, 3) := dk_17 1 0 (dk_at dksJ18_numberOfLeadingZeros_1 12 rfl rfl)
theorem dJ18_numberOfLeadingZeros_37 : decode cJ18_numberOfLeadingZeros 37 = .ok (.if_icmp .lt 11, 3) := dk_161 0 11 (dk_at dksJ18_numberOfLeadingZeros_1 15 rfl rfl)
theorem dJ18_numberOfLeadingZeros_40 : decode cJ18_numberOfLeadingZeros 40 = .ok (.iinc 1 (-8), 3) := dk_132 1 248 (dk_at dksJ18_numberOfLeadingZeros_1 18 rfl rfl)
theorem dJ18_numberOfLeadingZeros_43 : decode cJ18_numberOfLeadingZeros 43 = .ok (.iload_n 0, 1) := dk_26 (dk_at dksJ18_numberOfLeadingZeros_1 21 rfl rfl)
theorem dJ18_numberOfLeadingZeros_44 : decode cJ18_numberOfLeadingZeros 44 = .ok (.bipush 8, 2) := dk_16 8 (dk_at dksJ18_numberOfLeadingZeros_1 22 rfl rfl)
theorem dJ18_numberOfLeadingZeros_46 : decode cJ18_numberOfLeadingZeros 46 = .ok (.iushr, 1) := dk_124 (dk_at dksJ18_numberOfLeadingZeros_2 0 rfl rfl)
theorem dJ18_numberOfLeadingZeros_47 : decode cJ18_numberOfLeadingZeros 47 = .ok (.istore_n 0, 1) := dk_59 (dk_at dksJ18_numberOfLeadingZeros_2 1 rfl rfl)
theorem dJ18_numberOfLeadingZeros_48 : decode cJ18_numberOfLeadingZeros 48 = .ok (.iload_n 0, 1) := dk_26 (dk_at dksJ18_numberOfLeadingZeros_2 2 rfl rfl)
theorem dJ18_numberOfLeadingZeros_49 : decode cJ18_numberOfLeadingZeros 49 = .ok (.bipush 16, 2) := dk_16 16 (dk_at dksJ18_numberOfLeadingZeros_2 3 rfl rfl)
theorem dJ18_numberOfLeadingZeros_51 : decode cJ18_numberOfLeadingZeros 51 = .ok (.if_icmp .lt 10, 3) := dk_161 0 10 (dk_at dksJ18_numberOfLeadingZeros_2 5 rfl rfl)
theorem dJ18_numberOfLeadingZeros_54 : decode cJ18_numberOfLeadingZeros 54 = .ok (.iinc 1 (-4), 3) := dk_132 1 252 (dk_at dksJ18_numberOfLeadingZeros_2 8 rfl rfl)
theorem dJ18_numberOfLeadingZeros_57 : decode cJ18_numberOfLeadingZeros 57 = .ok (.iload_n 0, 1) := dk_26 (dk_at dksJ18_numberOfLeadingZeros_2 11 rfl rfl)
theorem dJ18_numberOfLeadingZeros_58 : decode cJ18_numberOfLeadingZeros 58 = .ok (.iconst 4, 1) := dk_7 (dk_at dksJ18_numberOfLeadingZeros_2 12 rfl rfl)
theorem dJ18_numberOfLeadingZeros_59 : decode cJ18_numberOfLeadingZeros 59 = .ok (.iushr, 1) := dk_124 (dk_at dksJ18_numberOfLeadingZeros_2 13 rfl rfl)
theorem dJ18_numberOfLeadingZeros_60 : decode cJ18_numberOfLeadingZeros 60 = .ok (.istore_n 0, 1) := dk_59 (dk_at dksJ18_numberOfLeadingZeros_2 14 rfl rfl)
theorem dJ18_numberOfLeadingZeros_61 : decode cJ18_numberOfLeadingZeros 61 = .ok (.iload_n 0, 1) := dk_26 (dk_at dksJ18_numberOfLeadingZeros_2 15 rfl rfl)
theorem dJ18_numberOfLeadingZeros_62 : decode cJ18_numberOfLeadingZeros 62 = .ok (.iconst 4, 1) := dk_7 (dk_at dksJ18_numberOfLeadingZeros_2 16 rfl rfl)
theorem dJ18_numberOfLeadingZeros_63 : decode cJ18_numberOfLeadingZeros 63 = .ok (.if_icmp .lt 10, 3) := dk_161 0 10 (dk_at dksJ18_numberOfLeadingZeros_2 17 rfl rfl)
theorem dJ18_numberOfLeadingZeros_66 : decode cJ18_numberOfLeadingZeros 66 = .ok (.iinc 1 (-2), 3) := dk_132 1 254 (dk_at dksJ18_numberOfLeadingZeros_2 20 rfl rfl)
theorem dJ18_numberOfLeadingZeros_69 : decode cJ18_numberOfLeadingZeros 69 = .ok (.iload_n 0, 1) := dk_26 (dk_at dksJ18_numberOfLeadingZeros_2 23 rfl rfl)
theorem dJ18_numberOfLeadingZeros_70 : decode cJ18_numberOfLeadingZeros 70 = .ok (.iconst 2, 1) := dk_5 (dk_at dksJ18_numberOfLeadingZeros_3 0 rfl rfl)
theorem dJ18_numberOfLeadingZeros_71 : decode cJ18_numberOfLeadingZeros 71 = .ok (.iushr, 1) := dk_124 (dk_at dksJ18_numberOfLeadingZeros_3 1 rfl rfl)
theorem dJ18_numberOfLeadingZeros_72 : decode cJ18_numberOfLeadingZeros 72 = .ok (.istore_n 0, 1) := dk_59 (dk_at dksJ18_numberOfLeadingZeros_3 2 rfl rfl)
theorem dJ18_numberOfLeadingZeros_73 : decode cJ18_numberOfLeadingZeros 73 = .ok (.iload_n 1, 1) := dk_27 (dk_at dksJ18_numberOfLeadingZeros_3 3 rfl rfl)
theorem dJ18_numberOfLeadingZeros_74 : decode cJ18_numberOfLeadingZeros 74 = .ok (.iload_n 0, 1) := dk_26 (dk_at dksJ18_numberOfLeadingZeros_3 4 rfl rfl)
theorem dJ18_numberOfLeadingZeros_75 : decode cJ18_numberOfLeadingZeros 75 = .ok (.iconst 1, 1) := dk_4 (dk_at dksJ18_numberOfLeadingZeros_3 5 rfl rfl)
theorem dJ18_numberOfLeadingZeros_76 : decode cJ18_numberOfLeadingZeros 76 = .ok (.iushr, 1) := dk_124 (dk_at dksJ18_numberOfLeadingZeros_3 6 rfl rfl)
theorem dJ18_numberOfLeadingZeros_77 : decode cJ18_numberOfLeadingZeros 77 = .ok (.isub, 1) := dk_100 (dk_at dksJ18_numberOfLeadingZeros_3 7 rfl rfl)
theorem dJ18_numberOfLeadingZeros_78 : decode cJ18_numberOfLeadingZeros 78 = .ok (.ireturn, 1) := dk_172 (dk_at dksJ18_numberOfLeadingZeros_3 8 rfl rfl)
abbrev cJ18_valueOf : ByteArray := prog_26_method_22_code
def yJ18_valueOf : MethodName := ⟨RJ18, "valueOf", "(I)Ljava/lang/Integer;"⟩
def dkwJ18_valueOf_1 : List UInt8 := [187, 0, 1, 89, 26, 183, 0, 199, 176]
abbrev dktJ18_valueOf_1 : List UInt8 := dkwJ18_valueOf_1 ++ []
def dkwJ18_valueOf_0 : List UInt8 := [26, 16, 128, 161, 0, 20, 26, 178, 0, 191, 163, 0, 13, 178, 0, 195, 26, 17, 0, 128, 96, 50, 176]
abbrev dktJ18_valueOf_0 : List UInt8 := dkwJ18_valueOf_0 ++ dktJ18_valueOf_1
theorem dksJ18_valueOf_0 : cJ18_valueOf.data.toList.drop 0 = dktJ18_valueOf_0 := by decide +kernel
theorem dksJ18_valueOf_1 : cJ18_valueOf.data.toList.drop 23 = dktJ18_valueOf_1 := dk_seg dksJ18_valueOf_0 23 rfl rfl
theorem dJ18_valueOf_0 : decode cJ18_valueOf 0 = .ok (.iload_n 0, 1) := dk_26 (dk_at dksJ18_valueOf_0 0 rfl rfl)
theorem dJ18_valueOf_1 : decode cJ18_valueOf 1 = .ok (.bipush (-128), 2) := dk_16 128 (dk_at dksJ18_valueOf_0 1 rfl rfl)
theorem dJ18_valueOf_3 : decode cJ18_valueOf 3 = .ok (.if_icmp .lt 20, 3) := dk_161 0 20 (dk_at dksJ18_valueOf_0 3 rfl rfl)
theorem dJ18_valueOf_6 : decode cJ18_valueOf 6 = .ok (.iload_n 0, 1) := dk_26 (dk_at dksJ18_valueOf_0 6 rfl rfl)
theorem dJ18_valueOf_7 : decode cJ18_valueOf 7 = .ok (.getstatic 191, 3) := dk_178 0 191 (dk_at dksJ18_valueOf_0 7 rfl rfl)
theorem dJ18_valueOf_10 : decode cJ18_valueOf 10 = .ok (.if_icmp .gt 13, 3) := dk_163 0 13 (dk_at dksJ18_valueOf_0 10 rfl rfl)
theorem dJ18_valueOf_13 : decode cJ18_valueOf 13 = .ok (.getstatic 195, 3) := dk_178 0 195 (dk_at dksJ18_valueOf_0 13 rfl rfl)
theorem dJ18_valueOf_16 : decode cJ18_valueOf 16 = .ok (.iload_n 0, 1) := dk_26 (dk_at dksJ18_valueOf_0 16 rfl rfl)
theorem dJ18_valueOf_17 : decode cJ18_valueOf 17 = .ok (.sipush 128, 3) := dk_17 0 128 (dk_at dksJ18_valueOf_0 17 rfl rfl)
theorem dJ18_valueOf_20 : decode cJ18_valueOf 20 = .ok (.iadd, 1) := dk_96 (dk_at dksJ18_valueOf_0 20 rfl rfl)
theorem dJ18_valueOf_21 : decode cJ18_valueOf 21 = .ok (.aaload, 1) := dk_50 (dk_at dksJ18_valueOf_0 21 rfl rfl)
theorem dJ18_valueOf_22 : decode cJ18_valueOf 22 = .ok (.areturn, 1) := dk_176 (dk_at dksJ18_valueOf_0 22 rfl rfl)
theorem dJ18_valueOf_23 : decode cJ18_valueOf 23 = .ok (.new 1, 3) := dk_187 0 1 (dk_at dksJ18_valueOf_1 0 rfl rfl)
theorem dJ18_valueOf_26 : decode cJ18_valueOf 26 = .ok (.dup, 1) := dk_89 (dk_at dksJ18_valueOf_1 3 rfl rfl)
theorem dJ18_valueOf_27 : decode cJ18_valueOf 27 = .ok (.iload_n 0, 1) := dk_26 (dk_at dksJ18_valueOf_1 4 rfl rfl)
theorem dJ18_valueOf_28 : decode cJ18_valueOf 28 = .ok (.invokespecial 199, 3) := dk_183 0 199 (dk_at dksJ18_valueOf_1 5 rfl rfl)
theorem dJ18_valueOf_31 : decode cJ18_valueOf 31 = .ok (.areturn, 1) := dk_176 (dk_at dksJ18_valueOf_1 8 rfl rfl)
abbrev cJ18_init : ByteArray := prog_26_method_23_code
def yJ18_init : MethodName := ⟨RJ18, "<init>", "(I)V"⟩
def dkwJ18_init_0 : List UInt8 := [42, 183, 0, 202, 42, 27, 181, 0, 205, 177]
abbrev dktJ18_init_0 : List UInt8 := dkwJ18_init_0 ++ []
theorem dksJ18_init_0 : cJ18_init.data.toList.drop 0 = dktJ18_init_0 := by decide +kernel
theorem dJ18_init_0 : decode cJ18_init 0 = .ok (.aload_n 0, 1) := dk_42 (dk_at dksJ18_init_0 0 rfl rfl)
theorem dJ18_init_1 : decode cJ18_init 1 = .ok (.invokespecial 202, 3) := dk_183 0 202 (dk_at dksJ18_init_0 1 rfl rfl)
theorem dJ18_init_4 : decode cJ18_init 4 = .ok (.aload_n 0, 1) := dk_42 (dk_at dksJ18_init_0 4 rfl rfl)
theorem dJ18_init_5 : decode cJ18_init 5 = .ok (.iload_n 1, 1) := dk_27 (dk_at dksJ18_init_0 5 rfl rfl)
theorem dJ18_init_6 : decode cJ18_init 6 = .ok (.putfield 205, 3) := dk_181 0 205 (dk_at dksJ18_init_0 6 rfl rfl)
theorem dJ18_init_9 : decode cJ18_init 9 = .ok (.return_, 1) := dk_177 (dk_at dksJ18_init_0 9 rfl rfl)
abbrev cJ18_intValue : ByteArray := prog_26_method_27_code
def yJ18_intValue : MethodName := ⟨RJ18, "intValue", "()I"⟩
theorem dJ18_intValue_0 : decode cJ18_intValue 0 = .ok (.aload_n 0, 1) := by decide +kernel
theorem dJ18_intValue_1 : decode cJ18_intValue 1 = .ok (.getfield 205, 3) := by decide +kernel
theorem dJ18_intValue_4 : decode cJ18_intValue 4 = .ok (.ireturn, 1) := by decide +kernel
theorem q215 : (Jvm.Cond.initialized "java/lang/Integer") ∈ lw_all := lw_g (lw_at lw_m1 30 rfl) rfl
theorem q345 : (Jvm.Cond.selects "java/lang/Integer" ({ cls := "java/lang/Object", name := "getClass", desc := "()Ljava/lang/Class;" } : Jvm.MethodName) ({ cls := "java/lang/Object", name := "getClass", desc := "()Ljava/lang/Class;" } : Jvm.MethodName)) ∈ lw_all := lw_g (lw_at lw_m1 160 rfl) rfl
theorem q1146 : (Jvm.Cond.static ({ cls := "java/lang/Integer", name := "numberOfTrailingZeros", desc := "(I)I" } : Jvm.MethodName)) ∈ lw_all := lw_g (lw_at lw_m5 1 rfl) rfl
theorem q1147 : (Jvm.Cond.code ({ cls := "java/lang/Integer", name := "numberOfTrailingZeros", desc := "(I)I" } : Jvm.MethodName) prog_26_method_48_code (2 : Nat) (Option.some Jvm.ClassFile.FieldType.int)) ∈ lw_all := lw_g (lw_at lw_m5 2 rfl) rfl
theorem q1148 : (Jvm.Cond.constant "java/lang/Integer" (264 : Nat) (65536 : Int32)) ∈ lw_all := lw_g (lw_at lw_m5 3 rfl) rfl
theorem q1381 : (Jvm.Cond.castable "java/lang/Integer" "java/lang/Comparable") ∈ lw_tbl := lw_at lw_m5 236 rfl
theorem q1382 : (Jvm.Cond.selects "java/lang/Integer" ({ cls := "java/lang/Comparable", name := "compareTo", desc := "(Ljava/lang/Object;)I" } : Jvm.MethodName) ({ cls := "java/lang/Integer", name := "compareTo", desc := "(Ljava/lang/Object;)I" } : Jvm.MethodName)) ∈ lw_all := lw_g (lw_at lw_m5 237 rfl) rfl
theorem q1383 : (Jvm.Cond.unhidden "java/lang/Integer" "compareTo" "(Ljava/lang/Object;)I") ∈ lw_tbl := lw_at lw_m5 238 rfl
theorem q1384 : (Jvm.Cond.instanceMethod ({ cls := "java/lang/Integer", name := "compareTo", desc := "(Ljava/lang/Object;)I" } : Jvm.MethodName)) ∈ lw_all := lw_g (lw_at lw_m5 239 rfl) rfl
theorem q1385 : (Jvm.Cond.publicMethod ({ cls := "java/lang/Integer", name := "compareTo", desc := "(Ljava/lang/Object;)I" } : Jvm.MethodName)) ∈ lw_tbl := lw_at lw_m6 0 rfl
theorem q1386 : (Jvm.Cond.code ({ cls := "java/lang/Integer", name := "compareTo", desc := "(Ljava/lang/Object;)I" } : Jvm.MethodName) prog_26_method_63_code (2 : Nat) (Option.some Jvm.ClassFile.FieldType.int)) ∈ lw_all := lw_g (lw_at lw_m6 1 rfl) rfl
theorem q1387 : (Jvm.Cond.classLink "java/lang/Integer" (1 : Nat) "java/lang/Integer") ∈ lw_all := lw_g (lw_at lw_m6 2 rfl) rfl
theorem q1388 : (Jvm.Cond.methodLink "java/lang/Integer" (284 : Nat) ({ cls := "java/lang/Integer", name := "compareTo", desc := "(Ljava/lang/Integer;)I" } : Jvm.MethodName)) ∈ lw_all := lw_g (lw_at lw_m6 3 rfl) rfl
theorem q1389 : (Jvm.Cond.instanceMethod ({ cls := "java/lang/Integer", name := "compareTo", desc := "(Ljava/lang/Integer;)I" } : Jvm.MethodName)) ∈ lw_all := lw_g (lw_at lw_m6 4 rfl) rfl
theorem q1390 : (Jvm.Cond.selects "java/lang/Integer" ({ cls := "java/lang/Integer", name := "compareTo", desc := "(Ljava/lang/Integer;)I" } : Jvm.MethodName) ({ cls := "java/lang/Integer", name := "compareTo", desc := "(Ljava/lang/Integer;)I" } : Jvm.MethodName)) ∈ lw_all := lw_g (lw_at lw_m6 5 rfl) rfl
theorem q1391 : (Jvm.Cond.code ({ cls := "java/lang/Integer", name := "compareTo", desc := "(Ljava/lang/Integer;)I" } : Jvm.MethodName) prog_26_method_39_code (2 : Nat) (Option.some Jvm.ClassFile.FieldType.int)) ∈ lw_all := lw_g (lw_at lw_m6 6 rfl) rfl
theorem q1392 : (Jvm.Cond.methodLink "java/lang/Integer" (259 : Nat) ({ cls := "java/lang/Integer", name := "compare", desc := "(II)I" } : Jvm.MethodName)) ∈ lw_all := lw_g (lw_at lw_m6 7 rfl) rfl
theorem q1393 : (Jvm.Cond.static ({ cls := "java/lang/Integer", name := "compare", desc := "(II)I" } : Jvm.MethodName)) ∈ lw_all := lw_g (lw_at lw_m6 8 rfl) rfl
theorem q1394 : (Jvm.Cond.code ({ cls := "java/lang/Integer", name := "compare", desc := "(II)I" } : Jvm.MethodName) prog_26_method_40_code (2 : Nat) (Option.some Jvm.ClassFile.FieldType.int)) ∈ lw_all := lw_g (lw_at lw_m6 9 rfl) rfl
theorem q1485 : (Jvm.Cond.static ({ cls := "java/lang/Integer", name := "numberOfLeadingZeros", desc := "(I)I" } : Jvm.MethodName)) ∈ lw_all := lw_g (lw_at lw_m6 100 rfl) rfl
theorem q1486 : (Jvm.Cond.code ({ cls := "java/lang/Integer", name := "numberOfLeadingZeros", desc := "(I)I" } : Jvm.MethodName) prog_26_method_47_code (2 : Nat) (Option.some Jvm.ClassFile.FieldType.int)) ∈ lw_all := lw_g (lw_at lw_m6 101 rfl) rfl
theorem q1687 : (Jvm.Cond.static ({ cls := "java/lang/Integer", name := "valueOf", desc := "(I)Ljava/lang/Integer;" } : Jvm.MethodName)) ∈ lw_all := lw_g (lw_at lw_m7 62 rfl) rfl
theorem q1688 : (Jvm.Cond.code ({ cls := "java/lang/Integer", name := "valueOf", desc := "(I)Ljava/lang/Integer;" } : Jvm.MethodName) prog_26_method_22_code (1 : Nat) (Option.some (Jvm.ClassFile.FieldType.object "java/lang/Integer"))) ∈ lw_all := lw_g (lw_at lw_m7 63 rfl) rfl
theorem q1689 : (Jvm.Cond.fieldLink "java/lang/Integer" (191 : Nat) "java/lang/Integer$IntegerCache" "high" "I") ∈ lw_all := lw_g (lw_at lw_m7 64 rfl) rfl
theorem q1691 : (Jvm.Cond.fieldLink "java/lang/Integer" (195 : Nat) "java/lang/Integer$IntegerCache" "cache" "[Ljava/lang/Integer;") ∈ lw_all := lw_g (lw_at lw_m7 66 rfl) rfl
theorem q1693 : (Jvm.Cond.instantiable "java/lang/Integer" (1 : Nat)) ∈ lw_all := lw_g (lw_at lw_m7 68 rfl) rfl
theorem q1694 : (Jvm.Cond.methodLink "java/lang/Integer" (199 : Nat) ({ cls := "java/lang/Integer", name := "<init>", desc := "(I)V" } : Jvm.MethodName)) ∈ lw_all := lw_g (lw_at lw_m7 69 rfl) rfl
theorem q1695 : (Jvm.Cond.instanceMethod ({ cls := "java/lang/Integer", name := "<init>", desc := "(I)V" } : Jvm.MethodName)) ∈ lw_all := lw_g (lw_at lw_m7 70 rfl) rfl
theorem q1696 : (Jvm.Cond.code ({ cls := "java/lang/Integer", name := "<init>", desc := "(I)V" } : Jvm.MethodName) prog_26_method_23_code (2 : Nat) (Option.none : Option Jvm.ClassFile.FieldType)) ∈ lw_all := lw_g (lw_at lw_m7 71 rfl) rfl
theorem q1697 : (Jvm.Cond.methodLink "java/lang/Integer" (202 : Nat) ({ cls := "java/lang/Number", name := "<init>", desc := "()V" } : Jvm.MethodName)) ∈ lw_all := lw_g (lw_at lw_m7 72 rfl) rfl
theorem q1701 : (Jvm.Cond.fieldLink "java/lang/Integer" (205 : Nat) "java/lang/Integer" "value" "I") ∈ lw_all := lw_g (lw_at lw_m7 76 rfl) rfl
theorem q1702 : (Jvm.Cond.laysFinal "java/lang/Integer" "java/lang/Integer" "value" "I") ∈ lw_all := lw_g (lw_at lw_m7 77 rfl) rfl
theorem q1703 : (Jvm.Cond.soleField "java/lang/Integer" "value") ∈ lw_all := lw_g (lw_at lw_m7 78 rfl) rfl
theorem q1704 : (Jvm.Cond.superclass "java/lang/Integer" "java/lang/Number") ∈ lw_all := lw_g (lw_at lw_m7 79 rfl) rfl
theorem q1895 : (Jvm.Cond.instanceMethod ({ cls := "java/lang/Integer", name := "intValue", desc := "()I" } : Jvm.MethodName)) ∈ lw_all := lw_g (lw_at lw_m8 30 rfl) rfl
theorem q1896 : (Jvm.Cond.selects "java/lang/Integer" ({ cls := "java/lang/Integer", name := "intValue", desc := "()I" } : Jvm.MethodName) ({ cls := "java/lang/Integer", name := "intValue", desc := "()I" } : Jvm.MethodName)) ∈ lw_all := lw_g (lw_at lw_m8 31 rfl) rfl
theorem q1897 : (Jvm.Cond.code ({ cls := "java/lang/Integer", name := "intValue", desc := "()I" } : Jvm.MethodName) prog_26_method_27_code (1 : Nat) (Option.some Jvm.ClassFile.FieldType.int)) ∈ lw_all := lw_g (lw_at lw_m8 32 rfl) rfl
theorem q3135 : (Jvm.Cond.castable "java/lang/Integer" "java/lang/Object") ∈ lw_tbl := lw_at lw_m13 70 rfl
theorem in_J18 : ∀ w ∈ wsJ180, w ∈ lw_all := lw_in wsJ180 [1702] (by decide +kernel) (by decide +kernel)
/-! java/util/AbstractQueue -/
set_option maxRecDepth 100000
def RJ19 : String := "java/util/AbstractQueue"
abbrev cJ19_init : ByteArray := prog_42_method_1_code
def yJ19_init : MethodName := ⟨RJ19, "<init>", "()V"⟩
theorem dJ19_init_0 : decode cJ19_init 0 = .ok (.aload_n 0, 1) := by decide +kernel
theorem dJ19_init_1 : decode cJ19_init 1 = .ok (.invokespecial 1, 3) := by decide +kernel
theorem dJ19_init_4 : decode cJ19_init 4 = .ok (.return_, 1) := by decide +kernel
theorem q216 : (Jvm.Cond.initialized "java/util/AbstractQueue") ∈ lw_all := lw_g (lw_at lw_m1 31 rfl) rfl
theorem q1293 : (Jvm.Cond.instanceMethod ({ cls := "java/util/AbstractQueue", name := "<init>", desc := "()V" } : Jvm.MethodName)) ∈ lw_all := lw_g (lw_at lw_m5 148 rfl) rfl
theorem q1294 : (Jvm.Cond.code ({ cls := "java/util/AbstractQueue", name := "<init>", desc := "()V" } : Jvm.MethodName) prog_42_method_1_code (1 : Nat) (Option.none : Option Jvm.ClassFile.FieldType)) ∈ lw_all := lw_g (lw_at lw_m5 149 rfl) rfl
theorem q1295 : (Jvm.Cond.methodLink "java/util/AbstractQueue" (1 : Nat) ({ cls := "java/util/AbstractCollection", name := "<init>", desc := "()V" } : Jvm.MethodName)) ∈ lw_all := lw_g (lw_at lw_m5 150 rfl) rfl
/-! java/util/ArrayList -/
set_option maxRecDepth 100000
def RJ2 : String := "java/util/ArrayList"
def TJ2 : u_T := fun k => match k with
  | 0 => ("java/util/AbstractList", "modCount", "I", false)
  | 1 => ("java/util/ArrayList", "elementData", "[Ljava/lang/Object;", false)
  | _ => ("java/util/ArrayList", "size", "I", false)
def tyJ2 : Nat → FieldType := fun k => match k with
  | 0 => .int
  | 1 => .array (.object "java/lang/Object")
  | _ => .int
abbrev wsJ20 : List Cond := u_ws RJ2 TJ2 3
theorem nmJ2 : ∀ a, a < 3 → ∀ b, b < 3 → a ≠ b → (TJ2 a).2.1 ≠ (TJ2 b).2.1 := by decide +kernel
theorem tyJ2_ok : ∀ k, k < 3 → parseFieldDescriptor (TJ2 k).2.2.1 = some (tyJ2 k) := by decide +kernel
abbrev cJ2_init : ByteArray := prog_44_method_2_code
def yJ2_init : MethodName := ⟨RJ2, "<init>", "()V"⟩
def dkwJ2_init_0 : List UInt8 := [42, 183, 0, 1, 42, 178, 0, 39, 181, 0, 9, 177]
abbrev dktJ2_init_0 : List UInt8 := dkwJ2_init_0 ++ []
theorem dksJ2_init_0 : cJ2_init.data.toList.drop 0 = dktJ2_init_0 := by decide +kernel
theorem dJ2_init_0 : decode cJ2_init 0 = .ok (.aload_n 0, 1) := dk_42 (dk_at dksJ2_init_0 0 rfl rfl)
theorem dJ2_init_1 : decode cJ2_init 1 = .ok (.invokespecial 1, 3) := dk_183 0 1 (dk_at dksJ2_init_0 1 rfl rfl)
theorem dJ2_init_4 : decode cJ2_init 4 = .ok (.aload_n 0, 1) := dk_42 (dk_at dksJ2_init_0 4 rfl rfl)
theorem dJ2_init_5 : decode cJ2_init 5 = .ok (.getstatic 39, 3) := dk_178 0 39 (dk_at dksJ2_init_0 5 rfl rfl)
theorem dJ2_init_8 : decode cJ2_init 8 = .ok (.putfield 9, 3) := dk_181 0 9 (dk_at dksJ2_init_0 8 rfl rfl)
theorem dJ2_init_11 : decode cJ2_init 11 = .ok (.return_, 1) := dk_177 (dk_at dksJ2_init_0 11 rfl rfl)
abbrev cJ2_size : ByteArray := prog_44_method_8_code
def yJ2_size : MethodName := ⟨RJ2, "size", "()I"⟩
theorem dJ2_size_0 : decode cJ2_size 0 = .ok (.aload_n 0, 1) := by decide +kernel
theorem dJ2_size_1 : decode cJ2_size 1 = .ok (.getfield 48, 3) := by decide +kernel
theorem dJ2_size_4 : decode cJ2_size 4 = .ok (.ireturn, 1) := by decide +kernel
abbrev cJ2_get : ByteArray := prog_44_method_20_code
def yJ2_get : MethodName := ⟨RJ2, "get", "(I)Ljava/lang/Object;"⟩
def dkwJ2_get_0 : List UInt8 := [27, 42, 180, 0, 48, 184, 0, 118, 87, 42, 27, 182, 0, 123, 176]
abbrev dktJ2_get_0 : List UInt8 := dkwJ2_get_0 ++ []
theorem dksJ2_get_0 : cJ2_get.data.toList.drop 0 = dktJ2_get_0 := by decide +kernel
theorem dJ2_get_0 : decode cJ2_get 0 = .ok (.iload_n 1, 1) := dk_27 (dk_at dksJ2_get_0 0 rfl rfl)
theorem dJ2_get_1 : decode cJ2_get 1 = .ok (.aload_n 0, 1) := dk_42 (dk_at dksJ2_get_0 1 rfl rfl)
theorem dJ2_get_2 : decode cJ2_get 2 = .ok (.getfield 48, 3) := dk_180 0 48 (dk_at dksJ2_get_0 2 rfl rfl)
theorem dJ2_get_5 : decode cJ2_get 5 = .ok (.invokestatic 118, 3) := dk_184 0 118 (dk_at dksJ2_get_0 5 rfl rfl)
theorem dJ2_get_8 : decode cJ2_get 8 = .ok (.pop, 1) := dk_87 (dk_at dksJ2_get_0 8 rfl rfl)
theorem dJ2_get_9 : decode cJ2_get 9 = .ok (.aload_n 0, 1) := dk_42 (dk_at dksJ2_get_0 9 rfl rfl)
theorem dJ2_get_10 : decode cJ2_get 10 = .ok (.iload_n 1, 1) := dk_27 (dk_at dksJ2_get_0 10 rfl rfl)
theorem dJ2_get_11 : decode cJ2_get 11 = .ok (.invokevirtual 123, 3) := dk_182 0 123 (dk_at dksJ2_get_0 11 rfl rfl)
theorem dJ2_get_14 : decode cJ2_get 14 = .ok (.areturn, 1) := dk_176 (dk_at dksJ2_get_0 14 rfl rfl)
abbrev cJ2_elementData : ByteArray := prog_44_method_18_code
def yJ2_elementData : MethodName := ⟨RJ2, "elementData", "(I)Ljava/lang/Object;"⟩
def dkwJ2_elementData_0 : List UInt8 := [42, 180, 0, 9, 27, 50, 176]
abbrev dktJ2_elementData_0 : List UInt8 := dkwJ2_elementData_0 ++ []
theorem dksJ2_elementData_0 : cJ2_elementData.data.toList.drop 0 = dktJ2_elementData_0 := by decide +kernel
theorem dJ2_elementData_0 : decode cJ2_elementData 0 = .ok (.aload_n 0, 1) := dk_42 (dk_at dksJ2_elementData_0 0 rfl rfl)
theorem dJ2_elementData_1 : decode cJ2_elementData 1 = .ok (.getfield 9, 3) := dk_180 0 9 (dk_at dksJ2_elementData_0 1 rfl rfl)
theorem dJ2_elementData_4 : decode cJ2_elementData 4 = .ok (.iload_n 1, 1) := dk_27 (dk_at dksJ2_elementData_0 4 rfl rfl)
theorem dJ2_elementData_5 : decode cJ2_elementData 5 = .ok (.aaload, 1) := dk_50 (dk_at dksJ2_elementData_0 5 rfl rfl)
theorem dJ2_elementData_6 : decode cJ2_elementData 6 = .ok (.areturn, 1) := dk_176 (dk_at dksJ2_elementData_0 6 rfl rfl)
abbrev cJ2_add : ByteArray := prog_44_method_25_code
def yJ2_add : MethodName := ⟨RJ2, "add", "(Ljava/lang/Object;)Z"⟩
def dkwJ2_add_1 : List UInt8 := [172]
abbrev dktJ2_add_1 : List UInt8 := dkwJ2_add_1 ++ []
def dkwJ2_add_0 : List UInt8 := [42, 89, 180, 0, 63, 4, 96, 181, 0, 63, 42, 43, 42, 180, 0, 9, 42, 180, 0, 48, 182, 0, 131, 4]
abbrev dktJ2_add_0 : List UInt8 := dkwJ2_add_0 ++ dktJ2_add_1
theorem dksJ2_add_0 : cJ2_add.data.toList.drop 0 = dktJ2_add_0 := by decide +kernel
theorem dksJ2_add_1 : cJ2_add.data.toList.drop 24 = dktJ2_add_1 := dk_seg dksJ2_add_0 24 rfl rfl
theorem dJ2_add_0 : decode cJ2_add 0 = .ok (.aload_n 0, 1) := dk_42 (dk_at dksJ2_add_0 0 rfl rfl)
theorem dJ2_add_1 : decode cJ2_add 1 = .ok (.dup, 1) := dk_89 (dk_at dksJ2_add_0 1 rfl rfl)
theorem dJ2_add_2 : decode cJ2_add 2 = .ok (.getfield 63, 3) := dk_180 0 63 (dk_at dksJ2_add_0 2 rfl rfl)
theorem dJ2_add_5 : decode cJ2_add 5 = .ok (.iconst 1, 1) := dk_4 (dk_at dksJ2_add_0 5 rfl rfl)
theorem dJ2_add_6 : decode cJ2_add 6 = .ok (.iadd, 1) := dk_96 (dk_at dksJ2_add_0 6 rfl rfl)
theorem dJ2_add_7 : decode cJ2_add 7 = .ok (.putfield 63, 3) := dk_181 0 63 (dk_at dksJ2_add_0 7 rfl rfl)
theorem dJ2_add_10 : decode cJ2_add 10 = .ok (.aload_n 0, 1) := dk_42 (dk_at dksJ2_add_0 10 rfl rfl)
theorem dJ2_add_11 : decode cJ2_add 11 = .ok (.aload_n 1, 1) := dk_43 (dk_at dksJ2_add_0 11 rfl rfl)
theorem dJ2_add_12 : decode cJ2_add 12 = .ok (.aload_n 0, 1) := dk_42 (dk_at dksJ2_add_0 12 rfl rfl)
theorem dJ2_add_13 : decode cJ2_add 13 = .ok (.getfield 9, 3) := dk_180 0 9 (dk_at dksJ2_add_0 13 rfl rfl)
theorem dJ2_add_16 : decode cJ2_add 16 = .ok (.aload_n 0, 1) := dk_42 (dk_at dksJ2_add_0 16 rfl rfl)
theorem dJ2_add_17 : decode cJ2_add 17 = .ok (.getfield 48, 3) := dk_180 0 48 (dk_at dksJ2_add_0 17 rfl rfl)
theorem dJ2_add_20 : decode cJ2_add 20 = .ok (.invokevirtual 131, 3) := dk_182 0 131 (dk_at dksJ2_add_0 20 rfl rfl)
theorem dJ2_add_23 : decode cJ2_add 23 = .ok (.iconst 1, 1) := dk_4 (dk_at dksJ2_add_0 23 rfl rfl)
theorem dJ2_add_24 : decode cJ2_add 24 = .ok (.ireturn, 1) := dk_172 (dk_at dksJ2_add_1 0 rfl rfl)
abbrev cJ2_add_2 : ByteArray := prog_44_method_24_code
def yJ2_add_2 : MethodName := ⟨RJ2, "add", "(Ljava/lang/Object;[Ljava/lang/Object;I)V"⟩
def dkwJ2_add_2_0 : List UInt8 := [29, 44, 190, 160, 0, 8, 42, 182, 0, 129, 77, 44, 29, 43, 83, 42, 29, 4, 96, 181, 0, 48, 177]
abbrev dktJ2_add_2_0 : List UInt8 := dkwJ2_add_2_0 ++ []
theorem dksJ2_add_2_0 : cJ2_add_2.data.toList.drop 0 = dktJ2_add_2_0 := by decide +kernel
theorem dJ2_add_2_0 : decode cJ2_add_2 0 = .ok (.iload_n 3, 1) := dk_29 (dk_at dksJ2_add_2_0 0 rfl rfl)
theorem dJ2_add_2_1 : decode cJ2_add_2 1 = .ok (.aload_n 2, 1) := dk_44 (dk_at dksJ2_add_2_0 1 rfl rfl)
theorem dJ2_add_2_2 : decode cJ2_add_2 2 = .ok (.arraylength, 1) := dk_190 (dk_at dksJ2_add_2_0 2 rfl rfl)
theorem dJ2_add_2_3 : decode cJ2_add_2 3 = .ok (.if_icmp .ne 8, 3) := dk_160 0 8 (dk_at dksJ2_add_2_0 3 rfl rfl)
theorem dJ2_add_2_6 : decode cJ2_add_2 6 = .ok (.aload_n 0, 1) := dk_42 (dk_at dksJ2_add_2_0 6 rfl rfl)
theorem dJ2_add_2_7 : decode cJ2_add_2 7 = .ok (.invokevirtual 129, 3) := dk_182 0 129 (dk_at dksJ2_add_2_0 7 rfl rfl)
theorem dJ2_add_2_10 : decode cJ2_add_2 10 = .ok (.astore_n 2, 1) := dk_77 (dk_at dksJ2_add_2_0 10 rfl rfl)
theorem dJ2_add_2_11 : decode cJ2_add_2 11 = .ok (.aload_n 2, 1) := dk_44 (dk_at dksJ2_add_2_0 11 rfl rfl)
theorem dJ2_add_2_12 : decode cJ2_add_2 12 = .ok (.iload_n 3, 1) := dk_29 (dk_at dksJ2_add_2_0 12 rfl rfl)
theorem dJ2_add_2_13 : decode cJ2_add_2 13 = .ok (.aload_n 1, 1) := dk_43 (dk_at dksJ2_add_2_0 13 rfl rfl)
theorem dJ2_add_2_14 : decode cJ2_add_2 14 = .ok (.aastore, 1) := dk_83 (dk_at dksJ2_add_2_0 14 rfl rfl)
theorem dJ2_add_2_15 : decode cJ2_add_2 15 = .ok (.aload_n 0, 1) := dk_42 (dk_at dksJ2_add_2_0 15 rfl rfl)
theorem dJ2_add_2_16 : decode cJ2_add_2 16 = .ok (.iload_n 3, 1) := dk_29 (dk_at dksJ2_add_2_0 16 rfl rfl)
theorem dJ2_add_2_17 : decode cJ2_add_2 17 = .ok (.iconst 1, 1) := dk_4 (dk_at dksJ2_add_2_0 17 rfl rfl)
theorem dJ2_add_2_18 : decode cJ2_add_2 18 = .ok (.iadd, 1) := dk_96 (dk_at dksJ2_add_2_0 18 rfl rfl)
theorem dJ2_add_2_19 : decode cJ2_add_2 19 = .ok (.putfield 48, 3) := dk_181 0 48 (dk_at dksJ2_add_2_0 19 rfl rfl)
theorem dJ2_add_2_22 : decode cJ2_add_2 22 = .ok (.return_, 1) := dk_177 (dk_at dksJ2_add_2_0 22 rfl rfl)
abbrev cJ2_grow : ByteArray := prog_44_method_7_code
def yJ2_grow : MethodName := ⟨RJ2, "grow", "()[Ljava/lang/Object;"⟩
def dkwJ2_grow_0 : List UInt8 := [42, 42, 180, 0, 48, 4, 96, 182, 0, 69, 176]
abbrev dktJ2_grow_0 : List UInt8 := dkwJ2_grow_0 ++ []
theorem dksJ2_grow_0 : cJ2_grow.data.toList.drop 0 = dktJ2_grow_0 := by decide +kernel
theorem dJ2_grow_0 : decode cJ2_grow 0 = .ok (.aload_n 0, 1) := dk_42 (dk_at dksJ2_grow_0 0 rfl rfl)
theorem dJ2_grow_1 : decode cJ2_grow 1 = .ok (.aload_n 0, 1) := dk_42 (dk_at dksJ2_grow_0 1 rfl rfl)
theorem dJ2_grow_2 : decode cJ2_grow 2 = .ok (.getfield 48, 3) := dk_180 0 48 (dk_at dksJ2_grow_0 2 rfl rfl)
theorem dJ2_grow_5 : decode cJ2_grow 5 = .ok (.iconst 1, 1) := dk_4 (dk_at dksJ2_grow_0 5 rfl rfl)
theorem dJ2_grow_6 : decode cJ2_grow 6 = .ok (.iadd, 1) := dk_96 (dk_at dksJ2_grow_0 6 rfl rfl)
theorem dJ2_grow_7 : decode cJ2_grow 7 = .ok (.invokevirtual 69, 3) := dk_182 0 69 (dk_at dksJ2_grow_0 7 rfl rfl)
theorem dJ2_grow_10 : decode cJ2_grow 10 = .ok (.areturn, 1) := dk_176 (dk_at dksJ2_grow_0 10 rfl rfl)
abbrev cJ2_grow_2 : ByteArray := prog_44_method_6_code
def yJ2_grow_2 : MethodName := ⟨RJ2, "grow", "(I)[Ljava/lang/Object;"⟩
def dkwJ2_grow_2_2 : List UInt8 := [27, 184, 0, 79, 189, 0, 7, 90, 181, 0, 9, 176]
abbrev dktJ2_grow_2_2 : List UInt8 := dkwJ2_grow_2_2 ++ []
def dkwJ2_grow_2_1 : List UInt8 := [28, 4, 122, 184, 0, 73, 62, 42, 42, 180, 0, 9, 29, 184, 0, 66, 90, 181, 0, 9, 176, 42, 16, 10]
abbrev dktJ2_grow_2_1 : List UInt8 := dkwJ2_grow_2_1 ++ dktJ2_grow_2_2
def dkwJ2_grow_2_0 : List UInt8 := [42, 180, 0, 9, 190, 61, 28, 157, 0, 13, 42, 180, 0, 9, 178, 0, 39, 165, 0, 28, 28, 27, 28, 100]
abbrev dktJ2_grow_2_0 : List UInt8 := dkwJ2_grow_2_0 ++ dktJ2_grow_2_1
theorem dksJ2_grow_2_0 : cJ2_grow_2.data.toList.drop 0 = dktJ2_grow_2_0 := by decide +kernel
theorem dksJ2_grow_2_1 : cJ2_grow_2.data.toList.drop 24 = dktJ2_grow_2_1 := dk_seg dksJ2_grow_2_0 24 rfl rfl
theorem dksJ2_grow_2_2 : cJ2_grow_2.data.toList.drop 48 = dktJ2_grow_2_2 := dk_seg dksJ2_grow_2_1 24 rfl rfl
theorem dJ2_grow_2_0 : decode cJ2_grow_2 0 = .ok (.aload_n 0, 1) := dk_42 (dk_at dksJ2_grow_2_0 0 rfl rfl)
theorem dJ2_grow_2_1 : decode cJ2_grow_2 1 = .ok (.getfield 9, 3) := dk_180 0 9 (dk_at dksJ2_grow_2_0 1 rfl rfl)
theorem dJ2_grow_2_4 : decode cJ2_grow_2 4 = .ok (.arraylength, 1) := dk_190 (dk_at dksJ2_grow_2_0 4 rfl rfl)
theorem dJ2_grow_2_5 : decode cJ2_grow_2 5 = .ok (.istore_n 2, 1) := dk_61 (dk_at dksJ2_grow_2_0 5 rfl rfl)
theorem dJ2_grow_2_6 : decode cJ2_grow_2 6 = .ok (.iload_n 2, 1) := dk_28 (dk_at dksJ2_grow_2_0 6 rfl rfl)
theorem dJ2_grow_2_7 : decode cJ2_grow_2 7 = .ok (.ifCond .gt 13, 3) := dk_157 0 13 (dk_at dksJ2_grow_2_0 7 rfl rfl)
theorem dJ2_grow_2_10 : decode cJ2_grow_2 10 = .ok (.aload_n 0, 1) := dk_42 (dk_at dksJ2_grow_2_0 10 rfl rfl)
theorem dJ2_grow_2_11 : decode cJ2_grow_2 11 = .ok (.getfield 9, 3) := dk_180 0 9 (dk_at dksJ2_grow_2_0 11 rfl rfl)
theorem dJ2_grow_2_14 : decode cJ2_grow_2 14 = .ok (.getstatic 39, 3) := dk_178 0 39 (dk_at dksJ2_grow_2_0 14 rfl rfl)
theorem dJ2_grow_2_17 : decode cJ2_grow_2 17 = .ok (.if_acmp .eq 28, 3) := dk_165 0 28 (dk_at dksJ2_grow_2_0 17 rfl rfl)
theorem dJ2_grow_2_20 : decode cJ2_grow_2 20 = .ok (.iload_n 2, 1) := dk_28 (dk_at dksJ2_grow_2_0 20 rfl rfl)
theorem dJ2_grow_2_21 : decode cJ2_grow_2 21 = .ok (.iload_n 1, 1) := dk_27 (dk_at dksJ2_grow_2_0 21 rfl rfl)
theorem dJ2_grow_2_22 : decode cJ2_grow_2 22 = .ok (.iload_n 2, 1) := dk_28 (dk_at dksJ2_grow_2_0 22 rfl rfl)
theorem dJ2_grow_2_23 : decode cJ2_grow_2 23 = .ok (.isub, 1) := dk_100 (dk_at dksJ2_grow_2_0 23 rfl rfl)
theorem dJ2_grow_2_24 : decode cJ2_grow_2 24 = .ok (.iload_n 2, 1) := dk_28 (dk_at dksJ2_grow_2_1 0 rfl rfl)
theorem dJ2_grow_2_25 : decode cJ2_grow_2 25 = .ok (.iconst 1, 1) := dk_4 (dk_at dksJ2_grow_2_1 1 rfl rfl)
theorem dJ2_grow_2_26 : decode cJ2_grow_2 26 = .ok (.ishr, 1) := dk_122 (dk_at dksJ2_grow_2_1 2 rfl rfl)
theorem dJ2_grow_2_27 : decode cJ2_grow_2 27 = .ok (.invokestatic 73, 3) := dk_184 0 73 (dk_at dksJ2_grow_2_1 3 rfl rfl)
theorem dJ2_grow_2_30 : decode cJ2_grow_2 30 = .ok (.istore_n 3, 1) := dk_62 (dk_at dksJ2_grow_2_1 6 rfl rfl)
theorem dJ2_grow_2_31 : decode cJ2_grow_2 31 = .ok (.aload_n 0, 1) := dk_42 (dk_at dksJ2_grow_2_1 7 rfl rfl)
theorem dJ2_grow_2_32 : decode cJ2_grow_2 32 = .ok (.aload_n 0, 1) := dk_42 (dk_at dksJ2_grow_2_1 8 rfl rfl)
theorem dJ2_grow_2_33 : decode cJ2_grow_2 33 = .ok (.getfield 9, 3) := dk_180 0 9 (dk_at dksJ2_grow_2_1 9 rfl rfl)
theorem dJ2_grow_2_36 : decode cJ2_grow_2 36 = .ok (.iload_n 3, 1) := dk_29 (dk_at dksJ2_grow_2_1 12 rfl rfl)
theorem dJ2_grow_2_37 : decode cJ2_grow_2 37 = .ok (.invokestatic 66, 3) := dk_184 0 66 (dk_at dksJ2_grow_2_1 13 rfl rfl)
theorem dJ2_grow_2_40 : decode cJ2_grow_2 40 = .ok (.dup_x1, 1) := dk_90 (dk_at dksJ2_grow_2_1 16 rfl rfl)
theorem dJ2_grow_2_41 : decode cJ2_grow_2 41 = .ok (.putfield 9, 3) := dk_181 0 9 (dk_at dksJ2_grow_2_1 17 rfl rfl)
theorem dJ2_grow_2_44 : decode cJ2_grow_2 44 = .ok (.areturn, 1) := dk_176 (dk_at dksJ2_grow_2_1 20 rfl rfl)
theorem dJ2_grow_2_45 : decode cJ2_grow_2 45 = .ok (.aload_n 0, 1) := dk_42 (dk_at dksJ2_grow_2_1 21 rfl rfl)
theorem dJ2_grow_2_46 : decode cJ2_grow_2 46 = .ok (.bipush 10, 2) := dk_16 10 (dk_at dksJ2_grow_2_1 22 rfl rfl)
theorem dJ2_grow_2_48 : decode cJ2_grow_2 48 = .ok (.iload_n 1, 1) := dk_27 (dk_at dksJ2_grow_2_2 0 rfl rfl)
theorem dJ2_grow_2_49 : decode cJ2_grow_2 49 = .ok (.invokestatic 79, 3) := dk_184 0 79 (dk_at dksJ2_grow_2_2 1 rfl rfl)
theorem dJ2_grow_2_52 : decode cJ2_grow_2 52 = .ok (.anewarray 7, 3) := dk_189 0 7 (dk_at dksJ2_grow_2_2 4 rfl rfl)
theorem dJ2_grow_2_55 : decode cJ2_grow_2 55 = .ok (.dup_x1, 1) := dk_90 (dk_at dksJ2_grow_2_2 7 rfl rfl)
theorem dJ2_grow_2_56 : decode cJ2_grow_2 56 = .ok (.putfield 9, 3) := dk_181 0 9 (dk_at dksJ2_grow_2_2 8 rfl rfl)
theorem dJ2_grow_2_59 : decode cJ2_grow_2 59 = .ok (.areturn, 1) := dk_176 (dk_at dksJ2_grow_2_2 11 rfl rfl)
abbrev cJ2_set : ByteArray := prog_44_method_23_code
def yJ2_set : MethodName := ⟨RJ2, "set", "(ILjava/lang/Object;)Ljava/lang/Object;"⟩
def dkwJ2_set_0 : List UInt8 := [27, 42, 180, 0, 48, 184, 0, 118, 87, 42, 27, 182, 0, 123, 78, 42, 180, 0, 9, 27, 44, 83, 45, 176]
abbrev dktJ2_set_0 : List UInt8 := dkwJ2_set_0 ++ []
theorem dksJ2_set_0 : cJ2_set.data.toList.drop 0 = dktJ2_set_0 := by decide +kernel
theorem dJ2_set_0 : decode cJ2_set 0 = .ok (.iload_n 1, 1) := dk_27 (dk_at dksJ2_set_0 0 rfl rfl)
theorem dJ2_set_1 : decode cJ2_set 1 = .ok (.aload_n 0, 1) := dk_42 (dk_at dksJ2_set_0 1 rfl rfl)
theorem dJ2_set_2 : decode cJ2_set 2 = .ok (.getfield 48, 3) := dk_180 0 48 (dk_at dksJ2_set_0 2 rfl rfl)
theorem dJ2_set_5 : decode cJ2_set 5 = .ok (.invokestatic 118, 3) := dk_184 0 118 (dk_at dksJ2_set_0 5 rfl rfl)
theorem dJ2_set_8 : decode cJ2_set 8 = .ok (.pop, 1) := dk_87 (dk_at dksJ2_set_0 8 rfl rfl)
theorem dJ2_set_9 : decode cJ2_set 9 = .ok (.aload_n 0, 1) := dk_42 (dk_at dksJ2_set_0 9 rfl rfl)
theorem dJ2_set_10 : decode cJ2_set 10 = .ok (.iload_n 1, 1) := dk_27 (dk_at dksJ2_set_0 10 rfl rfl)
theorem dJ2_set_11 : decode cJ2_set 11 = .ok (.invokevirtual 123, 3) := dk_182 0 123 (dk_at dksJ2_set_0 11 rfl rfl)
theorem dJ2_set_14 : decode cJ2_set 14 = .ok (.astore_n 3, 1) := dk_78 (dk_at dksJ2_set_0 14 rfl rfl)
theorem dJ2_set_15 : decode cJ2_set 15 = .ok (.aload_n 0, 1) := dk_42 (dk_at dksJ2_set_0 15 rfl rfl)
theorem dJ2_set_16 : decode cJ2_set 16 = .ok (.getfield 9, 3) := dk_180 0 9 (dk_at dksJ2_set_0 16 rfl rfl)
theorem dJ2_set_19 : decode cJ2_set 19 = .ok (.iload_n 1, 1) := dk_27 (dk_at dksJ2_set_0 19 rfl rfl)
theorem dJ2_set_20 : decode cJ2_set 20 = .ok (.aload_n 2, 1) := dk_44 (dk_at dksJ2_set_0 20 rfl rfl)
theorem dJ2_set_21 : decode cJ2_set 21 = .ok (.aastore, 1) := dk_83 (dk_at dksJ2_set_0 21 rfl rfl)
theorem dJ2_set_22 : decode cJ2_set 22 = .ok (.aload_n 3, 1) := dk_45 (dk_at dksJ2_set_0 22 rfl rfl)
theorem dJ2_set_23 : decode cJ2_set 23 = .ok (.areturn, 1) := dk_176 (dk_at dksJ2_set_0 23 rfl rfl)
abbrev cJ2_iterator : ByteArray := prog_44_method_55_code
def yJ2_iterator : MethodName := ⟨RJ2, "iterator", "()Ljava/util/Iterator;"⟩
def dkwJ2_iterator_0 : List UInt8 := [187, 1, 11, 89, 42, 183, 1, 13, 176]
abbrev dktJ2_iterator_0 : List UInt8 := dkwJ2_iterator_0 ++ []
theorem dksJ2_iterator_0 : cJ2_iterator.data.toList.drop 0 = dktJ2_iterator_0 := by decide +kernel
theorem dJ2_iterator_0 : decode cJ2_iterator 0 = .ok (.new 267, 3) := dk_187 1 11 (dk_at dksJ2_iterator_0 0 rfl rfl)
theorem dJ2_iterator_3 : decode cJ2_iterator 3 = .ok (.dup, 1) := dk_89 (dk_at dksJ2_iterator_0 3 rfl rfl)
theorem dJ2_iterator_4 : decode cJ2_iterator 4 = .ok (.aload_n 0, 1) := dk_42 (dk_at dksJ2_iterator_0 4 rfl rfl)
theorem dJ2_iterator_5 : decode cJ2_iterator 5 = .ok (.invokespecial 269, 3) := dk_183 1 13 (dk_at dksJ2_iterator_0 5 rfl rfl)
theorem dJ2_iterator_8 : decode cJ2_iterator 8 = .ok (.areturn, 1) := dk_176 (dk_at dksJ2_iterator_0 8 rfl rfl)
theorem q189 : (Jvm.Cond.initialized "java/util/ArrayList") ∈ lw_all := lw_g (lw_at lw_m1 4 rfl) rfl
theorem q245 : (Jvm.Cond.instantiable "java/util/ArrayList" (3 : Nat)) ∈ lw_all := lw_g (lw_at lw_m1 60 rfl) rfl
theorem q247 : (Jvm.Cond.instanceMethod ({ cls := "java/util/ArrayList", name := "<init>", desc := "()V" } : Jvm.MethodName)) ∈ lw_all := lw_g (lw_at lw_m1 62 rfl) rfl
theorem q248 : (Jvm.Cond.code ({ cls := "java/util/ArrayList", name := "<init>", desc := "()V" } : Jvm.MethodName) prog_44_method_2_code (1 : Nat) (Option.none : Option Jvm.ClassFile.FieldType)) ∈ lw_all := lw_g (lw_at lw_m1 63 rfl) rfl
theorem q249 : (Jvm.Cond.methodLink "java/util/ArrayList" (1 : Nat) ({ cls := "java/util/AbstractList", name := "<init>", desc := "()V" } : Jvm.MethodName)) ∈ lw_all := lw_g (lw_at lw_m1 64 rfl) rfl
theorem q256 : (Jvm.Cond.fieldLink "java/util/ArrayList" (39 : Nat) "java/util/ArrayList" "DEFAULTCAPACITY_EMPTY_ELEMENTDATA" "[Ljava/lang/Object;") ∈ lw_all := lw_g (lw_at lw_m1 71 rfl) rfl
theorem q257 : (Jvm.Cond.laysStatic "java/util/ArrayList" "DEFAULTCAPACITY_EMPTY_ELEMENTDATA" "[Ljava/lang/Object;") ∈ lw_tbl := lw_at lw_m1 72 rfl
theorem q258 : (Jvm.Cond.fieldLink "java/util/ArrayList" (9 : Nat) "java/util/ArrayList" "elementData" "[Ljava/lang/Object;") ∈ lw_all := lw_g (lw_at lw_m1 73 rfl) rfl
theorem q261 : (Jvm.Cond.fieldLink "java/util/ArrayList" (48 : Nat) "java/util/ArrayList" "size" "I") ∈ lw_all := lw_g (lw_at lw_m1 76 rfl) rfl
theorem q264 : (Jvm.Cond.sameField "java/util/ArrayList" "java/util/AbstractList" "modCount" "I") ∈ lw_all := lw_g (lw_at lw_m1 79 rfl) rfl
theorem q265 : (Jvm.Cond.fieldLink "java/util/ArrayList" (63 : Nat) "java/util/ArrayList" "modCount" "I") ∈ lw_all := lw_g (lw_at lw_m1 80 rfl) rfl
theorem q266 : (Jvm.Cond.lays "java/util/ArrayList" "java/util/ArrayList" "elementData" "[Ljava/lang/Object;") ∈ lw_all := lw_g (lw_at lw_m1 81 rfl) rfl
theorem q267 : (Jvm.Cond.soleField "java/util/ArrayList" "elementData") ∈ lw_all := lw_g (lw_at lw_m1 82 rfl) rfl
theorem q268 : (Jvm.Cond.lays "java/util/ArrayList" "java/util/ArrayList" "size" "I") ∈ lw_all := lw_g (lw_at lw_m1 83 rfl) rfl
theorem q269 : (Jvm.Cond.soleField "java/util/ArrayList" "size") ∈ lw_all := lw_g (lw_at lw_m1 84 rfl) rfl
theorem q270 : (Jvm.Cond.lays "java/util/ArrayList" "java/util/AbstractList" "modCount" "I") ∈ lw_all := lw_g (lw_at lw_m1 85 rfl) rfl
theorem q272 : (Jvm.Cond.superclass "java/util/ArrayList" "java/util/AbstractList") ∈ lw_all := lw_g (lw_at lw_m1 87 rfl) rfl
theorem q279 : (Jvm.Cond.instanceMethod ({ cls := "java/util/ArrayList", name := "size", desc := "()I" } : Jvm.MethodName)) ∈ lw_all := lw_g (lw_at lw_m1 94 rfl) rfl
theorem q280 : (Jvm.Cond.selects "java/util/ArrayList" ({ cls := "java/util/ArrayList", name := "size", desc := "()I" } : Jvm.MethodName) ({ cls := "java/util/ArrayList", name := "size", desc := "()I" } : Jvm.MethodName)) ∈ lw_all := lw_g (lw_at lw_m1 95 rfl) rfl
theorem q281 : (Jvm.Cond.code ({ cls := "java/util/ArrayList", name := "size", desc := "()I" } : Jvm.MethodName) prog_44_method_8_code (1 : Nat) (Option.some Jvm.ClassFile.FieldType.int)) ∈ lw_all := lw_g (lw_at lw_m1 96 rfl) rfl
theorem q283 : (Jvm.Cond.instanceMethod ({ cls := "java/util/ArrayList", name := "get", desc := "(I)Ljava/lang/Object;" } : Jvm.MethodName)) ∈ lw_all := lw_g (lw_at lw_m1 98 rfl) rfl
theorem q284 : (Jvm.Cond.selects "java/util/ArrayList" ({ cls := "java/util/ArrayList", name := "get", desc := "(I)Ljava/lang/Object;" } : Jvm.MethodName) ({ cls := "java/util/ArrayList", name := "get", desc := "(I)Ljava/lang/Object;" } : Jvm.MethodName)) ∈ lw_all := lw_g (lw_at lw_m1 99 rfl) rfl
theorem q285 : (Jvm.Cond.code ({ cls := "java/util/ArrayList", name := "get", desc := "(I)Ljava/lang/Object;" } : Jvm.MethodName) prog_44_method_20_code (2 : Nat) (Option.some (Jvm.ClassFile.FieldType.object "java/lang/Object"))) ∈ lw_all := lw_g (lw_at lw_m1 100 rfl) rfl
theorem q286 : (Jvm.Cond.methodLink "java/util/ArrayList" (118 : Nat) ({ cls := "java/util/Objects", name := "checkIndex", desc := "(II)I" } : Jvm.MethodName)) ∈ lw_all := lw_g (lw_at lw_m1 101 rfl) rfl
theorem q292 : (Jvm.Cond.methodLink "java/util/ArrayList" (123 : Nat) ({ cls := "java/util/ArrayList", name := "elementData", desc := "(I)Ljava/lang/Object;" } : Jvm.MethodName)) ∈ lw_all := lw_g (lw_at lw_m1 107 rfl) rfl
theorem q293 : (Jvm.Cond.instanceMethod ({ cls := "java/util/ArrayList", name := "elementData", desc := "(I)Ljava/lang/Object;" } : Jvm.MethodName)) ∈ lw_all := lw_g (lw_at lw_m1 108 rfl) rfl
theorem q294 : (Jvm.Cond.selects "java/util/ArrayList" ({ cls := "java/util/ArrayList", name := "elementData", desc := "(I)Ljava/lang/Object;" } : Jvm.MethodName) ({ cls := "java/util/ArrayList", name := "elementData", desc := "(I)Ljava/lang/Object;" } : Jvm.MethodName)) ∈ lw_all := lw_g (lw_at lw_m1 109 rfl) rfl
theorem q295 : (Jvm.Cond.code ({ cls := "java/util/ArrayList", name := "elementData", desc := "(I)Ljava/lang/Object;" } : Jvm.MethodName) prog_44_method_18_code (2 : Nat) (Option.some (Jvm.ClassFile.FieldType.object "java/lang/Object"))) ∈ lw_all := lw_g (lw_at lw_m1 110 rfl) rfl
theorem q298 : (Jvm.Cond.instanceMethod ({ cls := "java/util/ArrayList", name := "add", desc := "(Ljava/lang/Object;)Z" } : Jvm.MethodName)) ∈ lw_all := lw_g (lw_at lw_m1 113 rfl) rfl
theorem q299 : (Jvm.Cond.selects "java/util/ArrayList" ({ cls := "java/util/ArrayList", name := "add", desc := "(Ljava/lang/Object;)Z" } : Jvm.MethodName) ({ cls := "java/util/ArrayList", name := "add", desc := "(Ljava/lang/Object;)Z" } : Jvm.MethodName)) ∈ lw_all := lw_g (lw_at lw_m1 114 rfl) rfl
theorem q300 : (Jvm.Cond.code ({ cls := "java/util/ArrayList", name := "add", desc := "(Ljava/lang/Object;)Z" } : Jvm.MethodName) prog_44_method_25_code (2 : Nat) (Option.some Jvm.ClassFile.FieldType.boolean)) ∈ lw_all := lw_g (lw_at lw_m1 115 rfl) rfl
theorem q301 : (Jvm.Cond.methodLink "java/util/ArrayList" (131 : Nat) ({ cls := "java/util/ArrayList", name := "add", desc := "(Ljava/lang/Object;[Ljava/lang/Object;I)V" } : Jvm.MethodName)) ∈ lw_all := lw_g (lw_at lw_m1 116 rfl) rfl
theorem q302 : (Jvm.Cond.privateMethod ({ cls := "java/util/ArrayList", name := "add", desc := "(Ljava/lang/Object;[Ljava/lang/Object;I)V" } : Jvm.MethodName)) ∈ lw_tbl := lw_at lw_m1 117 rfl
theorem q303 : (Jvm.Cond.instanceMethod ({ cls := "java/util/ArrayList", name := "add", desc := "(Ljava/lang/Object;[Ljava/lang/Object;I)V" } : Jvm.MethodName)) ∈ lw_all := lw_g (lw_at lw_m1 118 rfl) rfl
theorem q304 : (Jvm.Cond.code ({ cls := "java/util/ArrayList", name := "add", desc := "(Ljava/lang/Object;[Ljava/lang/Object;I)V" } : Jvm.MethodName) prog_44_method_24_code (4 : Nat) (Option.none : Option Jvm.ClassFile.FieldType)) ∈ lw_all := lw_g (lw_at lw_m1 119 rfl) rfl
theorem q305 : (Jvm.Cond.methodLink "java/util/ArrayList" (129 : Nat) ({ cls := "java/util/ArrayList", name := "grow", desc := "()[Ljava/lang/Object;" } : Jvm.MethodName)) ∈ lw_all := lw_g (lw_at lw_m1 120 rfl) rfl
theorem q306 : (Jvm.Cond.privateMethod ({ cls := "java/util/ArrayList", name := "grow", desc := "()[Ljava/lang/Object;" } : Jvm.MethodName)) ∈ lw_tbl := lw_at lw_m1 121 rfl
theorem q307 : (Jvm.Cond.instanceMethod ({ cls := "java/util/ArrayList", name := "grow", desc := "()[Ljava/lang/Object;" } : Jvm.MethodName)) ∈ lw_all := lw_g (lw_at lw_m1 122 rfl) rfl
theorem q308 : (Jvm.Cond.code ({ cls := "java/util/ArrayList", name := "grow", desc := "()[Ljava/lang/Object;" } : Jvm.MethodName) prog_44_method_7_code (1 : Nat) (Option.some (Jvm.ClassFile.FieldType.array (Jvm.ClassFile.FieldType.object "java/lang/Object")))) ∈ lw_all := lw_g (lw_at lw_m1 123 rfl) rfl
theorem q309 : (Jvm.Cond.methodLink "java/util/ArrayList" (69 : Nat) ({ cls := "java/util/ArrayList", name := "grow", desc := "(I)[Ljava/lang/Object;" } : Jvm.MethodName)) ∈ lw_all := lw_g (lw_at lw_m1 124 rfl) rfl
theorem q310 : (Jvm.Cond.privateMethod ({ cls := "java/util/ArrayList", name := "grow", desc := "(I)[Ljava/lang/Object;" } : Jvm.MethodName)) ∈ lw_tbl := lw_at lw_m1 125 rfl
theorem q311 : (Jvm.Cond.instanceMethod ({ cls := "java/util/ArrayList", name := "grow", desc := "(I)[Ljava/lang/Object;" } : Jvm.MethodName)) ∈ lw_all := lw_g (lw_at lw_m1 126 rfl) rfl
theorem q312 : (Jvm.Cond.code ({ cls := "java/util/ArrayList", name := "grow", desc := "(I)[Ljava/lang/Object;" } : Jvm.MethodName) prog_44_method_6_code (4 : Nat) (Option.some (Jvm.ClassFile.FieldType.array (Jvm.ClassFile.FieldType.object "java/lang/Object")))) ∈ lw_all := lw_g (lw_at lw_m1 127 rfl) rfl
theorem q313 : (Jvm.Cond.methodLink "java/util/ArrayList" (73 : Nat) ({ cls := "jdk/internal/util/ArraysSupport", name := "newLength", desc := "(III)I" } : Jvm.MethodName)) ∈ lw_all := lw_g (lw_at lw_m1 128 rfl) rfl
theorem q323 : (Jvm.Cond.methodLink "java/util/ArrayList" (66 : Nat) ({ cls := "java/util/Arrays", name := "copyOf", desc := "([Ljava/lang/Object;I)[Ljava/lang/Object;" } : Jvm.MethodName)) ∈ lw_all := lw_g (lw_at lw_m1 138 rfl) rfl
theorem q346 : (Jvm.Cond.selects "java/util/ArrayList" ({ cls := "java/lang/Object", name := "getClass", desc := "()Ljava/lang/Class;" } : Jvm.MethodName) ({ cls := "java/lang/Object", name := "getClass", desc := "()Ljava/lang/Class;" } : Jvm.MethodName)) ∈ lw_all := lw_g (lw_at lw_m1 161 rfl) rfl
theorem q370 : (Jvm.Cond.methodLink "java/util/ArrayList" (79 : Nat) ({ cls := "java/lang/Math", name := "max", desc := "(II)I" } : Jvm.MethodName)) ∈ lw_all := lw_g (lw_at lw_m1 185 rfl) rfl
theorem q371 : (Jvm.Cond.classLink "java/util/ArrayList" (7 : Nat) "java/lang/Object") ∈ lw_all := lw_g (lw_at lw_m1 186 rfl) rfl
theorem q439 : (Jvm.Cond.instanceMethod ({ cls := "java/util/ArrayList", name := "set", desc := "(ILjava/lang/Object;)Ljava/lang/Object;" } : Jvm.MethodName)) ∈ lw_all := lw_g (lw_at lw_m2 14 rfl) rfl
theorem q440 : (Jvm.Cond.selects "java/util/ArrayList" ({ cls := "java/util/ArrayList", name := "set", desc := "(ILjava/lang/Object;)Ljava/lang/Object;" } : Jvm.MethodName) ({ cls := "java/util/ArrayList", name := "set", desc := "(ILjava/lang/Object;)Ljava/lang/Object;" } : Jvm.MethodName)) ∈ lw_all := lw_g (lw_at lw_m2 15 rfl) rfl
theorem q441 : (Jvm.Cond.code ({ cls := "java/util/ArrayList", name := "set", desc := "(ILjava/lang/Object;)Ljava/lang/Object;" } : Jvm.MethodName) prog_44_method_23_code (4 : Nat) (Option.some (Jvm.ClassFile.FieldType.object "java/lang/Object"))) ∈ lw_all := lw_g (lw_at lw_m2 16 rfl) rfl
theorem q1545 : (Jvm.Cond.selects "java/util/ArrayList" ({ cls := "java/util/AbstractCollection", name := "size", desc := "()I" } : Jvm.MethodName) ({ cls := "java/util/ArrayList", name := "size", desc := "()I" } : Jvm.MethodName)) ∈ lw_all := lw_g (lw_at lw_m6 160 rfl) rfl
theorem q1581 : (Jvm.Cond.instanceMethod ({ cls := "java/util/ArrayList", name := "iterator", desc := "()Ljava/util/Iterator;" } : Jvm.MethodName)) ∈ lw_all := lw_g (lw_at lw_m6 196 rfl) rfl
theorem q1582 : (Jvm.Cond.selects "java/util/ArrayList" ({ cls := "java/util/ArrayList", name := "iterator", desc := "()Ljava/util/Iterator;" } : Jvm.MethodName) ({ cls := "java/util/ArrayList", name := "iterator", desc := "()Ljava/util/Iterator;" } : Jvm.MethodName)) ∈ lw_all := lw_g (lw_at lw_m6 197 rfl) rfl
theorem q1583 : (Jvm.Cond.code ({ cls := "java/util/ArrayList", name := "iterator", desc := "()Ljava/util/Iterator;" } : Jvm.MethodName) prog_44_method_55_code (1 : Nat) (Option.some (Jvm.ClassFile.FieldType.object "java/util/Iterator"))) ∈ lw_all := lw_g (lw_at lw_m6 198 rfl) rfl
theorem q1584 : (Jvm.Cond.classLink "java/util/ArrayList" (267 : Nat) "java/util/ArrayList$Itr") ∈ lw_all := lw_g (lw_at lw_m6 199 rfl) rfl
theorem q1586 : (Jvm.Cond.methodLink "java/util/ArrayList" (269 : Nat) ({ cls := "java/util/ArrayList$Itr", name := "<init>", desc := "(Ljava/util/ArrayList;)V" } : Jvm.MethodName)) ∈ lw_all := lw_g (lw_at lw_m6 201 rfl) rfl
theorem q3117 : (Jvm.Cond.castable "java/util/ArrayList" "java/lang/Object") ∈ lw_tbl := lw_at lw_m13 52 rfl
theorem in_J2 : ∀ w ∈ wsJ20, w ∈ lw_all := lw_in wsJ20 [270, 266, 268] (by decide +kernel) (by decide +kernel)
/-! java/util/PriorityQueue -/
set_option maxRecDepth 100000
def RJ20 : String := "java/util/PriorityQueue"
def TJ20 : u_T := fun k => match k with
  | 0 => ("java/util/PriorityQueue", "queue", "[Ljava/lang/Object;", false)
  | 1 => ("java/util/PriorityQueue", "size", "I", false)
  | 2 => ("java/util/PriorityQueue", "comparator", "Ljava/util/Comparator;", true)
  | _ => ("java/util/PriorityQueue", "modCount", "I", false)
def tyJ20 : Nat → FieldType := fun k => match k with
  | 0 => .array (.object "java/lang/Object")
  | 1 => .int
  | 2 => .object "java/util/Comparator"
  | _ => .int
abbrev wsJ200 : List Cond := u_ws RJ20 TJ20 4
theorem nmJ20 : ∀ a, a < 4 → ∀ b, b < 4 → a ≠ b → (TJ20 a).2.1 ≠ (TJ20 b).2.1 := by decide +kernel
theorem tyJ20_ok : ∀ k, k < 4 → parseFieldDescriptor (TJ20 k).2.2.1 = some (tyJ20 k) := by decide +kernel
abbrev cJ20_init : ByteArray := prog_57_method_3_code
def yJ20_init : MethodName := ⟨RJ20, "<init>", "(Ljava/util/Comparator;)V"⟩
def dkwJ20_init_0 : List UInt8 := [42, 16, 11, 43, 183, 0, 3, 177]
abbrev dktJ20_init_0 : List UInt8 := dkwJ20_init_0 ++ []
theorem dksJ20_init_0 : cJ20_init.data.toList.drop 0 = dktJ20_init_0 := by decide +kernel
theorem dJ20_init_0 : decode cJ20_init 0 = .ok (.aload_n 0, 1) := dk_42 (dk_at dksJ20_init_0 0 rfl rfl)
theorem dJ20_init_1 : decode cJ20_init 1 = .ok (.bipush 11, 2) := dk_16 11 (dk_at dksJ20_init_0 1 rfl rfl)
theorem dJ20_init_3 : decode cJ20_init 3 = .ok (.aload_n 1, 1) := dk_43 (dk_at dksJ20_init_0 3 rfl rfl)
theorem dJ20_init_4 : decode cJ20_init 4 = .ok (.invokespecial 3, 3) := dk_183 0 3 (dk_at dksJ20_init_0 4 rfl rfl)
theorem dJ20_init_7 : decode cJ20_init 7 = .ok (.return_, 1) := dk_177 (dk_at dksJ20_init_0 7 rfl rfl)
abbrev cJ20_init_2 : ByteArray := prog_57_method_4_code
def yJ20_init_2 : MethodName := ⟨RJ20, "<init>", "(ILjava/util/Comparator;)V"⟩
def dkwJ20_init_2_1 : List UInt8 := [181, 0, 17, 42, 44, 181, 0, 21, 177]
abbrev dktJ20_init_2_1 : List UInt8 := dkwJ20_init_2_1 ++ []
def dkwJ20_init_2_0 : List UInt8 := [42, 183, 0, 7, 27, 4, 162, 0, 11, 187, 0, 12, 89, 183, 0, 14, 191, 42, 27, 189, 0, 15]
abbrev dktJ20_init_2_0 : List UInt8 := dkwJ20_init_2_0 ++ dktJ20_init_2_1
theorem dksJ20_init_2_0 : cJ20_init_2.data.toList.drop 0 = dktJ20_init_2_0 := by decide +kernel
theorem dksJ20_init_2_1 : cJ20_init_2.data.toList.drop 22 = dktJ20_init_2_1 := dk_seg dksJ20_init_2_0 22 rfl rfl
theorem dJ20_init_2_0 : decode cJ20_init_2 0 = .ok (.aload_n 0, 1) := dk_42 (dk_at dksJ20_init_2_0 0 rfl rfl)
theorem dJ20_init_2_1 : decode cJ20_init_2 1 = .ok (.invokespecial 7, 3) := dk_183 0 7 (dk_at dksJ20_init_2_0 1 rfl rfl)
theorem dJ20_init_2_4 : decode cJ20_init_2 4 = .ok (.iload_n 1, 1) := dk_27 (dk_at dksJ20_init_2_0 4 rfl rfl)
theorem dJ20_init_2_5 : decode cJ20_init_2 5 = .ok (.iconst 1, 1) := dk_4 (dk_at dksJ20_init_2_0 5 rfl rfl)
theorem dJ20_init_2_6 : decode cJ20_init_2 6 = .ok (.if_icmp .ge 11, 3) := dk_162 0 11 (dk_at dksJ20_init_2_0 6 rfl rfl)
theorem dJ20_init_2_9 : decode cJ20_init_2 9 = .ok (.new 12, 3) := dk_187 0 12 (dk_at dksJ20_init_2_0 9 rfl rfl)
theorem dJ20_init_2_12 : decode cJ20_init_2 12 = .ok (.dup, 1) := dk_89 (dk_at dksJ20_init_2_0 12 rfl rfl)
theorem dJ20_init_2_13 : decode cJ20_init_2 13 = .ok (.invokespecial 14, 3) := dk_183 0 14 (dk_at dksJ20_init_2_0 13 rfl rfl)
theorem dJ20_init_2_16 : decode cJ20_init_2 16 = .ok (.athrow, 1) := dk_191 (dk_at dksJ20_init_2_0 16 rfl rfl)
theorem dJ20_init_2_17 : decode cJ20_init_2 17 = .ok (.aload_n 0, 1) := dk_42 (dk_at dksJ20_init_2_0 17 rfl rfl)
theorem dJ20_init_2_18 : decode cJ20_init_2 18 = .ok (.iload_n 1, 1) := dk_27 (dk_at dksJ20_init_2_0 18 rfl rfl)
theorem dJ20_init_2_19 : decode cJ20_init_2 19 = .ok (.anewarray 15, 3) := dk_189 0 15 (dk_at dksJ20_init_2_0 19 rfl rfl)
theorem dJ20_init_2_22 : decode cJ20_init_2 22 = .ok (.putfield 17, 3) := dk_181 0 17 (dk_at dksJ20_init_2_1 0 rfl rfl)
theorem dJ20_init_2_25 : decode cJ20_init_2 25 = .ok (.aload_n 0, 1) := dk_42 (dk_at dksJ20_init_2_1 3 rfl rfl)
theorem dJ20_init_2_26 : decode cJ20_init_2 26 = .ok (.aload_n 2, 1) := dk_44 (dk_at dksJ20_init_2_1 4 rfl rfl)
theorem dJ20_init_2_27 : decode cJ20_init_2 27 = .ok (.putfield 21, 3) := dk_181 0 21 (dk_at dksJ20_init_2_1 5 rfl rfl)
theorem dJ20_init_2_30 : decode cJ20_init_2 30 = .ok (.return_, 1) := dk_177 (dk_at dksJ20_init_2_1 8 rfl rfl)
abbrev cJ20_add : ByteArray := prog_57_method_13_code
def yJ20_add : MethodName := ⟨RJ20, "add", "(Ljava/lang/Object;)Z"⟩
def dkwJ20_add_0 : List UInt8 := [42, 43, 182, 0, 89, 172]
abbrev dktJ20_add_0 : List UInt8 := dkwJ20_add_0 ++ []
theorem dksJ20_add_0 : cJ20_add.data.toList.drop 0 = dktJ20_add_0 := by decide +kernel
theorem dJ20_add_0 : decode cJ20_add 0 = .ok (.aload_n 0, 1) := dk_42 (dk_at dksJ20_add_0 0 rfl rfl)
theorem dJ20_add_1 : decode cJ20_add 1 = .ok (.aload_n 1, 1) := dk_43 (dk_at dksJ20_add_0 1 rfl rfl)
theorem dJ20_add_2 : decode cJ20_add 2 = .ok (.invokevirtual 89, 3) := dk_182 0 89 (dk_at dksJ20_add_0 2 rfl rfl)
theorem dJ20_add_5 : decode cJ20_add 5 = .ok (.ireturn, 1) := dk_172 (dk_at dksJ20_add_0 5 rfl rfl)
abbrev cJ20_offer : ByteArray := prog_57_method_14_code
def yJ20_offer : MethodName := ⟨RJ20, "offer", "(Ljava/lang/Object;)Z"⟩
def dkwJ20_offer_2 : List UInt8 := [182, 0, 100, 42, 28, 4, 96, 181, 0, 58, 4, 172]
abbrev dktJ20_offer_2 : List UInt8 := dkwJ20_offer_2 ++ []
def dkwJ20_offer_1 : List UInt8 := [180, 0, 58, 61, 28, 42, 180, 0, 17, 190, 161, 0, 10, 42, 28, 4, 96, 182, 0, 96, 42, 28, 43]
abbrev dktJ20_offer_1 : List UInt8 := dkwJ20_offer_1 ++ dktJ20_offer_2
def dkwJ20_offer_0 : List UInt8 := [43, 199, 0, 11, 187, 0, 74, 89, 183, 0, 76, 191, 42, 89, 180, 0, 93, 4, 96, 181, 0, 93, 42]
abbrev dktJ20_offer_0 : List UInt8 := dkwJ20_offer_0 ++ dktJ20_offer_1
theorem dksJ20_offer_0 : cJ20_offer.data.toList.drop 0 = dktJ20_offer_0 := by decide +kernel
theorem dksJ20_offer_1 : cJ20_offer.data.toList.drop 23 = dktJ20_offer_1 := dk_seg dksJ20_offer_0 23 rfl rfl
theorem dksJ20_offer_2 : cJ20_offer.data.toList.drop 46 = dktJ20_offer_2 := dk_seg dksJ20_offer_1 23 rfl rfl
theorem dJ20_offer_0 : decode cJ20_offer 0 = .ok (.aload_n 1, 1) := dk_43 (dk_at dksJ20_offer_0 0 rfl rfl)
theorem dJ20_offer_1 : decode cJ20_offer 1 = .ok (.ifnonnull 11, 3) := dk_199 0 11 (dk_at dksJ20_offer_0 1 rfl rfl)
theorem dJ20_offer_4 : decode cJ20_offer 4 = .ok (.new 74, 3) := dk_187 0 74 (dk_at dksJ20_offer_0 4 rfl rfl)
theorem dJ20_offer_7 : decode cJ20_offer 7 = .ok (.dup, 1) := dk_89 (dk_at dksJ20_offer_0 7 rfl rfl)
theorem dJ20_offer_8 : decode cJ20_offer 8 = .ok (.invokespecial 76, 3) := dk_183 0 76 (dk_at dksJ20_offer_0 8 rfl rfl)
theorem dJ20_offer_11 : decode cJ20_offer 11 = .ok (.athrow, 1) := dk_191 (dk_at dksJ20_offer_0 11 rfl rfl)
theorem dJ20_offer_12 : decode cJ20_offer 12 = .ok (.aload_n 0, 1) := dk_42 (dk_at dksJ20_offer_0 12 rfl rfl)
theorem dJ20_offer_13 : decode cJ20_offer 13 = .ok (.dup, 1) := dk_89 (dk_at dksJ20_offer_0 13 rfl rfl)
theorem dJ20_offer_14 : decode cJ20_offer 14 = .ok (.getfield 93, 3) := dk_180 0 93 (dk_at dksJ20_offer_0 14 rfl rfl)
theorem dJ20_offer_17 : decode cJ20_offer 17 = .ok (.iconst 1, 1) := dk_4 (dk_at dksJ20_offer_0 17 rfl rfl)
theorem dJ20_offer_18 : decode cJ20_offer 18 = .ok (.iadd, 1) := dk_96 (dk_at dksJ20_offer_0 18 rfl rfl)
theorem dJ20_offer_19 : decode cJ20_offer 19 = .ok (.putfield 93, 3) := dk_181 0 93 (dk_at dksJ20_offer_0 19 rfl rfl)
theorem dJ20_offer_22 : decode cJ20_offer 22 = .ok (.aload_n 0, 1) := dk_42 (dk_at dksJ20_offer_0 22 rfl rfl)
theorem dJ20_offer_23 : decode cJ20_offer 23 = .ok (.getfield 58, 3) := dk_180 0 58 (dk_at dksJ20_offer_1 0 rfl rfl)
theorem dJ20_offer_26 : decode cJ20_offer 26 = .ok (.istore_n 2, 1) := dk_61 (dk_at dksJ20_offer_1 3 rfl rfl)
theorem dJ20_offer_27 : decode cJ20_offer 27 = .ok (.iload_n 2, 1) := dk_28 (dk_at dksJ20_offer_1 4 rfl rfl)
theorem dJ20_offer_28 : decode cJ20_offer 28 = .ok (.aload_n 0, 1) := dk_42 (dk_at dksJ20_offer_1 5 rfl rfl)
theorem dJ20_offer_29 : decode cJ20_offer 29 = .ok (.getfield 17, 3) := dk_180 0 17 (dk_at dksJ20_offer_1 6 rfl rfl)
theorem dJ20_offer_32 : decode cJ20_offer 32 = .ok (.arraylength, 1) := dk_190 (dk_at dksJ20_offer_1 9 rfl rfl)
theorem dJ20_offer_33 : decode cJ20_offer 33 = .ok (.if_icmp .lt 10, 3) := dk_161 0 10 (dk_at dksJ20_offer_1 10 rfl rfl)
theorem dJ20_offer_36 : decode cJ20_offer 36 = .ok (.aload_n 0, 1) := dk_42 (dk_at dksJ20_offer_1 13 rfl rfl)
theorem dJ20_offer_37 : decode cJ20_offer 37 = .ok (.iload_n 2, 1) := dk_28 (dk_at dksJ20_offer_1 14 rfl rfl)
theorem dJ20_offer_38 : decode cJ20_offer 38 = .ok (.iconst 1, 1) := dk_4 (dk_at dksJ20_offer_1 15 rfl rfl)
theorem dJ20_offer_39 : decode cJ20_offer 39 = .ok (.iadd, 1) := dk_96 (dk_at dksJ20_offer_1 16 rfl rfl)
theorem dJ20_offer_40 : decode cJ20_offer 40 = .ok (.invokevirtual 96, 3) := dk_182 0 96 (dk_at dksJ20_offer_1 17 rfl rfl)
theorem dJ20_offer_43 : decode cJ20_offer 43 = .ok (.aload_n 0, 1) := dk_42 (dk_at dksJ20_offer_1 20 rfl rfl)
theorem dJ20_offer_44 : decode cJ20_offer 44 = .ok (.iload_n 2, 1) := dk_28 (dk_at dksJ20_offer_1 21 rfl rfl)
theorem dJ20_offer_45 : decode cJ20_offer 45 = .ok (.aload_n 1, 1) := dk_43 (dk_at dksJ20_offer_1 22 rfl rfl)
theorem dJ20_offer_46 : decode cJ20_offer 46 = .ok (.invokevirtual 100, 3) := dk_182 0 100 (dk_at dksJ20_offer_2 0 rfl rfl)
theorem dJ20_offer_49 : decode cJ20_offer 49 = .ok (.aload_n 0, 1) := dk_42 (dk_at dksJ20_offer_2 3 rfl rfl)
theorem dJ20_offer_50 : decode cJ20_offer 50 = .ok (.iload_n 2, 1) := dk_28 (dk_at dksJ20_offer_2 4 rfl rfl)
theorem dJ20_offer_51 : decode cJ20_offer 51 = .ok (.iconst 1, 1) := dk_4 (dk_at dksJ20_offer_2 5 rfl rfl)
theorem dJ20_offer_52 : decode cJ20_offer 52 = .ok (.iadd, 1) := dk_96 (dk_at dksJ20_offer_2 6 rfl rfl)
theorem dJ20_offer_53 : decode cJ20_offer 53 = .ok (.putfield 58, 3) := dk_181 0 58 (dk_at dksJ20_offer_2 7 rfl rfl)
theorem dJ20_offer_56 : decode cJ20_offer 56 = .ok (.iconst 1, 1) := dk_4 (dk_at dksJ20_offer_2 10 rfl rfl)
theorem dJ20_offer_57 : decode cJ20_offer 57 = .ok (.ireturn, 1) := dk_172 (dk_at dksJ20_offer_2 11 rfl rfl)
abbrev cJ20_grow : ByteArray := prog_57_method_12_code
def yJ20_grow : MethodName := ⟨RJ20, "grow", "(I)V"⟩
def dkwJ20_grow_1 : List UInt8 := [122, 184, 0, 80, 62, 42, 42, 180, 0, 17, 29, 184, 0, 86, 181, 0, 17, 177]
abbrev dktJ20_grow_1 : List UInt8 := dkwJ20_grow_1 ++ []
def dkwJ20_grow_0 : List UInt8 := [42, 180, 0, 17, 190, 61, 28, 27, 28, 100, 28, 16, 64, 162, 0, 9, 28, 5, 96, 167, 0, 6, 28, 4]
abbrev dktJ20_grow_0 : List UInt8 := dkwJ20_grow_0 ++ dktJ20_grow_1
theorem dksJ20_grow_0 : cJ20_grow.data.toList.drop 0 = dktJ20_grow_0 := by decide +kernel
theorem dksJ20_grow_1 : cJ20_grow.data.toList.drop 24 = dktJ20_grow_1 := dk_seg dksJ20_grow_0 24 rfl rfl
theorem dJ20_grow_0 : decode cJ20_grow 0 = .ok (.aload_n 0, 1) := dk_42 (dk_at dksJ20_grow_0 0 rfl rfl)
theorem dJ20_grow_1 : decode cJ20_grow 1 = .ok (.getfield 17, 3) := dk_180 0 17 (dk_at dksJ20_grow_0 1 rfl rfl)
theorem dJ20_grow_4 : decode cJ20_grow 4 = .ok (.arraylength, 1) := dk_190 (dk_at dksJ20_grow_0 4 rfl rfl)
theorem dJ20_grow_5 : decode cJ20_grow 5 = .ok (.istore_n 2, 1) := dk_61 (dk_at dksJ20_grow_0 5 rfl rfl)
theorem dJ20_grow_6 : decode cJ20_grow 6 = .ok (.iload_n 2, 1) := dk_28 (dk_at dksJ20_grow_0 6 rfl rfl)
theorem dJ20_grow_7 : decode cJ20_grow 7 = .ok (.iload_n 1, 1) := dk_27 (dk_at dksJ20_grow_0 7 rfl rfl)
theorem dJ20_grow_8 : decode cJ20_grow 8 = .ok (.iload_n 2, 1) := dk_28 (dk_at dksJ20_grow_0 8 rfl rfl)
theorem dJ20_grow_9 : decode cJ20_grow 9 = .ok (.isub, 1) := dk_100 (dk_at dksJ20_grow_0 9 rfl rfl)
theorem dJ20_grow_10 : decode cJ20_grow 10 = .ok (.iload_n 2, 1) := dk_28 (dk_at dksJ20_grow_0 10 rfl rfl)
theorem dJ20_grow_11 : decode cJ20_grow 11 = .ok (.bipush 64, 2) := dk_16 64 (dk_at dksJ20_grow_0 11 rfl rfl)
theorem dJ20_grow_13 : decode cJ20_grow 13 = .ok (.if_icmp .ge 9, 3) := dk_162 0 9 (dk_at dksJ20_grow_0 13 rfl rfl)
theorem dJ20_grow_16 : decode cJ20_grow 16 = .ok (.iload_n 2, 1) := dk_28 (dk_at dksJ20_grow_0 16 rfl rfl)
theorem dJ20_grow_17 : decode cJ20_grow 17 = .ok (.iconst 2, 1) := dk_5 (dk_at dksJ20_grow_0 17 rfl rfl)
theorem dJ20_grow_18 : decode cJ20_grow 18 = .ok (.iadd, 1) := dk_96 (dk_at dksJ20_grow_0 18 rfl rfl)
theorem dJ20_grow_19 : decode cJ20_grow 19 = .ok (.goto 6, 3) := dk_167 0 6 (dk_at dksJ20_grow_0 19 rfl rfl)
theorem dJ20_grow_22 : decode cJ20_grow 22 = .ok (.iload_n 2, 1) := dk_28 (dk_at dksJ20_grow_0 22 rfl rfl)
theorem dJ20_grow_23 : decode cJ20_grow 23 = .ok (.iconst 1, 1) := dk_4 (dk_at dksJ20_grow_0 23 rfl rfl)
theorem dJ20_grow_24 : decode cJ20_grow 24 = .ok (.ishr, 1) := dk_122 (dk_at dksJ20_grow_1 0 rfl rfl)
theorem dJ20_grow_25 : decode cJ20_grow 25 = .ok (.invokestatic 80, 3) := dk_184 0 80 (dk_at dksJ20_grow_1 1 rfl rfl)
theorem dJ20_grow_28 : decode cJ20_grow 28 = .ok (.istore_n 3, 1) := dk_62 (dk_at dksJ20_grow_1 4 rfl rfl)
theorem dJ20_grow_29 : decode cJ20_grow 29 = .ok (.aload_n 0, 1) := dk_42 (dk_at dksJ20_grow_1 5 rfl rfl)
theorem dJ20_grow_30 : decode cJ20_grow 30 = .ok (.aload_n 0, 1) := dk_42 (dk_at dksJ20_grow_1 6 rfl rfl)
theorem dJ20_grow_31 : decode cJ20_grow 31 = .ok (.getfield 17, 3) := dk_180 0 17 (dk_at dksJ20_grow_1 7 rfl rfl)
theorem dJ20_grow_34 : decode cJ20_grow 34 = .ok (.iload_n 3, 1) := dk_29 (dk_at dksJ20_grow_1 10 rfl rfl)
theorem dJ20_grow_35 : decode cJ20_grow 35 = .ok (.invokestatic 86, 3) := dk_184 0 86 (dk_at dksJ20_grow_1 11 rfl rfl)
theorem dJ20_grow_38 : decode cJ20_grow 38 = .ok (.putfield 17, 3) := dk_181 0 17 (dk_at dksJ20_grow_1 14 rfl rfl)
theorem dJ20_grow_41 : decode cJ20_grow 41 = .ok (.return_, 1) := dk_177 (dk_at dksJ20_grow_1 17 rfl rfl)
abbrev cJ20_siftUp : ByteArray := prog_57_method_27_code
def yJ20_siftUp : MethodName := ⟨RJ20, "siftUp", "(ILjava/lang/Object;)V"⟩
def dkwJ20_siftUp_1 : List UInt8 := [44, 42, 180, 0, 17, 184, 0, 140, 177]
abbrev dktJ20_siftUp_1 : List UInt8 := dkwJ20_siftUp_1 ++ []
def dkwJ20_siftUp_0 : List UInt8 := [42, 180, 0, 21, 198, 0, 19, 27, 44, 42, 180, 0, 17, 42, 180, 0, 21, 184, 0, 136, 167, 0, 12, 27]
abbrev dktJ20_siftUp_0 : List UInt8 := dkwJ20_siftUp_0 ++ dktJ20_siftUp_1
theorem dksJ20_siftUp_0 : cJ20_siftUp.data.toList.drop 0 = dktJ20_siftUp_0 := by decide +kernel
theorem dksJ20_siftUp_1 : cJ20_siftUp.data.toList.drop 24 = dktJ20_siftUp_1 := dk_seg dksJ20_siftUp_0 24 rfl rfl
theorem dJ20_siftUp_0 : decode cJ20_siftUp 0 = .ok (.aload_n 0, 1) := dk_42 (dk_at dksJ20_siftUp_0 0 rfl rfl)
theorem dJ20_siftUp_1 : decode cJ20_siftUp 1 = .ok (.getfield 21, 3) := dk_180 0 21 (dk_at dksJ20_siftUp_0 1 rfl rfl)
theorem dJ20_siftUp_4 : decode cJ20_siftUp 4 = .ok (.ifnull 19, 3) := dk_198 0 19 (dk_at dksJ20_siftUp_0 4 rfl rfl)
theorem dJ20_siftUp_7 : decode cJ20_siftUp 7 = .ok (.iload_n 1, 1) := dk_27 (dk_at dksJ20_siftUp_0 7 rfl rfl)
theorem dJ20_siftUp_8 : decode cJ20_siftUp 8 = .ok (.aload_n 2, 1) := dk_44 (dk_at dksJ20_siftUp_0 8 rfl rfl)
theorem dJ20_siftUp_9 : decode cJ20_siftUp 9 = .ok (.aload_n 0, 1) := dk_42 (dk_at dksJ20_siftUp_0 9 rfl rfl)
theorem dJ20_siftUp_10 : decode cJ20_siftUp 10 = .ok (.getfield 17, 3) := dk_180 0 17 (dk_at dksJ20_siftUp_0 10 rfl rfl)
theorem dJ20_siftUp_13 : decode cJ20_siftUp 13 = .ok (.aload_n 0, 1) := dk_42 (dk_at dksJ20_siftUp_0 13 rfl rfl)
theorem dJ20_siftUp_14 : decode cJ20_siftUp 14 = .ok (.getfield 21, 3) := dk_180 0 21 (dk_at dksJ20_siftUp_0 14 rfl rfl)
theorem dJ20_siftUp_17 : decode cJ20_siftUp 17 = .ok (.invokestatic 136, 3) := dk_184 0 136 (dk_at dksJ20_siftUp_0 17 rfl rfl)
theorem dJ20_siftUp_20 : decode cJ20_siftUp 20 = .ok (.goto 12, 3) := dk_167 0 12 (dk_at dksJ20_siftUp_0 20 rfl rfl)
theorem dJ20_siftUp_23 : decode cJ20_siftUp 23 = .ok (.iload_n 1, 1) := dk_27 (dk_at dksJ20_siftUp_0 23 rfl rfl)
theorem dJ20_siftUp_24 : decode cJ20_siftUp 24 = .ok (.aload_n 2, 1) := dk_44 (dk_at dksJ20_siftUp_1 0 rfl rfl)
theorem dJ20_siftUp_25 : decode cJ20_siftUp 25 = .ok (.aload_n 0, 1) := dk_42 (dk_at dksJ20_siftUp_1 1 rfl rfl)
theorem dJ20_siftUp_26 : decode cJ20_siftUp 26 = .ok (.getfield 17, 3) := dk_180 0 17 (dk_at dksJ20_siftUp_1 2 rfl rfl)
theorem dJ20_siftUp_29 : decode cJ20_siftUp 29 = .ok (.invokestatic 140, 3) := dk_184 0 140 (dk_at dksJ20_siftUp_1 5 rfl rfl)
theorem dJ20_siftUp_32 : decode cJ20_siftUp 32 = .ok (.return_, 1) := dk_177 (dk_at dksJ20_siftUp_1 8 rfl rfl)
abbrev cJ20_siftUpUsingComparator : ByteArray := prog_57_method_29_code
def yJ20_siftUpUsingComparator : MethodName := ⟨RJ20, "siftUpUsingComparator", "(ILjava/lang/Object;[Ljava/lang/Object;Ljava/util/Comparator;)V"⟩
def dkwJ20_siftUpUsingComparator_2 : List UInt8 := [43, 83, 177]
abbrev dktJ20_siftUpUsingComparator_2 : List UInt8 := dkwJ20_siftUpUsingComparator_2 ++ []
def dkwJ20_siftUpUsingComparator_1 : List UInt8 := [185, 0, 149, 3, 0, 155, 0, 6, 167, 0, 14, 44, 26, 25, 5, 83, 21, 4, 59, 167, 255, 216, 44, 26]
abbrev dktJ20_siftUpUsingComparator_1 : List UInt8 := dkwJ20_siftUpUsingComparator_1 ++ dktJ20_siftUpUsingComparator_2
def dkwJ20_siftUpUsingComparator_0 : List UInt8 := [26, 158, 0, 42, 26, 4, 100, 4, 124, 54, 4, 44, 21, 4, 50, 58, 5, 45, 43, 25, 5]
abbrev dktJ20_siftUpUsingComparator_0 : List UInt8 := dkwJ20_siftUpUsingComparator_0 ++ dktJ20_siftUpUsingComparator_1
theorem dksJ20_siftUpUsingComparator_0 : cJ20_siftUpUsingComparator.data.toList.drop 0 = dktJ20_siftUpUsingComparator_0 := by decide +kernel
theorem dksJ20_siftUpUsingComparator_1 : cJ20_siftUpUsingComparator.data.toList.drop 21 = dktJ20_siftUpUsingComparator_1 := dk_seg dksJ20_siftUpUsingComparator_0 21 rfl rfl
theorem dksJ20_siftUpUsingComparator_2 : cJ20_siftUpUsingComparator.data.toList.drop 45 = dktJ20_siftUpUsingComparator_2 := dk_seg dksJ20_siftUpUsingComparator_1 24 rfl rfl
theorem dJ20_siftUpUsingComparator_0 : decode cJ20_siftUpUsingComparator 0 = .ok (.iload_n 0, 1) := dk_26 (dk_at dksJ20_siftUpUsingComparator_0 0 rfl rfl)
theorem dJ20_siftUpUsingComparator_1 : decode cJ20_siftUpUsingComparator 1 = .ok (.ifCond .le 42, 3) := dk_158 0 42 (dk_at dksJ20_siftUpUsingComparator_0 1 rfl rfl)
theorem dJ20_siftUpUsingComparator_4 : decode cJ20_siftUpUsingComparator 4 = .ok (.iload_n 0, 1) := dk_26 (dk_at dksJ20_siftUpUsingComparator_0 4 rfl rfl)
theorem dJ20_siftUpUsingComparator_5 : decode cJ20_siftUpUsingComparator 5 = .ok (.iconst 1, 1) := dk_4 (dk_at dksJ20_siftUpUsingComparator_0 5 rfl rfl)
theorem dJ20_siftUpUsingComparator_6 : decode cJ20_siftUpUsingComparator 6 = .ok (.isub, 1) := dk_100 (dk_at dksJ20_siftUpUsingComparator_0 6 rfl rfl)
theorem dJ20_siftUpUsingComparator_7 : decode cJ20_siftUpUsingComparator 7 = .ok (.iconst 1, 1) := dk_4 (dk_at dksJ20_siftUpUsingComparator_0 7 rfl rfl)
theorem dJ20_siftUpUsingComparator_8 : decode cJ20_siftUpUsingComparator 8 = .ok (.iushr, 1) := dk_124 (dk_at dksJ20_siftUpUsingComparator_0 8 rfl rfl)
theorem dJ20_siftUpUsingComparator_9 : decode cJ20_siftUpUsingComparator 9 = .ok (.istore 4, 2) := dk_54 4 (dk_at dksJ20_siftUpUsingComparator_0 9 rfl rfl)
theorem dJ20_siftUpUsingComparator_11 : decode cJ20_siftUpUsingComparator 11 = .ok (.aload_n 2, 1) := dk_44 (dk_at dksJ20_siftUpUsingComparator_0 11 rfl rfl)
theorem dJ20_siftUpUsingComparator_12 : decode cJ20_siftUpUsingComparator 12 = .ok (.iload 4, 2) := dk_21 4 (dk_at dksJ20_siftUpUsingComparator_0 12 rfl rfl)
theorem dJ20_siftUpUsingComparator_14 : decode cJ20_siftUpUsingComparator 14 = .ok (.aaload, 1) := dk_50 (dk_at dksJ20_siftUpUsingComparator_0 14 rfl rfl)
theorem dJ20_siftUpUsingComparator_15 : decode cJ20_siftUpUsingComparator 15 = .ok (.astore 5, 2) := dk_58 5 (dk_at dksJ20_siftUpUsingComparator_0 15 rfl rfl)
theorem dJ20_siftUpUsingComparator_17 : decode cJ20_siftUpUsingComparator 17 = .ok (.aload_n 3, 1) := dk_45 (dk_at dksJ20_siftUpUsingComparator_0 17 rfl rfl)
theorem dJ20_siftUpUsingComparator_18 : decode cJ20_siftUpUsingComparator 18 = .ok (.aload_n 1, 1) := dk_43 (dk_at dksJ20_siftUpUsingComparator_0 18 rfl rfl)
theorem dJ20_siftUpUsingComparator_19 : decode cJ20_siftUpUsingComparator 19 = .ok (.aload 5, 2) := dk_25 5 (dk_at dksJ20_siftUpUsingComparator_0 19 rfl rfl)
theorem dJ20_siftUpUsingComparator_21 : decode cJ20_siftUpUsingComparator 21 = .ok (.invokeinterface 149 3, 5) := by decide +kernel
theorem dJ20_siftUpUsingComparator_26 : decode cJ20_siftUpUsingComparator 26 = .ok (.ifCond .lt 6, 3) := dk_155 0 6 (dk_at dksJ20_siftUpUsingComparator_1 5 rfl rfl)
theorem dJ20_siftUpUsingComparator_29 : decode cJ20_siftUpUsingComparator 29 = .ok (.goto 14, 3) := dk_167 0 14 (dk_at dksJ20_siftUpUsingComparator_1 8 rfl rfl)
theorem dJ20_siftUpUsingComparator_32 : decode cJ20_siftUpUsingComparator 32 = .ok (.aload_n 2, 1) := dk_44 (dk_at dksJ20_siftUpUsingComparator_1 11 rfl rfl)
theorem dJ20_siftUpUsingComparator_33 : decode cJ20_siftUpUsingComparator 33 = .ok (.iload_n 0, 1) := dk_26 (dk_at dksJ20_siftUpUsingComparator_1 12 rfl rfl)
theorem dJ20_siftUpUsingComparator_34 : decode cJ20_siftUpUsingComparator 34 = .ok (.aload 5, 2) := dk_25 5 (dk_at dksJ20_siftUpUsingComparator_1 13 rfl rfl)
theorem dJ20_siftUpUsingComparator_36 : decode cJ20_siftUpUsingComparator 36 = .ok (.aastore, 1) := dk_83 (dk_at dksJ20_siftUpUsingComparator_1 15 rfl rfl)
theorem dJ20_siftUpUsingComparator_37 : decode cJ20_siftUpUsingComparator 37 = .ok (.iload 4, 2) := dk_21 4 (dk_at dksJ20_siftUpUsingComparator_1 16 rfl rfl)
theorem dJ20_siftUpUsingComparator_39 : decode cJ20_siftUpUsingComparator 39 = .ok (.istore_n 0, 1) := dk_59 (dk_at dksJ20_siftUpUsingComparator_1 18 rfl rfl)
theorem dJ20_siftUpUsingComparator_40 : decode cJ20_siftUpUsingComparator 40 = .ok (.goto (-40), 3) := dk_167 255 216 (dk_at dksJ20_siftUpUsingComparator_1 19 rfl rfl)
theorem dJ20_siftUpUsingComparator_43 : decode cJ20_siftUpUsingComparator 43 = .ok (.aload_n 2, 1) := dk_44 (dk_at dksJ20_siftUpUsingComparator_1 22 rfl rfl)
theorem dJ20_siftUpUsingComparator_44 : decode cJ20_siftUpUsingComparator 44 = .ok (.iload_n 0, 1) := dk_26 (dk_at dksJ20_siftUpUsingComparator_1 23 rfl rfl)
theorem dJ20_siftUpUsingComparator_45 : decode cJ20_siftUpUsingComparator 45 = .ok (.aload_n 1, 1) := dk_43 (dk_at dksJ20_siftUpUsingComparator_2 0 rfl rfl)
theorem dJ20_siftUpUsingComparator_46 : decode cJ20_siftUpUsingComparator 46 = .ok (.aastore, 1) := dk_83 (dk_at dksJ20_siftUpUsingComparator_2 1 rfl rfl)
theorem dJ20_siftUpUsingComparator_47 : decode cJ20_siftUpUsingComparator 47 = .ok (.return_, 1) := dk_177 (dk_at dksJ20_siftUpUsingComparator_2 2 rfl rfl)
abbrev cJ20_siftUpComparable : ByteArray := prog_57_method_28_code
def yJ20_siftUpComparable : MethodName := ⟨RJ20, "siftUpComparable", "(ILjava/lang/Object;[Ljava/lang/Object;)V"⟩
def dkwJ20_siftUpComparable_2 : List UInt8 := [44, 26, 45, 83, 177]
abbrev dktJ20_siftUpComparable_2 : List UInt8 := dkwJ20_siftUpComparable_2 ++ []
def dkwJ20_siftUpComparable_1 : List UInt8 := [25, 5, 185, 0, 146, 2, 0, 155, 0, 6, 167, 0, 14, 44, 26, 25, 5, 83, 21, 4, 59, 167, 255, 217]
abbrev dktJ20_siftUpComparable_1 : List UInt8 := dkwJ20_siftUpComparable_1 ++ dktJ20_siftUpComparable_2
def dkwJ20_siftUpComparable_0 : List UInt8 := [43, 192, 0, 144, 78, 26, 158, 0, 41, 26, 4, 100, 4, 124, 54, 4, 44, 21, 4, 50, 58, 5, 45]
abbrev dktJ20_siftUpComparable_0 : List UInt8 := dkwJ20_siftUpComparable_0 ++ dktJ20_siftUpComparable_1
theorem dksJ20_siftUpComparable_0 : cJ20_siftUpComparable.data.toList.drop 0 = dktJ20_siftUpComparable_0 := by decide +kernel
theorem dksJ20_siftUpComparable_1 : cJ20_siftUpComparable.data.toList.drop 23 = dktJ20_siftUpComparable_1 := dk_seg dksJ20_siftUpComparable_0 23 rfl rfl
theorem dksJ20_siftUpComparable_2 : cJ20_siftUpComparable.data.toList.drop 47 = dktJ20_siftUpComparable_2 := dk_seg dksJ20_siftUpComparable_1 24 rfl rfl
theorem dJ20_siftUpComparable_0 : decode cJ20_siftUpComparable 0 = .ok (.aload_n 1, 1) := dk_43 (dk_at dksJ20_siftUpComparable_0 0 rfl rfl)
theorem dJ20_siftUpComparable_1 : decode cJ20_siftUpComparable 1 = .ok (.checkcast 144, 3) := dk_192 0 144 (dk_at dksJ20_siftUpComparable_0 1 rfl rfl)
theorem dJ20_siftUpComparable_4 : decode cJ20_siftUpComparable 4 = .ok (.astore_n 3, 1) := dk_78 (dk_at dksJ20_siftUpComparable_0 4 rfl rfl)
theorem dJ20_siftUpComparable_5 : decode cJ20_siftUpComparable 5 = .ok (.iload_n 0, 1) := dk_26 (dk_at dksJ20_siftUpComparable_0 5 rfl rfl)
theorem dJ20_siftUpComparable_6 : decode cJ20_siftUpComparable 6 = .ok (.ifCond .le 41, 3) := dk_158 0 41 (dk_at dksJ20_siftUpComparable_0 6 rfl rfl)
theorem dJ20_siftUpComparable_9 : decode cJ20_siftUpComparable 9 = .ok (.iload_n 0, 1) := dk_26 (dk_at dksJ20_siftUpComparable_0 9 rfl rfl)
theorem dJ20_siftUpComparable_10 : decode cJ20_siftUpComparable 10 = .ok (.iconst 1, 1) := dk_4 (dk_at dksJ20_siftUpComparable_0 10 rfl rfl)
theorem dJ20_siftUpComparable_11 : decode cJ20_siftUpComparable 11 = .ok (.isub, 1) := dk_100 (dk_at dksJ20_siftUpComparable_0 11 rfl rfl)
theorem dJ20_siftUpComparable_12 : decode cJ20_siftUpComparable 12 = .ok (.iconst 1, 1) := dk_4 (dk_at dksJ20_siftUpComparable_0 12 rfl rfl)
theorem dJ20_siftUpComparable_13 : decode cJ20_siftUpComparable 13 = .ok (.iushr, 1) := dk_124 (dk_at dksJ20_siftUpComparable_0 13 rfl rfl)
theorem dJ20_siftUpComparable_14 : decode cJ20_siftUpComparable 14 = .ok (.istore 4, 2) := dk_54 4 (dk_at dksJ20_siftUpComparable_0 14 rfl rfl)
theorem dJ20_siftUpComparable_16 : decode cJ20_siftUpComparable 16 = .ok (.aload_n 2, 1) := dk_44 (dk_at dksJ20_siftUpComparable_0 16 rfl rfl)
theorem dJ20_siftUpComparable_17 : decode cJ20_siftUpComparable 17 = .ok (.iload 4, 2) := dk_21 4 (dk_at dksJ20_siftUpComparable_0 17 rfl rfl)
theorem dJ20_siftUpComparable_19 : decode cJ20_siftUpComparable 19 = .ok (.aaload, 1) := dk_50 (dk_at dksJ20_siftUpComparable_0 19 rfl rfl)
theorem dJ20_siftUpComparable_20 : decode cJ20_siftUpComparable 20 = .ok (.astore 5, 2) := dk_58 5 (dk_at dksJ20_siftUpComparable_0 20 rfl rfl)
theorem dJ20_siftUpComparable_22 : decode cJ20_siftUpComparable 22 = .ok (.aload_n 3, 1) := dk_45 (dk_at dksJ20_siftUpComparable_0 22 rfl rfl)
theorem dJ20_siftUpComparable_23 : decode cJ20_siftUpComparable 23 = .ok (.aload 5, 2) := dk_25 5 (dk_at dksJ20_siftUpComparable_1 0 rfl rfl)
theorem dJ20_siftUpComparable_25 : decode cJ20_siftUpComparable 25 = .ok (.invokeinterface 146 2, 5) := by decide +kernel
theorem dJ20_siftUpComparable_30 : decode cJ20_siftUpComparable 30 = .ok (.ifCond .lt 6, 3) := dk_155 0 6 (dk_at dksJ20_siftUpComparable_1 7 rfl rfl)
theorem dJ20_siftUpComparable_33 : decode cJ20_siftUpComparable 33 = .ok (.goto 14, 3) := dk_167 0 14 (dk_at dksJ20_siftUpComparable_1 10 rfl rfl)
theorem dJ20_siftUpComparable_36 : decode cJ20_siftUpComparable 36 = .ok (.aload_n 2, 1) := dk_44 (dk_at dksJ20_siftUpComparable_1 13 rfl rfl)
theorem dJ20_siftUpComparable_37 : decode cJ20_siftUpComparable 37 = .ok (.iload_n 0, 1) := dk_26 (dk_at dksJ20_siftUpComparable_1 14 rfl rfl)
theorem dJ20_siftUpComparable_38 : decode cJ20_siftUpComparable 38 = .ok (.aload 5, 2) := dk_25 5 (dk_at dksJ20_siftUpComparable_1 15 rfl rfl)
theorem dJ20_siftUpComparable_40 : decode cJ20_siftUpComparable 40 = .ok (.aastore, 1) := dk_83 (dk_at dksJ20_siftUpComparable_1 17 rfl rfl)
theorem dJ20_siftUpComparable_41 : decode cJ20_siftUpComparable 41 = .ok (.iload 4, 2) := dk_21 4 (dk_at dksJ20_siftUpComparable_1 18 rfl rfl)
theorem dJ20_siftUpComparable_43 : decode cJ20_siftUpComparable 43 = .ok (.istore_n 0, 1) := dk_59 (dk_at dksJ20_siftUpComparable_1 20 rfl rfl)
theorem dJ20_siftUpComparable_44 : decode cJ20_siftUpComparable 44 = .ok (.goto (-39), 3) := dk_167 255 217 (dk_at dksJ20_siftUpComparable_1 21 rfl rfl)
theorem dJ20_siftUpComparable_47 : decode cJ20_siftUpComparable 47 = .ok (.aload_n 2, 1) := dk_44 (dk_at dksJ20_siftUpComparable_2 0 rfl rfl)
theorem dJ20_siftUpComparable_48 : decode cJ20_siftUpComparable 48 = .ok (.iload_n 0, 1) := dk_26 (dk_at dksJ20_siftUpComparable_2 1 rfl rfl)
theorem dJ20_siftUpComparable_49 : decode cJ20_siftUpComparable 49 = .ok (.aload_n 3, 1) := dk_45 (dk_at dksJ20_siftUpComparable_2 2 rfl rfl)
theorem dJ20_siftUpComparable_50 : decode cJ20_siftUpComparable 50 = .ok (.aastore, 1) := dk_83 (dk_at dksJ20_siftUpComparable_2 3 rfl rfl)
theorem dJ20_siftUpComparable_51 : decode cJ20_siftUpComparable 51 = .ok (.return_, 1) := dk_177 (dk_at dksJ20_siftUpComparable_2 4 rfl rfl)
abbrev cJ20_size : ByteArray := prog_57_method_23_code
def yJ20_size : MethodName := ⟨RJ20, "size", "()I"⟩
theorem dJ20_size_0 : decode cJ20_size 0 = .ok (.aload_n 0, 1) := by decide +kernel
theorem dJ20_size_1 : decode cJ20_size 1 = .ok (.getfield 58, 3) := by decide +kernel
theorem dJ20_size_4 : decode cJ20_size 4 = .ok (.ireturn, 1) := by decide +kernel
abbrev cJ20_poll : ByteArray := prog_57_method_25_code
def yJ20_poll : MethodName := ⟨RJ20, "poll", "()Ljava/lang/Object;"⟩
def dkwJ20_poll_3 : List UInt8 := [43, 29, 25, 5, 184, 0, 129, 44, 176]
abbrev dktJ20_poll_3 : List UInt8 := dkwJ20_poll_3 ++ []
def dkwJ20_poll_2 : List UInt8 := [42, 180, 0, 21, 89, 58, 5, 199, 0, 14, 3, 25, 4, 43, 29, 184, 0, 125, 167, 0, 13, 3, 25, 4]
abbrev dktJ20_poll_2 : List UInt8 := dkwJ20_poll_2 ++ dktJ20_poll_3
def dkwJ20_poll_1 : List UInt8 := [42, 89, 180, 0, 58, 4, 100, 90, 181, 0, 58, 89, 62, 50, 58, 4, 43, 29, 1, 83, 29, 158, 0, 34]
abbrev dktJ20_poll_1 : List UInt8 := dkwJ20_poll_1 ++ dktJ20_poll_2
def dkwJ20_poll_0 : List UInt8 := [42, 180, 0, 17, 89, 76, 3, 50, 89, 77, 198, 0, 69, 42, 89, 180, 0, 93, 4, 96, 181, 0, 93, 43]
abbrev dktJ20_poll_0 : List UInt8 := dkwJ20_poll_0 ++ dktJ20_poll_1
theorem dksJ20_poll_0 : cJ20_poll.data.toList.drop 0 = dktJ20_poll_0 := by decide +kernel
theorem dksJ20_poll_1 : cJ20_poll.data.toList.drop 24 = dktJ20_poll_1 := dk_seg dksJ20_poll_0 24 rfl rfl
theorem dksJ20_poll_2 : cJ20_poll.data.toList.drop 48 = dktJ20_poll_2 := dk_seg dksJ20_poll_1 24 rfl rfl
theorem dksJ20_poll_3 : cJ20_poll.data.toList.drop 72 = dktJ20_poll_3 := dk_seg dksJ20_poll_2 24 rfl rfl
theorem dJ20_poll_0 : decode cJ20_poll 0 = .ok (.aload_n 0, 1) := dk_42 (dk_at dksJ20_poll_0 0 rfl rfl)
theorem dJ20_poll_1 : decode cJ20_poll 1 = .ok (.getfield 17, 3) := dk_180 0 17 (dk_at dksJ20_poll_0 1 rfl rfl)
theorem dJ20_poll_4 : decode cJ20_poll 4 = .ok (.dup, 1) := dk_89 (dk_at dksJ20_poll_0 4 rfl rfl)
theorem dJ20_poll_5 : decode cJ20_poll 5 = .ok (.astore_n 1, 1) := dk_76 (dk_at dksJ20_poll_0 5 rfl rfl)
theorem dJ20_poll_6 : decode cJ20_poll 6 = .ok (.iconst 0, 1) := dk_3 (dk_at dksJ20_poll_0 6 rfl rfl)
theorem dJ20_poll_7 : decode cJ20_poll 7 = .ok (.aaload, 1) := dk_50 (dk_at dksJ20_poll_0 7 rfl rfl)
theorem dJ20_poll_8 : decode cJ20_poll 8 = .ok (.dup, 1) := dk_89 (dk_at dksJ20_poll_0 8 rfl rfl)
theorem dJ20_poll_9 : decode cJ20_poll 9 = .ok (.astore_n 2, 1) := dk_77 (dk_at dksJ20_poll_0 9 rfl rfl)
theorem dJ20_poll_10 : decode cJ20_poll 10 = .ok (.ifnull 69, 3) := dk_198 0 69 (dk_at dksJ20_poll_0 10 rfl rfl)
theorem dJ20_poll_13 : decode cJ20_poll 13 = .ok (.aload_n 0, 1) := dk_42 (dk_at dksJ20_poll_0 13 rfl rfl)
theorem dJ20_poll_14 : decode cJ20_poll 14 = .ok (.dup, 1) := dk_89 (dk_at dksJ20_poll_0 14 rfl rfl)
theorem dJ20_poll_15 : decode cJ20_poll 15 = .ok (.getfield 93, 3) := dk_180 0 93 (dk_at dksJ20_poll_0 15 rfl rfl)
theorem dJ20_poll_18 : decode cJ20_poll 18 = .ok (.iconst 1, 1) := dk_4 (dk_at dksJ20_poll_0 18 rfl rfl)
theorem dJ20_poll_19 : decode cJ20_poll 19 = .ok (.iadd, 1) := dk_96 (dk_at dksJ20_poll_0 19 rfl rfl)
theorem dJ20_poll_20 : decode cJ20_poll 20 = .ok (.putfield 93, 3) := dk_181 0 93 (dk_at dksJ20_poll_0 20 rfl rfl)
theorem dJ20_poll_23 : decode cJ20_poll 23 = .ok (.aload_n 1, 1) := dk_43 (dk_at dksJ20_poll_0 23 rfl rfl)
theorem dJ20_poll_24 : decode cJ20_poll 24 = .ok (.aload_n 0, 1) := dk_42 (dk_at dksJ20_poll_1 0 rfl rfl)
theorem dJ20_poll_25 : decode cJ20_poll 25 = .ok (.dup, 1) := dk_89 (dk_at dksJ20_poll_1 1 rfl rfl)
theorem dJ20_poll_26 : decode cJ20_poll 26 = .ok (.getfield 58, 3) := dk_180 0 58 (dk_at dksJ20_poll_1 2 rfl rfl)
theorem dJ20_poll_29 : decode cJ20_poll 29 = .ok (.iconst 1, 1) := dk_4 (dk_at dksJ20_poll_1 5 rfl rfl)
theorem dJ20_poll_30 : decode cJ20_poll 30 = .ok (.isub, 1) := dk_100 (dk_at dksJ20_poll_1 6 rfl rfl)
theorem dJ20_poll_31 : decode cJ20_poll 31 = .ok (.dup_x1, 1) := dk_90 (dk_at dksJ20_poll_1 7 rfl rfl)
theorem dJ20_poll_32 : decode cJ20_poll 32 = .ok (.putfield 58, 3) := dk_181 0 58 (dk_at dksJ20_poll_1 8 rfl rfl)
theorem dJ20_poll_35 : decode cJ20_poll 35 = .ok (.dup, 1) := dk_89 (dk_at dksJ20_poll_1 11 rfl rfl)
theorem dJ20_poll_36 : decode cJ20_poll 36 = .ok (.istore_n 3, 1) := dk_62 (dk_at dksJ20_poll_1 12 rfl rfl)
theorem dJ20_poll_37 : decode cJ20_poll 37 = .ok (.aaload, 1) := dk_50 (dk_at dksJ20_poll_1 13 rfl rfl)
theorem dJ20_poll_38 : decode cJ20_poll 38 = .ok (.astore 4, 2) := dk_58 4 (dk_at dksJ20_poll_1 14 rfl rfl)
theorem dJ20_poll_40 : decode cJ20_poll 40 = .ok (.aload_n 1, 1) := dk_43 (dk_at dksJ20_poll_1 16 rfl rfl)
theorem dJ20_poll_41 : decode cJ20_poll 41 = .ok (.iload_n 3, 1) := dk_29 (dk_at dksJ20_poll_1 17 rfl rfl)
theorem dJ20_poll_42 : decode cJ20_poll 42 = .ok (.aconst_null, 1) := dk_1 (dk_at dksJ20_poll_1 18 rfl rfl)
theorem dJ20_poll_43 : decode cJ20_poll 43 = .ok (.aastore, 1) := dk_83 (dk_at dksJ20_poll_1 19 rfl rfl)
theorem dJ20_poll_44 : decode cJ20_poll 44 = .ok (.iload_n 3, 1) := dk_29 (dk_at dksJ20_poll_1 20 rfl rfl)
theorem dJ20_poll_45 : decode cJ20_poll 45 = .ok (.ifCond .le 34, 3) := dk_158 0 34 (dk_at dksJ20_poll_1 21 rfl rfl)
theorem dJ20_poll_48 : decode cJ20_poll 48 = .ok (.aload_n 0, 1) := dk_42 (dk_at dksJ20_poll_2 0 rfl rfl)
theorem dJ20_poll_49 : decode cJ20_poll 49 = .ok (.getfield 21, 3) := dk_180 0 21 (dk_at dksJ20_poll_2 1 rfl rfl)
theorem dJ20_poll_52 : decode cJ20_poll 52 = .ok (.dup, 1) := dk_89 (dk_at dksJ20_poll_2 4 rfl rfl)
theorem dJ20_poll_53 : decode cJ20_poll 53 = .ok (.astore 5, 2) := dk_58 5 (dk_at dksJ20_poll_2 5 rfl rfl)
theorem dJ20_poll_55 : decode cJ20_poll 55 = .ok (.ifnonnull 14, 3) := dk_199 0 14 (dk_at dksJ20_poll_2 7 rfl rfl)
theorem dJ20_poll_58 : decode cJ20_poll 58 = .ok (.iconst 0, 1) := dk_3 (dk_at dksJ20_poll_2 10 rfl rfl)
theorem dJ20_poll_59 : decode cJ20_poll 59 = .ok (.aload 4, 2) := dk_25 4 (dk_at dksJ20_poll_2 11 rfl rfl)
theorem dJ20_poll_61 : decode cJ20_poll 61 = .ok (.aload_n 1, 1) := dk_43 (dk_at dksJ20_poll_2 13 rfl rfl)
theorem dJ20_poll_62 : decode cJ20_poll 62 = .ok (.iload_n 3, 1) := dk_29 (dk_at dksJ20_poll_2 14 rfl rfl)
theorem dJ20_poll_63 : decode cJ20_poll 63 = .ok (.invokestatic 125, 3) := dk_184 0 125 (dk_at dksJ20_poll_2 15 rfl rfl)
theorem dJ20_poll_66 : decode cJ20_poll 66 = .ok (.goto 13, 3) := dk_167 0 13 (dk_at dksJ20_poll_2 18 rfl rfl)
theorem dJ20_poll_69 : decode cJ20_poll 69 = .ok (.iconst 0, 1) := dk_3 (dk_at dksJ20_poll_2 21 rfl rfl)
theorem dJ20_poll_70 : decode cJ20_poll 70 = .ok (.aload 4, 2) := dk_25 4 (dk_at dksJ20_poll_2 22 rfl rfl)
theorem dJ20_poll_72 : decode cJ20_poll 72 = .ok (.aload_n 1, 1) := dk_43 (dk_at dksJ20_poll_3 0 rfl rfl)
theorem dJ20_poll_73 : decode cJ20_poll 73 = .ok (.iload_n 3, 1) := dk_29 (dk_at dksJ20_poll_3 1 rfl rfl)
theorem dJ20_poll_74 : decode cJ20_poll 74 = .ok (.aload 5, 2) := dk_25 5 (dk_at dksJ20_poll_3 2 rfl rfl)
theorem dJ20_poll_76 : decode cJ20_poll 76 = .ok (.invokestatic 129, 3) := dk_184 0 129 (dk_at dksJ20_poll_3 4 rfl rfl)
theorem dJ20_poll_79 : decode cJ20_poll 79 = .ok (.aload_n 2, 1) := dk_44 (dk_at dksJ20_poll_3 7 rfl rfl)
theorem dJ20_poll_80 : decode cJ20_poll 80 = .ok (.areturn, 1) := dk_176 (dk_at dksJ20_poll_3 8 rfl rfl)
abbrev cJ20_siftDownComparable : ByteArray := prog_57_method_31_code
def yJ20_siftDownComparable : MethodName := ⟨RJ20, "siftDownComparable", "(ILjava/lang/Object;[Ljava/lang/Object;I)V"⟩
def dkwJ20_siftDownComparable_4 : List UInt8 := [25, 4, 83, 177]
abbrev dktJ20_siftDownComparable_4 : List UInt8 := dkwJ20_siftDownComparable_4 ++ []
def dkwJ20_siftDownComparable_3 : List UInt8 := [185, 0, 146, 2, 0, 157, 0, 6, 167, 0, 14, 44, 26, 25, 7, 83, 21, 6, 59, 167, 255, 176, 44, 26]
abbrev dktJ20_siftDownComparable_3 : List UInt8 := dkwJ20_siftDownComparable_3 ++ dktJ20_siftDownComparable_4
def dkwJ20_siftDownComparable_2 : List UInt8 := [21, 8, 50, 185, 0, 146, 2, 0, 158, 0, 12, 44, 21, 8, 89, 54, 6, 50, 58, 7, 25, 4, 25, 7]
abbrev dktJ20_siftDownComparable_2 : List UInt8 := dkwJ20_siftDownComparable_2 ++ dktJ20_siftDownComparable_3
def dkwJ20_siftDownComparable_1 : List UInt8 := [44, 21, 6, 50, 58, 7, 21, 6, 4, 96, 54, 8, 21, 8, 29, 162, 0, 29, 25, 7, 192, 0, 144, 44]
abbrev dktJ20_siftDownComparable_1 : List UInt8 := dkwJ20_siftDownComparable_1 ++ dktJ20_siftDownComparable_2
def dkwJ20_siftDownComparable_0 : List UInt8 := [43, 192, 0, 144, 58, 4, 29, 4, 124, 54, 5, 26, 21, 5, 162, 0, 80, 26, 4, 120, 4, 96, 54, 6]
abbrev dktJ20_siftDownComparable_0 : List UInt8 := dkwJ20_siftDownComparable_0 ++ dktJ20_siftDownComparable_1
theorem dksJ20_siftDownComparable_0 : cJ20_siftDownComparable.data.toList.drop 0 = dktJ20_siftDownComparable_0 := by decide +kernel
theorem dksJ20_siftDownComparable_1 : cJ20_siftDownComparable.data.toList.drop 24 = dktJ20_siftDownComparable_1 := dk_seg dksJ20_siftDownComparable_0 24 rfl rfl
theorem dksJ20_siftDownComparable_2 : cJ20_siftDownComparable.data.toList.drop 48 = dktJ20_siftDownComparable_2 := dk_seg dksJ20_siftDownComparable_1 24 rfl rfl
theorem dksJ20_siftDownComparable_3 : cJ20_siftDownComparable.data.toList.drop 72 = dktJ20_siftDownComparable_3 := dk_seg dksJ20_siftDownComparable_2 24 rfl rfl
theorem dksJ20_siftDownComparable_4 : cJ20_siftDownComparable.data.toList.drop 96 = dktJ20_siftDownComparable_4 := dk_seg dksJ20_siftDownComparable_3 24 rfl rfl
theorem dJ20_siftDownComparable_0 : decode cJ20_siftDownComparable 0 = .ok (.aload_n 1, 1) := dk_43 (dk_at dksJ20_siftDownComparable_0 0 rfl rfl)
theorem dJ20_siftDownComparable_1 : decode cJ20_siftDownComparable 1 = .ok (.checkcast 144, 3) := dk_192 0 144 (dk_at dksJ20_siftDownComparable_0 1 rfl rfl)
theorem dJ20_siftDownComparable_4 : decode cJ20_siftDownComparable 4 = .ok (.astore 4, 2) := dk_58 4 (dk_at dksJ20_siftDownComparable_0 4 rfl rfl)
theorem dJ20_siftDownComparable_6 : decode cJ20_siftDownComparable 6 = .ok (.iload_n 3, 1) := dk_29 (dk_at dksJ20_siftDownComparable_0 6 rfl rfl)
theorem dJ20_siftDownComparable_7 : decode cJ20_siftDownComparable 7 = .ok (.iconst 1, 1) := dk_4 (dk_at dksJ20_siftDownComparable_0 7 rfl rfl)
theorem dJ20_siftDownComparable_8 : decode cJ20_siftDownComparable 8 = .ok (.iushr, 1) := dk_124 (dk_at dksJ20_siftDownComparable_0 8 rfl rfl)
theorem dJ20_siftDownComparable_9 : decode cJ20_siftDownComparable 9 = .ok (.istore 5, 2) := dk_54 5 (dk_at dksJ20_siftDownComparable_0 9 rfl rfl)
theorem dJ20_siftDownComparable_11 : decode cJ20_siftDownComparable 11 = .ok (.iload_n 0, 1) := dk_26 (dk_at dksJ20_siftDownComparable_0 11 rfl rfl)
theorem dJ20_siftDownComparable_12 : decode cJ20_siftDownComparable 12 = .ok (.iload 5, 2) := dk_21 5 (dk_at dksJ20_siftDownComparable_0 12 rfl rfl)
theorem dJ20_siftDownComparable_14 : decode cJ20_siftDownComparable 14 = .ok (.if_icmp .ge 80, 3) := dk_162 0 80 (dk_at dksJ20_siftDownComparable_0 14 rfl rfl)
theorem dJ20_siftDownComparable_17 : decode cJ20_siftDownComparable 17 = .ok (.iload_n 0, 1) := dk_26 (dk_at dksJ20_siftDownComparable_0 17 rfl rfl)
theorem dJ20_siftDownComparable_18 : decode cJ20_siftDownComparable 18 = .ok (.iconst 1, 1) := dk_4 (dk_at dksJ20_siftDownComparable_0 18 rfl rfl)
theorem dJ20_siftDownComparable_19 : decode cJ20_siftDownComparable 19 = .ok (.ishl, 1) := dk_120 (dk_at dksJ20_siftDownComparable_0 19 rfl rfl)
theorem dJ20_siftDownComparable_20 : decode cJ20_siftDownComparable 20 = .ok (.iconst 1, 1) := dk_4 (dk_at dksJ20_siftDownComparable_0 20 rfl rfl)
theorem dJ20_siftDownComparable_21 : decode cJ20_siftDownComparable 21 = .ok (.iadd, 1) := dk_96 (dk_at dksJ20_siftDownComparable_0 21 rfl rfl)
theorem dJ20_siftDownComparable_22 : decode cJ20_siftDownComparable 22 = .ok (.istore 6, 2) := dk_54 6 (dk_at dksJ20_siftDownComparable_0 22 rfl rfl)
theorem dJ20_siftDownComparable_24 : decode cJ20_siftDownComparable 24 = .ok (.aload_n 2, 1) := dk_44 (dk_at dksJ20_siftDownComparable_1 0 rfl rfl)
theorem dJ20_siftDownComparable_25 : decode cJ20_siftDownComparable 25 = .ok (.iload 6, 2) := dk_21 6 (dk_at dksJ20_siftDownComparable_1 1 rfl rfl)
theorem dJ20_siftDownComparable_27 : decode cJ20_siftDownComparable 27 = .ok (.aaload, 1) := dk_50 (dk_at dksJ20_siftDownComparable_1 3 rfl rfl)
theorem dJ20_siftDownComparable_28 : decode cJ20_siftDownComparable 28 = .ok (.astore 7, 2) := dk_58 7 (dk_at dksJ20_siftDownComparable_1 4 rfl rfl)
theorem dJ20_siftDownComparable_30 : decode cJ20_siftDownComparable 30 = .ok (.iload 6, 2) := dk_21 6 (dk_at dksJ20_siftDownComparable_1 6 rfl rfl)
theorem dJ20_siftDownComparable_32 : decode cJ20_siftDownComparable 32 = .ok (.iconst 1, 1) := dk_4 (dk_at dksJ20_siftDownComparable_1 8 rfl rfl)
theorem dJ20_siftDownComparable_33 : decode cJ20_siftDownComparable 33 = .ok (.iadd, 1) := dk_96 (dk_at dksJ20_siftDownComparable_1 9 rfl rfl)
theorem dJ20_siftDownComparable_34 : decode cJ20_siftDownComparable 34 = .ok (.istore 8, 2) := dk_54 8 (dk_at dksJ20_siftDownComparable_1 10 rfl rfl)
theorem dJ20_siftDownComparable_36 : decode cJ20_siftDownComparable 36 = .ok (.iload 8, 2) := dk_21 8 (dk_at dksJ20_siftDownComparable_1 12 rfl rfl)
theorem dJ20_siftDownComparable_38 : decode cJ20_siftDownComparable 38 = .ok (.iload_n 3, 1) := dk_29 (dk_at dksJ20_siftDownComparable_1 14 rfl rfl)
theorem dJ20_siftDownComparable_39 : decode cJ20_siftDownComparable 39 = .ok (.if_icmp .ge 29, 3) := dk_162 0 29 (dk_at dksJ20_siftDownComparable_1 15 rfl rfl)
theorem dJ20_siftDownComparable_42 : decode cJ20_siftDownComparable 42 = .ok (.aload 7, 2) := dk_25 7 (dk_at dksJ20_siftDownComparable_1 18 rfl rfl)
theorem dJ20_siftDownComparable_44 : decode cJ20_siftDownComparable 44 = .ok (.checkcast 144, 3) := dk_192 0 144 (dk_at dksJ20_siftDownComparable_1 20 rfl rfl)
theorem dJ20_siftDownComparable_47 : decode cJ20_siftDownComparable 47 = .ok (.aload_n 2, 1) := dk_44 (dk_at dksJ20_siftDownComparable_1 23 rfl rfl)
theorem dJ20_siftDownComparable_48 : decode cJ20_siftDownComparable 48 = .ok (.iload 8, 2) := dk_21 8 (dk_at dksJ20_siftDownComparable_2 0 rfl rfl)
theorem dJ20_siftDownComparable_50 : decode cJ20_siftDownComparable 50 = .ok (.aaload, 1) := dk_50 (dk_at dksJ20_siftDownComparable_2 2 rfl rfl)
theorem dJ20_siftDownComparable_51 : decode cJ20_siftDownComparable 51 = .ok (.invokeinterface 146 2, 5) := by decide +kernel
theorem dJ20_siftDownComparable_56 : decode cJ20_siftDownComparable 56 = .ok (.ifCond .le 12, 3) := dk_158 0 12 (dk_at dksJ20_siftDownComparable_2 8 rfl rfl)
theorem dJ20_siftDownComparable_59 : decode cJ20_siftDownComparable 59 = .ok (.aload_n 2, 1) := dk_44 (dk_at dksJ20_siftDownComparable_2 11 rfl rfl)
theorem dJ20_siftDownComparable_60 : decode cJ20_siftDownComparable 60 = .ok (.iload 8, 2) := dk_21 8 (dk_at dksJ20_siftDownComparable_2 12 rfl rfl)
theorem dJ20_siftDownComparable_62 : decode cJ20_siftDownComparable 62 = .ok (.dup, 1) := dk_89 (dk_at dksJ20_siftDownComparable_2 14 rfl rfl)
theorem dJ20_siftDownComparable_63 : decode cJ20_siftDownComparable 63 = .ok (.istore 6, 2) := dk_54 6 (dk_at dksJ20_siftDownComparable_2 15 rfl rfl)
theorem dJ20_siftDownComparable_65 : decode cJ20_siftDownComparable 65 = .ok (.aaload, 1) := dk_50 (dk_at dksJ20_siftDownComparable_2 17 rfl rfl)
theorem dJ20_siftDownComparable_66 : decode cJ20_siftDownComparable 66 = .ok (.astore 7, 2) := dk_58 7 (dk_at dksJ20_siftDownComparable_2 18 rfl rfl)
theorem dJ20_siftDownComparable_68 : decode cJ20_siftDownComparable 68 = .ok (.aload 4, 2) := dk_25 4 (dk_at dksJ20_siftDownComparable_2 20 rfl rfl)
theorem dJ20_siftDownComparable_70 : decode cJ20_siftDownComparable 70 = .ok (.aload 7, 2) := dk_25 7 (dk_at dksJ20_siftDownComparable_2 22 rfl rfl)
theorem dJ20_siftDownComparable_72 : decode cJ20_siftDownComparable 72 = .ok (.invokeinterface 146 2, 5) := by decide +kernel
theorem dJ20_siftDownComparable_77 : decode cJ20_siftDownComparable 77 = .ok (.ifCond .gt 6, 3) := dk_157 0 6 (dk_at dksJ20_siftDownComparable_3 5 rfl rfl)
theorem dJ20_siftDownComparable_80 : decode cJ20_siftDownComparable 80 = .ok (.goto 14, 3) := dk_167 0 14 (dk_at dksJ20_siftDownComparable_3 8 rfl rfl)
theorem dJ20_siftDownComparable_83 : decode cJ20_siftDownComparable 83 = .ok (.aload_n 2, 1) := dk_44 (dk_at dksJ20_siftDownComparable_3 11 rfl rfl)
theorem dJ20_siftDownComparable_84 : decode cJ20_siftDownComparable 84 = .ok (.iload_n 0, 1) := dk_26 (dk_at dksJ20_siftDownComparable_3 12 rfl rfl)
theorem dJ20_siftDownComparable_85 : decode cJ20_siftDownComparable 85 = .ok (.aload 7, 2) := dk_25 7 (dk_at dksJ20_siftDownComparable_3 13 rfl rfl)
theorem dJ20_siftDownComparable_87 : decode cJ20_siftDownComparable 87 = .ok (.aastore, 1) := dk_83 (dk_at dksJ20_siftDownComparable_3 15 rfl rfl)
theorem dJ20_siftDownComparable_88 : decode cJ20_siftDownComparable 88 = .ok (.iload 6, 2) := dk_21 6 (dk_at dksJ20_siftDownComparable_3 16 rfl rfl)
theorem dJ20_siftDownComparable_90 : decode cJ20_siftDownComparable 90 = .ok (.istore_n 0, 1) := dk_59 (dk_at dksJ20_siftDownComparable_3 18 rfl rfl)
theorem dJ20_siftDownComparable_91 : decode cJ20_siftDownComparable 91 = .ok (.goto (-80), 3) := dk_167 255 176 (dk_at dksJ20_siftDownComparable_3 19 rfl rfl)
theorem dJ20_siftDownComparable_94 : decode cJ20_siftDownComparable 94 = .ok (.aload_n 2, 1) := dk_44 (dk_at dksJ20_siftDownComparable_3 22 rfl rfl)
theorem dJ20_siftDownComparable_95 : decode cJ20_siftDownComparable 95 = .ok (.iload_n 0, 1) := dk_26 (dk_at dksJ20_siftDownComparable_3 23 rfl rfl)
theorem dJ20_siftDownComparable_96 : decode cJ20_siftDownComparable 96 = .ok (.aload 4, 2) := dk_25 4 (dk_at dksJ20_siftDownComparable_4 0 rfl rfl)
theorem dJ20_siftDownComparable_98 : decode cJ20_siftDownComparable 98 = .ok (.aastore, 1) := dk_83 (dk_at dksJ20_siftDownComparable_4 2 rfl rfl)
theorem dJ20_siftDownComparable_99 : decode cJ20_siftDownComparable 99 = .ok (.return_, 1) := dk_177 (dk_at dksJ20_siftDownComparable_4 3 rfl rfl)
abbrev cJ20_siftDownUsingComparator : ByteArray := prog_57_method_32_code
def yJ20_siftDownUsingComparator : MethodName := ⟨RJ20, "siftDownUsingComparator", "(ILjava/lang/Object;[Ljava/lang/Object;ILjava/util/Comparator;)V"⟩
def dkwJ20_siftDownUsingComparator_4 : List UInt8 := [43, 83, 177]
abbrev dktJ20_siftDownUsingComparator_4 : List UInt8 := dkwJ20_siftDownUsingComparator_4 ++ []
def dkwJ20_siftDownUsingComparator_3 : List UInt8 := [185, 0, 149, 3, 0, 157, 0, 6, 167, 0, 14, 44, 26, 25, 7, 83, 21, 6, 59, 167, 255, 176, 44, 26]
abbrev dktJ20_siftDownUsingComparator_3 : List UInt8 := dkwJ20_siftDownUsingComparator_3 ++ dktJ20_siftDownUsingComparator_4
def dkwJ20_siftDownUsingComparator_2 : List UInt8 := [185, 0, 149, 3, 0, 158, 0, 12, 44, 21, 8, 89, 54, 6, 50, 58, 7, 25, 4, 43, 25, 7]
abbrev dktJ20_siftDownUsingComparator_2 : List UInt8 := dkwJ20_siftDownUsingComparator_2 ++ dktJ20_siftDownUsingComparator_3
def dkwJ20_siftDownUsingComparator_1 : List UInt8 := [21, 6, 4, 96, 54, 8, 21, 8, 29, 162, 0, 28, 25, 4, 25, 7, 44, 21, 8, 50]
abbrev dktJ20_siftDownUsingComparator_1 : List UInt8 := dkwJ20_siftDownUsingComparator_1 ++ dktJ20_siftDownUsingComparator_2
def dkwJ20_siftDownUsingComparator_0 : List UInt8 := [29, 4, 124, 54, 5, 26, 21, 5, 162, 0, 80, 26, 4, 120, 4, 96, 54, 6, 44, 21, 6, 50, 58, 7]
abbrev dktJ20_siftDownUsingComparator_0 : List UInt8 := dkwJ20_siftDownUsingComparator_0 ++ dktJ20_siftDownUsingComparator_1
theorem dksJ20_siftDownUsingComparator_0 : cJ20_siftDownUsingComparator.data.toList.drop 0 = dktJ20_siftDownUsingComparator_0 := by decide +kernel
theorem dksJ20_siftDownUsingComparator_1 : cJ20_siftDownUsingComparator.data.toList.drop 24 = dktJ20_siftDownUsingComparator_1 := dk_seg dksJ20_siftDownUsingComparator_0 24 rfl rfl
theorem dksJ20_siftDownUsingComparator_2 : cJ20_siftDownUsingComparator.data.toList.drop 44 = dktJ20_siftDownUsingComparator_2 := dk_seg dksJ20_siftDownUsingComparator_1 20 rfl rfl
theorem dksJ20_siftDownUsingComparator_3 : cJ20_siftDownUsingComparator.data.toList.drop 66 = dktJ20_siftDownUsingComparator_3 := dk_seg dksJ20_siftDownUsingComparator_2 22 rfl rfl
theorem dksJ20_siftDownUsingComparator_4 : cJ20_siftDownUsingComparator.data.toList.drop 90 = dktJ20_siftDownUsingComparator_4 := dk_seg dksJ20_siftDownUsingComparator_3 24 rfl rfl
theorem dJ20_siftDownUsingComparator_0 : decode cJ20_siftDownUsingComparator 0 = .ok (.iload_n 3, 1) := dk_29 (dk_at dksJ20_siftDownUsingComparator_0 0 rfl rfl)
theorem dJ20_siftDownUsingComparator_1 : decode cJ20_siftDownUsingComparator 1 = .ok (.iconst 1, 1) := dk_4 (dk_at dksJ20_siftDownUsingComparator_0 1 rfl rfl)
theorem dJ20_siftDownUsingComparator_2 : decode cJ20_siftDownUsingComparator 2 = .ok (.iushr, 1) := dk_124 (dk_at dksJ20_siftDownUsingComparator_0 2 rfl rfl)
theorem dJ20_siftDownUsingComparator_3 : decode cJ20_siftDownUsingComparator 3 = .ok (.istore 5, 2) := dk_54 5 (dk_at dksJ20_siftDownUsingComparator_0 3 rfl rfl)
theorem dJ20_siftDownUsingComparator_5 : decode cJ20_siftDownUsingComparator 5 = .ok (.iload_n 0, 1) := dk_26 (dk_at dksJ20_siftDownUsingComparator_0 5 rfl rfl)
theorem dJ20_siftDownUsingComparator_6 : decode cJ20_siftDownUsingComparator 6 = .ok (.iload 5, 2) := dk_21 5 (dk_at dksJ20_siftDownUsingComparator_0 6 rfl rfl)
theorem dJ20_siftDownUsingComparator_8 : decode cJ20_siftDownUsingComparator 8 = .ok (.if_icmp .ge 80, 3) := dk_162 0 80 (dk_at dksJ20_siftDownUsingComparator_0 8 rfl rfl)
theorem dJ20_siftDownUsingComparator_11 : decode cJ20_siftDownUsingComparator 11 = .ok (.iload_n 0, 1) := dk_26 (dk_at dksJ20_siftDownUsingComparator_0 11 rfl rfl)
theorem dJ20_siftDownUsingComparator_12 : decode cJ20_siftDownUsingComparator 12 = .ok (.iconst 1, 1) := dk_4 (dk_at dksJ20_siftDownUsingComparator_0 12 rfl rfl)
theorem dJ20_siftDownUsingComparator_13 : decode cJ20_siftDownUsingComparator 13 = .ok (.ishl, 1) := dk_120 (dk_at dksJ20_siftDownUsingComparator_0 13 rfl rfl)
theorem dJ20_siftDownUsingComparator_14 : decode cJ20_siftDownUsingComparator 14 = .ok (.iconst 1, 1) := dk_4 (dk_at dksJ20_siftDownUsingComparator_0 14 rfl rfl)
theorem dJ20_siftDownUsingComparator_15 : decode cJ20_siftDownUsingComparator 15 = .ok (.iadd, 1) := dk_96 (dk_at dksJ20_siftDownUsingComparator_0 15 rfl rfl)
theorem dJ20_siftDownUsingComparator_16 : decode cJ20_siftDownUsingComparator 16 = .ok (.istore 6, 2) := dk_54 6 (dk_at dksJ20_siftDownUsingComparator_0 16 rfl rfl)
theorem dJ20_siftDownUsingComparator_18 : decode cJ20_siftDownUsingComparator 18 = .ok (.aload_n 2, 1) := dk_44 (dk_at dksJ20_siftDownUsingComparator_0 18 rfl rfl)
theorem dJ20_siftDownUsingComparator_19 : decode cJ20_siftDownUsingComparator 19 = .ok (.iload 6, 2) := dk_21 6 (dk_at dksJ20_siftDownUsingComparator_0 19 rfl rfl)
theorem dJ20_siftDownUsingComparator_21 : decode cJ20_siftDownUsingComparator 21 = .ok (.aaload, 1) := dk_50 (dk_at dksJ20_siftDownUsingComparator_0 21 rfl rfl)
theorem dJ20_siftDownUsingComparator_22 : decode cJ20_siftDownUsingComparator 22 = .ok (.astore 7, 2) := dk_58 7 (dk_at dksJ20_siftDownUsingComparator_0 22 rfl rfl)
theorem dJ20_siftDownUsingComparator_24 : decode cJ20_siftDownUsingComparator 24 = .ok (.iload 6, 2) := dk_21 6 (dk_at dksJ20_siftDownUsingComparator_1 0 rfl rfl)
theorem dJ20_siftDownUsingComparator_26 : decode cJ20_siftDownUsingComparator 26 = .ok (.iconst 1, 1) := dk_4 (dk_at dksJ20_siftDownUsingComparator_1 2 rfl rfl)
theorem dJ20_siftDownUsingComparator_27 : decode cJ20_siftDownUsingComparator 27 = .ok (.iadd, 1) := dk_96 (dk_at dksJ20_siftDownUsingComparator_1 3 rfl rfl)
theorem dJ20_siftDownUsingComparator_28 : decode cJ20_siftDownUsingComparator 28 = .ok (.istore 8, 2) := dk_54 8 (dk_at dksJ20_siftDownUsingComparator_1 4 rfl rfl)
theorem dJ20_siftDownUsingComparator_30 : decode cJ20_siftDownUsingComparator 30 = .ok (.iload 8, 2) := dk_21 8 (dk_at dksJ20_siftDownUsingComparator_1 6 rfl rfl)
theorem dJ20_siftDownUsingComparator_32 : decode cJ20_siftDownUsingComparator 32 = .ok (.iload_n 3, 1) := dk_29 (dk_at dksJ20_siftDownUsingComparator_1 8 rfl rfl)
theorem dJ20_siftDownUsingComparator_33 : decode cJ20_siftDownUsingComparator 33 = .ok (.if_icmp .ge 28, 3) := dk_162 0 28 (dk_at dksJ20_siftDownUsingComparator_1 9 rfl rfl)
theorem dJ20_siftDownUsingComparator_36 : decode cJ20_siftDownUsingComparator 36 = .ok (.aload 4, 2) := dk_25 4 (dk_at dksJ20_siftDownUsingComparator_1 12 rfl rfl)
theorem dJ20_siftDownUsingComparator_38 : decode cJ20_siftDownUsingComparator 38 = .ok (.aload 7, 2) := dk_25 7 (dk_at dksJ20_siftDownUsingComparator_1 14 rfl rfl)
theorem dJ20_siftDownUsingComparator_40 : decode cJ20_siftDownUsingComparator 40 = .ok (.aload_n 2, 1) := dk_44 (dk_at dksJ20_siftDownUsingComparator_1 16 rfl rfl)
theorem dJ20_siftDownUsingComparator_41 : decode cJ20_siftDownUsingComparator 41 = .ok (.iload 8, 2) := dk_21 8 (dk_at dksJ20_siftDownUsingComparator_1 17 rfl rfl)
theorem dJ20_siftDownUsingComparator_43 : decode cJ20_siftDownUsingComparator 43 = .ok (.aaload, 1) := dk_50 (dk_at dksJ20_siftDownUsingComparator_1 19 rfl rfl)
theorem dJ20_siftDownUsingComparator_44 : decode cJ20_siftDownUsingComparator 44 = .ok (.invokeinterface 149 3, 5) := by decide +kernel
theorem dJ20_siftDownUsingComparator_49 : decode cJ20_siftDownUsingComparator 49 = .ok (.ifCond .le 12, 3) := dk_158 0 12 (dk_at dksJ20_siftDownUsingComparator_2 5 rfl rfl)
theorem dJ20_siftDownUsingComparator_52 : decode cJ20_siftDownUsingComparator 52 = .ok (.aload_n 2, 1) := dk_44 (dk_at dksJ20_siftDownUsingComparator_2 8 rfl rfl)
theorem dJ20_siftDownUsingComparator_53 : decode cJ20_siftDownUsingComparator 53 = .ok (.iload 8, 2) := dk_21 8 (dk_at dksJ20_siftDownUsingComparator_2 9 rfl rfl)
theorem dJ20_siftDownUsingComparator_55 : decode cJ20_siftDownUsingComparator 55 = .ok (.dup, 1) := dk_89 (dk_at dksJ20_siftDownUsingComparator_2 11 rfl rfl)
theorem dJ20_siftDownUsingComparator_56 : decode cJ20_siftDownUsingComparator 56 = .ok (.istore 6, 2) := dk_54 6 (dk_at dksJ20_siftDownUsingComparator_2 12 rfl rfl)
theorem dJ20_siftDownUsingComparator_58 : decode cJ20_siftDownUsingComparator 58 = .ok (.aaload, 1) := dk_50 (dk_at dksJ20_siftDownUsingComparator_2 14 rfl rfl)
theorem dJ20_siftDownUsingComparator_59 : decode cJ20_siftDownUsingComparator 59 = .ok (.astore 7, 2) := dk_58 7 (dk_at dksJ20_siftDownUsingComparator_2 15 rfl rfl)
theorem dJ20_siftDownUsingComparator_61 : decode cJ20_siftDownUsingComparator 61 = .ok (.aload 4, 2) := dk_25 4 (dk_at dksJ20_siftDownUsingComparator_2 17 rfl rfl)
theorem dJ20_siftDownUsingComparator_63 : decode cJ20_siftDownUsingComparator 63 = .ok (.aload_n 1, 1) := dk_43 (dk_at dksJ20_siftDownUsingComparator_2 19 rfl rfl)
theorem dJ20_siftDownUsingComparator_64 : decode cJ20_siftDownUsingComparator 64 = .ok (.aload 7, 2) := dk_25 7 (dk_at dksJ20_siftDownUsingComparator_2 20 rfl rfl)
theorem dJ20_siftDownUsingComparator_66 : decode cJ20_siftDownUsingComparator 66 = .ok (.invokeinterface 149 3, 5) := by decide +kernel
theorem dJ20_siftDownUsingComparator_71 : decode cJ20_siftDownUsingComparator 71 = .ok (.ifCond .gt 6, 3) := dk_157 0 6 (dk_at dksJ20_siftDownUsingComparator_3 5 rfl rfl)
theorem dJ20_siftDownUsingComparator_74 : decode cJ20_siftDownUsingComparator 74 = .ok (.goto 14, 3) := dk_167 0 14 (dk_at dksJ20_siftDownUsingComparator_3 8 rfl rfl)
theorem dJ20_siftDownUsingComparator_77 : decode cJ20_siftDownUsingComparator 77 = .ok (.aload_n 2, 1) := dk_44 (dk_at dksJ20_siftDownUsingComparator_3 11 rfl rfl)
theorem dJ20_siftDownUsingComparator_78 : decode cJ20_siftDownUsingComparator 78 = .ok (.iload_n 0, 1) := dk_26 (dk_at dksJ20_siftDownUsingComparator_3 12 rfl rfl)
theorem dJ20_siftDownUsingComparator_79 : decode cJ20_siftDownUsingComparator 79 = .ok (.aload 7, 2) := dk_25 7 (dk_at dksJ20_siftDownUsingComparator_3 13 rfl rfl)
theorem dJ20_siftDownUsingComparator_81 : decode cJ20_siftDownUsingComparator 81 = .ok (.aastore, 1) := dk_83 (dk_at dksJ20_siftDownUsingComparator_3 15 rfl rfl)
theorem dJ20_siftDownUsingComparator_82 : decode cJ20_siftDownUsingComparator 82 = .ok (.iload 6, 2) := dk_21 6 (dk_at dksJ20_siftDownUsingComparator_3 16 rfl rfl)
theorem dJ20_siftDownUsingComparator_84 : decode cJ20_siftDownUsingComparator 84 = .ok (.istore_n 0, 1) := dk_59 (dk_at dksJ20_siftDownUsingComparator_3 18 rfl rfl)
theorem dJ20_siftDownUsingComparator_85 : decode cJ20_siftDownUsingComparator 85 = .ok (.goto (-80), 3) := dk_167 255 176 (dk_at dksJ20_siftDownUsingComparator_3 19 rfl rfl)
theorem dJ20_siftDownUsingComparator_88 : decode cJ20_siftDownUsingComparator 88 = .ok (.aload_n 2, 1) := dk_44 (dk_at dksJ20_siftDownUsingComparator_3 22 rfl rfl)
theorem dJ20_siftDownUsingComparator_89 : decode cJ20_siftDownUsingComparator 89 = .ok (.iload_n 0, 1) := dk_26 (dk_at dksJ20_siftDownUsingComparator_3 23 rfl rfl)
theorem dJ20_siftDownUsingComparator_90 : decode cJ20_siftDownUsingComparator 90 = .ok (.aload_n 1, 1) := dk_43 (dk_at dksJ20_siftDownUsingComparator_4 0 rfl rfl)
theorem dJ20_siftDownUsingComparator_91 : decode cJ20_siftDownUsingComparator 91 = .ok (.aastore, 1) := dk_83 (dk_at dksJ20_siftDownUsingComparator_4 1 rfl rfl)
theorem dJ20_siftDownUsingComparator_92 : decode cJ20_siftDownUsingComparator 92 = .ok (.return_, 1) := dk_177 (dk_at dksJ20_siftDownUsingComparator_4 2 rfl rfl)
theorem q217 : (Jvm.Cond.initialized "java/util/PriorityQueue") ∈ lw_all := lw_g (lw_at lw_m1 32 rfl) rfl
theorem q349 : (Jvm.Cond.selects "java/util/PriorityQueue" ({ cls := "java/lang/Object", name := "getClass", desc := "()Ljava/lang/Class;" } : Jvm.MethodName) ({ cls := "java/lang/Object", name := "getClass", desc := "()Ljava/lang/Class;" } : Jvm.MethodName)) ∈ lw_all := lw_g (lw_at lw_m1 164 rfl) rfl
theorem q1278 : (Jvm.Cond.instantiable "java/util/PriorityQueue" (4 : Nat)) ∈ lw_all := lw_g (lw_at lw_m5 133 rfl) rfl
theorem q1287 : (Jvm.Cond.instanceMethod ({ cls := "java/util/PriorityQueue", name := "<init>", desc := "(Ljava/util/Comparator;)V" } : Jvm.MethodName)) ∈ lw_all := lw_g (lw_at lw_m5 142 rfl) rfl
theorem q1288 : (Jvm.Cond.code ({ cls := "java/util/PriorityQueue", name := "<init>", desc := "(Ljava/util/Comparator;)V" } : Jvm.MethodName) prog_57_method_3_code (2 : Nat) (Option.none : Option Jvm.ClassFile.FieldType)) ∈ lw_all := lw_g (lw_at lw_m5 143 rfl) rfl
theorem q1289 : (Jvm.Cond.methodLink "java/util/PriorityQueue" (3 : Nat) ({ cls := "java/util/PriorityQueue", name := "<init>", desc := "(ILjava/util/Comparator;)V" } : Jvm.MethodName)) ∈ lw_all := lw_g (lw_at lw_m5 144 rfl) rfl
theorem q1290 : (Jvm.Cond.instanceMethod ({ cls := "java/util/PriorityQueue", name := "<init>", desc := "(ILjava/util/Comparator;)V" } : Jvm.MethodName)) ∈ lw_all := lw_g (lw_at lw_m5 145 rfl) rfl
theorem q1291 : (Jvm.Cond.code ({ cls := "java/util/PriorityQueue", name := "<init>", desc := "(ILjava/util/Comparator;)V" } : Jvm.MethodName) prog_57_method_4_code (3 : Nat) (Option.none : Option Jvm.ClassFile.FieldType)) ∈ lw_all := lw_g (lw_at lw_m5 146 rfl) rfl
theorem q1292 : (Jvm.Cond.methodLink "java/util/PriorityQueue" (7 : Nat) ({ cls := "java/util/AbstractQueue", name := "<init>", desc := "()V" } : Jvm.MethodName)) ∈ lw_all := lw_g (lw_at lw_m5 147 rfl) rfl
theorem q1296 : (Jvm.Cond.classLink "java/util/PriorityQueue" (15 : Nat) "java/lang/Object") ∈ lw_all := lw_g (lw_at lw_m5 151 rfl) rfl
theorem q1297 : (Jvm.Cond.fieldLink "java/util/PriorityQueue" (17 : Nat) "java/util/PriorityQueue" "queue" "[Ljava/lang/Object;") ∈ lw_all := lw_g (lw_at lw_m5 152 rfl) rfl
theorem q1298 : (Jvm.Cond.fieldLink "java/util/PriorityQueue" (58 : Nat) "java/util/PriorityQueue" "size" "I") ∈ lw_all := lw_g (lw_at lw_m5 153 rfl) rfl
theorem q1299 : (Jvm.Cond.fieldLink "java/util/PriorityQueue" (21 : Nat) "java/util/PriorityQueue" "comparator" "Ljava/util/Comparator;") ∈ lw_all := lw_g (lw_at lw_m5 154 rfl) rfl
theorem q1300 : (Jvm.Cond.fieldLink "java/util/PriorityQueue" (93 : Nat) "java/util/PriorityQueue" "modCount" "I") ∈ lw_all := lw_g (lw_at lw_m5 155 rfl) rfl
theorem q1301 : (Jvm.Cond.lays "java/util/PriorityQueue" "java/util/PriorityQueue" "queue" "[Ljava/lang/Object;") ∈ lw_all := lw_g (lw_at lw_m5 156 rfl) rfl
theorem q1302 : (Jvm.Cond.soleField "java/util/PriorityQueue" "queue") ∈ lw_all := lw_g (lw_at lw_m5 157 rfl) rfl
theorem q1303 : (Jvm.Cond.lays "java/util/PriorityQueue" "java/util/PriorityQueue" "size" "I") ∈ lw_all := lw_g (lw_at lw_m5 158 rfl) rfl
theorem q1304 : (Jvm.Cond.soleField "java/util/PriorityQueue" "size") ∈ lw_all := lw_g (lw_at lw_m5 159 rfl) rfl
theorem q1305 : (Jvm.Cond.laysFinal "java/util/PriorityQueue" "java/util/PriorityQueue" "comparator" "Ljava/util/Comparator;") ∈ lw_all := lw_g (lw_at lw_m5 160 rfl) rfl
theorem q1306 : (Jvm.Cond.soleField "java/util/PriorityQueue" "comparator") ∈ lw_all := lw_g (lw_at lw_m5 161 rfl) rfl
theorem q1307 : (Jvm.Cond.lays "java/util/PriorityQueue" "java/util/PriorityQueue" "modCount" "I") ∈ lw_all := lw_g (lw_at lw_m5 162 rfl) rfl
theorem q1308 : (Jvm.Cond.soleField "java/util/PriorityQueue" "modCount") ∈ lw_all := lw_g (lw_at lw_m5 163 rfl) rfl
theorem q1309 : (Jvm.Cond.superclass "java/util/PriorityQueue" "java/util/AbstractQueue") ∈ lw_all := lw_g (lw_at lw_m5 164 rfl) rfl
theorem q1338 : (Jvm.Cond.instanceMethod ({ cls := "java/util/PriorityQueue", name := "add", desc := "(Ljava/lang/Object;)Z" } : Jvm.MethodName)) ∈ lw_all := lw_g (lw_at lw_m5 193 rfl) rfl
theorem q1339 : (Jvm.Cond.selects "java/util/PriorityQueue" ({ cls := "java/util/PriorityQueue", name := "add", desc := "(Ljava/lang/Object;)Z" } : Jvm.MethodName) ({ cls := "java/util/PriorityQueue", name := "add", desc := "(Ljava/lang/Object;)Z" } : Jvm.MethodName)) ∈ lw_all := lw_g (lw_at lw_m5 194 rfl) rfl
theorem q1340 : (Jvm.Cond.code ({ cls := "java/util/PriorityQueue", name := "add", desc := "(Ljava/lang/Object;)Z" } : Jvm.MethodName) prog_57_method_13_code (2 : Nat) (Option.some Jvm.ClassFile.FieldType.boolean)) ∈ lw_all := lw_g (lw_at lw_m5 195 rfl) rfl
theorem q1341 : (Jvm.Cond.methodLink "java/util/PriorityQueue" (89 : Nat) ({ cls := "java/util/PriorityQueue", name := "offer", desc := "(Ljava/lang/Object;)Z" } : Jvm.MethodName)) ∈ lw_all := lw_g (lw_at lw_m5 196 rfl) rfl
theorem q1342 : (Jvm.Cond.instanceMethod ({ cls := "java/util/PriorityQueue", name := "offer", desc := "(Ljava/lang/Object;)Z" } : Jvm.MethodName)) ∈ lw_all := lw_g (lw_at lw_m5 197 rfl) rfl
theorem q1343 : (Jvm.Cond.selects "java/util/PriorityQueue" ({ cls := "java/util/PriorityQueue", name := "offer", desc := "(Ljava/lang/Object;)Z" } : Jvm.MethodName) ({ cls := "java/util/PriorityQueue", name := "offer", desc := "(Ljava/lang/Object;)Z" } : Jvm.MethodName)) ∈ lw_all := lw_g (lw_at lw_m5 198 rfl) rfl
theorem q1344 : (Jvm.Cond.code ({ cls := "java/util/PriorityQueue", name := "offer", desc := "(Ljava/lang/Object;)Z" } : Jvm.MethodName) prog_57_method_14_code (3 : Nat) (Option.some Jvm.ClassFile.FieldType.boolean)) ∈ lw_all := lw_g (lw_at lw_m5 199 rfl) rfl
theorem q1345 : (Jvm.Cond.methodLink "java/util/PriorityQueue" (96 : Nat) ({ cls := "java/util/PriorityQueue", name := "grow", desc := "(I)V" } : Jvm.MethodName)) ∈ lw_all := lw_g (lw_at lw_m5 200 rfl) rfl
theorem q1346 : (Jvm.Cond.privateMethod ({ cls := "java/util/PriorityQueue", name := "grow", desc := "(I)V" } : Jvm.MethodName)) ∈ lw_tbl := lw_at lw_m5 201 rfl
theorem q1347 : (Jvm.Cond.instanceMethod ({ cls := "java/util/PriorityQueue", name := "grow", desc := "(I)V" } : Jvm.MethodName)) ∈ lw_all := lw_g (lw_at lw_m5 202 rfl) rfl
theorem q1348 : (Jvm.Cond.code ({ cls := "java/util/PriorityQueue", name := "grow", desc := "(I)V" } : Jvm.MethodName) prog_57_method_12_code (4 : Nat) (Option.none : Option Jvm.ClassFile.FieldType)) ∈ lw_all := lw_g (lw_at lw_m5 203 rfl) rfl
theorem q1349 : (Jvm.Cond.methodLink "java/util/PriorityQueue" (80 : Nat) ({ cls := "jdk/internal/util/ArraysSupport", name := "newLength", desc := "(III)I" } : Jvm.MethodName)) ∈ lw_all := lw_g (lw_at lw_m5 204 rfl) rfl
theorem q1350 : (Jvm.Cond.methodLink "java/util/PriorityQueue" (86 : Nat) ({ cls := "java/util/Arrays", name := "copyOf", desc := "([Ljava/lang/Object;I)[Ljava/lang/Object;" } : Jvm.MethodName)) ∈ lw_all := lw_g (lw_at lw_m5 205 rfl) rfl
theorem q1351 : (Jvm.Cond.methodLink "java/util/PriorityQueue" (100 : Nat) ({ cls := "java/util/PriorityQueue", name := "siftUp", desc := "(ILjava/lang/Object;)V" } : Jvm.MethodName)) ∈ lw_all := lw_g (lw_at lw_m5 206 rfl) rfl
theorem q1352 : (Jvm.Cond.privateMethod ({ cls := "java/util/PriorityQueue", name := "siftUp", desc := "(ILjava/lang/Object;)V" } : Jvm.MethodName)) ∈ lw_tbl := lw_at lw_m5 207 rfl
theorem q1353 : (Jvm.Cond.instanceMethod ({ cls := "java/util/PriorityQueue", name := "siftUp", desc := "(ILjava/lang/Object;)V" } : Jvm.MethodName)) ∈ lw_all := lw_g (lw_at lw_m5 208 rfl) rfl
theorem q1354 : (Jvm.Cond.code ({ cls := "java/util/PriorityQueue", name := "siftUp", desc := "(ILjava/lang/Object;)V" } : Jvm.MethodName) prog_57_method_27_code (3 : Nat) (Option.none : Option Jvm.ClassFile.FieldType)) ∈ lw_all := lw_g (lw_at lw_m5 209 rfl) rfl
theorem q1355 : (Jvm.Cond.methodLink "java/util/PriorityQueue" (136 : Nat) ({ cls := "java/util/PriorityQueue", name := "siftUpUsingComparator", desc := "(ILjava/lang/Object;[Ljava/lang/Object;Ljava/util/Comparator;)V" } : Jvm.MethodName)) ∈ lw_all := lw_g (lw_at lw_m5 210 rfl) rfl
theorem q1356 : (Jvm.Cond.static ({ cls := "java/util/PriorityQueue", name := "siftUpUsingComparator", desc := "(ILjava/lang/Object;[Ljava/lang/Object;Ljava/util/Comparator;)V" } : Jvm.MethodName)) ∈ lw_all := lw_g (lw_at lw_m5 211 rfl) rfl
theorem q1357 : (Jvm.Cond.code ({ cls := "java/util/PriorityQueue", name := "siftUpUsingComparator", desc := "(ILjava/lang/Object;[Ljava/lang/Object;Ljava/util/Comparator;)V" } : Jvm.MethodName) prog_57_method_29_code (6 : Nat) (Option.none : Option Jvm.ClassFile.FieldType)) ∈ lw_all := lw_g (lw_at lw_m5 212 rfl) rfl
theorem q1358 : (Jvm.Cond.interfaceEntry "java/util/PriorityQueue" (149 : Nat)) ∈ lw_tbl := lw_at lw_m5 213 rfl
theorem q1359 : (Jvm.Cond.methodLink "java/util/PriorityQueue" (149 : Nat) ({ cls := "java/util/Comparator", name := "compare", desc := "(Ljava/lang/Object;Ljava/lang/Object;)I" } : Jvm.MethodName)) ∈ lw_all := lw_g (lw_at lw_m5 214 rfl) rfl
theorem q1373 : (Jvm.Cond.methodLink "java/util/PriorityQueue" (140 : Nat) ({ cls := "java/util/PriorityQueue", name := "siftUpComparable", desc := "(ILjava/lang/Object;[Ljava/lang/Object;)V" } : Jvm.MethodName)) ∈ lw_all := lw_g (lw_at lw_m5 228 rfl) rfl
theorem q1374 : (Jvm.Cond.static ({ cls := "java/util/PriorityQueue", name := "siftUpComparable", desc := "(ILjava/lang/Object;[Ljava/lang/Object;)V" } : Jvm.MethodName)) ∈ lw_all := lw_g (lw_at lw_m5 229 rfl) rfl
theorem q1375 : (Jvm.Cond.code ({ cls := "java/util/PriorityQueue", name := "siftUpComparable", desc := "(ILjava/lang/Object;[Ljava/lang/Object;)V" } : Jvm.MethodName) prog_57_method_28_code (6 : Nat) (Option.none : Option Jvm.ClassFile.FieldType)) ∈ lw_all := lw_g (lw_at lw_m5 230 rfl) rfl
theorem q1376 : (Jvm.Cond.classLink "java/util/PriorityQueue" (144 : Nat) "java/lang/Comparable") ∈ lw_all := lw_g (lw_at lw_m5 231 rfl) rfl
theorem q1377 : (Jvm.Cond.interfaceEntry "java/util/PriorityQueue" (146 : Nat)) ∈ lw_tbl := lw_at lw_m5 232 rfl
theorem q1378 : (Jvm.Cond.methodLink "java/util/PriorityQueue" (146 : Nat) ({ cls := "java/lang/Comparable", name := "compareTo", desc := "(Ljava/lang/Object;)I" } : Jvm.MethodName)) ∈ lw_all := lw_g (lw_at lw_m5 233 rfl) rfl
theorem q1537 : (Jvm.Cond.sameMethod "java/util/PriorityQueue" "java/util/AbstractCollection" "isEmpty" "()Z") ∈ lw_all := lw_g (lw_at lw_m6 152 rfl) rfl
theorem q1539 : (Jvm.Cond.selects "java/util/PriorityQueue" ({ cls := "java/util/PriorityQueue", name := "isEmpty", desc := "()Z" } : Jvm.MethodName) ({ cls := "java/util/AbstractCollection", name := "isEmpty", desc := "()Z" } : Jvm.MethodName)) ∈ lw_all := lw_g (lw_at lw_m6 154 rfl) rfl
theorem q1546 : (Jvm.Cond.selects "java/util/PriorityQueue" ({ cls := "java/util/AbstractCollection", name := "size", desc := "()I" } : Jvm.MethodName) ({ cls := "java/util/PriorityQueue", name := "size", desc := "()I" } : Jvm.MethodName)) ∈ lw_all := lw_g (lw_at lw_m6 161 rfl) rfl
theorem q1547 : (Jvm.Cond.instanceMethod ({ cls := "java/util/PriorityQueue", name := "size", desc := "()I" } : Jvm.MethodName)) ∈ lw_all := lw_g (lw_at lw_m6 162 rfl) rfl
theorem q1548 : (Jvm.Cond.code ({ cls := "java/util/PriorityQueue", name := "size", desc := "()I" } : Jvm.MethodName) prog_57_method_23_code (1 : Nat) (Option.some Jvm.ClassFile.FieldType.int)) ∈ lw_all := lw_g (lw_at lw_m6 163 rfl) rfl
theorem q1571 : (Jvm.Cond.instanceMethod ({ cls := "java/util/PriorityQueue", name := "poll", desc := "()Ljava/lang/Object;" } : Jvm.MethodName)) ∈ lw_all := lw_g (lw_at lw_m6 186 rfl) rfl
theorem q1572 : (Jvm.Cond.selects "java/util/PriorityQueue" ({ cls := "java/util/PriorityQueue", name := "poll", desc := "()Ljava/lang/Object;" } : Jvm.MethodName) ({ cls := "java/util/PriorityQueue", name := "poll", desc := "()Ljava/lang/Object;" } : Jvm.MethodName)) ∈ lw_all := lw_g (lw_at lw_m6 187 rfl) rfl
theorem q1573 : (Jvm.Cond.code ({ cls := "java/util/PriorityQueue", name := "poll", desc := "()Ljava/lang/Object;" } : Jvm.MethodName) prog_57_method_25_code (6 : Nat) (Option.some (Jvm.ClassFile.FieldType.object "java/lang/Object"))) ∈ lw_all := lw_g (lw_at lw_m6 188 rfl) rfl
theorem q1574 : (Jvm.Cond.methodLink "java/util/PriorityQueue" (125 : Nat) ({ cls := "java/util/PriorityQueue", name := "siftDownComparable", desc := "(ILjava/lang/Object;[Ljava/lang/Object;I)V" } : Jvm.MethodName)) ∈ lw_all := lw_g (lw_at lw_m6 189 rfl) rfl
theorem q1575 : (Jvm.Cond.static ({ cls := "java/util/PriorityQueue", name := "siftDownComparable", desc := "(ILjava/lang/Object;[Ljava/lang/Object;I)V" } : Jvm.MethodName)) ∈ lw_all := lw_g (lw_at lw_m6 190 rfl) rfl
theorem q1576 : (Jvm.Cond.code ({ cls := "java/util/PriorityQueue", name := "siftDownComparable", desc := "(ILjava/lang/Object;[Ljava/lang/Object;I)V" } : Jvm.MethodName) prog_57_method_31_code (9 : Nat) (Option.none : Option Jvm.ClassFile.FieldType)) ∈ lw_all := lw_g (lw_at lw_m6 191 rfl) rfl
theorem q1577 : (Jvm.Cond.methodLink "java/util/PriorityQueue" (129 : Nat) ({ cls := "java/util/PriorityQueue", name := "siftDownUsingComparator", desc := "(ILjava/lang/Object;[Ljava/lang/Object;ILjava/util/Comparator;)V" } : Jvm.MethodName)) ∈ lw_all := lw_g (lw_at lw_m6 192 rfl) rfl
theorem q1578 : (Jvm.Cond.static ({ cls := "java/util/PriorityQueue", name := "siftDownUsingComparator", desc := "(ILjava/lang/Object;[Ljava/lang/Object;ILjava/util/Comparator;)V" } : Jvm.MethodName)) ∈ lw_all := lw_g (lw_at lw_m6 193 rfl) rfl
theorem q1579 : (Jvm.Cond.code ({ cls := "java/util/PriorityQueue", name := "siftDownUsingComparator", desc := "(ILjava/lang/Object;[Ljava/lang/Object;ILjava/util/Comparator;)V" } : Jvm.MethodName) prog_57_method_32_code (9 : Nat) (Option.none : Option Jvm.ClassFile.FieldType)) ∈ lw_all := lw_g (lw_at lw_m6 194 rfl) rfl
theorem q3129 : (Jvm.Cond.castable "java/util/PriorityQueue" "java/lang/Object") ∈ lw_tbl := lw_at lw_m13 64 rfl
theorem in_J20 : ∀ w ∈ wsJ200, w ∈ lw_all := lw_in wsJ200 [1301, 1303, 1305, 1307] (by decide +kernel) (by decide +kernel)
/-! jdk/internal/misc/Unsafe -/
set_option maxRecDepth 100000
def RJ21 : String := "jdk/internal/misc/Unsafe"
abbrev cJ21_getLongUnaligned : ByteArray := prog_74_method_334_code
def yJ21_getLongUnaligned : MethodName := ⟨RJ21, "getLongUnaligned", "(Ljava/lang/Object;J)J"⟩
def dkwJ21_getLongUnaligned_7 : List UInt8 := [182, 0, 39, 184, 2, 197, 173]
abbrev dktJ21_getLongUnaligned_7 : List UInt8 := dkwJ21_getLongUnaligned_7 ++ []
def dkwJ21_getLongUnaligned_6 : List UInt8 := [20, 2, 195, 97, 182, 0, 39, 42, 43, 32, 20, 2, 190, 97, 182, 0, 39, 42, 43, 32, 20, 2, 184, 97]
abbrev dktJ21_getLongUnaligned_6 : List UInt8 := dkwJ21_getLongUnaligned_6 ++ dktJ21_getLongUnaligned_7
def dkwJ21_getLongUnaligned_5 : List UInt8 := [43, 32, 20, 1, 93, 97, 182, 0, 39, 42, 43, 32, 20, 0, 205, 97, 182, 0, 39, 42, 43, 32]
abbrev dktJ21_getLongUnaligned_5 : List UInt8 := dkwJ21_getLongUnaligned_5 ++ dktJ21_getLongUnaligned_6
def dkwJ21_getLongUnaligned_4 : List UInt8 := [43, 32, 182, 0, 39, 42, 43, 32, 10, 97, 182, 0, 39, 42, 43, 32, 20, 0, 203, 97, 182, 0, 39, 42]
abbrev dktJ21_getLongUnaligned_4 : List UInt8 := dkwJ21_getLongUnaligned_4 ++ dktJ21_getLongUnaligned_5
def dkwJ21_getLongUnaligned_3 : List UInt8 := [43, 32, 20, 0, 205, 97, 182, 0, 47, 42, 43, 32, 20, 2, 190, 97, 182, 0, 47, 184, 2, 192, 173, 42]
abbrev dktJ21_getLongUnaligned_3 : List UInt8 := dkwJ21_getLongUnaligned_3 ++ dktJ21_getLongUnaligned_4
def dkwJ21_getLongUnaligned_2 : List UInt8 := [10, 127, 9, 148, 154, 0, 43, 42, 43, 32, 182, 0, 47, 42, 43, 32, 20, 0, 203, 97, 182, 0, 47, 42]
abbrev dktJ21_getLongUnaligned_2 : List UInt8 := dkwJ21_getLongUnaligned_2 ++ dktJ21_getLongUnaligned_3
def dkwJ21_getLongUnaligned_1 : List UInt8 := [154, 0, 23, 42, 43, 32, 182, 0, 17, 42, 43, 32, 20, 0, 205, 97, 182, 0, 17, 184, 2, 186, 173, 32]
abbrev dktJ21_getLongUnaligned_1 : List UInt8 := dkwJ21_getLongUnaligned_1 ++ dktJ21_getLongUnaligned_2
def dkwJ21_getLongUnaligned_0 : List UInt8 := [32, 20, 2, 184, 127, 9, 148, 154, 0, 10, 42, 43, 32, 182, 0, 27, 173, 32, 20, 1, 93, 127, 9, 148]
abbrev dktJ21_getLongUnaligned_0 : List UInt8 := dkwJ21_getLongUnaligned_0 ++ dktJ21_getLongUnaligned_1
theorem dksJ21_getLongUnaligned_0 : cJ21_getLongUnaligned.data.toList.drop 0 = dktJ21_getLongUnaligned_0 := by decide +kernel
theorem dksJ21_getLongUnaligned_1 : cJ21_getLongUnaligned.data.toList.drop 24 = dktJ21_getLongUnaligned_1 := dk_seg dksJ21_getLongUnaligned_0 24 rfl rfl
theorem dksJ21_getLongUnaligned_2 : cJ21_getLongUnaligned.data.toList.drop 48 = dktJ21_getLongUnaligned_2 := dk_seg dksJ21_getLongUnaligned_1 24 rfl rfl
theorem dksJ21_getLongUnaligned_3 : cJ21_getLongUnaligned.data.toList.drop 72 = dktJ21_getLongUnaligned_3 := dk_seg dksJ21_getLongUnaligned_2 24 rfl rfl
theorem dksJ21_getLongUnaligned_4 : cJ21_getLongUnaligned.data.toList.drop 96 = dktJ21_getLongUnaligned_4 := dk_seg dksJ21_getLongUnaligned_3 24 rfl rfl
theorem dksJ21_getLongUnaligned_5 : cJ21_getLongUnaligned.data.toList.drop 120 = dktJ21_getLongUnaligned_5 := dk_seg dksJ21_getLongUnaligned_4 24 rfl rfl
theorem dksJ21_getLongUnaligned_6 : cJ21_getLongUnaligned.data.toList.drop 142 = dktJ21_getLongUnaligned_6 := dk_seg dksJ21_getLongUnaligned_5 22 rfl rfl
theorem dksJ21_getLongUnaligned_7 : cJ21_getLongUnaligned.data.toList.drop 166 = dktJ21_getLongUnaligned_7 := dk_seg dksJ21_getLongUnaligned_6 24 rfl rfl
theorem dJ21_getLongUnaligned_0 : decode cJ21_getLongUnaligned 0 = .ok (.lload_n 2, 1) := dk_32 (dk_at dksJ21_getLongUnaligned_0 0 rfl rfl)
theorem dJ21_getLongUnaligned_1 : decode cJ21_getLongUnaligned 1 = .ok (.ldc2_w 696, 3) := dk_20 2 184 (dk_at dksJ21_getLongUnaligned_0 1 rfl rfl)
theorem dJ21_getLongUnaligned_4 : decode cJ21_getLongUnaligned 4 = .ok (.land, 1) := dk_127 (dk_at dksJ21_getLongUnaligned_0 4 rfl rfl)
theorem dJ21_getLongUnaligned_5 : decode cJ21_getLongUnaligned 5 = .ok (.lconst 0, 1) := dk_9 (dk_at dksJ21_getLongUnaligned_0 5 rfl rfl)
theorem dJ21_getLongUnaligned_6 : decode cJ21_getLongUnaligned 6 = .ok (.lcmp, 1) := dk_148 (dk_at dksJ21_getLongUnaligned_0 6 rfl rfl)
theorem dJ21_getLongUnaligned_7 : decode cJ21_getLongUnaligned 7 = .ok (.ifCond .ne 10, 3) := dk_154 0 10 (dk_at dksJ21_getLongUnaligned_0 7 rfl rfl)
theorem dJ21_getLongUnaligned_10 : decode cJ21_getLongUnaligned 10 = .ok (.aload_n 0, 1) := dk_42 (dk_at dksJ21_getLongUnaligned_0 10 rfl rfl)
theorem dJ21_getLongUnaligned_11 : decode cJ21_getLongUnaligned 11 = .ok (.aload_n 1, 1) := dk_43 (dk_at dksJ21_getLongUnaligned_0 11 rfl rfl)
theorem dJ21_getLongUnaligned_12 : decode cJ21_getLongUnaligned 12 = .ok (.lload_n 2, 1) := dk_32 (dk_at dksJ21_getLongUnaligned_0 12 rfl rfl)
theorem dJ21_getLongUnaligned_13 : decode cJ21_getLongUnaligned 13 = .ok (.invokevirtual 27, 3) := dk_182 0 27 (dk_at dksJ21_getLongUnaligned_0 13 rfl rfl)
theorem dJ21_getLongUnaligned_16 : decode cJ21_getLongUnaligned 16 = .ok (.lreturn, 1) := dk_173 (dk_at dksJ21_getLongUnaligned_0 16 rfl rfl)
theorem dJ21_getLongUnaligned_17 : decode cJ21_getLongUnaligned 17 = .ok (.lload_n 2, 1) := dk_32 (dk_at dksJ21_getLongUnaligned_0 17 rfl rfl)
theorem dJ21_getLongUnaligned_18 : decode cJ21_getLongUnaligned 18 = .ok (.ldc2_w 349, 3) := dk_20 1 93 (dk_at dksJ21_getLongUnaligned_0 18 rfl rfl)
theorem dJ21_getLongUnaligned_21 : decode cJ21_getLongUnaligned 21 = .ok (.land, 1) := dk_127 (dk_at dksJ21_getLongUnaligned_0 21 rfl rfl)
theorem dJ21_getLongUnaligned_22 : decode cJ21_getLongUnaligned 22 = .ok (.lconst 0, 1) := dk_9 (dk_at dksJ21_getLongUnaligned_0 22 rfl rfl)
theorem dJ21_getLongUnaligned_23 : decode cJ21_getLongUnaligned 23 = .ok (.lcmp, 1) := dk_148 (dk_at dksJ21_getLongUnaligned_0 23 rfl rfl)
theorem dJ21_getLongUnaligned_24 : decode cJ21_getLongUnaligned 24 = .ok (.ifCond .ne 23, 3) := dk_154 0 23 (dk_at dksJ21_getLongUnaligned_1 0 rfl rfl)
theorem dJ21_getLongUnaligned_27 : decode cJ21_getLongUnaligned 27 = .ok (.aload_n 0, 1) := dk_42 (dk_at dksJ21_getLongUnaligned_1 3 rfl rfl)
theorem dJ21_getLongUnaligned_28 : decode cJ21_getLongUnaligned 28 = .ok (.aload_n 1, 1) := dk_43 (dk_at dksJ21_getLongUnaligned_1 4 rfl rfl)
theorem dJ21_getLongUnaligned_29 : decode cJ21_getLongUnaligned 29 = .ok (.lload_n 2, 1) := dk_32 (dk_at dksJ21_getLongUnaligned_1 5 rfl rfl)
theorem dJ21_getLongUnaligned_30 : decode cJ21_getLongUnaligned 30 = .ok (.invokevirtual 17, 3) := dk_182 0 17 (dk_at dksJ21_getLongUnaligned_1 6 rfl rfl)
theorem dJ21_getLongUnaligned_33 : decode cJ21_getLongUnaligned 33 = .ok (.aload_n 0, 1) := dk_42 (dk_at dksJ21_getLongUnaligned_1 9 rfl rfl)
theorem dJ21_getLongUnaligned_34 : decode cJ21_getLongUnaligned 34 = .ok (.aload_n 1, 1) := dk_43 (dk_at dksJ21_getLongUnaligned_1 10 rfl rfl)
theorem dJ21_getLongUnaligned_35 : decode cJ21_getLongUnaligned 35 = .ok (.lload_n 2, 1) := dk_32 (dk_at dksJ21_getLongUnaligned_1 11 rfl rfl)
theorem dJ21_getLongUnaligned_36 : decode cJ21_getLongUnaligned 36 = .ok (.ldc2_w 205, 3) := dk_20 0 205 (dk_at dksJ21_getLongUnaligned_1 12 rfl rfl)
theorem dJ21_getLongUnaligned_39 : decode cJ21_getLongUnaligned 39 = .ok (.ladd, 1) := dk_97 (dk_at dksJ21_getLongUnaligned_1 15 rfl rfl)
theorem dJ21_getLongUnaligned_40 : decode cJ21_getLongUnaligned 40 = .ok (.invokevirtual 17, 3) := dk_182 0 17 (dk_at dksJ21_getLongUnaligned_1 16 rfl rfl)
theorem dJ21_getLongUnaligned_43 : decode cJ21_getLongUnaligned 43 = .ok (.invokestatic 698, 3) := dk_184 2 186 (dk_at dksJ21_getLongUnaligned_1 19 rfl rfl)
theorem dJ21_getLongUnaligned_46 : decode cJ21_getLongUnaligned 46 = .ok (.lreturn, 1) := dk_173 (dk_at dksJ21_getLongUnaligned_1 22 rfl rfl)
theorem dJ21_getLongUnaligned_47 : decode cJ21_getLongUnaligned 47 = .ok (.lload_n 2, 1) := dk_32 (dk_at dksJ21_getLongUnaligned_1 23 rfl rfl)
theorem dJ21_getLongUnaligned_48 : decode cJ21_getLongUnaligned 48 = .ok (.lconst 1, 1) := dk_10 (dk_at dksJ21_getLongUnaligned_2 0 rfl rfl)
theorem dJ21_getLongUnaligned_49 : decode cJ21_getLongUnaligned 49 = .ok (.land, 1) := dk_127 (dk_at dksJ21_getLongUnaligned_2 1 rfl rfl)
theorem dJ21_getLongUnaligned_50 : decode cJ21_getLongUnaligned 50 = .ok (.lconst 0, 1) := dk_9 (dk_at dksJ21_getLongUnaligned_2 2 rfl rfl)
theorem dJ21_getLongUnaligned_51 : decode cJ21_getLongUnaligned 51 = .ok (.lcmp, 1) := dk_148 (dk_at dksJ21_getLongUnaligned_2 3 rfl rfl)
theorem dJ21_getLongUnaligned_52 : decode cJ21_getLongUnaligned 52 = .ok (.ifCond .ne 43, 3) := dk_154 0 43 (dk_at dksJ21_getLongUnaligned_2 4 rfl rfl)
theorem dJ21_getLongUnaligned_55 : decode cJ21_getLongUnaligned 55 = .ok (.aload_n 0, 1) := dk_42 (dk_at dksJ21_getLongUnaligned_2 7 rfl rfl)
theorem dJ21_getLongUnaligned_56 : decode cJ21_getLongUnaligned 56 = .ok (.aload_n 1, 1) := dk_43 (dk_at dksJ21_getLongUnaligned_2 8 rfl rfl)
theorem dJ21_getLongUnaligned_57 : decode cJ21_getLongUnaligned 57 = .ok (.lload_n 2, 1) := dk_32 (dk_at dksJ21_getLongUnaligned_2 9 rfl rfl)
theorem dJ21_getLongUnaligned_58 : decode cJ21_getLongUnaligned 58 = .ok (.invokevirtual 47, 3) := dk_182 0 47 (dk_at dksJ21_getLongUnaligned_2 10 rfl rfl)
theorem dJ21_getLongUnaligned_61 : decode cJ21_getLongUnaligned 61 = .ok (.aload_n 0, 1) := dk_42 (dk_at dksJ21_getLongUnaligned_2 13 rfl rfl)
theorem dJ21_getLongUnaligned_62 : decode cJ21_getLongUnaligned 62 = .ok (.aload_n 1, 1) := dk_43 (dk_at dksJ21_getLongUnaligned_2 14 rfl rfl)
theorem dJ21_getLongUnaligned_63 : decode cJ21_getLongUnaligned 63 = .ok (.lload_n 2, 1) := dk_32 (dk_at dksJ21_getLongUnaligned_2 15 rfl rfl)
theorem dJ21_getLongUnaligned_64 : decode cJ21_getLongUnaligned 64 = .ok (.ldc2_w 203, 3) := dk_20 0 203 (dk_at dksJ21_getLongUnaligned_2 16 rfl rfl)
theorem dJ21_getLongUnaligned_67 : decode cJ21_getLongUnaligned 67 = .ok (.ladd, 1) := dk_97 (dk_at dksJ21_getLongUnaligned_2 19 rfl rfl)
theorem dJ21_getLongUnaligned_68 : decode cJ21_getLongUnaligned 68 = .ok (.invokevirtual 47, 3) := dk_182 0 47 (dk_at dksJ21_getLongUnaligned_2 20 rfl rfl)
theorem dJ21_getLongUnaligned_71 : decode cJ21_getLongUnaligned 71 = .ok (.aload_n 0, 1) := dk_42 (dk_at dksJ21_getLongUnaligned_2 23 rfl rfl)
theorem dJ21_getLongUnaligned_72 : decode cJ21_getLongUnaligned 72 = .ok (.aload_n 1, 1) := dk_43 (dk_at dksJ21_getLongUnaligned_3 0 rfl rfl)
theorem dJ21_getLongUnaligned_73 : decode cJ21_getLongUnaligned 73 = .ok (.lload_n 2, 1) := dk_32 (dk_at dksJ21_getLongUnaligned_3 1 rfl rfl)
theorem dJ21_getLongUnaligned_74 : decode cJ21_getLongUnaligned 74 = .ok (.ldc2_w 205, 3) := dk_20 0 205 (dk_at dksJ21_getLongUnaligned_3 2 rfl rfl)
theorem dJ21_getLongUnaligned_77 : decode cJ21_getLongUnaligned 77 = .ok (.ladd, 1) := dk_97 (dk_at dksJ21_getLongUnaligned_3 5 rfl rfl)
theorem dJ21_getLongUnaligned_78 : decode cJ21_getLongUnaligned 78 = .ok (.invokevirtual 47, 3) := dk_182 0 47 (dk_at dksJ21_getLongUnaligned_3 6 rfl rfl)
theorem dJ21_getLongUnaligned_81 : decode cJ21_getLongUnaligned 81 = .ok (.aload_n 0, 1) := dk_42 (dk_at dksJ21_getLongUnaligned_3 9 rfl rfl)
theorem dJ21_getLongUnaligned_82 : decode cJ21_getLongUnaligned 82 = .ok (.aload_n 1, 1) := dk_43 (dk_at dksJ21_getLongUnaligned_3 10 rfl rfl)
theorem dJ21_getLongUnaligned_83 : decode cJ21_getLongUnaligned 83 = .ok (.lload_n 2, 1) := dk_32 (dk_at dksJ21_getLongUnaligned_3 11 rfl rfl)
theorem dJ21_getLongUnaligned_84 : decode cJ21_getLongUnaligned 84 = .ok (.ldc2_w 702, 3) := dk_20 2 190 (dk_at dksJ21_getLongUnaligned_3 12 rfl rfl)
theorem dJ21_getLongUnaligned_87 : decode cJ21_getLongUnaligned 87 = .ok (.ladd, 1) := dk_97 (dk_at dksJ21_getLongUnaligned_3 15 rfl rfl)
theorem dJ21_getLongUnaligned_88 : decode cJ21_getLongUnaligned 88 = .ok (.invokevirtual 47, 3) := dk_182 0 47 (dk_at dksJ21_getLongUnaligned_3 16 rfl rfl)
theorem dJ21_getLongUnaligned_91 : decode cJ21_getLongUnaligned 91 = .ok (.invokestatic 704, 3) := dk_184 2 192 (dk_at dksJ21_getLongUnaligned_3 19 rfl rfl)
theorem dJ21_getLongUnaligned_94 : decode cJ21_getLongUnaligned 94 = .ok (.lreturn, 1) := dk_173 (dk_at dksJ21_getLongUnaligned_3 22 rfl rfl)
theorem dJ21_getLongUnaligned_95 : decode cJ21_getLongUnaligned 95 = .ok (.aload_n 0, 1) := dk_42 (dk_at dksJ21_getLongUnaligned_3 23 rfl rfl)
theorem dJ21_getLongUnaligned_96 : decode cJ21_getLongUnaligned 96 = .ok (.aload_n 1, 1) := dk_43 (dk_at dksJ21_getLongUnaligned_4 0 rfl rfl)
theorem dJ21_getLongUnaligned_97 : decode cJ21_getLongUnaligned 97 = .ok (.lload_n 2, 1) := dk_32 (dk_at dksJ21_getLongUnaligned_4 1 rfl rfl)
theorem dJ21_getLongUnaligned_98 : decode cJ21_getLongUnaligned 98 = .ok (.invokevirtual 39, 3) := dk_182 0 39 (dk_at dksJ21_getLongUnaligned_4 2 rfl rfl)
theorem dJ21_getLongUnaligned_101 : decode cJ21_getLongUnaligned 101 = .ok (.aload_n 0, 1) := dk_42 (dk_at dksJ21_getLongUnaligned_4 5 rfl rfl)
theorem dJ21_getLongUnaligned_102 : decode cJ21_getLongUnaligned 102 = .ok (.aload_n 1, 1) := dk_43 (dk_at dksJ21_getLongUnaligned_4 6 rfl rfl)
theorem dJ21_getLongUnaligned_103 : decode cJ21_getLongUnaligned 103 = .ok (.lload_n 2, 1) := dk_32 (dk_at dksJ21_getLongUnaligned_4 7 rfl rfl)
theorem dJ21_getLongUnaligned_104 : decode cJ21_getLongUnaligned 104 = .ok (.lconst 1, 1) := dk_10 (dk_at dksJ21_getLongUnaligned_4 8 rfl rfl)
theorem dJ21_getLongUnaligned_105 : decode cJ21_getLongUnaligned 105 = .ok (.ladd, 1) := dk_97 (dk_at dksJ21_getLongUnaligned_4 9 rfl rfl)
theorem dJ21_getLongUnaligned_106 : decode cJ21_getLongUnaligned 106 = .ok (.invokevirtual 39, 3) := dk_182 0 39 (dk_at dksJ21_getLongUnaligned_4 10 rfl rfl)
theorem dJ21_getLongUnaligned_109 : decode cJ21_getLongUnaligned 109 = .ok (.aload_n 0, 1) := dk_42 (dk_at dksJ21_getLongUnaligned_4 13 rfl rfl)
theorem dJ21_getLongUnaligned_110 : decode cJ21_getLongUnaligned 110 = .ok (.aload_n 1, 1) := dk_43 (dk_at dksJ21_getLongUnaligned_4 14 rfl rfl)
theorem dJ21_getLongUnaligned_111 : decode cJ21_getLongUnaligned 111 = .ok (.lload_n 2, 1) := dk_32 (dk_at dksJ21_getLongUnaligned_4 15 rfl rfl)
theorem dJ21_getLongUnaligned_112 : decode cJ21_getLongUnaligned 112 = .ok (.ldc2_w 203, 3) := dk_20 0 203 (dk_at dksJ21_getLongUnaligned_4 16 rfl rfl)
theorem dJ21_getLongUnaligned_115 : decode cJ21_getLongUnaligned 115 = .ok (.ladd, 1) := dk_97 (dk_at dksJ21_getLongUnaligned_4 19 rfl rfl)
theorem dJ21_getLongUnaligned_116 : decode cJ21_getLongUnaligned 116 = .ok (.invokevirtual 39, 3) := dk_182 0 39 (dk_at dksJ21_getLongUnaligned_4 20 rfl rfl)
theorem dJ21_getLongUnaligned_119 : decode cJ21_getLongUnaligned 119 = .ok (.aload_n 0, 1) := dk_42 (dk_at dksJ21_getLongUnaligned_4 23 rfl rfl)
theorem dJ21_getLongUnaligned_120 : decode cJ21_getLongUnaligned 120 = .ok (.aload_n 1, 1) := dk_43 (dk_at dksJ21_getLongUnaligned_5 0 rfl rfl)
theorem dJ21_getLongUnaligned_121 : decode cJ21_getLongUnaligned 121 = .ok (.lload_n 2, 1) := dk_32 (dk_at dksJ21_getLongUnaligned_5 1 rfl rfl)
theorem dJ21_getLongUnaligned_122 : decode cJ21_getLongUnaligned 122 = .ok (.ldc2_w 349, 3) := dk_20 1 93 (dk_at dksJ21_getLongUnaligned_5 2 rfl rfl)
theorem dJ21_getLongUnaligned_125 : decode cJ21_getLongUnaligned 125 = .ok (.ladd, 1) := dk_97 (dk_at dksJ21_getLongUnaligned_5 5 rfl rfl)
theorem dJ21_getLongUnaligned_126 : decode cJ21_getLongUnaligned 126 = .ok (.invokevirtual 39, 3) := dk_182 0 39 (dk_at dksJ21_getLongUnaligned_5 6 rfl rfl)
theorem dJ21_getLongUnaligned_129 : decode cJ21_getLongUnaligned 129 = .ok (.aload_n 0, 1) := dk_42 (dk_at dksJ21_getLongUnaligned_5 9 rfl rfl)
theorem dJ21_getLongUnaligned_130 : decode cJ21_getLongUnaligned 130 = .ok (.aload_n 1, 1) := dk_43 (dk_at dksJ21_getLongUnaligned_5 10 rfl rfl)
theorem dJ21_getLongUnaligned_131 : decode cJ21_getLongUnaligned 131 = .ok (.lload_n 2, 1) := dk_32 (dk_at dksJ21_getLongUnaligned_5 11 rfl rfl)
theorem dJ21_getLongUnaligned_132 : decode cJ21_getLongUnaligned 132 = .ok (.ldc2_w 205, 3) := dk_20 0 205 (dk_at dksJ21_getLongUnaligned_5 12 rfl rfl)
theorem dJ21_getLongUnaligned_135 : decode cJ21_getLongUnaligned 135 = .ok (.ladd, 1) := dk_97 (dk_at dksJ21_getLongUnaligned_5 15 rfl rfl)
theorem dJ21_getLongUnaligned_136 : decode cJ21_getLongUnaligned 136 = .ok (.invokevirtual 39, 3) := dk_182 0 39 (dk_at dksJ21_getLongUnaligned_5 16 rfl rfl)
theorem dJ21_getLongUnaligned_139 : decode cJ21_getLongUnaligned 139 = .ok (.aload_n 0, 1) := dk_42 (dk_at dksJ21_getLongUnaligned_5 19 rfl rfl)
theorem dJ21_getLongUnaligned_140 : decode cJ21_getLongUnaligned 140 = .ok (.aload_n 1, 1) := dk_43 (dk_at dksJ21_getLongUnaligned_5 20 rfl rfl)
theorem dJ21_getLongUnaligned_141 : decode cJ21_getLongUnaligned 141 = .ok (.lload_n 2, 1) := dk_32 (dk_at dksJ21_getLongUnaligned_5 21 rfl rfl)
theorem dJ21_getLongUnaligned_142 : decode cJ21_getLongUnaligned 142 = .ok (.ldc2_w 707, 3) := dk_20 2 195 (dk_at dksJ21_getLongUnaligned_6 0 rfl rfl)
theorem dJ21_getLongUnaligned_145 : decode cJ21_getLongUnaligned 145 = .ok (.ladd, 1) := dk_97 (dk_at dksJ21_getLongUnaligned_6 3 rfl rfl)
theorem dJ21_getLongUnaligned_146 : decode cJ21_getLongUnaligned 146 = .ok (.invokevirtual 39, 3) := dk_182 0 39 (dk_at dksJ21_getLongUnaligned_6 4 rfl rfl)
theorem dJ21_getLongUnaligned_149 : decode cJ21_getLongUnaligned 149 = .ok (.aload_n 0, 1) := dk_42 (dk_at dksJ21_getLongUnaligned_6 7 rfl rfl)
theorem dJ21_getLongUnaligned_150 : decode cJ21_getLongUnaligned 150 = .ok (.aload_n 1, 1) := dk_43 (dk_at dksJ21_getLongUnaligned_6 8 rfl rfl)
theorem dJ21_getLongUnaligned_151 : decode cJ21_getLongUnaligned 151 = .ok (.lload_n 2, 1) := dk_32 (dk_at dksJ21_getLongUnaligned_6 9 rfl rfl)
theorem dJ21_getLongUnaligned_152 : decode cJ21_getLongUnaligned 152 = .ok (.ldc2_w 702, 3) := dk_20 2 190 (dk_at dksJ21_getLongUnaligned_6 10 rfl rfl)
theorem dJ21_getLongUnaligned_155 : decode cJ21_getLongUnaligned 155 = .ok (.ladd, 1) := dk_97 (dk_at dksJ21_getLongUnaligned_6 13 rfl rfl)
theorem dJ21_getLongUnaligned_156 : decode cJ21_getLongUnaligned 156 = .ok (.invokevirtual 39, 3) := dk_182 0 39 (dk_at dksJ21_getLongUnaligned_6 14 rfl rfl)
theorem dJ21_getLongUnaligned_159 : decode cJ21_getLongUnaligned 159 = .ok (.aload_n 0, 1) := dk_42 (dk_at dksJ21_getLongUnaligned_6 17 rfl rfl)
theorem dJ21_getLongUnaligned_160 : decode cJ21_getLongUnaligned 160 = .ok (.aload_n 1, 1) := dk_43 (dk_at dksJ21_getLongUnaligned_6 18 rfl rfl)
theorem dJ21_getLongUnaligned_161 : decode cJ21_getLongUnaligned 161 = .ok (.lload_n 2, 1) := dk_32 (dk_at dksJ21_getLongUnaligned_6 19 rfl rfl)
theorem dJ21_getLongUnaligned_162 : decode cJ21_getLongUnaligned 162 = .ok (.ldc2_w 696, 3) := dk_20 2 184 (dk_at dksJ21_getLongUnaligned_6 20 rfl rfl)
theorem dJ21_getLongUnaligned_165 : decode cJ21_getLongUnaligned 165 = .ok (.ladd, 1) := dk_97 (dk_at dksJ21_getLongUnaligned_6 23 rfl rfl)
theorem dJ21_getLongUnaligned_166 : decode cJ21_getLongUnaligned 166 = .ok (.invokevirtual 39, 3) := dk_182 0 39 (dk_at dksJ21_getLongUnaligned_7 0 rfl rfl)
theorem dJ21_getLongUnaligned_169 : decode cJ21_getLongUnaligned 169 = .ok (.invokestatic 709, 3) := dk_184 2 197 (dk_at dksJ21_getLongUnaligned_7 3 rfl rfl)
theorem dJ21_getLongUnaligned_172 : decode cJ21_getLongUnaligned 172 = .ok (.lreturn, 1) := dk_173 (dk_at dksJ21_getLongUnaligned_7 6 rfl rfl)
abbrev cJ21_makeLong : ByteArray := prog_74_method_353_code
def yJ21_makeLong : MethodName := ⟨RJ21, "makeLong", "(II)J"⟩
def dkwJ21_makeLong_1 : List UInt8 := [173]
abbrev dktJ21_makeLong_1 : List UInt8 := dkwJ21_makeLong_1 ++ []
def dkwJ21_makeLong_0 : List UInt8 := [26, 184, 3, 23, 16, 32, 3, 184, 3, 16, 121, 27, 184, 3, 23, 16, 32, 16, 32, 184, 3, 16, 121, 129]
abbrev dktJ21_makeLong_0 : List UInt8 := dkwJ21_makeLong_0 ++ dktJ21_makeLong_1
theorem dksJ21_makeLong_0 : cJ21_makeLong.data.toList.drop 0 = dktJ21_makeLong_0 := by decide +kernel
theorem dksJ21_makeLong_1 : cJ21_makeLong.data.toList.drop 24 = dktJ21_makeLong_1 := dk_seg dksJ21_makeLong_0 24 rfl rfl
theorem dJ21_makeLong_0 : decode cJ21_makeLong 0 = .ok (.iload_n 0, 1) := dk_26 (dk_at dksJ21_makeLong_0 0 rfl rfl)
theorem dJ21_makeLong_1 : decode cJ21_makeLong 1 = .ok (.invokestatic 791, 3) := dk_184 3 23 (dk_at dksJ21_makeLong_0 1 rfl rfl)
theorem dJ21_makeLong_4 : decode cJ21_makeLong 4 = .ok (.bipush 32, 2) := dk_16 32 (dk_at dksJ21_makeLong_0 4 rfl rfl)
theorem dJ21_makeLong_6 : decode cJ21_makeLong 6 = .ok (.iconst 0, 1) := dk_3 (dk_at dksJ21_makeLong_0 6 rfl rfl)
theorem dJ21_makeLong_7 : decode cJ21_makeLong 7 = .ok (.invokestatic 784, 3) := dk_184 3 16 (dk_at dksJ21_makeLong_0 7 rfl rfl)
theorem dJ21_makeLong_10 : decode cJ21_makeLong 10 = .ok (.lshl, 1) := dk_121 (dk_at dksJ21_makeLong_0 10 rfl rfl)
theorem dJ21_makeLong_11 : decode cJ21_makeLong 11 = .ok (.iload_n 1, 1) := dk_27 (dk_at dksJ21_makeLong_0 11 rfl rfl)
theorem dJ21_makeLong_12 : decode cJ21_makeLong 12 = .ok (.invokestatic 791, 3) := dk_184 3 23 (dk_at dksJ21_makeLong_0 12 rfl rfl)
theorem dJ21_makeLong_15 : decode cJ21_makeLong 15 = .ok (.bipush 32, 2) := dk_16 32 (dk_at dksJ21_makeLong_0 15 rfl rfl)
theorem dJ21_makeLong_17 : decode cJ21_makeLong 17 = .ok (.bipush 32, 2) := dk_16 32 (dk_at dksJ21_makeLong_0 17 rfl rfl)
theorem dJ21_makeLong_19 : decode cJ21_makeLong 19 = .ok (.invokestatic 784, 3) := dk_184 3 16 (dk_at dksJ21_makeLong_0 19 rfl rfl)
theorem dJ21_makeLong_22 : decode cJ21_makeLong 22 = .ok (.lshl, 1) := dk_121 (dk_at dksJ21_makeLong_0 22 rfl rfl)
theorem dJ21_makeLong_23 : decode cJ21_makeLong 23 = .ok (.lor, 1) := dk_129 (dk_at dksJ21_makeLong_0 23 rfl rfl)
theorem dJ21_makeLong_24 : decode cJ21_makeLong 24 = .ok (.lreturn, 1) := dk_173 (dk_at dksJ21_makeLong_1 0 rfl rfl)
abbrev cJ21_toUnsignedLong : ByteArray := prog_74_method_370_code
def yJ21_toUnsignedLong : MethodName := ⟨RJ21, "toUnsignedLong", "(I)J"⟩
def dkwJ21_toUnsignedLong_0 : List UInt8 := [26, 133, 20, 3, 44, 127, 173]
abbrev dktJ21_toUnsignedLong_0 : List UInt8 := dkwJ21_toUnsignedLong_0 ++ []
theorem dksJ21_toUnsignedLong_0 : cJ21_toUnsignedLong.data.toList.drop 0 = dktJ21_toUnsignedLong_0 := by decide +kernel
theorem dJ21_toUnsignedLong_0 : decode cJ21_toUnsignedLong 0 = .ok (.iload_n 0, 1) := dk_26 (dk_at dksJ21_toUnsignedLong_0 0 rfl rfl)
theorem dJ21_toUnsignedLong_1 : decode cJ21_toUnsignedLong 1 = .ok (.i2l, 1) := dk_133 (dk_at dksJ21_toUnsignedLong_0 1 rfl rfl)
theorem dJ21_toUnsignedLong_2 : decode cJ21_toUnsignedLong 2 = .ok (.ldc2_w 812, 3) := dk_20 3 44 (dk_at dksJ21_toUnsignedLong_0 2 rfl rfl)
theorem dJ21_toUnsignedLong_5 : decode cJ21_toUnsignedLong 5 = .ok (.land, 1) := dk_127 (dk_at dksJ21_toUnsignedLong_0 5 rfl rfl)
theorem dJ21_toUnsignedLong_6 : decode cJ21_toUnsignedLong 6 = .ok (.lreturn, 1) := dk_173 (dk_at dksJ21_toUnsignedLong_0 6 rfl rfl)
abbrev cJ21_pickPos : ByteArray := prog_74_method_350_code
def yJ21_pickPos : MethodName := ⟨RJ21, "pickPos", "(II)I"⟩
def dkwJ21_pickPos_0 : List UInt8 := [178, 1, 95, 153, 0, 9, 26, 27, 100, 167, 0, 4, 27, 172]
abbrev dktJ21_pickPos_0 : List UInt8 := dkwJ21_pickPos_0 ++ []
theorem dksJ21_pickPos_0 : cJ21_pickPos.data.toList.drop 0 = dktJ21_pickPos_0 := by decide +kernel
theorem dJ21_pickPos_0 : decode cJ21_pickPos 0 = .ok (.getstatic 351, 3) := dk_178 1 95 (dk_at dksJ21_pickPos_0 0 rfl rfl)
theorem dJ21_pickPos_3 : decode cJ21_pickPos 3 = .ok (.ifCond .eq 9, 3) := dk_153 0 9 (dk_at dksJ21_pickPos_0 3 rfl rfl)
theorem dJ21_pickPos_6 : decode cJ21_pickPos 6 = .ok (.iload_n 0, 1) := dk_26 (dk_at dksJ21_pickPos_0 6 rfl rfl)
theorem dJ21_pickPos_7 : decode cJ21_pickPos 7 = .ok (.iload_n 1, 1) := dk_27 (dk_at dksJ21_pickPos_0 7 rfl rfl)
theorem dJ21_pickPos_8 : decode cJ21_pickPos 8 = .ok (.isub, 1) := dk_100 (dk_at dksJ21_pickPos_0 8 rfl rfl)
theorem dJ21_pickPos_9 : decode cJ21_pickPos 9 = .ok (.goto 4, 3) := dk_167 0 4 (dk_at dksJ21_pickPos_0 9 rfl rfl)
theorem dJ21_pickPos_12 : decode cJ21_pickPos 12 = .ok (.iload_n 1, 1) := dk_27 (dk_at dksJ21_pickPos_0 12 rfl rfl)
theorem dJ21_pickPos_13 : decode cJ21_pickPos 13 = .ok (.ireturn, 1) := dk_172 (dk_at dksJ21_pickPos_0 13 rfl rfl)
abbrev cJ21_makeLong_2 : ByteArray := prog_74_method_352_code
def yJ21_makeLong_2 : MethodName := ⟨RJ21, "makeLong", "(SSSS)J"⟩
def dkwJ21_makeLong_2_2 : List UInt8 := [121, 129, 173]
abbrev dktJ21_makeLong_2_2 : List UInt8 := dkwJ21_makeLong_2_2 ++ []
def dkwJ21_makeLong_2_1 : List UInt8 := [28, 184, 3, 20, 16, 48, 16, 32, 184, 3, 16, 121, 129, 29, 184, 3, 20, 16, 48, 16, 48, 184, 3, 16]
abbrev dktJ21_makeLong_2_1 : List UInt8 := dkwJ21_makeLong_2_1 ++ dktJ21_makeLong_2_2
def dkwJ21_makeLong_2_0 : List UInt8 := [26, 184, 3, 20, 16, 48, 3, 184, 3, 16, 121, 27, 184, 3, 20, 16, 48, 16, 16, 184, 3, 16, 121, 129]
abbrev dktJ21_makeLong_2_0 : List UInt8 := dkwJ21_makeLong_2_0 ++ dktJ21_makeLong_2_1
theorem dksJ21_makeLong_2_0 : cJ21_makeLong_2.data.toList.drop 0 = dktJ21_makeLong_2_0 := by decide +kernel
theorem dksJ21_makeLong_2_1 : cJ21_makeLong_2.data.toList.drop 24 = dktJ21_makeLong_2_1 := dk_seg dksJ21_makeLong_2_0 24 rfl rfl
theorem dksJ21_makeLong_2_2 : cJ21_makeLong_2.data.toList.drop 48 = dktJ21_makeLong_2_2 := dk_seg dksJ21_makeLong_2_1 24 rfl rfl
theorem dJ21_makeLong_2_0 : decode cJ21_makeLong_2 0 = .ok (.iload_n 0, 1) := dk_26 (dk_at dksJ21_makeLong_2_0 0 rfl rfl)
theorem dJ21_makeLong_2_1 : decode cJ21_makeLong_2 1 = .ok (.invokestatic 788, 3) := dk_184 3 20 (dk_at dksJ21_makeLong_2_0 1 rfl rfl)
theorem dJ21_makeLong_2_4 : decode cJ21_makeLong_2 4 = .ok (.bipush 48, 2) := dk_16 48 (dk_at dksJ21_makeLong_2_0 4 rfl rfl)
theorem dJ21_makeLong_2_6 : decode cJ21_makeLong_2 6 = .ok (.iconst 0, 1) := dk_3 (dk_at dksJ21_makeLong_2_0 6 rfl rfl)
theorem dJ21_makeLong_2_7 : decode cJ21_makeLong_2 7 = .ok (.invokestatic 784, 3) := dk_184 3 16 (dk_at dksJ21_makeLong_2_0 7 rfl rfl)
theorem dJ21_makeLong_2_10 : decode cJ21_makeLong_2 10 = .ok (.lshl, 1) := dk_121 (dk_at dksJ21_makeLong_2_0 10 rfl rfl)
theorem dJ21_makeLong_2_11 : decode cJ21_makeLong_2 11 = .ok (.iload_n 1, 1) := dk_27 (dk_at dksJ21_makeLong_2_0 11 rfl rfl)
theorem dJ21_makeLong_2_12 : decode cJ21_makeLong_2 12 = .ok (.invokestatic 788, 3) := dk_184 3 20 (dk_at dksJ21_makeLong_2_0 12 rfl rfl)
theorem dJ21_makeLong_2_15 : decode cJ21_makeLong_2 15 = .ok (.bipush 48, 2) := dk_16 48 (dk_at dksJ21_makeLong_2_0 15 rfl rfl)
theorem dJ21_makeLong_2_17 : decode cJ21_makeLong_2 17 = .ok (.bipush 16, 2) := dk_16 16 (dk_at dksJ21_makeLong_2_0 17 rfl rfl)
theorem dJ21_makeLong_2_19 : decode cJ21_makeLong_2 19 = .ok (.invokestatic 784, 3) := dk_184 3 16 (dk_at dksJ21_makeLong_2_0 19 rfl rfl)
theorem dJ21_makeLong_2_22 : decode cJ21_makeLong_2 22 = .ok (.lshl, 1) := dk_121 (dk_at dksJ21_makeLong_2_0 22 rfl rfl)
theorem dJ21_makeLong_2_23 : decode cJ21_makeLong_2 23 = .ok (.lor, 1) := dk_129 (dk_at dksJ21_makeLong_2_0 23 rfl rfl)
theorem dJ21_makeLong_2_24 : decode cJ21_makeLong_2 24 = .ok (.iload_n 2, 1) := dk_28 (dk_at dksJ21_makeLong_2_1 0 rfl rfl)
theorem dJ21_makeLong_2_25 : decode cJ21_makeLong_2 25 = .ok (.invokestatic 788, 3) := dk_184 3 20 (dk_at dksJ21_makeLong_2_1 1 rfl rfl)
theorem dJ21_makeLong_2_28 : decode cJ21_makeLong_2 28 = .ok (.bipush 48, 2) := dk_16 48 (dk_at dksJ21_makeLong_2_1 4 rfl rfl)
theorem dJ21_makeLong_2_30 : decode cJ21_makeLong_2 30 = .ok (.bipush 32, 2) := dk_16 32 (dk_at dksJ21_makeLong_2_1 6 rfl rfl)
theorem dJ21_makeLong_2_32 : decode cJ21_makeLong_2 32 = .ok (.invokestatic 784, 3) := dk_184 3 16 (dk_at dksJ21_makeLong_2_1 8 rfl rfl)
theorem dJ21_makeLong_2_35 : decode cJ21_makeLong_2 35 = .ok (.lshl, 1) := dk_121 (dk_at dksJ21_makeLong_2_1 11 rfl rfl)
theorem dJ21_makeLong_2_36 : decode cJ21_makeLong_2 36 = .ok (.lor, 1) := dk_129 (dk_at dksJ21_makeLong_2_1 12 rfl rfl)
theorem dJ21_makeLong_2_37 : decode cJ21_makeLong_2 37 = .ok (.iload_n 3, 1) := dk_29 (dk_at dksJ21_makeLong_2_1 13 rfl rfl)
theorem dJ21_makeLong_2_38 : decode cJ21_makeLong_2 38 = .ok (.invokestatic 788, 3) := dk_184 3 20 (dk_at dksJ21_makeLong_2_1 14 rfl rfl)
theorem dJ21_makeLong_2_41 : decode cJ21_makeLong_2 41 = .ok (.bipush 48, 2) := dk_16 48 (dk_at dksJ21_makeLong_2_1 17 rfl rfl)
theorem dJ21_makeLong_2_43 : decode cJ21_makeLong_2 43 = .ok (.bipush 48, 2) := dk_16 48 (dk_at dksJ21_makeLong_2_1 19 rfl rfl)
theorem dJ21_makeLong_2_45 : decode cJ21_makeLong_2 45 = .ok (.invokestatic 784, 3) := dk_184 3 16 (dk_at dksJ21_makeLong_2_1 21 rfl rfl)
theorem dJ21_makeLong_2_48 : decode cJ21_makeLong_2 48 = .ok (.lshl, 1) := dk_121 (dk_at dksJ21_makeLong_2_2 0 rfl rfl)
theorem dJ21_makeLong_2_49 : decode cJ21_makeLong_2 49 = .ok (.lor, 1) := dk_129 (dk_at dksJ21_makeLong_2_2 1 rfl rfl)
theorem dJ21_makeLong_2_50 : decode cJ21_makeLong_2 50 = .ok (.lreturn, 1) := dk_173 (dk_at dksJ21_makeLong_2_2 2 rfl rfl)
abbrev cJ21_toUnsignedLong_2 : ByteArray := prog_74_method_369_code
def yJ21_toUnsignedLong_2 : MethodName := ⟨RJ21, "toUnsignedLong", "(S)J"⟩
def dkwJ21_toUnsignedLong_2_0 : List UInt8 := [26, 133, 20, 3, 42, 127, 173]
abbrev dktJ21_toUnsignedLong_2_0 : List UInt8 := dkwJ21_toUnsignedLong_2_0 ++ []
theorem dksJ21_toUnsignedLong_2_0 : cJ21_toUnsignedLong_2.data.toList.drop 0 = dktJ21_toUnsignedLong_2_0 := by decide +kernel
theorem dJ21_toUnsignedLong_2_0 : decode cJ21_toUnsignedLong_2 0 = .ok (.iload_n 0, 1) := dk_26 (dk_at dksJ21_toUnsignedLong_2_0 0 rfl rfl)
theorem dJ21_toUnsignedLong_2_1 : decode cJ21_toUnsignedLong_2 1 = .ok (.i2l, 1) := dk_133 (dk_at dksJ21_toUnsignedLong_2_0 1 rfl rfl)
theorem dJ21_toUnsignedLong_2_2 : decode cJ21_toUnsignedLong_2 2 = .ok (.ldc2_w 810, 3) := dk_20 3 42 (dk_at dksJ21_toUnsignedLong_2_0 2 rfl rfl)
theorem dJ21_toUnsignedLong_2_5 : decode cJ21_toUnsignedLong_2 5 = .ok (.land, 1) := dk_127 (dk_at dksJ21_toUnsignedLong_2_0 5 rfl rfl)
theorem dJ21_toUnsignedLong_2_6 : decode cJ21_toUnsignedLong_2 6 = .ok (.lreturn, 1) := dk_173 (dk_at dksJ21_toUnsignedLong_2_0 6 rfl rfl)
abbrev cJ21_makeLong_3 : ByteArray := prog_74_method_351_code
def yJ21_makeLong_3 : MethodName := ⟨RJ21, "makeLong", "(BBBBBBBB)J"⟩
def dkwJ21_makeLong_3_4 : List UInt8 := [184, 3, 13, 16, 56, 16, 56, 184, 3, 16, 121, 129, 173]
abbrev dktJ21_makeLong_3_4 : List UInt8 := dkwJ21_makeLong_3_4 ++ []
def dkwJ21_makeLong_3_3 : List UInt8 := [16, 40, 184, 3, 16, 121, 129, 21, 6, 184, 3, 13, 16, 56, 16, 48, 184, 3, 16, 121, 129, 21, 7]
abbrev dktJ21_makeLong_3_3 : List UInt8 := dkwJ21_makeLong_3_3 ++ dktJ21_makeLong_3_4
def dkwJ21_makeLong_3_2 : List UInt8 := [121, 129, 21, 4, 184, 3, 13, 16, 56, 16, 32, 184, 3, 16, 121, 129, 21, 5, 184, 3, 13, 16, 56]
abbrev dktJ21_makeLong_3_2 : List UInt8 := dkwJ21_makeLong_3_2 ++ dktJ21_makeLong_3_3
def dkwJ21_makeLong_3_1 : List UInt8 := [28, 184, 3, 13, 16, 56, 16, 16, 184, 3, 16, 121, 129, 29, 184, 3, 13, 16, 56, 16, 24, 184, 3, 16]
abbrev dktJ21_makeLong_3_1 : List UInt8 := dkwJ21_makeLong_3_1 ++ dktJ21_makeLong_3_2
def dkwJ21_makeLong_3_0 : List UInt8 := [26, 184, 3, 13, 16, 56, 3, 184, 3, 16, 121, 27, 184, 3, 13, 16, 56, 16, 8, 184, 3, 16, 121, 129]
abbrev dktJ21_makeLong_3_0 : List UInt8 := dkwJ21_makeLong_3_0 ++ dktJ21_makeLong_3_1
theorem dksJ21_makeLong_3_0 : cJ21_makeLong_3.data.toList.drop 0 = dktJ21_makeLong_3_0 := by decide +kernel
theorem dksJ21_makeLong_3_1 : cJ21_makeLong_3.data.toList.drop 24 = dktJ21_makeLong_3_1 := dk_seg dksJ21_makeLong_3_0 24 rfl rfl
theorem dksJ21_makeLong_3_2 : cJ21_makeLong_3.data.toList.drop 48 = dktJ21_makeLong_3_2 := dk_seg dksJ21_makeLong_3_1 24 rfl rfl
theorem dksJ21_makeLong_3_3 : cJ21_makeLong_3.data.toList.drop 71 = dktJ21_makeLong_3_3 := dk_seg dksJ21_makeLong_3_2 23 rfl rfl
theorem dksJ21_makeLong_3_4 : cJ21_makeLong_3.data.toList.drop 94 = dktJ21_makeLong_3_4 := dk_seg dksJ21_makeLong_3_3 23 rfl rfl
theorem dJ21_makeLong_3_0 : decode cJ21_makeLong_3 0 = .ok (.iload_n 0, 1) := dk_26 (dk_at dksJ21_makeLong_3_0 0 rfl rfl)
theorem dJ21_makeLong_3_1 : decode cJ21_makeLong_3 1 = .ok (.invokestatic 781, 3) := dk_184 3 13 (dk_at dksJ21_makeLong_3_0 1 rfl rfl)
theorem dJ21_makeLong_3_4 : decode cJ21_makeLong_3 4 = .ok (.bipush 56, 2) := dk_16 56 (dk_at dksJ21_makeLong_3_0 4 rfl rfl)
theorem dJ21_makeLong_3_6 : decode cJ21_makeLong_3 6 = .ok (.iconst 0, 1) := dk_3 (dk_at dksJ21_makeLong_3_0 6 rfl rfl)
theorem dJ21_makeLong_3_7 : decode cJ21_makeLong_3 7 = .ok (.invokestatic 784, 3) := dk_184 3 16 (dk_at dksJ21_makeLong_3_0 7 rfl rfl)
theorem dJ21_makeLong_3_10 : decode cJ21_makeLong_3 10 = .ok (.lshl, 1) := dk_121 (dk_at dksJ21_makeLong_3_0 10 rfl rfl)
theorem dJ21_makeLong_3_11 : decode cJ21_makeLong_3 11 = .ok (.iload_n 1, 1) := dk_27 (dk_at dksJ21_makeLong_3_0 11 rfl rfl)
theorem dJ21_makeLong_3_12 : decode cJ21_makeLong_3 12 = .ok (.invokestatic 781, 3) := dk_184 3 13 (dk_at dksJ21_makeLong_3_0 12 rfl rfl)
theorem dJ21_makeLong_3_15 : decode cJ21_makeLong_3 15 = .ok (.bipush 56, 2) := dk_16 56 (dk_at dksJ21_makeLong_3_0 15 rfl rfl)
theorem dJ21_makeLong_3_17 : decode cJ21_makeLong_3 17 = .ok (.bipush 8, 2) := dk_16 8 (dk_at dksJ21_makeLong_3_0 17 rfl rfl)
theorem dJ21_makeLong_3_19 : decode cJ21_makeLong_3 19 = .ok (.invokestatic 784, 3) := dk_184 3 16 (dk_at dksJ21_makeLong_3_0 19 rfl rfl)
theorem dJ21_makeLong_3_22 : decode cJ21_makeLong_3 22 = .ok (.lshl, 1) := dk_121 (dk_at dksJ21_makeLong_3_0 22 rfl rfl)
theorem dJ21_makeLong_3_23 : decode cJ21_makeLong_3 23 = .ok (.lor, 1) := dk_129 (dk_at dksJ21_makeLong_3_0 23 rfl rfl)
theorem dJ21_makeLong_3_24 : decode cJ21_makeLong_3 24 = .ok (.iload_n 2, 1) := dk_28 (dk_at dksJ21_makeLong_3_1 0 rfl rfl)
theorem dJ21_makeLong_3_25 : decode cJ21_makeLong_3 25 = .ok (.invokestatic 781, 3) := dk_184 3 13 (dk_at dksJ21_makeLong_3_1 1 rfl rfl)
theorem dJ21_makeLong_3_28 : decode cJ21_makeLong_3 28 = .ok (.bipush 56, 2) := dk_16 56 (dk_at dksJ21_makeLong_3_1 4 rfl rfl)
theorem dJ21_makeLong_3_30 : decode cJ21_makeLong_3 30 = .ok (.bipush 16, 2) := dk_16 16 (dk_at dksJ21_makeLong_3_1 6 rfl rfl)
theorem dJ21_makeLong_3_32 : decode cJ21_makeLong_3 32 = .ok (.invokestatic 784, 3) := dk_184 3 16 (dk_at dksJ21_makeLong_3_1 8 rfl rfl)
theorem dJ21_makeLong_3_35 : decode cJ21_makeLong_3 35 = .ok (.lshl, 1) := dk_121 (dk_at dksJ21_makeLong_3_1 11 rfl rfl)
theorem dJ21_makeLong_3_36 : decode cJ21_makeLong_3 36 = .ok (.lor, 1) := dk_129 (dk_at dksJ21_makeLong_3_1 12 rfl rfl)
theorem dJ21_makeLong_3_37 : decode cJ21_makeLong_3 37 = .ok (.iload_n 3, 1) := dk_29 (dk_at dksJ21_makeLong_3_1 13 rfl rfl)
theorem dJ21_makeLong_3_38 : decode cJ21_makeLong_3 38 = .ok (.invokestatic 781, 3) := dk_184 3 13 (dk_at dksJ21_makeLong_3_1 14 rfl rfl)
theorem dJ21_makeLong_3_41 : decode cJ21_makeLong_3 41 = .ok (.bipush 56, 2) := dk_16 56 (dk_at dksJ21_makeLong_3_1 17 rfl rfl)
theorem dJ21_makeLong_3_43 : decode cJ21_makeLong_3 43 = .ok (.bipush 24, 2) := dk_16 24 (dk_at dksJ21_makeLong_3_1 19 rfl rfl)
theorem dJ21_makeLong_3_45 : decode cJ21_makeLong_3 45 = .ok (.invokestatic 784, 3) := dk_184 3 16 (dk_at dksJ21_makeLong_3_1 21 rfl rfl)
theorem dJ21_makeLong_3_48 : decode cJ21_makeLong_3 48 = .ok (.lshl, 1) := dk_121 (dk_at dksJ21_makeLong_3_2 0 rfl rfl)
theorem dJ21_makeLong_3_49 : decode cJ21_makeLong_3 49 = .ok (.lor, 1) := dk_129 (dk_at dksJ21_makeLong_3_2 1 rfl rfl)
theorem dJ21_makeLong_3_50 : decode cJ21_makeLong_3 50 = .ok (.iload 4, 2) := dk_21 4 (dk_at dksJ21_makeLong_3_2 2 rfl rfl)
theorem dJ21_makeLong_3_52 : decode cJ21_makeLong_3 52 = .ok (.invokestatic 781, 3) := dk_184 3 13 (dk_at dksJ21_makeLong_3_2 4 rfl rfl)
theorem dJ21_makeLong_3_55 : decode cJ21_makeLong_3 55 = .ok (.bipush 56, 2) := dk_16 56 (dk_at dksJ21_makeLong_3_2 7 rfl rfl)
theorem dJ21_makeLong_3_57 : decode cJ21_makeLong_3 57 = .ok (.bipush 32, 2) := dk_16 32 (dk_at dksJ21_makeLong_3_2 9 rfl rfl)
theorem dJ21_makeLong_3_59 : decode cJ21_makeLong_3 59 = .ok (.invokestatic 784, 3) := dk_184 3 16 (dk_at dksJ21_makeLong_3_2 11 rfl rfl)
theorem dJ21_makeLong_3_62 : decode cJ21_makeLong_3 62 = .ok (.lshl, 1) := dk_121 (dk_at dksJ21_makeLong_3_2 14 rfl rfl)
theorem dJ21_makeLong_3_63 : decode cJ21_makeLong_3 63 = .ok (.lor, 1) := dk_129 (dk_at dksJ21_makeLong_3_2 15 rfl rfl)
theorem dJ21_makeLong_3_64 : decode cJ21_makeLong_3 64 = .ok (.iload 5, 2) := dk_21 5 (dk_at dksJ21_makeLong_3_2 16 rfl rfl)
theorem dJ21_makeLong_3_66 : decode cJ21_makeLong_3 66 = .ok (.invokestatic 781, 3) := dk_184 3 13 (dk_at dksJ21_makeLong_3_2 18 rfl rfl)
theorem dJ21_makeLong_3_69 : decode cJ21_makeLong_3 69 = .ok (.bipush 56, 2) := dk_16 56 (dk_at dksJ21_makeLong_3_2 21 rfl rfl)
theorem dJ21_makeLong_3_71 : decode cJ21_makeLong_3 71 = .ok (.bipush 40, 2) := dk_16 40 (dk_at dksJ21_makeLong_3_3 0 rfl rfl)
theorem dJ21_makeLong_3_73 : decode cJ21_makeLong_3 73 = .ok (.invokestatic 784, 3) := dk_184 3 16 (dk_at dksJ21_makeLong_3_3 2 rfl rfl)
theorem dJ21_makeLong_3_76 : decode cJ21_makeLong_3 76 = .ok (.lshl, 1) := dk_121 (dk_at dksJ21_makeLong_3_3 5 rfl rfl)
theorem dJ21_makeLong_3_77 : decode cJ21_makeLong_3 77 = .ok (.lor, 1) := dk_129 (dk_at dksJ21_makeLong_3_3 6 rfl rfl)
theorem dJ21_makeLong_3_78 : decode cJ21_makeLong_3 78 = .ok (.iload 6, 2) := dk_21 6 (dk_at dksJ21_makeLong_3_3 7 rfl rfl)
theorem dJ21_makeLong_3_80 : decode cJ21_makeLong_3 80 = .ok (.invokestatic 781, 3) := dk_184 3 13 (dk_at dksJ21_makeLong_3_3 9 rfl rfl)
theorem dJ21_makeLong_3_83 : decode cJ21_makeLong_3 83 = .ok (.bipush 56, 2) := dk_16 56 (dk_at dksJ21_makeLong_3_3 12 rfl rfl)
theorem dJ21_makeLong_3_85 : decode cJ21_makeLong_3 85 = .ok (.bipush 48, 2) := dk_16 48 (dk_at dksJ21_makeLong_3_3 14 rfl rfl)
theorem dJ21_makeLong_3_87 : decode cJ21_makeLong_3 87 = .ok (.invokestatic 784, 3) := dk_184 3 16 (dk_at dksJ21_makeLong_3_3 16 rfl rfl)
theorem dJ21_makeLong_3_90 : decode cJ21_makeLong_3 90 = .ok (.lshl, 1) := dk_121 (dk_at dksJ21_makeLong_3_3 19 rfl rfl)
theorem dJ21_makeLong_3_91 : decode cJ21_makeLong_3 91 = .ok (.lor, 1) := dk_129 (dk_at dksJ21_makeLong_3_3 20 rfl rfl)
theorem dJ21_makeLong_3_92 : decode cJ21_makeLong_3 92 = .ok (.iload 7, 2) := dk_21 7 (dk_at dksJ21_makeLong_3_3 21 rfl rfl)
theorem dJ21_makeLong_3_94 : decode cJ21_makeLong_3 94 = .ok (.invokestatic 781, 3) := dk_184 3 13 (dk_at dksJ21_makeLong_3_4 0 rfl rfl)
theorem dJ21_makeLong_3_97 : decode cJ21_makeLong_3 97 = .ok (.bipush 56, 2) := dk_16 56 (dk_at dksJ21_makeLong_3_4 3 rfl rfl)
theorem dJ21_makeLong_3_99 : decode cJ21_makeLong_3 99 = .ok (.bipush 56, 2) := dk_16 56 (dk_at dksJ21_makeLong_3_4 5 rfl rfl)
theorem dJ21_makeLong_3_101 : decode cJ21_makeLong_3 101 = .ok (.invokestatic 784, 3) := dk_184 3 16 (dk_at dksJ21_makeLong_3_4 7 rfl rfl)
theorem dJ21_makeLong_3_104 : decode cJ21_makeLong_3 104 = .ok (.lshl, 1) := dk_121 (dk_at dksJ21_makeLong_3_4 10 rfl rfl)
theorem dJ21_makeLong_3_105 : decode cJ21_makeLong_3 105 = .ok (.lor, 1) := dk_129 (dk_at dksJ21_makeLong_3_4 11 rfl rfl)
theorem dJ21_makeLong_3_106 : decode cJ21_makeLong_3 106 = .ok (.lreturn, 1) := dk_173 (dk_at dksJ21_makeLong_3_4 12 rfl rfl)
abbrev cJ21_toUnsignedLong_3 : ByteArray := prog_74_method_368_code
def yJ21_toUnsignedLong_3 : MethodName := ⟨RJ21, "toUnsignedLong", "(B)J"⟩
def dkwJ21_toUnsignedLong_3_0 : List UInt8 := [26, 133, 20, 3, 40, 127, 173]
abbrev dktJ21_toUnsignedLong_3_0 : List UInt8 := dkwJ21_toUnsignedLong_3_0 ++ []
theorem dksJ21_toUnsignedLong_3_0 : cJ21_toUnsignedLong_3.data.toList.drop 0 = dktJ21_toUnsignedLong_3_0 := by decide +kernel
theorem dJ21_toUnsignedLong_3_0 : decode cJ21_toUnsignedLong_3 0 = .ok (.iload_n 0, 1) := dk_26 (dk_at dksJ21_toUnsignedLong_3_0 0 rfl rfl)
theorem dJ21_toUnsignedLong_3_1 : decode cJ21_toUnsignedLong_3 1 = .ok (.i2l, 1) := dk_133 (dk_at dksJ21_toUnsignedLong_3_0 1 rfl rfl)
theorem dJ21_toUnsignedLong_3_2 : decode cJ21_toUnsignedLong_3 2 = .ok (.ldc2_w 808, 3) := dk_20 3 40 (dk_at dksJ21_toUnsignedLong_3_0 2 rfl rfl)
theorem dJ21_toUnsignedLong_3_5 : decode cJ21_toUnsignedLong_3 5 = .ok (.land, 1) := dk_127 (dk_at dksJ21_toUnsignedLong_3_0 5 rfl rfl)
theorem dJ21_toUnsignedLong_3_6 : decode cJ21_toUnsignedLong_3 6 = .ok (.lreturn, 1) := dk_173 (dk_at dksJ21_toUnsignedLong_3_0 6 rfl rfl)
abbrev cJ21_getIntUnaligned : ByteArray := prog_74_method_336_code
def yJ21_getIntUnaligned : MethodName := ⟨RJ21, "getIntUnaligned", "(Ljava/lang/Object;J)I"⟩
def dkwJ21_getIntUnaligned_3 : List UInt8 := [43, 32, 20, 1, 93, 97, 182, 0, 39, 184, 2, 211, 172]
abbrev dktJ21_getIntUnaligned_3 : List UInt8 := dkwJ21_getIntUnaligned_3 ++ []
def dkwJ21_getIntUnaligned_2 : List UInt8 := [43, 32, 182, 0, 39, 42, 43, 32, 10, 97, 182, 0, 39, 42, 43, 32, 20, 0, 203, 97, 182, 0, 39, 42]
abbrev dktJ21_getIntUnaligned_2 : List UInt8 := dkwJ21_getIntUnaligned_2 ++ dktJ21_getIntUnaligned_3
def dkwJ21_getIntUnaligned_1 : List UInt8 := [154, 0, 23, 42, 43, 32, 182, 0, 47, 42, 43, 32, 20, 0, 203, 97, 182, 0, 47, 184, 2, 207, 172, 42]
abbrev dktJ21_getIntUnaligned_1 : List UInt8 := dkwJ21_getIntUnaligned_1 ++ dktJ21_getIntUnaligned_2
def dkwJ21_getIntUnaligned_0 : List UInt8 := [32, 20, 1, 93, 127, 9, 148, 154, 0, 10, 42, 43, 32, 182, 0, 17, 172, 32, 10, 127, 9, 148]
abbrev dktJ21_getIntUnaligned_0 : List UInt8 := dkwJ21_getIntUnaligned_0 ++ dktJ21_getIntUnaligned_1
theorem dksJ21_getIntUnaligned_0 : cJ21_getIntUnaligned.data.toList.drop 0 = dktJ21_getIntUnaligned_0 := by decide +kernel
theorem dksJ21_getIntUnaligned_1 : cJ21_getIntUnaligned.data.toList.drop 22 = dktJ21_getIntUnaligned_1 := dk_seg dksJ21_getIntUnaligned_0 22 rfl rfl
theorem dksJ21_getIntUnaligned_2 : cJ21_getIntUnaligned.data.toList.drop 46 = dktJ21_getIntUnaligned_2 := dk_seg dksJ21_getIntUnaligned_1 24 rfl rfl
theorem dksJ21_getIntUnaligned_3 : cJ21_getIntUnaligned.data.toList.drop 70 = dktJ21_getIntUnaligned_3 := dk_seg dksJ21_getIntUnaligned_2 24 rfl rfl
theorem dJ21_getIntUnaligned_0 : decode cJ21_getIntUnaligned 0 = .ok (.lload_n 2, 1) := dk_32 (dk_at dksJ21_getIntUnaligned_0 0 rfl rfl)
theorem dJ21_getIntUnaligned_1 : decode cJ21_getIntUnaligned 1 = .ok (.ldc2_w 349, 3) := dk_20 1 93 (dk_at dksJ21_getIntUnaligned_0 1 rfl rfl)
theorem dJ21_getIntUnaligned_4 : decode cJ21_getIntUnaligned 4 = .ok (.land, 1) := dk_127 (dk_at dksJ21_getIntUnaligned_0 4 rfl rfl)
theorem dJ21_getIntUnaligned_5 : decode cJ21_getIntUnaligned 5 = .ok (.lconst 0, 1) := dk_9 (dk_at dksJ21_getIntUnaligned_0 5 rfl rfl)
theorem dJ21_getIntUnaligned_6 : decode cJ21_getIntUnaligned 6 = .ok (.lcmp, 1) := dk_148 (dk_at dksJ21_getIntUnaligned_0 6 rfl rfl)
theorem dJ21_getIntUnaligned_7 : decode cJ21_getIntUnaligned 7 = .ok (.ifCond .ne 10, 3) := dk_154 0 10 (dk_at dksJ21_getIntUnaligned_0 7 rfl rfl)
theorem dJ21_getIntUnaligned_10 : decode cJ21_getIntUnaligned 10 = .ok (.aload_n 0, 1) := dk_42 (dk_at dksJ21_getIntUnaligned_0 10 rfl rfl)
theorem dJ21_getIntUnaligned_11 : decode cJ21_getIntUnaligned 11 = .ok (.aload_n 1, 1) := dk_43 (dk_at dksJ21_getIntUnaligned_0 11 rfl rfl)
theorem dJ21_getIntUnaligned_12 : decode cJ21_getIntUnaligned 12 = .ok (.lload_n 2, 1) := dk_32 (dk_at dksJ21_getIntUnaligned_0 12 rfl rfl)
theorem dJ21_getIntUnaligned_13 : decode cJ21_getIntUnaligned 13 = .ok (.invokevirtual 17, 3) := dk_182 0 17 (dk_at dksJ21_getIntUnaligned_0 13 rfl rfl)
theorem dJ21_getIntUnaligned_16 : decode cJ21_getIntUnaligned 16 = .ok (.ireturn, 1) := dk_172 (dk_at dksJ21_getIntUnaligned_0 16 rfl rfl)
theorem dJ21_getIntUnaligned_17 : decode cJ21_getIntUnaligned 17 = .ok (.lload_n 2, 1) := dk_32 (dk_at dksJ21_getIntUnaligned_0 17 rfl rfl)
theorem dJ21_getIntUnaligned_18 : decode cJ21_getIntUnaligned 18 = .ok (.lconst 1, 1) := dk_10 (dk_at dksJ21_getIntUnaligned_0 18 rfl rfl)
theorem dJ21_getIntUnaligned_19 : decode cJ21_getIntUnaligned 19 = .ok (.land, 1) := dk_127 (dk_at dksJ21_getIntUnaligned_0 19 rfl rfl)
theorem dJ21_getIntUnaligned_20 : decode cJ21_getIntUnaligned 20 = .ok (.lconst 0, 1) := dk_9 (dk_at dksJ21_getIntUnaligned_0 20 rfl rfl)
theorem dJ21_getIntUnaligned_21 : decode cJ21_getIntUnaligned 21 = .ok (.lcmp, 1) := dk_148 (dk_at dksJ21_getIntUnaligned_0 21 rfl rfl)
theorem dJ21_getIntUnaligned_22 : decode cJ21_getIntUnaligned 22 = .ok (.ifCond .ne 23, 3) := dk_154 0 23 (dk_at dksJ21_getIntUnaligned_1 0 rfl rfl)
theorem dJ21_getIntUnaligned_25 : decode cJ21_getIntUnaligned 25 = .ok (.aload_n 0, 1) := dk_42 (dk_at dksJ21_getIntUnaligned_1 3 rfl rfl)
theorem dJ21_getIntUnaligned_26 : decode cJ21_getIntUnaligned 26 = .ok (.aload_n 1, 1) := dk_43 (dk_at dksJ21_getIntUnaligned_1 4 rfl rfl)
theorem dJ21_getIntUnaligned_27 : decode cJ21_getIntUnaligned 27 = .ok (.lload_n 2, 1) := dk_32 (dk_at dksJ21_getIntUnaligned_1 5 rfl rfl)
theorem dJ21_getIntUnaligned_28 : decode cJ21_getIntUnaligned 28 = .ok (.invokevirtual 47, 3) := dk_182 0 47 (dk_at dksJ21_getIntUnaligned_1 6 rfl rfl)
theorem dJ21_getIntUnaligned_31 : decode cJ21_getIntUnaligned 31 = .ok (.aload_n 0, 1) := dk_42 (dk_at dksJ21_getIntUnaligned_1 9 rfl rfl)
theorem dJ21_getIntUnaligned_32 : decode cJ21_getIntUnaligned 32 = .ok (.aload_n 1, 1) := dk_43 (dk_at dksJ21_getIntUnaligned_1 10 rfl rfl)
theorem dJ21_getIntUnaligned_33 : decode cJ21_getIntUnaligned 33 = .ok (.lload_n 2, 1) := dk_32 (dk_at dksJ21_getIntUnaligned_1 11 rfl rfl)
theorem dJ21_getIntUnaligned_34 : decode cJ21_getIntUnaligned 34 = .ok (.ldc2_w 203, 3) := dk_20 0 203 (dk_at dksJ21_getIntUnaligned_1 12 rfl rfl)
theorem dJ21_getIntUnaligned_37 : decode cJ21_getIntUnaligned 37 = .ok (.ladd, 1) := dk_97 (dk_at dksJ21_getIntUnaligned_1 15 rfl rfl)
theorem dJ21_getIntUnaligned_38 : decode cJ21_getIntUnaligned 38 = .ok (.invokevirtual 47, 3) := dk_182 0 47 (dk_at dksJ21_getIntUnaligned_1 16 rfl rfl)
theorem dJ21_getIntUnaligned_41 : decode cJ21_getIntUnaligned 41 = .ok (.invokestatic 719, 3) := dk_184 2 207 (dk_at dksJ21_getIntUnaligned_1 19 rfl rfl)
theorem dJ21_getIntUnaligned_44 : decode cJ21_getIntUnaligned 44 = .ok (.ireturn, 1) := dk_172 (dk_at dksJ21_getIntUnaligned_1 22 rfl rfl)
theorem dJ21_getIntUnaligned_45 : decode cJ21_getIntUnaligned 45 = .ok (.aload_n 0, 1) := dk_42 (dk_at dksJ21_getIntUnaligned_1 23 rfl rfl)
theorem dJ21_getIntUnaligned_46 : decode cJ21_getIntUnaligned 46 = .ok (.aload_n 1, 1) := dk_43 (dk_at dksJ21_getIntUnaligned_2 0 rfl rfl)
theorem dJ21_getIntUnaligned_47 : decode cJ21_getIntUnaligned 47 = .ok (.lload_n 2, 1) := dk_32 (dk_at dksJ21_getIntUnaligned_2 1 rfl rfl)
theorem dJ21_getIntUnaligned_48 : decode cJ21_getIntUnaligned 48 = .ok (.invokevirtual 39, 3) := dk_182 0 39 (dk_at dksJ21_getIntUnaligned_2 2 rfl rfl)
theorem dJ21_getIntUnaligned_51 : decode cJ21_getIntUnaligned 51 = .ok (.aload_n 0, 1) := dk_42 (dk_at dksJ21_getIntUnaligned_2 5 rfl rfl)
theorem dJ21_getIntUnaligned_52 : decode cJ21_getIntUnaligned 52 = .ok (.aload_n 1, 1) := dk_43 (dk_at dksJ21_getIntUnaligned_2 6 rfl rfl)
theorem dJ21_getIntUnaligned_53 : decode cJ21_getIntUnaligned 53 = .ok (.lload_n 2, 1) := dk_32 (dk_at dksJ21_getIntUnaligned_2 7 rfl rfl)
theorem dJ21_getIntUnaligned_54 : decode cJ21_getIntUnaligned 54 = .ok (.lconst 1, 1) := dk_10 (dk_at dksJ21_getIntUnaligned_2 8 rfl rfl)
theorem dJ21_getIntUnaligned_55 : decode cJ21_getIntUnaligned 55 = .ok (.ladd, 1) := dk_97 (dk_at dksJ21_getIntUnaligned_2 9 rfl rfl)
theorem dJ21_getIntUnaligned_56 : decode cJ21_getIntUnaligned 56 = .ok (.invokevirtual 39, 3) := dk_182 0 39 (dk_at dksJ21_getIntUnaligned_2 10 rfl rfl)
theorem dJ21_getIntUnaligned_59 : decode cJ21_getIntUnaligned 59 = .ok (.aload_n 0, 1) := dk_42 (dk_at dksJ21_getIntUnaligned_2 13 rfl rfl)
theorem dJ21_getIntUnaligned_60 : decode cJ21_getIntUnaligned 60 = .ok (.aload_n 1, 1) := dk_43 (dk_at dksJ21_getIntUnaligned_2 14 rfl rfl)
theorem dJ21_getIntUnaligned_61 : decode cJ21_getIntUnaligned 61 = .ok (.lload_n 2, 1) := dk_32 (dk_at dksJ21_getIntUnaligned_2 15 rfl rfl)
theorem dJ21_getIntUnaligned_62 : decode cJ21_getIntUnaligned 62 = .ok (.ldc2_w 203, 3) := dk_20 0 203 (dk_at dksJ21_getIntUnaligned_2 16 rfl rfl)
theorem dJ21_getIntUnaligned_65 : decode cJ21_getIntUnaligned 65 = .ok (.ladd, 1) := dk_97 (dk_at dksJ21_getIntUnaligned_2 19 rfl rfl)
theorem dJ21_getIntUnaligned_66 : decode cJ21_getIntUnaligned 66 = .ok (.invokevirtual 39, 3) := dk_182 0 39 (dk_at dksJ21_getIntUnaligned_2 20 rfl rfl)
theorem dJ21_getIntUnaligned_69 : decode cJ21_getIntUnaligned 69 = .ok (.aload_n 0, 1) := dk_42 (dk_at dksJ21_getIntUnaligned_2 23 rfl rfl)
theorem dJ21_getIntUnaligned_70 : decode cJ21_getIntUnaligned 70 = .ok (.aload_n 1, 1) := dk_43 (dk_at dksJ21_getIntUnaligned_3 0 rfl rfl)
theorem dJ21_getIntUnaligned_71 : decode cJ21_getIntUnaligned 71 = .ok (.lload_n 2, 1) := dk_32 (dk_at dksJ21_getIntUnaligned_3 1 rfl rfl)
theorem dJ21_getIntUnaligned_72 : decode cJ21_getIntUnaligned 72 = .ok (.ldc2_w 349, 3) := dk_20 1 93 (dk_at dksJ21_getIntUnaligned_3 2 rfl rfl)
theorem dJ21_getIntUnaligned_75 : decode cJ21_getIntUnaligned 75 = .ok (.ladd, 1) := dk_97 (dk_at dksJ21_getIntUnaligned_3 5 rfl rfl)
theorem dJ21_getIntUnaligned_76 : decode cJ21_getIntUnaligned 76 = .ok (.invokevirtual 39, 3) := dk_182 0 39 (dk_at dksJ21_getIntUnaligned_3 6 rfl rfl)
theorem dJ21_getIntUnaligned_79 : decode cJ21_getIntUnaligned 79 = .ok (.invokestatic 723, 3) := dk_184 2 211 (dk_at dksJ21_getIntUnaligned_3 9 rfl rfl)
theorem dJ21_getIntUnaligned_82 : decode cJ21_getIntUnaligned 82 = .ok (.ireturn, 1) := dk_172 (dk_at dksJ21_getIntUnaligned_3 12 rfl rfl)
abbrev cJ21_makeInt : ByteArray := prog_74_method_354_code
def yJ21_makeInt : MethodName := ⟨RJ21, "makeInt", "(SS)I"⟩
def dkwJ21_makeInt_1 : List UInt8 := [172]
abbrev dktJ21_makeInt_1 : List UInt8 := dkwJ21_makeInt_1 ++ []
def dkwJ21_makeInt_0 : List UInt8 := [26, 184, 3, 24, 16, 16, 3, 184, 3, 16, 120, 27, 184, 3, 24, 16, 16, 16, 16, 184, 3, 16, 120, 128]
abbrev dktJ21_makeInt_0 : List UInt8 := dkwJ21_makeInt_0 ++ dktJ21_makeInt_1
theorem dksJ21_makeInt_0 : cJ21_makeInt.data.toList.drop 0 = dktJ21_makeInt_0 := by decide +kernel
theorem dksJ21_makeInt_1 : cJ21_makeInt.data.toList.drop 24 = dktJ21_makeInt_1 := dk_seg dksJ21_makeInt_0 24 rfl rfl
theorem dJ21_makeInt_0 : decode cJ21_makeInt 0 = .ok (.iload_n 0, 1) := dk_26 (dk_at dksJ21_makeInt_0 0 rfl rfl)
theorem dJ21_makeInt_1 : decode cJ21_makeInt 1 = .ok (.invokestatic 792, 3) := dk_184 3 24 (dk_at dksJ21_makeInt_0 1 rfl rfl)
theorem dJ21_makeInt_4 : decode cJ21_makeInt 4 = .ok (.bipush 16, 2) := dk_16 16 (dk_at dksJ21_makeInt_0 4 rfl rfl)
theorem dJ21_makeInt_6 : decode cJ21_makeInt 6 = .ok (.iconst 0, 1) := dk_3 (dk_at dksJ21_makeInt_0 6 rfl rfl)
theorem dJ21_makeInt_7 : decode cJ21_makeInt 7 = .ok (.invokestatic 784, 3) := dk_184 3 16 (dk_at dksJ21_makeInt_0 7 rfl rfl)
theorem dJ21_makeInt_10 : decode cJ21_makeInt 10 = .ok (.ishl, 1) := dk_120 (dk_at dksJ21_makeInt_0 10 rfl rfl)
theorem dJ21_makeInt_11 : decode cJ21_makeInt 11 = .ok (.iload_n 1, 1) := dk_27 (dk_at dksJ21_makeInt_0 11 rfl rfl)
theorem dJ21_makeInt_12 : decode cJ21_makeInt 12 = .ok (.invokestatic 792, 3) := dk_184 3 24 (dk_at dksJ21_makeInt_0 12 rfl rfl)
theorem dJ21_makeInt_15 : decode cJ21_makeInt 15 = .ok (.bipush 16, 2) := dk_16 16 (dk_at dksJ21_makeInt_0 15 rfl rfl)
theorem dJ21_makeInt_17 : decode cJ21_makeInt 17 = .ok (.bipush 16, 2) := dk_16 16 (dk_at dksJ21_makeInt_0 17 rfl rfl)
theorem dJ21_makeInt_19 : decode cJ21_makeInt 19 = .ok (.invokestatic 784, 3) := dk_184 3 16 (dk_at dksJ21_makeInt_0 19 rfl rfl)
theorem dJ21_makeInt_22 : decode cJ21_makeInt 22 = .ok (.ishl, 1) := dk_120 (dk_at dksJ21_makeInt_0 22 rfl rfl)
theorem dJ21_makeInt_23 : decode cJ21_makeInt 23 = .ok (.ior, 1) := dk_128 (dk_at dksJ21_makeInt_0 23 rfl rfl)
theorem dJ21_makeInt_24 : decode cJ21_makeInt 24 = .ok (.ireturn, 1) := dk_172 (dk_at dksJ21_makeInt_1 0 rfl rfl)
abbrev cJ21_toUnsignedInt : ByteArray := prog_74_method_367_code
def yJ21_toUnsignedInt : MethodName := ⟨RJ21, "toUnsignedInt", "(S)I"⟩
def dkwJ21_toUnsignedInt_0 : List UInt8 := [26, 19, 1, 118, 126, 172]
abbrev dktJ21_toUnsignedInt_0 : List UInt8 := dkwJ21_toUnsignedInt_0 ++ []
theorem dksJ21_toUnsignedInt_0 : cJ21_toUnsignedInt.data.toList.drop 0 = dktJ21_toUnsignedInt_0 := by decide +kernel
theorem dJ21_toUnsignedInt_0 : decode cJ21_toUnsignedInt 0 = .ok (.iload_n 0, 1) := dk_26 (dk_at dksJ21_toUnsignedInt_0 0 rfl rfl)
theorem dJ21_toUnsignedInt_1 : decode cJ21_toUnsignedInt 1 = .ok (.ldc_w 374, 3) := dk_19 1 118 (dk_at dksJ21_toUnsignedInt_0 1 rfl rfl)
theorem dJ21_toUnsignedInt_4 : decode cJ21_toUnsignedInt 4 = .ok (.iand, 1) := dk_126 (dk_at dksJ21_toUnsignedInt_0 4 rfl rfl)
theorem dJ21_toUnsignedInt_5 : decode cJ21_toUnsignedInt 5 = .ok (.ireturn, 1) := dk_172 (dk_at dksJ21_toUnsignedInt_0 5 rfl rfl)
abbrev cJ21_makeInt_2 : ByteArray := prog_74_method_355_code
def yJ21_makeInt_2 : MethodName := ⟨RJ21, "makeInt", "(BBBB)I"⟩
def dkwJ21_makeInt_2_2 : List UInt8 := [120, 128, 172]
abbrev dktJ21_makeInt_2_2 : List UInt8 := dkwJ21_makeInt_2_2 ++ []
def dkwJ21_makeInt_2_1 : List UInt8 := [28, 184, 3, 28, 16, 24, 16, 16, 184, 3, 16, 120, 128, 29, 184, 3, 28, 16, 24, 16, 24, 184, 3, 16]
abbrev dktJ21_makeInt_2_1 : List UInt8 := dkwJ21_makeInt_2_1 ++ dktJ21_makeInt_2_2
def dkwJ21_makeInt_2_0 : List UInt8 := [26, 184, 3, 28, 16, 24, 3, 184, 3, 16, 120, 27, 184, 3, 28, 16, 24, 16, 8, 184, 3, 16, 120, 128]
abbrev dktJ21_makeInt_2_0 : List UInt8 := dkwJ21_makeInt_2_0 ++ dktJ21_makeInt_2_1
theorem dksJ21_makeInt_2_0 : cJ21_makeInt_2.data.toList.drop 0 = dktJ21_makeInt_2_0 := by decide +kernel
theorem dksJ21_makeInt_2_1 : cJ21_makeInt_2.data.toList.drop 24 = dktJ21_makeInt_2_1 := dk_seg dksJ21_makeInt_2_0 24 rfl rfl
theorem dksJ21_makeInt_2_2 : cJ21_makeInt_2.data.toList.drop 48 = dktJ21_makeInt_2_2 := dk_seg dksJ21_makeInt_2_1 24 rfl rfl
theorem dJ21_makeInt_2_0 : decode cJ21_makeInt_2 0 = .ok (.iload_n 0, 1) := dk_26 (dk_at dksJ21_makeInt_2_0 0 rfl rfl)
theorem dJ21_makeInt_2_1 : decode cJ21_makeInt_2 1 = .ok (.invokestatic 796, 3) := dk_184 3 28 (dk_at dksJ21_makeInt_2_0 1 rfl rfl)
theorem dJ21_makeInt_2_4 : decode cJ21_makeInt_2 4 = .ok (.bipush 24, 2) := dk_16 24 (dk_at dksJ21_makeInt_2_0 4 rfl rfl)
theorem dJ21_makeInt_2_6 : decode cJ21_makeInt_2 6 = .ok (.iconst 0, 1) := dk_3 (dk_at dksJ21_makeInt_2_0 6 rfl rfl)
theorem dJ21_makeInt_2_7 : decode cJ21_makeInt_2 7 = .ok (.invokestatic 784, 3) := dk_184 3 16 (dk_at dksJ21_makeInt_2_0 7 rfl rfl)
theorem dJ21_makeInt_2_10 : decode cJ21_makeInt_2 10 = .ok (.ishl, 1) := dk_120 (dk_at dksJ21_makeInt_2_0 10 rfl rfl)
theorem dJ21_makeInt_2_11 : decode cJ21_makeInt_2 11 = .ok (.iload_n 1, 1) := dk_27 (dk_at dksJ21_makeInt_2_0 11 rfl rfl)
theorem dJ21_makeInt_2_12 : decode cJ21_makeInt_2 12 = .ok (.invokestatic 796, 3) := dk_184 3 28 (dk_at dksJ21_makeInt_2_0 12 rfl rfl)
theorem dJ21_makeInt_2_15 : decode cJ21_makeInt_2 15 = .ok (.bipush 24, 2) := dk_16 24 (dk_at dksJ21_makeInt_2_0 15 rfl rfl)
theorem dJ21_makeInt_2_17 : decode cJ21_makeInt_2 17 = .ok (.bipush 8, 2) := dk_16 8 (dk_at dksJ21_makeInt_2_0 17 rfl rfl)
theorem dJ21_makeInt_2_19 : decode cJ21_makeInt_2 19 = .ok (.invokestatic 784, 3) := dk_184 3 16 (dk_at dksJ21_makeInt_2_0 19 rfl rfl)
theorem dJ21_makeInt_2_22 : decode cJ21_makeInt_2 22 = .ok (.ishl, 1) := dk_120 (dk_at dksJ21_makeInt_2_0 22 rfl rfl)
theorem dJ21_makeInt_2_23 : decode cJ21_makeInt_2 23 = .ok (.ior, 1) := dk_128 (dk_at dksJ21_makeInt_2_0 23 rfl rfl)
theorem dJ21_makeInt_2_24 : decode cJ21_makeInt_2 24 = .ok (.iload_n 2, 1) := dk_28 (dk_at dksJ21_makeInt_2_1 0 rfl rfl)
theorem dJ21_makeInt_2_25 : decode cJ21_makeInt_2 25 = .ok (.invokestatic 796, 3) := dk_184 3 28 (dk_at dksJ21_makeInt_2_1 1 rfl rfl)
theorem dJ21_makeInt_2_28 : decode cJ21_makeInt_2 28 = .ok (.bipush 24, 2) := dk_16 24 (dk_at dksJ21_makeInt_2_1 4 rfl rfl)
theorem dJ21_makeInt_2_30 : decode cJ21_makeInt_2 30 = .ok (.bipush 16, 2) := dk_16 16 (dk_at dksJ21_makeInt_2_1 6 rfl rfl)
theorem dJ21_makeInt_2_32 : decode cJ21_makeInt_2 32 = .ok (.invokestatic 784, 3) := dk_184 3 16 (dk_at dksJ21_makeInt_2_1 8 rfl rfl)
theorem dJ21_makeInt_2_35 : decode cJ21_makeInt_2 35 = .ok (.ishl, 1) := dk_120 (dk_at dksJ21_makeInt_2_1 11 rfl rfl)
theorem dJ21_makeInt_2_36 : decode cJ21_makeInt_2 36 = .ok (.ior, 1) := dk_128 (dk_at dksJ21_makeInt_2_1 12 rfl rfl)
theorem dJ21_makeInt_2_37 : decode cJ21_makeInt_2 37 = .ok (.iload_n 3, 1) := dk_29 (dk_at dksJ21_makeInt_2_1 13 rfl rfl)
theorem dJ21_makeInt_2_38 : decode cJ21_makeInt_2 38 = .ok (.invokestatic 796, 3) := dk_184 3 28 (dk_at dksJ21_makeInt_2_1 14 rfl rfl)
theorem dJ21_makeInt_2_41 : decode cJ21_makeInt_2 41 = .ok (.bipush 24, 2) := dk_16 24 (dk_at dksJ21_makeInt_2_1 17 rfl rfl)
theorem dJ21_makeInt_2_43 : decode cJ21_makeInt_2 43 = .ok (.bipush 24, 2) := dk_16 24 (dk_at dksJ21_makeInt_2_1 19 rfl rfl)
theorem dJ21_makeInt_2_45 : decode cJ21_makeInt_2 45 = .ok (.invokestatic 784, 3) := dk_184 3 16 (dk_at dksJ21_makeInt_2_1 21 rfl rfl)
theorem dJ21_makeInt_2_48 : decode cJ21_makeInt_2 48 = .ok (.ishl, 1) := dk_120 (dk_at dksJ21_makeInt_2_2 0 rfl rfl)
theorem dJ21_makeInt_2_49 : decode cJ21_makeInt_2 49 = .ok (.ior, 1) := dk_128 (dk_at dksJ21_makeInt_2_2 1 rfl rfl)
theorem dJ21_makeInt_2_50 : decode cJ21_makeInt_2 50 = .ok (.ireturn, 1) := dk_172 (dk_at dksJ21_makeInt_2_2 2 rfl rfl)
abbrev cJ21_toUnsignedInt_2 : ByteArray := prog_74_method_366_code
def yJ21_toUnsignedInt_2 : MethodName := ⟨RJ21, "toUnsignedInt", "(B)I"⟩
def dkwJ21_toUnsignedInt_2_0 : List UInt8 := [26, 17, 0, 255, 126, 172]
abbrev dktJ21_toUnsignedInt_2_0 : List UInt8 := dkwJ21_toUnsignedInt_2_0 ++ []
theorem dksJ21_toUnsignedInt_2_0 : cJ21_toUnsignedInt_2.data.toList.drop 0 = dktJ21_toUnsignedInt_2_0 := by decide +kernel
theorem dJ21_toUnsignedInt_2_0 : decode cJ21_toUnsignedInt_2 0 = .ok (.iload_n 0, 1) := dk_26 (dk_at dksJ21_toUnsignedInt_2_0 0 rfl rfl)
theorem dJ21_toUnsignedInt_2_1 : decode cJ21_toUnsignedInt_2 1 = .ok (.sipush 255, 3) := dk_17 0 255 (dk_at dksJ21_toUnsignedInt_2_0 1 rfl rfl)
theorem dJ21_toUnsignedInt_2_4 : decode cJ21_toUnsignedInt_2 4 = .ok (.iand, 1) := dk_126 (dk_at dksJ21_toUnsignedInt_2_0 4 rfl rfl)
theorem dJ21_toUnsignedInt_2_5 : decode cJ21_toUnsignedInt_2 5 = .ok (.ireturn, 1) := dk_172 (dk_at dksJ21_toUnsignedInt_2_0 5 rfl rfl)
theorem q220 : (Jvm.Cond.initialized "jdk/internal/misc/Unsafe") ∈ lw_all := lw_g (lw_at lw_m1 35 rfl) rfl
theorem q356 : (Jvm.Cond.selects "jdk/internal/misc/Unsafe" ({ cls := "java/lang/Object", name := "getClass", desc := "()Ljava/lang/Class;" } : Jvm.MethodName) ({ cls := "java/lang/Object", name := "getClass", desc := "()Ljava/lang/Class;" } : Jvm.MethodName)) ∈ lw_all := lw_g (lw_at lw_m1 171 rfl) rfl
theorem q1417 : (Jvm.Cond.laysStatic "jdk/internal/misc/Unsafe" "ARRAY_BYTE_BASE_OFFSET" "I") ∈ lw_tbl := lw_at lw_m6 32 rfl
theorem q1428 : (Jvm.Cond.instanceMethod ({ cls := "jdk/internal/misc/Unsafe", name := "getLongUnaligned", desc := "(Ljava/lang/Object;J)J" } : Jvm.MethodName)) ∈ lw_all := lw_g (lw_at lw_m6 43 rfl) rfl
theorem q1429 : (Jvm.Cond.selects "jdk/internal/misc/Unsafe" ({ cls := "jdk/internal/misc/Unsafe", name := "getLongUnaligned", desc := "(Ljava/lang/Object;J)J" } : Jvm.MethodName) ({ cls := "jdk/internal/misc/Unsafe", name := "getLongUnaligned", desc := "(Ljava/lang/Object;J)J" } : Jvm.MethodName)) ∈ lw_all := lw_g (lw_at lw_m6 44 rfl) rfl
theorem q1430 : (Jvm.Cond.code ({ cls := "jdk/internal/misc/Unsafe", name := "getLongUnaligned", desc := "(Ljava/lang/Object;J)J" } : Jvm.MethodName) prog_74_method_334_code (4 : Nat) (Option.some Jvm.ClassFile.FieldType.long)) ∈ lw_all := lw_g (lw_at lw_m6 45 rfl) rfl
theorem q1431 : (Jvm.Cond.constantLong "jdk/internal/misc/Unsafe" (696 : Nat) (7 : Int64)) ∈ lw_all := lw_g (lw_at lw_m6 46 rfl) rfl
theorem q1432 : (Jvm.Cond.methodLink "jdk/internal/misc/Unsafe" (27 : Nat) ({ cls := "jdk/internal/misc/Unsafe", name := "getLong", desc := "(Ljava/lang/Object;J)J" } : Jvm.MethodName)) ∈ lw_all := lw_g (lw_at lw_m6 47 rfl) rfl
theorem q1433 : (Jvm.Cond.instanceMethod ({ cls := "jdk/internal/misc/Unsafe", name := "getLong", desc := "(Ljava/lang/Object;J)J" } : Jvm.MethodName)) ∈ lw_all := lw_g (lw_at lw_m6 48 rfl) rfl
theorem q1434 : (Jvm.Cond.selects "jdk/internal/misc/Unsafe" ({ cls := "jdk/internal/misc/Unsafe", name := "getLong", desc := "(Ljava/lang/Object;J)J" } : Jvm.MethodName) ({ cls := "jdk/internal/misc/Unsafe", name := "getLong", desc := "(Ljava/lang/Object;J)J" } : Jvm.MethodName)) ∈ lw_all := lw_g (lw_at lw_m6 49 rfl) rfl
theorem q1435 : (Jvm.Cond.native ({ cls := "jdk/internal/misc/Unsafe", name := "getLong", desc := "(Ljava/lang/Object;J)J" } : Jvm.MethodName)) ∈ lw_all := lw_g (lw_at lw_m6 50 rfl) rfl
theorem q1436 : (Jvm.Cond.constantLong "jdk/internal/misc/Unsafe" (349 : Nat) (3 : Int64)) ∈ lw_all := lw_g (lw_at lw_m6 51 rfl) rfl
theorem q1437 : (Jvm.Cond.methodLink "jdk/internal/misc/Unsafe" (17 : Nat) ({ cls := "jdk/internal/misc/Unsafe", name := "getInt", desc := "(Ljava/lang/Object;J)I" } : Jvm.MethodName)) ∈ lw_all := lw_g (lw_at lw_m6 52 rfl) rfl
theorem q1438 : (Jvm.Cond.instanceMethod ({ cls := "jdk/internal/misc/Unsafe", name := "getInt", desc := "(Ljava/lang/Object;J)I" } : Jvm.MethodName)) ∈ lw_all := lw_g (lw_at lw_m6 53 rfl) rfl
theorem q1439 : (Jvm.Cond.selects "jdk/internal/misc/Unsafe" ({ cls := "jdk/internal/misc/Unsafe", name := "getInt", desc := "(Ljava/lang/Object;J)I" } : Jvm.MethodName) ({ cls := "jdk/internal/misc/Unsafe", name := "getInt", desc := "(Ljava/lang/Object;J)I" } : Jvm.MethodName)) ∈ lw_all := lw_g (lw_at lw_m6 54 rfl) rfl
theorem q1440 : (Jvm.Cond.native ({ cls := "jdk/internal/misc/Unsafe", name := "getInt", desc := "(Ljava/lang/Object;J)I" } : Jvm.MethodName)) ∈ lw_all := lw_g (lw_at lw_m6 55 rfl) rfl
theorem q1441 : (Jvm.Cond.constantLong "jdk/internal/misc/Unsafe" (205 : Nat) (4 : Int64)) ∈ lw_all := lw_g (lw_at lw_m6 56 rfl) rfl
theorem q1442 : (Jvm.Cond.methodLink "jdk/internal/misc/Unsafe" (698 : Nat) ({ cls := "jdk/internal/misc/Unsafe", name := "makeLong", desc := "(II)J" } : Jvm.MethodName)) ∈ lw_all := lw_g (lw_at lw_m6 57 rfl) rfl
theorem q1443 : (Jvm.Cond.static ({ cls := "jdk/internal/misc/Unsafe", name := "makeLong", desc := "(II)J" } : Jvm.MethodName)) ∈ lw_all := lw_g (lw_at lw_m6 58 rfl) rfl
theorem q1444 : (Jvm.Cond.code ({ cls := "jdk/internal/misc/Unsafe", name := "makeLong", desc := "(II)J" } : Jvm.MethodName) prog_74_method_353_code (2 : Nat) (Option.some Jvm.ClassFile.FieldType.long)) ∈ lw_all := lw_g (lw_at lw_m6 59 rfl) rfl
theorem q1445 : (Jvm.Cond.methodLink "jdk/internal/misc/Unsafe" (791 : Nat) ({ cls := "jdk/internal/misc/Unsafe", name := "toUnsignedLong", desc := "(I)J" } : Jvm.MethodName)) ∈ lw_all := lw_g (lw_at lw_m6 60 rfl) rfl
theorem q1446 : (Jvm.Cond.static ({ cls := "jdk/internal/misc/Unsafe", name := "toUnsignedLong", desc := "(I)J" } : Jvm.MethodName)) ∈ lw_all := lw_g (lw_at lw_m6 61 rfl) rfl
theorem q1447 : (Jvm.Cond.code ({ cls := "jdk/internal/misc/Unsafe", name := "toUnsignedLong", desc := "(I)J" } : Jvm.MethodName) prog_74_method_370_code (1 : Nat) (Option.some Jvm.ClassFile.FieldType.long)) ∈ lw_all := lw_g (lw_at lw_m6 62 rfl) rfl
theorem q1448 : (Jvm.Cond.constantLong "jdk/internal/misc/Unsafe" (812 : Nat) (4294967295 : Int64)) ∈ lw_all := lw_g (lw_at lw_m6 63 rfl) rfl
theorem q1449 : (Jvm.Cond.methodLink "jdk/internal/misc/Unsafe" (784 : Nat) ({ cls := "jdk/internal/misc/Unsafe", name := "pickPos", desc := "(II)I" } : Jvm.MethodName)) ∈ lw_all := lw_g (lw_at lw_m6 64 rfl) rfl
theorem q1450 : (Jvm.Cond.static ({ cls := "jdk/internal/misc/Unsafe", name := "pickPos", desc := "(II)I" } : Jvm.MethodName)) ∈ lw_all := lw_g (lw_at lw_m6 65 rfl) rfl
theorem q1451 : (Jvm.Cond.code ({ cls := "jdk/internal/misc/Unsafe", name := "pickPos", desc := "(II)I" } : Jvm.MethodName) prog_74_method_350_code (2 : Nat) (Option.some Jvm.ClassFile.FieldType.int)) ∈ lw_all := lw_g (lw_at lw_m6 66 rfl) rfl
theorem q1452 : (Jvm.Cond.fieldLink "jdk/internal/misc/Unsafe" (351 : Nat) "jdk/internal/misc/UnsafeConstants" "BIG_ENDIAN" "Z") ∈ lw_all := lw_g (lw_at lw_m6 67 rfl) rfl
theorem q1454 : (Jvm.Cond.methodLink "jdk/internal/misc/Unsafe" (47 : Nat) ({ cls := "jdk/internal/misc/Unsafe", name := "getShort", desc := "(Ljava/lang/Object;J)S" } : Jvm.MethodName)) ∈ lw_all := lw_g (lw_at lw_m6 69 rfl) rfl
theorem q1455 : (Jvm.Cond.instanceMethod ({ cls := "jdk/internal/misc/Unsafe", name := "getShort", desc := "(Ljava/lang/Object;J)S" } : Jvm.MethodName)) ∈ lw_all := lw_g (lw_at lw_m6 70 rfl) rfl
theorem q1456 : (Jvm.Cond.selects "jdk/internal/misc/Unsafe" ({ cls := "jdk/internal/misc/Unsafe", name := "getShort", desc := "(Ljava/lang/Object;J)S" } : Jvm.MethodName) ({ cls := "jdk/internal/misc/Unsafe", name := "getShort", desc := "(Ljava/lang/Object;J)S" } : Jvm.MethodName)) ∈ lw_all := lw_g (lw_at lw_m6 71 rfl) rfl
theorem q1457 : (Jvm.Cond.native ({ cls := "jdk/internal/misc/Unsafe", name := "getShort", desc := "(Ljava/lang/Object;J)S" } : Jvm.MethodName)) ∈ lw_all := lw_g (lw_at lw_m6 72 rfl) rfl
theorem q1458 : (Jvm.Cond.constantLong "jdk/internal/misc/Unsafe" (203 : Nat) (2 : Int64)) ∈ lw_all := lw_g (lw_at lw_m6 73 rfl) rfl
theorem q1459 : (Jvm.Cond.constantLong "jdk/internal/misc/Unsafe" (702 : Nat) (6 : Int64)) ∈ lw_all := lw_g (lw_at lw_m6 74 rfl) rfl
theorem q1460 : (Jvm.Cond.methodLink "jdk/internal/misc/Unsafe" (704 : Nat) ({ cls := "jdk/internal/misc/Unsafe", name := "makeLong", desc := "(SSSS)J" } : Jvm.MethodName)) ∈ lw_all := lw_g (lw_at lw_m6 75 rfl) rfl
theorem q1461 : (Jvm.Cond.static ({ cls := "jdk/internal/misc/Unsafe", name := "makeLong", desc := "(SSSS)J" } : Jvm.MethodName)) ∈ lw_all := lw_g (lw_at lw_m6 76 rfl) rfl
theorem q1462 : (Jvm.Cond.code ({ cls := "jdk/internal/misc/Unsafe", name := "makeLong", desc := "(SSSS)J" } : Jvm.MethodName) prog_74_method_352_code (4 : Nat) (Option.some Jvm.ClassFile.FieldType.long)) ∈ lw_all := lw_g (lw_at lw_m6 77 rfl) rfl
theorem q1463 : (Jvm.Cond.methodLink "jdk/internal/misc/Unsafe" (788 : Nat) ({ cls := "jdk/internal/misc/Unsafe", name := "toUnsignedLong", desc := "(S)J" } : Jvm.MethodName)) ∈ lw_all := lw_g (lw_at lw_m6 78 rfl) rfl
theorem q1464 : (Jvm.Cond.static ({ cls := "jdk/internal/misc/Unsafe", name := "toUnsignedLong", desc := "(S)J" } : Jvm.MethodName)) ∈ lw_all := lw_g (lw_at lw_m6 79 rfl) rfl
theorem q1465 : (Jvm.Cond.code ({ cls := "jdk/internal/misc/Unsafe", name := "toUnsignedLong", desc := "(S)J" } : Jvm.MethodName) prog_74_method_369_code (1 : Nat) (Option.some Jvm.ClassFile.FieldType.long)) ∈ lw_all := lw_g (lw_at lw_m6 80 rfl) rfl
theorem q1466 : (Jvm.Cond.constantLong "jdk/internal/misc/Unsafe" (810 : Nat) (65535 : Int64)) ∈ lw_all := lw_g (lw_at lw_m6 81 rfl) rfl
theorem q1467 : (Jvm.Cond.methodLink "jdk/internal/misc/Unsafe" (39 : Nat) ({ cls := "jdk/internal/misc/Unsafe", name := "getByte", desc := "(Ljava/lang/Object;J)B" } : Jvm.MethodName)) ∈ lw_all := lw_g (lw_at lw_m6 82 rfl) rfl
theorem q1468 : (Jvm.Cond.instanceMethod ({ cls := "jdk/internal/misc/Unsafe", name := "getByte", desc := "(Ljava/lang/Object;J)B" } : Jvm.MethodName)) ∈ lw_all := lw_g (lw_at lw_m6 83 rfl) rfl
theorem q1469 : (Jvm.Cond.selects "jdk/internal/misc/Unsafe" ({ cls := "jdk/internal/misc/Unsafe", name := "getByte", desc := "(Ljava/lang/Object;J)B" } : Jvm.MethodName) ({ cls := "jdk/internal/misc/Unsafe", name := "getByte", desc := "(Ljava/lang/Object;J)B" } : Jvm.MethodName)) ∈ lw_all := lw_g (lw_at lw_m6 84 rfl) rfl
theorem q1470 : (Jvm.Cond.native ({ cls := "jdk/internal/misc/Unsafe", name := "getByte", desc := "(Ljava/lang/Object;J)B" } : Jvm.MethodName)) ∈ lw_all := lw_g (lw_at lw_m6 85 rfl) rfl
theorem q1471 : (Jvm.Cond.constantLong "jdk/internal/misc/Unsafe" (707 : Nat) (5 : Int64)) ∈ lw_all := lw_g (lw_at lw_m6 86 rfl) rfl
theorem q1472 : (Jvm.Cond.methodLink "jdk/internal/misc/Unsafe" (709 : Nat) ({ cls := "jdk/internal/misc/Unsafe", name := "makeLong", desc := "(BBBBBBBB)J" } : Jvm.MethodName)) ∈ lw_all := lw_g (lw_at lw_m6 87 rfl) rfl
theorem q1473 : (Jvm.Cond.static ({ cls := "jdk/internal/misc/Unsafe", name := "makeLong", desc := "(BBBBBBBB)J" } : Jvm.MethodName)) ∈ lw_all := lw_g (lw_at lw_m6 88 rfl) rfl
theorem q1474 : (Jvm.Cond.code ({ cls := "jdk/internal/misc/Unsafe", name := "makeLong", desc := "(BBBBBBBB)J" } : Jvm.MethodName) prog_74_method_351_code (8 : Nat) (Option.some Jvm.ClassFile.FieldType.long)) ∈ lw_all := lw_g (lw_at lw_m6 89 rfl) rfl
theorem q1475 : (Jvm.Cond.methodLink "jdk/internal/misc/Unsafe" (781 : Nat) ({ cls := "jdk/internal/misc/Unsafe", name := "toUnsignedLong", desc := "(B)J" } : Jvm.MethodName)) ∈ lw_all := lw_g (lw_at lw_m6 90 rfl) rfl
theorem q1476 : (Jvm.Cond.static ({ cls := "jdk/internal/misc/Unsafe", name := "toUnsignedLong", desc := "(B)J" } : Jvm.MethodName)) ∈ lw_all := lw_g (lw_at lw_m6 91 rfl) rfl
theorem q1477 : (Jvm.Cond.code ({ cls := "jdk/internal/misc/Unsafe", name := "toUnsignedLong", desc := "(B)J" } : Jvm.MethodName) prog_74_method_368_code (1 : Nat) (Option.some Jvm.ClassFile.FieldType.long)) ∈ lw_all := lw_g (lw_at lw_m6 92 rfl) rfl
theorem q1478 : (Jvm.Cond.constantLong "jdk/internal/misc/Unsafe" (808 : Nat) (255 : Int64)) ∈ lw_all := lw_g (lw_at lw_m6 93 rfl) rfl
theorem q1493 : (Jvm.Cond.instanceMethod ({ cls := "jdk/internal/misc/Unsafe", name := "getIntUnaligned", desc := "(Ljava/lang/Object;J)I" } : Jvm.MethodName)) ∈ lw_all := lw_g (lw_at lw_m6 108 rfl) rfl
theorem q1494 : (Jvm.Cond.selects "jdk/internal/misc/Unsafe" ({ cls := "jdk/internal/misc/Unsafe", name := "getIntUnaligned", desc := "(Ljava/lang/Object;J)I" } : Jvm.MethodName) ({ cls := "jdk/internal/misc/Unsafe", name := "getIntUnaligned", desc := "(Ljava/lang/Object;J)I" } : Jvm.MethodName)) ∈ lw_all := lw_g (lw_at lw_m6 109 rfl) rfl
theorem q1495 : (Jvm.Cond.code ({ cls := "jdk/internal/misc/Unsafe", name := "getIntUnaligned", desc := "(Ljava/lang/Object;J)I" } : Jvm.MethodName) prog_74_method_336_code (4 : Nat) (Option.some Jvm.ClassFile.FieldType.int)) ∈ lw_all := lw_g (lw_at lw_m6 110 rfl) rfl
theorem q1496 : (Jvm.Cond.methodLink "jdk/internal/misc/Unsafe" (719 : Nat) ({ cls := "jdk/internal/misc/Unsafe", name := "makeInt", desc := "(SS)I" } : Jvm.MethodName)) ∈ lw_all := lw_g (lw_at lw_m6 111 rfl) rfl
theorem q1497 : (Jvm.Cond.static ({ cls := "jdk/internal/misc/Unsafe", name := "makeInt", desc := "(SS)I" } : Jvm.MethodName)) ∈ lw_all := lw_g (lw_at lw_m6 112 rfl) rfl
theorem q1498 : (Jvm.Cond.code ({ cls := "jdk/internal/misc/Unsafe", name := "makeInt", desc := "(SS)I" } : Jvm.MethodName) prog_74_method_354_code (2 : Nat) (Option.some Jvm.ClassFile.FieldType.int)) ∈ lw_all := lw_g (lw_at lw_m6 113 rfl) rfl
theorem q1499 : (Jvm.Cond.methodLink "jdk/internal/misc/Unsafe" (792 : Nat) ({ cls := "jdk/internal/misc/Unsafe", name := "toUnsignedInt", desc := "(S)I" } : Jvm.MethodName)) ∈ lw_all := lw_g (lw_at lw_m6 114 rfl) rfl
theorem q1500 : (Jvm.Cond.static ({ cls := "jdk/internal/misc/Unsafe", name := "toUnsignedInt", desc := "(S)I" } : Jvm.MethodName)) ∈ lw_all := lw_g (lw_at lw_m6 115 rfl) rfl
theorem q1501 : (Jvm.Cond.code ({ cls := "jdk/internal/misc/Unsafe", name := "toUnsignedInt", desc := "(S)I" } : Jvm.MethodName) prog_74_method_367_code (1 : Nat) (Option.some Jvm.ClassFile.FieldType.int)) ∈ lw_all := lw_g (lw_at lw_m6 116 rfl) rfl
theorem q1502 : (Jvm.Cond.constant "jdk/internal/misc/Unsafe" (374 : Nat) (65535 : Int32)) ∈ lw_all := lw_g (lw_at lw_m6 117 rfl) rfl
theorem q1503 : (Jvm.Cond.methodLink "jdk/internal/misc/Unsafe" (723 : Nat) ({ cls := "jdk/internal/misc/Unsafe", name := "makeInt", desc := "(BBBB)I" } : Jvm.MethodName)) ∈ lw_all := lw_g (lw_at lw_m6 118 rfl) rfl
theorem q1504 : (Jvm.Cond.static ({ cls := "jdk/internal/misc/Unsafe", name := "makeInt", desc := "(BBBB)I" } : Jvm.MethodName)) ∈ lw_all := lw_g (lw_at lw_m6 119 rfl) rfl
theorem q1505 : (Jvm.Cond.code ({ cls := "jdk/internal/misc/Unsafe", name := "makeInt", desc := "(BBBB)I" } : Jvm.MethodName) prog_74_method_355_code (4 : Nat) (Option.some Jvm.ClassFile.FieldType.int)) ∈ lw_all := lw_g (lw_at lw_m6 120 rfl) rfl
theorem q1506 : (Jvm.Cond.methodLink "jdk/internal/misc/Unsafe" (796 : Nat) ({ cls := "jdk/internal/misc/Unsafe", name := "toUnsignedInt", desc := "(B)I" } : Jvm.MethodName)) ∈ lw_all := lw_g (lw_at lw_m6 121 rfl) rfl
theorem q1507 : (Jvm.Cond.static ({ cls := "jdk/internal/misc/Unsafe", name := "toUnsignedInt", desc := "(B)I" } : Jvm.MethodName)) ∈ lw_all := lw_g (lw_at lw_m6 122 rfl) rfl
theorem q1508 : (Jvm.Cond.code ({ cls := "jdk/internal/misc/Unsafe", name := "toUnsignedInt", desc := "(B)I" } : Jvm.MethodName) prog_74_method_366_code (1 : Nat) (Option.some Jvm.ClassFile.FieldType.int)) ∈ lw_all := lw_g (lw_at lw_m6 123 rfl) rfl
theorem q3132 : (Jvm.Cond.castable "jdk/internal/misc/Unsafe" "java/lang/Object") ∈ lw_tbl := lw_at lw_m13 67 rfl
/-! java/util/ArrayList$Itr -/
set_option maxRecDepth 100000
def RJ22 : String := "java/util/ArrayList$Itr"
def TJ22 : u_T := fun k => match k with
  | 0 => ("java/util/ArrayList$Itr", "cursor", "I", false)
  | 1 => ("java/util/ArrayList$Itr", "lastRet", "I", false)
  | 2 => ("java/util/ArrayList$Itr", "expectedModCount", "I", false)
  | _ => ("java/util/ArrayList$Itr", "this$0", "Ljava/util/ArrayList;", true)
def tyJ22 : Nat → FieldType := fun k => match k with
  | 0 => .int
  | 1 => .int
  | 2 => .int
  | _ => .object "java/util/ArrayList"
abbrev wsJ220 : List Cond := u_ws RJ22 TJ22 4
theorem nmJ22 : ∀ a, a < 4 → ∀ b, b < 4 → a ≠ b → (TJ22 a).2.1 ≠ (TJ22 b).2.1 := by decide +kernel
theorem tyJ22_ok : ∀ k, k < 4 → parseFieldDescriptor (TJ22 k).2.2.1 = some (tyJ22 k) := by decide +kernel
abbrev cJ22_init : ByteArray := prog_45_method_1_code
def yJ22_init : MethodName := ⟨RJ22, "<init>", "(Ljava/util/ArrayList;)V"⟩
def dkwJ22_init_1 : List UInt8 := [181, 0, 22, 177]
abbrev dktJ22_init_1 : List UInt8 := dkwJ22_init_1 ++ []
def dkwJ22_init_0 : List UInt8 := [42, 43, 181, 0, 1, 42, 183, 0, 7, 42, 2, 181, 0, 13, 42, 42, 180, 0, 1, 180, 0, 17]
abbrev dktJ22_init_0 : List UInt8 := dkwJ22_init_0 ++ dktJ22_init_1
theorem dksJ22_init_0 : cJ22_init.data.toList.drop 0 = dktJ22_init_0 := by decide +kernel
theorem dksJ22_init_1 : cJ22_init.data.toList.drop 22 = dktJ22_init_1 := dk_seg dksJ22_init_0 22 rfl rfl
theorem dJ22_init_0 : decode cJ22_init 0 = .ok (.aload_n 0, 1) := dk_42 (dk_at dksJ22_init_0 0 rfl rfl)
theorem dJ22_init_1 : decode cJ22_init 1 = .ok (.aload_n 1, 1) := dk_43 (dk_at dksJ22_init_0 1 rfl rfl)
theorem dJ22_init_2 : decode cJ22_init 2 = .ok (.putfield 1, 3) := dk_181 0 1 (dk_at dksJ22_init_0 2 rfl rfl)
theorem dJ22_init_5 : decode cJ22_init 5 = .ok (.aload_n 0, 1) := dk_42 (dk_at dksJ22_init_0 5 rfl rfl)
theorem dJ22_init_6 : decode cJ22_init 6 = .ok (.invokespecial 7, 3) := dk_183 0 7 (dk_at dksJ22_init_0 6 rfl rfl)
theorem dJ22_init_9 : decode cJ22_init 9 = .ok (.aload_n 0, 1) := dk_42 (dk_at dksJ22_init_0 9 rfl rfl)
theorem dJ22_init_10 : decode cJ22_init 10 = .ok (.iconst (-1), 1) := dk_2 (dk_at dksJ22_init_0 10 rfl rfl)
theorem dJ22_init_11 : decode cJ22_init 11 = .ok (.putfield 13, 3) := dk_181 0 13 (dk_at dksJ22_init_0 11 rfl rfl)
theorem dJ22_init_14 : decode cJ22_init 14 = .ok (.aload_n 0, 1) := dk_42 (dk_at dksJ22_init_0 14 rfl rfl)
theorem dJ22_init_15 : decode cJ22_init 15 = .ok (.aload_n 0, 1) := dk_42 (dk_at dksJ22_init_0 15 rfl rfl)
theorem dJ22_init_16 : decode cJ22_init 16 = .ok (.getfield 1, 3) := dk_180 0 1 (dk_at dksJ22_init_0 16 rfl rfl)
theorem dJ22_init_19 : decode cJ22_init 19 = .ok (.getfield 17, 3) := dk_180 0 17 (dk_at dksJ22_init_0 19 rfl rfl)
theorem dJ22_init_22 : decode cJ22_init 22 = .ok (.putfield 22, 3) := dk_181 0 22 (dk_at dksJ22_init_1 0 rfl rfl)
theorem dJ22_init_25 : decode cJ22_init 25 = .ok (.return_, 1) := dk_177 (dk_at dksJ22_init_1 3 rfl rfl)
abbrev cJ22_hasNext : ByteArray := prog_45_method_2_code
def yJ22_hasNext : MethodName := ⟨RJ22, "hasNext", "()Z"⟩
def dkwJ22_hasNext_0 : List UInt8 := [42, 180, 0, 25, 42, 180, 0, 1, 180, 0, 28, 159, 0, 7, 4, 167, 0, 4, 3, 172]
abbrev dktJ22_hasNext_0 : List UInt8 := dkwJ22_hasNext_0 ++ []
theorem dksJ22_hasNext_0 : cJ22_hasNext.data.toList.drop 0 = dktJ22_hasNext_0 := by decide +kernel
theorem dJ22_hasNext_0 : decode cJ22_hasNext 0 = .ok (.aload_n 0, 1) := dk_42 (dk_at dksJ22_hasNext_0 0 rfl rfl)
theorem dJ22_hasNext_1 : decode cJ22_hasNext 1 = .ok (.getfield 25, 3) := dk_180 0 25 (dk_at dksJ22_hasNext_0 1 rfl rfl)
theorem dJ22_hasNext_4 : decode cJ22_hasNext 4 = .ok (.aload_n 0, 1) := dk_42 (dk_at dksJ22_hasNext_0 4 rfl rfl)
theorem dJ22_hasNext_5 : decode cJ22_hasNext 5 = .ok (.getfield 1, 3) := dk_180 0 1 (dk_at dksJ22_hasNext_0 5 rfl rfl)
theorem dJ22_hasNext_8 : decode cJ22_hasNext 8 = .ok (.getfield 28, 3) := dk_180 0 28 (dk_at dksJ22_hasNext_0 8 rfl rfl)
theorem dJ22_hasNext_11 : decode cJ22_hasNext 11 = .ok (.if_icmp .eq 7, 3) := dk_159 0 7 (dk_at dksJ22_hasNext_0 11 rfl rfl)
theorem dJ22_hasNext_14 : decode cJ22_hasNext 14 = .ok (.iconst 1, 1) := dk_4 (dk_at dksJ22_hasNext_0 14 rfl rfl)
theorem dJ22_hasNext_15 : decode cJ22_hasNext 15 = .ok (.goto 4, 3) := dk_167 0 4 (dk_at dksJ22_hasNext_0 15 rfl rfl)
theorem dJ22_hasNext_18 : decode cJ22_hasNext 18 = .ok (.iconst 0, 1) := dk_3 (dk_at dksJ22_hasNext_0 18 rfl rfl)
theorem dJ22_hasNext_19 : decode cJ22_hasNext 19 = .ok (.ireturn, 1) := dk_172 (dk_at dksJ22_hasNext_0 19 rfl rfl)
abbrev cJ22_next : ByteArray := prog_45_method_3_code
def yJ22_next : MethodName := ⟨RJ22, "next", "()Ljava/lang/Object;"⟩
def dkwJ22_next_2 : List UInt8 := [183, 0, 43, 191, 42, 27, 4, 96, 181, 0, 25, 44, 42, 27, 90, 181, 0, 13, 50, 176]
abbrev dktJ22_next_2 : List UInt8 := dkwJ22_next_2 ++ []
def dkwJ22_next_1 : List UInt8 := [183, 0, 36, 191, 42, 180, 0, 1, 180, 0, 37, 77, 27, 44, 190, 161, 0, 11, 187, 0, 41, 89]
abbrev dktJ22_next_1 : List UInt8 := dkwJ22_next_1 ++ dktJ22_next_2
def dkwJ22_next_0 : List UInt8 := [42, 182, 0, 31, 42, 180, 0, 25, 60, 27, 42, 180, 0, 1, 180, 0, 28, 161, 0, 11, 187, 0, 34, 89]
abbrev dktJ22_next_0 : List UInt8 := dkwJ22_next_0 ++ dktJ22_next_1
theorem dksJ22_next_0 : cJ22_next.data.toList.drop 0 = dktJ22_next_0 := by decide +kernel
theorem dksJ22_next_1 : cJ22_next.data.toList.drop 24 = dktJ22_next_1 := dk_seg dksJ22_next_0 24 rfl rfl
theorem dksJ22_next_2 : cJ22_next.data.toList.drop 46 = dktJ22_next_2 := dk_seg dksJ22_next_1 22 rfl rfl
theorem dJ22_next_0 : decode cJ22_next 0 = .ok (.aload_n 0, 1) := dk_42 (dk_at dksJ22_next_0 0 rfl rfl)
theorem dJ22_next_1 : decode cJ22_next 1 = .ok (.invokevirtual 31, 3) := dk_182 0 31 (dk_at dksJ22_next_0 1 rfl rfl)
theorem dJ22_next_4 : decode cJ22_next 4 = .ok (.aload_n 0, 1) := dk_42 (dk_at dksJ22_next_0 4 rfl rfl)
theorem dJ22_next_5 : decode cJ22_next 5 = .ok (.getfield 25, 3) := dk_180 0 25 (dk_at dksJ22_next_0 5 rfl rfl)
theorem dJ22_next_8 : decode cJ22_next 8 = .ok (.istore_n 1, 1) := dk_60 (dk_at dksJ22_next_0 8 rfl rfl)
theorem dJ22_next_9 : decode cJ22_next 9 = .ok (.iload_n 1, 1) := dk_27 (dk_at dksJ22_next_0 9 rfl rfl)
theorem dJ22_next_10 : decode cJ22_next 10 = .ok (.aload_n 0, 1) := dk_42 (dk_at dksJ22_next_0 10 rfl rfl)
theorem dJ22_next_11 : decode cJ22_next 11 = .ok (.getfield 1, 3) := dk_180 0 1 (dk_at dksJ22_next_0 11 rfl rfl)
theorem dJ22_next_14 : decode cJ22_next 14 = .ok (.getfield 28, 3) := dk_180 0 28 (dk_at dksJ22_next_0 14 rfl rfl)
theorem dJ22_next_17 : decode cJ22_next 17 = .ok (.if_icmp .lt 11, 3) := dk_161 0 11 (dk_at dksJ22_next_0 17 rfl rfl)
theorem dJ22_next_20 : decode cJ22_next 20 = .ok (.new 34, 3) := dk_187 0 34 (dk_at dksJ22_next_0 20 rfl rfl)
theorem dJ22_next_23 : decode cJ22_next 23 = .ok (.dup, 1) := dk_89 (dk_at dksJ22_next_0 23 rfl rfl)
theorem dJ22_next_24 : decode cJ22_next 24 = .ok (.invokespecial 36, 3) := dk_183 0 36 (dk_at dksJ22_next_1 0 rfl rfl)
theorem dJ22_next_27 : decode cJ22_next 27 = .ok (.athrow, 1) := dk_191 (dk_at dksJ22_next_1 3 rfl rfl)
theorem dJ22_next_28 : decode cJ22_next 28 = .ok (.aload_n 0, 1) := dk_42 (dk_at dksJ22_next_1 4 rfl rfl)
theorem dJ22_next_29 : decode cJ22_next 29 = .ok (.getfield 1, 3) := dk_180 0 1 (dk_at dksJ22_next_1 5 rfl rfl)
theorem dJ22_next_32 : decode cJ22_next 32 = .ok (.getfield 37, 3) := dk_180 0 37 (dk_at dksJ22_next_1 8 rfl rfl)
theorem dJ22_next_35 : decode cJ22_next 35 = .ok (.astore_n 2, 1) := dk_77 (dk_at dksJ22_next_1 11 rfl rfl)
theorem dJ22_next_36 : decode cJ22_next 36 = .ok (.iload_n 1, 1) := dk_27 (dk_at dksJ22_next_1 12 rfl rfl)
theorem dJ22_next_37 : decode cJ22_next 37 = .ok (.aload_n 2, 1) := dk_44 (dk_at dksJ22_next_1 13 rfl rfl)
theorem dJ22_next_38 : decode cJ22_next 38 = .ok (.arraylength, 1) := dk_190 (dk_at dksJ22_next_1 14 rfl rfl)
theorem dJ22_next_39 : decode cJ22_next 39 = .ok (.if_icmp .lt 11, 3) := dk_161 0 11 (dk_at dksJ22_next_1 15 rfl rfl)
theorem dJ22_next_42 : decode cJ22_next 42 = .ok (.new 41, 3) := dk_187 0 41 (dk_at dksJ22_next_1 18 rfl rfl)
theorem dJ22_next_45 : decode cJ22_next 45 = .ok (.dup, 1) := dk_89 (dk_at dksJ22_next_1 21 rfl rfl)
theorem dJ22_next_46 : decode cJ22_next 46 = .ok (.invokespecial 43, 3) := dk_183 0 43 (dk_at dksJ22_next_2 0 rfl rfl)
theorem dJ22_next_49 : decode cJ22_next 49 = .ok (.athrow, 1) := dk_191 (dk_at dksJ22_next_2 3 rfl rfl)
theorem dJ22_next_50 : decode cJ22_next 50 = .ok (.aload_n 0, 1) := dk_42 (dk_at dksJ22_next_2 4 rfl rfl)
theorem dJ22_next_51 : decode cJ22_next 51 = .ok (.iload_n 1, 1) := dk_27 (dk_at dksJ22_next_2 5 rfl rfl)
theorem dJ22_next_52 : decode cJ22_next 52 = .ok (.iconst 1, 1) := dk_4 (dk_at dksJ22_next_2 6 rfl rfl)
theorem dJ22_next_53 : decode cJ22_next 53 = .ok (.iadd, 1) := dk_96 (dk_at dksJ22_next_2 7 rfl rfl)
theorem dJ22_next_54 : decode cJ22_next 54 = .ok (.putfield 25, 3) := dk_181 0 25 (dk_at dksJ22_next_2 8 rfl rfl)
theorem dJ22_next_57 : decode cJ22_next 57 = .ok (.aload_n 2, 1) := dk_44 (dk_at dksJ22_next_2 11 rfl rfl)
theorem dJ22_next_58 : decode cJ22_next 58 = .ok (.aload_n 0, 1) := dk_42 (dk_at dksJ22_next_2 12 rfl rfl)
theorem dJ22_next_59 : decode cJ22_next 59 = .ok (.iload_n 1, 1) := dk_27 (dk_at dksJ22_next_2 13 rfl rfl)
theorem dJ22_next_60 : decode cJ22_next 60 = .ok (.dup_x1, 1) := dk_90 (dk_at dksJ22_next_2 14 rfl rfl)
theorem dJ22_next_61 : decode cJ22_next 61 = .ok (.putfield 13, 3) := dk_181 0 13 (dk_at dksJ22_next_2 15 rfl rfl)
theorem dJ22_next_64 : decode cJ22_next 64 = .ok (.aaload, 1) := dk_50 (dk_at dksJ22_next_2 18 rfl rfl)
theorem dJ22_next_65 : decode cJ22_next 65 = .ok (.areturn, 1) := dk_176 (dk_at dksJ22_next_2 19 rfl rfl)
abbrev cJ22_checkForComodification : ByteArray := prog_45_method_6_code
def yJ22_checkForComodification : MethodName := ⟨RJ22, "checkForComodification", "()V"⟩
def dkwJ22_checkForComodification_0 : List UInt8 := [42, 180, 0, 1, 180, 0, 17, 42, 180, 0, 22, 159, 0, 11, 187, 0, 41, 89, 183, 0, 43, 191, 177]
abbrev dktJ22_checkForComodification_0 : List UInt8 := dkwJ22_checkForComodification_0 ++ []
theorem dksJ22_checkForComodification_0 : cJ22_checkForComodification.data.toList.drop 0 = dktJ22_checkForComodification_0 := by decide +kernel
theorem dJ22_checkForComodification_0 : decode cJ22_checkForComodification 0 = .ok (.aload_n 0, 1) := dk_42 (dk_at dksJ22_checkForComodification_0 0 rfl rfl)
theorem dJ22_checkForComodification_1 : decode cJ22_checkForComodification 1 = .ok (.getfield 1, 3) := dk_180 0 1 (dk_at dksJ22_checkForComodification_0 1 rfl rfl)
theorem dJ22_checkForComodification_4 : decode cJ22_checkForComodification 4 = .ok (.getfield 17, 3) := dk_180 0 17 (dk_at dksJ22_checkForComodification_0 4 rfl rfl)
theorem dJ22_checkForComodification_7 : decode cJ22_checkForComodification 7 = .ok (.aload_n 0, 1) := dk_42 (dk_at dksJ22_checkForComodification_0 7 rfl rfl)
theorem dJ22_checkForComodification_8 : decode cJ22_checkForComodification 8 = .ok (.getfield 22, 3) := dk_180 0 22 (dk_at dksJ22_checkForComodification_0 8 rfl rfl)
theorem dJ22_checkForComodification_11 : decode cJ22_checkForComodification 11 = .ok (.if_icmp .eq 11, 3) := dk_159 0 11 (dk_at dksJ22_checkForComodification_0 11 rfl rfl)
theorem dJ22_checkForComodification_14 : decode cJ22_checkForComodification 14 = .ok (.new 41, 3) := dk_187 0 41 (dk_at dksJ22_checkForComodification_0 14 rfl rfl)
theorem dJ22_checkForComodification_17 : decode cJ22_checkForComodification 17 = .ok (.dup, 1) := dk_89 (dk_at dksJ22_checkForComodification_0 17 rfl rfl)
theorem dJ22_checkForComodification_18 : decode cJ22_checkForComodification 18 = .ok (.invokespecial 43, 3) := dk_183 0 43 (dk_at dksJ22_checkForComodification_0 18 rfl rfl)
theorem dJ22_checkForComodification_21 : decode cJ22_checkForComodification 21 = .ok (.athrow, 1) := dk_191 (dk_at dksJ22_checkForComodification_0 21 rfl rfl)
theorem dJ22_checkForComodification_22 : decode cJ22_checkForComodification 22 = .ok (.return_, 1) := dk_177 (dk_at dksJ22_checkForComodification_0 22 rfl rfl)
theorem q222 : (Jvm.Cond.initialized "java/util/ArrayList$Itr") ∈ lw_all := lw_g (lw_at lw_m1 37 rfl) rfl
theorem q259 : (Jvm.Cond.fieldLink "java/util/ArrayList$Itr" (37 : Nat) "java/util/ArrayList" "elementData" "[Ljava/lang/Object;") ∈ lw_all := lw_g (lw_at lw_m1 74 rfl) rfl
theorem q260 : (Jvm.Cond.fieldLinkNest "java/util/ArrayList$Itr" (28 : Nat) "java/util/ArrayList" "size" "I" "java/util/ArrayList") ∈ lw_tbl := lw_at lw_m1 75 rfl
theorem q263 : (Jvm.Cond.fieldLink "java/util/ArrayList$Itr" (17 : Nat) "java/util/ArrayList" "modCount" "I") ∈ lw_all := lw_g (lw_at lw_m1 78 rfl) rfl
theorem q347 : (Jvm.Cond.selects "java/util/ArrayList$Itr" ({ cls := "java/lang/Object", name := "getClass", desc := "()Ljava/lang/Class;" } : Jvm.MethodName) ({ cls := "java/lang/Object", name := "getClass", desc := "()Ljava/lang/Class;" } : Jvm.MethodName)) ∈ lw_all := lw_g (lw_at lw_m1 162 rfl) rfl
theorem q1585 : (Jvm.Cond.instantiable "java/util/ArrayList$Itr" (4 : Nat)) ∈ lw_all := lw_g (lw_at lw_m6 200 rfl) rfl
theorem q1587 : (Jvm.Cond.instanceMethod ({ cls := "java/util/ArrayList$Itr", name := "<init>", desc := "(Ljava/util/ArrayList;)V" } : Jvm.MethodName)) ∈ lw_all := lw_g (lw_at lw_m6 202 rfl) rfl
theorem q1588 : (Jvm.Cond.code ({ cls := "java/util/ArrayList$Itr", name := "<init>", desc := "(Ljava/util/ArrayList;)V" } : Jvm.MethodName) prog_45_method_1_code (2 : Nat) (Option.none : Option Jvm.ClassFile.FieldType)) ∈ lw_all := lw_g (lw_at lw_m6 203 rfl) rfl
theorem q1589 : (Jvm.Cond.methodLink "java/util/ArrayList$Itr" (7 : Nat) ({ cls := "java/lang/Object", name := "<init>", desc := "()V" } : Jvm.MethodName)) ∈ lw_all := lw_g (lw_at lw_m6 204 rfl) rfl
theorem q1590 : (Jvm.Cond.fieldLink "java/util/ArrayList$Itr" (25 : Nat) "java/util/ArrayList$Itr" "cursor" "I") ∈ lw_all := lw_g (lw_at lw_m6 205 rfl) rfl
theorem q1591 : (Jvm.Cond.fieldLink "java/util/ArrayList$Itr" (13 : Nat) "java/util/ArrayList$Itr" "lastRet" "I") ∈ lw_all := lw_g (lw_at lw_m6 206 rfl) rfl
theorem q1592 : (Jvm.Cond.fieldLink "java/util/ArrayList$Itr" (22 : Nat) "java/util/ArrayList$Itr" "expectedModCount" "I") ∈ lw_all := lw_g (lw_at lw_m6 207 rfl) rfl
theorem q1593 : (Jvm.Cond.fieldLink "java/util/ArrayList$Itr" (1 : Nat) "java/util/ArrayList$Itr" "this$0" "Ljava/util/ArrayList;") ∈ lw_all := lw_g (lw_at lw_m6 208 rfl) rfl
theorem q1594 : (Jvm.Cond.lays "java/util/ArrayList$Itr" "java/util/ArrayList$Itr" "cursor" "I") ∈ lw_all := lw_g (lw_at lw_m6 209 rfl) rfl
theorem q1595 : (Jvm.Cond.soleField "java/util/ArrayList$Itr" "cursor") ∈ lw_all := lw_g (lw_at lw_m6 210 rfl) rfl
theorem q1596 : (Jvm.Cond.lays "java/util/ArrayList$Itr" "java/util/ArrayList$Itr" "lastRet" "I") ∈ lw_all := lw_g (lw_at lw_m6 211 rfl) rfl
theorem q1597 : (Jvm.Cond.soleField "java/util/ArrayList$Itr" "lastRet") ∈ lw_all := lw_g (lw_at lw_m6 212 rfl) rfl
theorem q1598 : (Jvm.Cond.lays "java/util/ArrayList$Itr" "java/util/ArrayList$Itr" "expectedModCount" "I") ∈ lw_all := lw_g (lw_at lw_m6 213 rfl) rfl
theorem q1599 : (Jvm.Cond.soleField "java/util/ArrayList$Itr" "expectedModCount") ∈ lw_all := lw_g (lw_at lw_m6 214 rfl) rfl
theorem q1600 : (Jvm.Cond.laysFinal "java/util/ArrayList$Itr" "java/util/ArrayList$Itr" "this$0" "Ljava/util/ArrayList;") ∈ lw_all := lw_g (lw_at lw_m6 215 rfl) rfl
theorem q1601 : (Jvm.Cond.soleField "java/util/ArrayList$Itr" "this$0") ∈ lw_all := lw_g (lw_at lw_m6 216 rfl) rfl
theorem q1602 : (Jvm.Cond.superclass "java/util/ArrayList$Itr" "java/lang/Object") ∈ lw_all := lw_g (lw_at lw_m6 217 rfl) rfl
theorem q1607 : (Jvm.Cond.castable "java/util/ArrayList$Itr" "java/util/Iterator") ∈ lw_tbl := lw_at lw_m6 222 rfl
theorem q1608 : (Jvm.Cond.selects "java/util/ArrayList$Itr" ({ cls := "java/util/Iterator", name := "hasNext", desc := "()Z" } : Jvm.MethodName) ({ cls := "java/util/ArrayList$Itr", name := "hasNext", desc := "()Z" } : Jvm.MethodName)) ∈ lw_all := lw_g (lw_at lw_m6 223 rfl) rfl
theorem q1609 : (Jvm.Cond.unhidden "java/util/ArrayList$Itr" "hasNext" "()Z") ∈ lw_tbl := lw_at lw_m6 224 rfl
theorem q1610 : (Jvm.Cond.instanceMethod ({ cls := "java/util/ArrayList$Itr", name := "hasNext", desc := "()Z" } : Jvm.MethodName)) ∈ lw_all := lw_g (lw_at lw_m6 225 rfl) rfl
theorem q1611 : (Jvm.Cond.publicMethod ({ cls := "java/util/ArrayList$Itr", name := "hasNext", desc := "()Z" } : Jvm.MethodName)) ∈ lw_tbl := lw_at lw_m6 226 rfl
theorem q1612 : (Jvm.Cond.code ({ cls := "java/util/ArrayList$Itr", name := "hasNext", desc := "()Z" } : Jvm.MethodName) prog_45_method_2_code (1 : Nat) (Option.some Jvm.ClassFile.FieldType.boolean)) ∈ lw_all := lw_g (lw_at lw_m6 227 rfl) rfl
theorem q1623 : (Jvm.Cond.selects "java/util/ArrayList$Itr" ({ cls := "java/util/Iterator", name := "next", desc := "()Ljava/lang/Object;" } : Jvm.MethodName) ({ cls := "java/util/ArrayList$Itr", name := "next", desc := "()Ljava/lang/Object;" } : Jvm.MethodName)) ∈ lw_all := lw_g (lw_at lw_m6 238 rfl) rfl
theorem q1624 : (Jvm.Cond.unhidden "java/util/ArrayList$Itr" "next" "()Ljava/lang/Object;") ∈ lw_tbl := lw_at lw_m6 239 rfl
theorem q1625 : (Jvm.Cond.instanceMethod ({ cls := "java/util/ArrayList$Itr", name := "next", desc := "()Ljava/lang/Object;" } : Jvm.MethodName)) ∈ lw_all := lw_g (lw_at lw_m7 0 rfl) rfl
theorem q1626 : (Jvm.Cond.publicMethod ({ cls := "java/util/ArrayList$Itr", name := "next", desc := "()Ljava/lang/Object;" } : Jvm.MethodName)) ∈ lw_tbl := lw_at lw_m7 1 rfl
theorem q1627 : (Jvm.Cond.code ({ cls := "java/util/ArrayList$Itr", name := "next", desc := "()Ljava/lang/Object;" } : Jvm.MethodName) prog_45_method_3_code (3 : Nat) (Option.some (Jvm.ClassFile.FieldType.object "java/lang/Object"))) ∈ lw_all := lw_g (lw_at lw_m7 2 rfl) rfl
theorem q1628 : (Jvm.Cond.methodLink "java/util/ArrayList$Itr" (31 : Nat) ({ cls := "java/util/ArrayList$Itr", name := "checkForComodification", desc := "()V" } : Jvm.MethodName)) ∈ lw_all := lw_g (lw_at lw_m7 3 rfl) rfl
theorem q1629 : (Jvm.Cond.instanceMethod ({ cls := "java/util/ArrayList$Itr", name := "checkForComodification", desc := "()V" } : Jvm.MethodName)) ∈ lw_all := lw_g (lw_at lw_m7 4 rfl) rfl
theorem q1630 : (Jvm.Cond.selects "java/util/ArrayList$Itr" ({ cls := "java/util/ArrayList$Itr", name := "checkForComodification", desc := "()V" } : Jvm.MethodName) ({ cls := "java/util/ArrayList$Itr", name := "checkForComodification", desc := "()V" } : Jvm.MethodName)) ∈ lw_all := lw_g (lw_at lw_m7 5 rfl) rfl
theorem q1631 : (Jvm.Cond.code ({ cls := "java/util/ArrayList$Itr", name := "checkForComodification", desc := "()V" } : Jvm.MethodName) prog_45_method_6_code (1 : Nat) (Option.none : Option Jvm.ClassFile.FieldType)) ∈ lw_all := lw_g (lw_at lw_m7 6 rfl) rfl
theorem q3133 : (Jvm.Cond.castable "java/util/ArrayList$Itr" "java/lang/Object") ∈ lw_tbl := lw_at lw_m13 68 rfl
theorem in_J22 : ∀ w ∈ wsJ220, w ∈ lw_all := lw_in wsJ220 [1594, 1596, 1598, 1600] (by decide +kernel) (by decide +kernel)
/-! java/util/AbstractSet -/
set_option maxRecDepth 100000
def RJ23 : String := "java/util/AbstractSet"
abbrev cJ23_init : ByteArray := prog_43_method_1_code
def yJ23_init : MethodName := ⟨RJ23, "<init>", "()V"⟩
theorem dJ23_init_0 : decode cJ23_init 0 = .ok (.aload_n 0, 1) := by decide +kernel
theorem dJ23_init_1 : decode cJ23_init 1 = .ok (.invokespecial 1, 3) := by decide +kernel
theorem dJ23_init_4 : decode cJ23_init 4 = .ok (.return_, 1) := by decide +kernel
theorem q223 : (Jvm.Cond.initialized "java/util/AbstractSet") ∈ lw_all := lw_g (lw_at lw_m1 38 rfl) rfl
theorem q1679 : (Jvm.Cond.instanceMethod ({ cls := "java/util/AbstractSet", name := "<init>", desc := "()V" } : Jvm.MethodName)) ∈ lw_all := lw_g (lw_at lw_m7 54 rfl) rfl
theorem q1680 : (Jvm.Cond.code ({ cls := "java/util/AbstractSet", name := "<init>", desc := "()V" } : Jvm.MethodName) prog_43_method_1_code (1 : Nat) (Option.none : Option Jvm.ClassFile.FieldType)) ∈ lw_all := lw_g (lw_at lw_m7 55 rfl) rfl
theorem q1681 : (Jvm.Cond.methodLink "java/util/AbstractSet" (1 : Nat) ({ cls := "java/util/AbstractCollection", name := "<init>", desc := "()V" } : Jvm.MethodName)) ∈ lw_all := lw_g (lw_at lw_m7 56 rfl) rfl
/-! java/util/TreeSet -/
set_option maxRecDepth 100000
def RJ24 : String := "java/util/TreeSet"
def TJ24 : u_T := fun k => match k with
  | _ => ("java/util/TreeSet", "m", "Ljava/util/NavigableMap;", false)
def tyJ24 : Nat → FieldType := fun k => match k with
  | _ => .object "java/util/NavigableMap"
abbrev wsJ240 : List Cond := u_ws RJ24 TJ24 1
theorem nmJ24 : ∀ a, a < 1 → ∀ b, b < 1 → a ≠ b → (TJ24 a).2.1 ≠ (TJ24 b).2.1 := by decide +kernel
theorem tyJ24_ok : ∀ k, k < 1 → parseFieldDescriptor (TJ24 k).2.2.1 = some (tyJ24 k) := by decide +kernel
abbrev cJ24_size : ByteArray := prog_73_method_9_code
def yJ24_size : MethodName := ⟨RJ24, "size", "()I"⟩
def dkwJ24_size_0 : List UInt8 := [42, 180, 0, 7, 185, 0, 53, 1, 0, 172]
abbrev dktJ24_size_0 : List UInt8 := dkwJ24_size_0 ++ []
theorem dksJ24_size_0 : cJ24_size.data.toList.drop 0 = dktJ24_size_0 := by decide +kernel
theorem dJ24_size_0 : decode cJ24_size 0 = .ok (.aload_n 0, 1) := dk_42 (dk_at dksJ24_size_0 0 rfl rfl)
theorem dJ24_size_1 : decode cJ24_size 1 = .ok (.getfield 7, 3) := dk_180 0 7 (dk_at dksJ24_size_0 1 rfl rfl)
theorem dJ24_size_4 : decode cJ24_size 4 = .ok (.invokeinterface 53 1, 5) := by decide +kernel
theorem dJ24_size_9 : decode cJ24_size 9 = .ok (.ireturn, 1) := dk_172 (dk_at dksJ24_size_0 9 rfl rfl)
abbrev cJ24_init : ByteArray := prog_73_method_2_code
def yJ24_init : MethodName := ⟨RJ24, "<init>", "()V"⟩
def dkwJ24_init_0 : List UInt8 := [42, 187, 0, 13, 89, 183, 0, 15, 183, 0, 16, 177]
abbrev dktJ24_init_0 : List UInt8 := dkwJ24_init_0 ++ []
theorem dksJ24_init_0 : cJ24_init.data.toList.drop 0 = dktJ24_init_0 := by decide +kernel
theorem dJ24_init_0 : decode cJ24_init 0 = .ok (.aload_n 0, 1) := dk_42 (dk_at dksJ24_init_0 0 rfl rfl)
theorem dJ24_init_1 : decode cJ24_init 1 = .ok (.new 13, 3) := dk_187 0 13 (dk_at dksJ24_init_0 1 rfl rfl)
theorem dJ24_init_4 : decode cJ24_init 4 = .ok (.dup, 1) := dk_89 (dk_at dksJ24_init_0 4 rfl rfl)
theorem dJ24_init_5 : decode cJ24_init 5 = .ok (.invokespecial 15, 3) := dk_183 0 15 (dk_at dksJ24_init_0 5 rfl rfl)
theorem dJ24_init_8 : decode cJ24_init 8 = .ok (.invokespecial 16, 3) := dk_183 0 16 (dk_at dksJ24_init_0 8 rfl rfl)
theorem dJ24_init_11 : decode cJ24_init 11 = .ok (.return_, 1) := dk_177 (dk_at dksJ24_init_0 11 rfl rfl)
abbrev cJ24_init_2 : ByteArray := prog_73_method_1_code
def yJ24_init_2 : MethodName := ⟨RJ24, "<init>", "(Ljava/util/NavigableMap;)V"⟩
def dkwJ24_init_2_0 : List UInt8 := [42, 183, 0, 1, 42, 43, 181, 0, 7, 177]
abbrev dktJ24_init_2_0 : List UInt8 := dkwJ24_init_2_0 ++ []
theorem dksJ24_init_2_0 : cJ24_init_2.data.toList.drop 0 = dktJ24_init_2_0 := by decide +kernel
theorem dJ24_init_2_0 : decode cJ24_init_2 0 = .ok (.aload_n 0, 1) := dk_42 (dk_at dksJ24_init_2_0 0 rfl rfl)
theorem dJ24_init_2_1 : decode cJ24_init_2 1 = .ok (.invokespecial 1, 3) := dk_183 0 1 (dk_at dksJ24_init_2_0 1 rfl rfl)
theorem dJ24_init_2_4 : decode cJ24_init_2 4 = .ok (.aload_n 0, 1) := dk_42 (dk_at dksJ24_init_2_0 4 rfl rfl)
theorem dJ24_init_2_5 : decode cJ24_init_2 5 = .ok (.aload_n 1, 1) := dk_43 (dk_at dksJ24_init_2_0 5 rfl rfl)
theorem dJ24_init_2_6 : decode cJ24_init_2 6 = .ok (.putfield 7, 3) := dk_181 0 7 (dk_at dksJ24_init_2_0 6 rfl rfl)
theorem dJ24_init_2_9 : decode cJ24_init_2 9 = .ok (.return_, 1) := dk_177 (dk_at dksJ24_init_2_0 9 rfl rfl)
abbrev cJ24_add : ByteArray := prog_73_method_12_code
def yJ24_add : MethodName := ⟨RJ24, "add", "(Ljava/lang/Object;)Z"⟩
def dkwJ24_add_0 : List UInt8 := [42, 180, 0, 7, 43, 178, 0, 65, 185, 0, 69, 3, 0, 199, 0, 7, 4, 167, 0, 4, 3, 172]
abbrev dktJ24_add_0 : List UInt8 := dkwJ24_add_0 ++ []
theorem dksJ24_add_0 : cJ24_add.data.toList.drop 0 = dktJ24_add_0 := by decide +kernel
theorem dJ24_add_0 : decode cJ24_add 0 = .ok (.aload_n 0, 1) := dk_42 (dk_at dksJ24_add_0 0 rfl rfl)
theorem dJ24_add_1 : decode cJ24_add 1 = .ok (.getfield 7, 3) := dk_180 0 7 (dk_at dksJ24_add_0 1 rfl rfl)
theorem dJ24_add_4 : decode cJ24_add 4 = .ok (.aload_n 1, 1) := dk_43 (dk_at dksJ24_add_0 4 rfl rfl)
theorem dJ24_add_5 : decode cJ24_add 5 = .ok (.getstatic 65, 3) := dk_178 0 65 (dk_at dksJ24_add_0 5 rfl rfl)
theorem dJ24_add_8 : decode cJ24_add 8 = .ok (.invokeinterface 69 3, 5) := by decide +kernel
theorem dJ24_add_13 : decode cJ24_add 13 = .ok (.ifnonnull 7, 3) := dk_199 0 7 (dk_at dksJ24_add_0 13 rfl rfl)
theorem dJ24_add_16 : decode cJ24_add 16 = .ok (.iconst 1, 1) := dk_4 (dk_at dksJ24_add_0 16 rfl rfl)
theorem dJ24_add_17 : decode cJ24_add 17 = .ok (.goto 4, 3) := dk_167 0 4 (dk_at dksJ24_add_0 17 rfl rfl)
theorem dJ24_add_20 : decode cJ24_add 20 = .ok (.iconst 0, 1) := dk_3 (dk_at dksJ24_add_0 20 rfl rfl)
theorem dJ24_add_21 : decode cJ24_add 21 = .ok (.ireturn, 1) := dk_172 (dk_at dksJ24_add_0 21 rfl rfl)
abbrev cJ24_isEmpty : ByteArray := prog_73_method_10_code
def yJ24_isEmpty : MethodName := ⟨RJ24, "isEmpty", "()Z"⟩
def dkwJ24_isEmpty_0 : List UInt8 := [42, 180, 0, 7, 185, 0, 57, 1, 0, 172]
abbrev dktJ24_isEmpty_0 : List UInt8 := dkwJ24_isEmpty_0 ++ []
theorem dksJ24_isEmpty_0 : cJ24_isEmpty.data.toList.drop 0 = dktJ24_isEmpty_0 := by decide +kernel
theorem dJ24_isEmpty_0 : decode cJ24_isEmpty 0 = .ok (.aload_n 0, 1) := dk_42 (dk_at dksJ24_isEmpty_0 0 rfl rfl)
theorem dJ24_isEmpty_1 : decode cJ24_isEmpty 1 = .ok (.getfield 7, 3) := dk_180 0 7 (dk_at dksJ24_isEmpty_0 1 rfl rfl)
theorem dJ24_isEmpty_4 : decode cJ24_isEmpty 4 = .ok (.invokeinterface 57 1, 5) := by decide +kernel
theorem dJ24_isEmpty_9 : decode cJ24_isEmpty 9 = .ok (.ireturn, 1) := dk_172 (dk_at dksJ24_isEmpty_0 9 rfl rfl)
abbrev cJ24_iterator : ByteArray := prog_73_method_6_code
def yJ24_iterator : MethodName := ⟨RJ24, "iterator", "()Ljava/util/Iterator;"⟩
def dkwJ24_iterator_0 : List UInt8 := [42, 180, 0, 7, 185, 0, 34, 1, 0, 185, 0, 40, 1, 0, 176]
abbrev dktJ24_iterator_0 : List UInt8 := dkwJ24_iterator_0 ++ []
theorem dksJ24_iterator_0 : cJ24_iterator.data.toList.drop 0 = dktJ24_iterator_0 := by decide +kernel
theorem dJ24_iterator_0 : decode cJ24_iterator 0 = .ok (.aload_n 0, 1) := dk_42 (dk_at dksJ24_iterator_0 0 rfl rfl)
theorem dJ24_iterator_1 : decode cJ24_iterator 1 = .ok (.getfield 7, 3) := dk_180 0 7 (dk_at dksJ24_iterator_0 1 rfl rfl)
theorem dJ24_iterator_4 : decode cJ24_iterator 4 = .ok (.invokeinterface 34 1, 5) := by decide +kernel
theorem dJ24_iterator_9 : decode cJ24_iterator 9 = .ok (.invokeinterface 40 1, 5) := by decide +kernel
theorem dJ24_iterator_14 : decode cJ24_iterator 14 = .ok (.areturn, 1) := dk_176 (dk_at dksJ24_iterator_0 14 rfl rfl)
abbrev cJ24_remove : ByteArray := prog_73_method_13_code
def yJ24_remove : MethodName := ⟨RJ24, "remove", "(Ljava/lang/Object;)Z"⟩
def dkwJ24_remove_0 : List UInt8 := [42, 180, 0, 7, 43, 185, 0, 73, 2, 0, 178, 0, 65, 166, 0, 7, 4, 167, 0, 4, 3, 172]
abbrev dktJ24_remove_0 : List UInt8 := dkwJ24_remove_0 ++ []
theorem dksJ24_remove_0 : cJ24_remove.data.toList.drop 0 = dktJ24_remove_0 := by decide +kernel
theorem dJ24_remove_0 : decode cJ24_remove 0 = .ok (.aload_n 0, 1) := dk_42 (dk_at dksJ24_remove_0 0 rfl rfl)
theorem dJ24_remove_1 : decode cJ24_remove 1 = .ok (.getfield 7, 3) := dk_180 0 7 (dk_at dksJ24_remove_0 1 rfl rfl)
theorem dJ24_remove_4 : decode cJ24_remove 4 = .ok (.aload_n 1, 1) := dk_43 (dk_at dksJ24_remove_0 4 rfl rfl)
theorem dJ24_remove_5 : decode cJ24_remove 5 = .ok (.invokeinterface 73 2, 5) := by decide +kernel
theorem dJ24_remove_10 : decode cJ24_remove 10 = .ok (.getstatic 65, 3) := dk_178 0 65 (dk_at dksJ24_remove_0 10 rfl rfl)
theorem dJ24_remove_13 : decode cJ24_remove 13 = .ok (.if_acmp .ne 7, 3) := dk_166 0 7 (dk_at dksJ24_remove_0 13 rfl rfl)
theorem dJ24_remove_16 : decode cJ24_remove 16 = .ok (.iconst 1, 1) := dk_4 (dk_at dksJ24_remove_0 16 rfl rfl)
theorem dJ24_remove_17 : decode cJ24_remove 17 = .ok (.goto 4, 3) := dk_167 0 4 (dk_at dksJ24_remove_0 17 rfl rfl)
theorem dJ24_remove_20 : decode cJ24_remove 20 = .ok (.iconst 0, 1) := dk_3 (dk_at dksJ24_remove_0 20 rfl rfl)
theorem dJ24_remove_21 : decode cJ24_remove 21 = .ok (.ireturn, 1) := dk_172 (dk_at dksJ24_remove_0 21 rfl rfl)
abbrev cJ24_contains : ByteArray := prog_73_method_11_code
def yJ24_contains : MethodName := ⟨RJ24, "contains", "(Ljava/lang/Object;)Z"⟩
def dkwJ24_contains_0 : List UInt8 := [42, 180, 0, 7, 43, 185, 0, 61, 2, 0, 172]
abbrev dktJ24_contains_0 : List UInt8 := dkwJ24_contains_0 ++ []
theorem dksJ24_contains_0 : cJ24_contains.data.toList.drop 0 = dktJ24_contains_0 := by decide +kernel
theorem dJ24_contains_0 : decode cJ24_contains 0 = .ok (.aload_n 0, 1) := dk_42 (dk_at dksJ24_contains_0 0 rfl rfl)
theorem dJ24_contains_1 : decode cJ24_contains 1 = .ok (.getfield 7, 3) := dk_180 0 7 (dk_at dksJ24_contains_0 1 rfl rfl)
theorem dJ24_contains_4 : decode cJ24_contains 4 = .ok (.aload_n 1, 1) := dk_43 (dk_at dksJ24_contains_0 4 rfl rfl)
theorem dJ24_contains_5 : decode cJ24_contains 5 = .ok (.invokeinterface 61 2, 5) := by decide +kernel
theorem dJ24_contains_10 : decode cJ24_contains 10 = .ok (.ireturn, 1) := dk_172 (dk_at dksJ24_contains_0 10 rfl rfl)
theorem q224 : (Jvm.Cond.initialized "java/util/TreeSet") ∈ lw_all := lw_g (lw_at lw_m1 39 rfl) rfl
theorem q355 : (Jvm.Cond.selects "java/util/TreeSet" ({ cls := "java/lang/Object", name := "getClass", desc := "()Ljava/lang/Class;" } : Jvm.MethodName) ({ cls := "java/lang/Object", name := "getClass", desc := "()Ljava/lang/Class;" } : Jvm.MethodName)) ∈ lw_all := lw_g (lw_at lw_m1 170 rfl) rfl
theorem q1566 : (Jvm.Cond.selects "java/util/TreeSet" ({ cls := "java/util/AbstractCollection", name := "size", desc := "()I" } : Jvm.MethodName) ({ cls := "java/util/TreeSet", name := "size", desc := "()I" } : Jvm.MethodName)) ∈ lw_all := lw_g (lw_at lw_m6 181 rfl) rfl
theorem q1567 : (Jvm.Cond.instanceMethod ({ cls := "java/util/TreeSet", name := "size", desc := "()I" } : Jvm.MethodName)) ∈ lw_all := lw_g (lw_at lw_m6 182 rfl) rfl
theorem q1568 : (Jvm.Cond.code ({ cls := "java/util/TreeSet", name := "size", desc := "()I" } : Jvm.MethodName) prog_73_method_9_code (1 : Nat) (Option.some Jvm.ClassFile.FieldType.int)) ∈ lw_all := lw_g (lw_at lw_m6 183 rfl) rfl
theorem q1569 : (Jvm.Cond.interfaceEntry "java/util/TreeSet" (53 : Nat)) ∈ lw_tbl := lw_at lw_m6 184 rfl
theorem q1669 : (Jvm.Cond.instantiable "java/util/TreeSet" (1 : Nat)) ∈ lw_all := lw_g (lw_at lw_m7 44 rfl) rfl
theorem q1671 : (Jvm.Cond.instanceMethod ({ cls := "java/util/TreeSet", name := "<init>", desc := "()V" } : Jvm.MethodName)) ∈ lw_all := lw_g (lw_at lw_m7 46 rfl) rfl
theorem q1672 : (Jvm.Cond.code ({ cls := "java/util/TreeSet", name := "<init>", desc := "()V" } : Jvm.MethodName) prog_73_method_2_code (1 : Nat) (Option.none : Option Jvm.ClassFile.FieldType)) ∈ lw_all := lw_g (lw_at lw_m7 47 rfl) rfl
theorem q1673 : (Jvm.Cond.classLink "java/util/TreeSet" (13 : Nat) "java/util/TreeMap") ∈ lw_all := lw_g (lw_at lw_m7 48 rfl) rfl
theorem q1674 : (Jvm.Cond.methodLink "java/util/TreeSet" (15 : Nat) ({ cls := "java/util/TreeMap", name := "<init>", desc := "()V" } : Jvm.MethodName)) ∈ lw_all := lw_g (lw_at lw_m7 49 rfl) rfl
theorem q1675 : (Jvm.Cond.methodLink "java/util/TreeSet" (16 : Nat) ({ cls := "java/util/TreeSet", name := "<init>", desc := "(Ljava/util/NavigableMap;)V" } : Jvm.MethodName)) ∈ lw_all := lw_g (lw_at lw_m7 50 rfl) rfl
theorem q1676 : (Jvm.Cond.instanceMethod ({ cls := "java/util/TreeSet", name := "<init>", desc := "(Ljava/util/NavigableMap;)V" } : Jvm.MethodName)) ∈ lw_all := lw_g (lw_at lw_m7 51 rfl) rfl
theorem q1677 : (Jvm.Cond.code ({ cls := "java/util/TreeSet", name := "<init>", desc := "(Ljava/util/NavigableMap;)V" } : Jvm.MethodName) prog_73_method_1_code (2 : Nat) (Option.none : Option Jvm.ClassFile.FieldType)) ∈ lw_all := lw_g (lw_at lw_m7 52 rfl) rfl
theorem q1678 : (Jvm.Cond.methodLink "java/util/TreeSet" (1 : Nat) ({ cls := "java/util/AbstractSet", name := "<init>", desc := "()V" } : Jvm.MethodName)) ∈ lw_all := lw_g (lw_at lw_m7 53 rfl) rfl
theorem q1682 : (Jvm.Cond.fieldLink "java/util/TreeSet" (7 : Nat) "java/util/TreeSet" "m" "Ljava/util/NavigableMap;") ∈ lw_all := lw_g (lw_at lw_m7 57 rfl) rfl
theorem q1683 : (Jvm.Cond.lays "java/util/TreeSet" "java/util/TreeSet" "m" "Ljava/util/NavigableMap;") ∈ lw_all := lw_g (lw_at lw_m7 58 rfl) rfl
theorem q1684 : (Jvm.Cond.soleField "java/util/TreeSet" "m") ∈ lw_all := lw_g (lw_at lw_m7 59 rfl) rfl
theorem q1685 : (Jvm.Cond.superclass "java/util/TreeSet" "java/util/AbstractSet") ∈ lw_all := lw_g (lw_at lw_m7 60 rfl) rfl
theorem q1706 : (Jvm.Cond.instanceMethod ({ cls := "java/util/TreeSet", name := "add", desc := "(Ljava/lang/Object;)Z" } : Jvm.MethodName)) ∈ lw_all := lw_g (lw_at lw_m7 81 rfl) rfl
theorem q1707 : (Jvm.Cond.selects "java/util/TreeSet" ({ cls := "java/util/TreeSet", name := "add", desc := "(Ljava/lang/Object;)Z" } : Jvm.MethodName) ({ cls := "java/util/TreeSet", name := "add", desc := "(Ljava/lang/Object;)Z" } : Jvm.MethodName)) ∈ lw_all := lw_g (lw_at lw_m7 82 rfl) rfl
theorem q1708 : (Jvm.Cond.code ({ cls := "java/util/TreeSet", name := "add", desc := "(Ljava/lang/Object;)Z" } : Jvm.MethodName) prog_73_method_12_code (2 : Nat) (Option.some Jvm.ClassFile.FieldType.boolean)) ∈ lw_all := lw_g (lw_at lw_m7 83 rfl) rfl
theorem q1709 : (Jvm.Cond.fieldLink "java/util/TreeSet" (65 : Nat) "java/util/TreeSet" "PRESENT" "Ljava/lang/Object;") ∈ lw_all := lw_g (lw_at lw_m7 84 rfl) rfl
theorem q1710 : (Jvm.Cond.laysStatic "java/util/TreeSet" "PRESENT" "Ljava/lang/Object;") ∈ lw_tbl := lw_at lw_m7 85 rfl
theorem q1711 : (Jvm.Cond.interfaceEntry "java/util/TreeSet" (69 : Nat)) ∈ lw_tbl := lw_at lw_m7 86 rfl
theorem q1801 : (Jvm.Cond.instanceMethod ({ cls := "java/util/TreeSet", name := "isEmpty", desc := "()Z" } : Jvm.MethodName)) ∈ lw_all := lw_g (lw_at lw_m7 176 rfl) rfl
theorem q1802 : (Jvm.Cond.selects "java/util/TreeSet" ({ cls := "java/util/TreeSet", name := "isEmpty", desc := "()Z" } : Jvm.MethodName) ({ cls := "java/util/TreeSet", name := "isEmpty", desc := "()Z" } : Jvm.MethodName)) ∈ lw_all := lw_g (lw_at lw_m7 177 rfl) rfl
theorem q1803 : (Jvm.Cond.code ({ cls := "java/util/TreeSet", name := "isEmpty", desc := "()Z" } : Jvm.MethodName) prog_73_method_10_code (1 : Nat) (Option.some Jvm.ClassFile.FieldType.boolean)) ∈ lw_all := lw_g (lw_at lw_m7 178 rfl) rfl
theorem q1804 : (Jvm.Cond.interfaceEntry "java/util/TreeSet" (57 : Nat)) ∈ lw_tbl := lw_at lw_m7 179 rfl
theorem q1822 : (Jvm.Cond.instanceMethod ({ cls := "java/util/TreeSet", name := "iterator", desc := "()Ljava/util/Iterator;" } : Jvm.MethodName)) ∈ lw_all := lw_g (lw_at lw_m7 197 rfl) rfl
theorem q1823 : (Jvm.Cond.selects "java/util/TreeSet" ({ cls := "java/util/TreeSet", name := "iterator", desc := "()Ljava/util/Iterator;" } : Jvm.MethodName) ({ cls := "java/util/TreeSet", name := "iterator", desc := "()Ljava/util/Iterator;" } : Jvm.MethodName)) ∈ lw_all := lw_g (lw_at lw_m7 198 rfl) rfl
theorem q1824 : (Jvm.Cond.code ({ cls := "java/util/TreeSet", name := "iterator", desc := "()Ljava/util/Iterator;" } : Jvm.MethodName) prog_73_method_6_code (1 : Nat) (Option.some (Jvm.ClassFile.FieldType.object "java/util/Iterator"))) ∈ lw_all := lw_g (lw_at lw_m7 199 rfl) rfl
theorem q1825 : (Jvm.Cond.interfaceEntry "java/util/TreeSet" (34 : Nat)) ∈ lw_tbl := lw_at lw_m7 200 rfl
theorem q1826 : (Jvm.Cond.methodLink "java/util/TreeSet" (34 : Nat) ({ cls := "java/util/NavigableMap", name := "navigableKeySet", desc := "()Ljava/util/NavigableSet;" } : Jvm.MethodName)) ∈ lw_all := lw_g (lw_at lw_m7 201 rfl) rfl
theorem q1844 : (Jvm.Cond.interfaceEntry "java/util/TreeSet" (40 : Nat)) ∈ lw_tbl := lw_at lw_m7 219 rfl
theorem q1845 : (Jvm.Cond.methodLink "java/util/TreeSet" (40 : Nat) ({ cls := "java/util/NavigableSet", name := "iterator", desc := "()Ljava/util/Iterator;" } : Jvm.MethodName)) ∈ lw_all := lw_g (lw_at lw_m7 220 rfl) rfl
theorem q1889 : (Jvm.Cond.castable "java/util/TreeSet" "java/util/NavigableSet") ∈ lw_tbl := lw_at lw_m8 24 rfl
theorem q1890 : (Jvm.Cond.selects "java/util/TreeSet" ({ cls := "java/util/NavigableSet", name := "iterator", desc := "()Ljava/util/Iterator;" } : Jvm.MethodName) ({ cls := "java/util/TreeSet", name := "iterator", desc := "()Ljava/util/Iterator;" } : Jvm.MethodName)) ∈ lw_all := lw_g (lw_at lw_m8 25 rfl) rfl
theorem q1891 : (Jvm.Cond.unhidden "java/util/TreeSet" "iterator" "()Ljava/util/Iterator;") ∈ lw_tbl := lw_at lw_m8 26 rfl
theorem q1892 : (Jvm.Cond.publicMethod ({ cls := "java/util/TreeSet", name := "iterator", desc := "()Ljava/util/Iterator;" } : Jvm.MethodName)) ∈ lw_tbl := lw_at lw_m8 27 rfl
theorem q1903 : (Jvm.Cond.instanceMethod ({ cls := "java/util/TreeSet", name := "remove", desc := "(Ljava/lang/Object;)Z" } : Jvm.MethodName)) ∈ lw_all := lw_g (lw_at lw_m8 38 rfl) rfl
theorem q1904 : (Jvm.Cond.selects "java/util/TreeSet" ({ cls := "java/util/TreeSet", name := "remove", desc := "(Ljava/lang/Object;)Z" } : Jvm.MethodName) ({ cls := "java/util/TreeSet", name := "remove", desc := "(Ljava/lang/Object;)Z" } : Jvm.MethodName)) ∈ lw_all := lw_g (lw_at lw_m8 39 rfl) rfl
theorem q1905 : (Jvm.Cond.code ({ cls := "java/util/TreeSet", name := "remove", desc := "(Ljava/lang/Object;)Z" } : Jvm.MethodName) prog_73_method_13_code (2 : Nat) (Option.some Jvm.ClassFile.FieldType.boolean)) ∈ lw_all := lw_g (lw_at lw_m8 40 rfl) rfl
theorem q1906 : (Jvm.Cond.interfaceEntry "java/util/TreeSet" (73 : Nat)) ∈ lw_tbl := lw_at lw_m8 41 rfl
theorem q2343 : (Jvm.Cond.instanceMethod ({ cls := "java/util/TreeSet", name := "contains", desc := "(Ljava/lang/Object;)Z" } : Jvm.MethodName)) ∈ lw_all := lw_g (lw_at lw_m9 238 rfl) rfl
theorem q2344 : (Jvm.Cond.selects "java/util/TreeSet" ({ cls := "java/util/TreeSet", name := "contains", desc := "(Ljava/lang/Object;)Z" } : Jvm.MethodName) ({ cls := "java/util/TreeSet", name := "contains", desc := "(Ljava/lang/Object;)Z" } : Jvm.MethodName)) ∈ lw_all := lw_g (lw_at lw_m9 239 rfl) rfl
theorem q2345 : (Jvm.Cond.code ({ cls := "java/util/TreeSet", name := "contains", desc := "(Ljava/lang/Object;)Z" } : Jvm.MethodName) prog_73_method_11_code (2 : Nat) (Option.some Jvm.ClassFile.FieldType.boolean)) ∈ lw_all := lw_g (lw_at lw_m10 0 rfl) rfl
theorem q2346 : (Jvm.Cond.interfaceEntry "java/util/TreeSet" (61 : Nat)) ∈ lw_tbl := lw_at lw_m10 1 rfl
theorem q3134 : (Jvm.Cond.castable "java/util/TreeSet" "java/lang/Object") ∈ lw_tbl := lw_at lw_m13 69 rfl
theorem in_J24 : ∀ w ∈ wsJ240, w ∈ lw_all := lw_in wsJ240 [1683] (by decide +kernel) (by decide +kernel)
/-! java/util/TreeMap$Entry -/
set_option maxRecDepth 100000
def RJ25 : String := "java/util/TreeMap$Entry"
def TJ25 : u_T := fun k => match k with
  | 0 => ("java/util/TreeMap$Entry", "key", "Ljava/lang/Object;", false)
  | 1 => ("java/util/TreeMap$Entry", "value", "Ljava/lang/Object;", false)
  | 2 => ("java/util/TreeMap$Entry", "left", "Ljava/util/TreeMap$Entry;", false)
  | 3 => ("java/util/TreeMap$Entry", "right", "Ljava/util/TreeMap$Entry;", false)
  | 4 => ("java/util/TreeMap$Entry", "parent", "Ljava/util/TreeMap$Entry;", false)
  | _ => ("java/util/TreeMap$Entry", "color", "Z", false)
def tyJ25 : Nat → FieldType := fun k => match k with
  | 0 => .object "java/lang/Object"
  | 1 => .object "java/lang/Object"
  | 2 => .object "java/util/TreeMap$Entry"
  | 3 => .object "java/util/TreeMap$Entry"
  | 4 => .object "java/util/TreeMap$Entry"
  | _ => .boolean
abbrev wsJ250 : List Cond := u_ws RJ25 TJ25 6
theorem nmJ25 : ∀ a, a < 6 → ∀ b, b < 6 → a ≠ b → (TJ25 a).2.1 ≠ (TJ25 b).2.1 := by decide +kernel
theorem tyJ25_ok : ∀ k, k < 6 → parseFieldDescriptor (TJ25 k).2.2.1 = some (tyJ25 k) := by decide +kernel
abbrev cJ25_init : ByteArray := prog_67_method_1_code
def yJ25_init : MethodName := ⟨RJ25, "<init>", "(Ljava/lang/Object;Ljava/lang/Object;Ljava/util/TreeMap$Entry;)V"⟩
def dkwJ25_init_1 : List UInt8 := [177]
abbrev dktJ25_init_1 : List UInt8 := dkwJ25_init_1 ++ []
def dkwJ25_init_0 : List UInt8 := [42, 183, 0, 3, 42, 4, 181, 0, 9, 42, 43, 181, 0, 15, 42, 44, 181, 0, 19, 42, 45, 181, 0, 22]
abbrev dktJ25_init_0 : List UInt8 := dkwJ25_init_0 ++ dktJ25_init_1
theorem dksJ25_init_0 : cJ25_init.data.toList.drop 0 = dktJ25_init_0 := by decide +kernel
theorem dksJ25_init_1 : cJ25_init.data.toList.drop 24 = dktJ25_init_1 := dk_seg dksJ25_init_0 24 rfl rfl
theorem dJ25_init_0 : decode cJ25_init 0 = .ok (.aload_n 0, 1) := dk_42 (dk_at dksJ25_init_0 0 rfl rfl)
theorem dJ25_init_1 : decode cJ25_init 1 = .ok (.invokespecial 3, 3) := dk_183 0 3 (dk_at dksJ25_init_0 1 rfl rfl)
theorem dJ25_init_4 : decode cJ25_init 4 = .ok (.aload_n 0, 1) := dk_42 (dk_at dksJ25_init_0 4 rfl rfl)
theorem dJ25_init_5 : decode cJ25_init 5 = .ok (.iconst 1, 1) := dk_4 (dk_at dksJ25_init_0 5 rfl rfl)
theorem dJ25_init_6 : decode cJ25_init 6 = .ok (.putfield 9, 3) := dk_181 0 9 (dk_at dksJ25_init_0 6 rfl rfl)
theorem dJ25_init_9 : decode cJ25_init 9 = .ok (.aload_n 0, 1) := dk_42 (dk_at dksJ25_init_0 9 rfl rfl)
theorem dJ25_init_10 : decode cJ25_init 10 = .ok (.aload_n 1, 1) := dk_43 (dk_at dksJ25_init_0 10 rfl rfl)
theorem dJ25_init_11 : decode cJ25_init 11 = .ok (.putfield 15, 3) := dk_181 0 15 (dk_at dksJ25_init_0 11 rfl rfl)
theorem dJ25_init_14 : decode cJ25_init 14 = .ok (.aload_n 0, 1) := dk_42 (dk_at dksJ25_init_0 14 rfl rfl)
theorem dJ25_init_15 : decode cJ25_init 15 = .ok (.aload_n 2, 1) := dk_44 (dk_at dksJ25_init_0 15 rfl rfl)
theorem dJ25_init_16 : decode cJ25_init 16 = .ok (.putfield 19, 3) := dk_181 0 19 (dk_at dksJ25_init_0 16 rfl rfl)
theorem dJ25_init_19 : decode cJ25_init 19 = .ok (.aload_n 0, 1) := dk_42 (dk_at dksJ25_init_0 19 rfl rfl)
theorem dJ25_init_20 : decode cJ25_init 20 = .ok (.aload_n 3, 1) := dk_45 (dk_at dksJ25_init_0 20 rfl rfl)
theorem dJ25_init_21 : decode cJ25_init 21 = .ok (.putfield 22, 3) := dk_181 0 22 (dk_at dksJ25_init_0 21 rfl rfl)
theorem dJ25_init_24 : decode cJ25_init 24 = .ok (.return_, 1) := dk_177 (dk_at dksJ25_init_1 0 rfl rfl)
theorem q226 : (Jvm.Cond.initialized "java/util/TreeMap$Entry") ∈ lw_all := lw_g (lw_at lw_m1 41 rfl) rfl
theorem q351 : (Jvm.Cond.selects "java/util/TreeMap$Entry" ({ cls := "java/lang/Object", name := "getClass", desc := "()Ljava/lang/Class;" } : Jvm.MethodName) ({ cls := "java/lang/Object", name := "getClass", desc := "()Ljava/lang/Class;" } : Jvm.MethodName)) ∈ lw_all := lw_g (lw_at lw_m1 166 rfl) rfl
theorem q1737 : (Jvm.Cond.instantiable "java/util/TreeMap$Entry" (6 : Nat)) ∈ lw_all := lw_g (lw_at lw_m7 112 rfl) rfl
theorem q1739 : (Jvm.Cond.instanceMethod ({ cls := "java/util/TreeMap$Entry", name := "<init>", desc := "(Ljava/lang/Object;Ljava/lang/Object;Ljava/util/TreeMap$Entry;)V" } : Jvm.MethodName)) ∈ lw_all := lw_g (lw_at lw_m7 114 rfl) rfl
theorem q1740 : (Jvm.Cond.code ({ cls := "java/util/TreeMap$Entry", name := "<init>", desc := "(Ljava/lang/Object;Ljava/lang/Object;Ljava/util/TreeMap$Entry;)V" } : Jvm.MethodName) prog_67_method_1_code (4 : Nat) (Option.none : Option Jvm.ClassFile.FieldType)) ∈ lw_all := lw_g (lw_at lw_m7 115 rfl) rfl
theorem q1741 : (Jvm.Cond.methodLink "java/util/TreeMap$Entry" (3 : Nat) ({ cls := "java/lang/Object", name := "<init>", desc := "()V" } : Jvm.MethodName)) ∈ lw_all := lw_g (lw_at lw_m7 116 rfl) rfl
theorem q1742 : (Jvm.Cond.fieldLink "java/util/TreeMap$Entry" (15 : Nat) "java/util/TreeMap$Entry" "key" "Ljava/lang/Object;") ∈ lw_all := lw_g (lw_at lw_m7 117 rfl) rfl
theorem q1745 : (Jvm.Cond.fieldLink "java/util/TreeMap$Entry" (19 : Nat) "java/util/TreeMap$Entry" "value" "Ljava/lang/Object;") ∈ lw_all := lw_g (lw_at lw_m7 120 rfl) rfl
theorem q1749 : (Jvm.Cond.fieldLink "java/util/TreeMap$Entry" (22 : Nat) "java/util/TreeMap$Entry" "parent" "Ljava/util/TreeMap$Entry;") ∈ lw_all := lw_g (lw_at lw_m7 124 rfl) rfl
theorem q1751 : (Jvm.Cond.fieldLink "java/util/TreeMap$Entry" (9 : Nat) "java/util/TreeMap$Entry" "color" "Z") ∈ lw_all := lw_g (lw_at lw_m7 126 rfl) rfl
theorem q1753 : (Jvm.Cond.lays "java/util/TreeMap$Entry" "java/util/TreeMap$Entry" "key" "Ljava/lang/Object;") ∈ lw_all := lw_g (lw_at lw_m7 128 rfl) rfl
theorem q1754 : (Jvm.Cond.soleField "java/util/TreeMap$Entry" "key") ∈ lw_all := lw_g (lw_at lw_m7 129 rfl) rfl
theorem q1755 : (Jvm.Cond.lays "java/util/TreeMap$Entry" "java/util/TreeMap$Entry" "value" "Ljava/lang/Object;") ∈ lw_all := lw_g (lw_at lw_m7 130 rfl) rfl
theorem q1756 : (Jvm.Cond.soleField "java/util/TreeMap$Entry" "value") ∈ lw_all := lw_g (lw_at lw_m7 131 rfl) rfl
theorem q1757 : (Jvm.Cond.lays "java/util/TreeMap$Entry" "java/util/TreeMap$Entry" "left" "Ljava/util/TreeMap$Entry;") ∈ lw_all := lw_g (lw_at lw_m7 132 rfl) rfl
theorem q1758 : (Jvm.Cond.soleField "java/util/TreeMap$Entry" "left") ∈ lw_all := lw_g (lw_at lw_m7 133 rfl) rfl
theorem q1759 : (Jvm.Cond.lays "java/util/TreeMap$Entry" "java/util/TreeMap$Entry" "right" "Ljava/util/TreeMap$Entry;") ∈ lw_all := lw_g (lw_at lw_m7 134 rfl) rfl
theorem q1760 : (Jvm.Cond.soleField "java/util/TreeMap$Entry" "right") ∈ lw_all := lw_g (lw_at lw_m7 135 rfl) rfl
theorem q1761 : (Jvm.Cond.lays "java/util/TreeMap$Entry" "java/util/TreeMap$Entry" "parent" "Ljava/util/TreeMap$Entry;") ∈ lw_all := lw_g (lw_at lw_m7 136 rfl) rfl
theorem q1762 : (Jvm.Cond.soleField "java/util/TreeMap$Entry" "parent") ∈ lw_all := lw_g (lw_at lw_m7 137 rfl) rfl
theorem q1763 : (Jvm.Cond.lays "java/util/TreeMap$Entry" "java/util/TreeMap$Entry" "color" "Z") ∈ lw_all := lw_g (lw_at lw_m7 138 rfl) rfl
theorem q1764 : (Jvm.Cond.soleField "java/util/TreeMap$Entry" "color") ∈ lw_all := lw_g (lw_at lw_m7 139 rfl) rfl
theorem q1765 : (Jvm.Cond.superclass "java/util/TreeMap$Entry" "java/lang/Object") ∈ lw_all := lw_g (lw_at lw_m7 140 rfl) rfl
theorem q3136 : (Jvm.Cond.castable "java/util/TreeMap$Entry" "java/lang/Object") ∈ lw_tbl := lw_at lw_m13 71 rfl
theorem in_J25 : ∀ w ∈ wsJ250, w ∈ lw_all := lw_in wsJ250 [1753, 1755, 1757, 1759, 1761, 1763] (by decide +kernel) (by decide +kernel)
/-! java/util/TreeMap$EntrySet -/
set_option maxRecDepth 100000
def RJ26 : String := "java/util/TreeMap$EntrySet"
abbrev cJ26_size : ByteArray := prog_68_method_5_code
def yJ26_size : MethodName := ⟨RJ26, "size", "()I"⟩
def dkwJ26_size_0 : List UInt8 := [42, 180, 0, 1, 182, 0, 48, 172]
abbrev dktJ26_size_0 : List UInt8 := dkwJ26_size_0 ++ []
theorem dksJ26_size_0 : cJ26_size.data.toList.drop 0 = dktJ26_size_0 := by decide +kernel
theorem dJ26_size_0 : decode cJ26_size 0 = .ok (.aload_n 0, 1) := dk_42 (dk_at dksJ26_size_0 0 rfl rfl)
theorem dJ26_size_1 : decode cJ26_size 1 = .ok (.getfield 1, 3) := dk_180 0 1 (dk_at dksJ26_size_0 1 rfl rfl)
theorem dJ26_size_4 : decode cJ26_size 4 = .ok (.invokevirtual 48, 3) := dk_182 0 48 (dk_at dksJ26_size_0 4 rfl rfl)
theorem dJ26_size_7 : decode cJ26_size 7 = .ok (.ireturn, 1) := dk_172 (dk_at dksJ26_size_0 7 rfl rfl)
theorem q227 : (Jvm.Cond.initialized "java/util/TreeMap$EntrySet") ∈ lw_all := lw_g (lw_at lw_m1 42 rfl) rfl
theorem q352 : (Jvm.Cond.selects "java/util/TreeMap$EntrySet" ({ cls := "java/lang/Object", name := "getClass", desc := "()Ljava/lang/Class;" } : Jvm.MethodName) ({ cls := "java/lang/Object", name := "getClass", desc := "()Ljava/lang/Class;" } : Jvm.MethodName)) ∈ lw_all := lw_g (lw_at lw_m1 167 rfl) rfl
theorem q1549 : (Jvm.Cond.selects "java/util/TreeMap$EntrySet" ({ cls := "java/util/AbstractCollection", name := "size", desc := "()I" } : Jvm.MethodName) ({ cls := "java/util/TreeMap$EntrySet", name := "size", desc := "()I" } : Jvm.MethodName)) ∈ lw_all := lw_g (lw_at lw_m6 164 rfl) rfl
theorem q1550 : (Jvm.Cond.instanceMethod ({ cls := "java/util/TreeMap$EntrySet", name := "size", desc := "()I" } : Jvm.MethodName)) ∈ lw_all := lw_g (lw_at lw_m6 165 rfl) rfl
theorem q1551 : (Jvm.Cond.code ({ cls := "java/util/TreeMap$EntrySet", name := "size", desc := "()I" } : Jvm.MethodName) prog_68_method_5_code (1 : Nat) (Option.some Jvm.ClassFile.FieldType.int)) ∈ lw_all := lw_g (lw_at lw_m6 166 rfl) rfl
theorem q1552 : (Jvm.Cond.methodLink "java/util/TreeMap$EntrySet" (48 : Nat) ({ cls := "java/util/TreeMap", name := "size", desc := "()I" } : Jvm.MethodName)) ∈ lw_all := lw_g (lw_at lw_m6 167 rfl) rfl
theorem q3137 : (Jvm.Cond.castable "java/util/TreeMap$EntrySet" "java/lang/Object") ∈ lw_tbl := lw_at lw_m13 72 rfl
theorem q3158 : (Jvm.Cond.fieldLink "java/util/TreeMap$EntrySet" (1 : Nat) "java/util/TreeMap$EntrySet" "this$0" "Ljava/util/TreeMap;") ∈ lw_all := lw_g (lw_at lw_m13 93 rfl) rfl
/-! java/util/TreeMap$KeySet -/
set_option maxRecDepth 100000
def RJ27 : String := "java/util/TreeMap$KeySet"
def TJ27 : u_T := fun k => match k with
  | _ => ("java/util/TreeMap$KeySet", "m", "Ljava/util/NavigableMap;", true)
def tyJ27 : Nat → FieldType := fun k => match k with
  | _ => .object "java/util/NavigableMap"
abbrev wsJ270 : List Cond := u_ws RJ27 TJ27 1
theorem nmJ27 : ∀ a, a < 1 → ∀ b, b < 1 → a ≠ b → (TJ27 a).2.1 ≠ (TJ27 b).2.1 := by decide +kernel
theorem tyJ27_ok : ∀ k, k < 1 → parseFieldDescriptor (TJ27 k).2.2.1 = some (tyJ27 k) := by decide +kernel
abbrev cJ27_size : ByteArray := prog_70_method_4_code
def yJ27_size : MethodName := ⟨RJ27, "size", "()I"⟩
def dkwJ27_size_0 : List UInt8 := [42, 180, 0, 7, 185, 0, 26, 1, 0, 172]
abbrev dktJ27_size_0 : List UInt8 := dkwJ27_size_0 ++ []
theorem dksJ27_size_0 : cJ27_size.data.toList.drop 0 = dktJ27_size_0 := by decide +kernel
theorem dJ27_size_0 : decode cJ27_size 0 = .ok (.aload_n 0, 1) := dk_42 (dk_at dksJ27_size_0 0 rfl rfl)
theorem dJ27_size_1 : decode cJ27_size 1 = .ok (.getfield 7, 3) := dk_180 0 7 (dk_at dksJ27_size_0 1 rfl rfl)
theorem dJ27_size_4 : decode cJ27_size 4 = .ok (.invokeinterface 26 1, 5) := by decide +kernel
theorem dJ27_size_9 : decode cJ27_size 9 = .ok (.ireturn, 1) := dk_172 (dk_at dksJ27_size_0 9 rfl rfl)
abbrev cJ27_init : ByteArray := prog_70_method_1_code
def yJ27_init : MethodName := ⟨RJ27, "<init>", "(Ljava/util/NavigableMap;)V"⟩
def dkwJ27_init_0 : List UInt8 := [42, 183, 0, 1, 42, 43, 181, 0, 7, 177]
abbrev dktJ27_init_0 : List UInt8 := dkwJ27_init_0 ++ []
theorem dksJ27_init_0 : cJ27_init.data.toList.drop 0 = dktJ27_init_0 := by decide +kernel
theorem dJ27_init_0 : decode cJ27_init 0 = .ok (.aload_n 0, 1) := dk_42 (dk_at dksJ27_init_0 0 rfl rfl)
theorem dJ27_init_1 : decode cJ27_init 1 = .ok (.invokespecial 1, 3) := dk_183 0 1 (dk_at dksJ27_init_0 1 rfl rfl)
theorem dJ27_init_4 : decode cJ27_init 4 = .ok (.aload_n 0, 1) := dk_42 (dk_at dksJ27_init_0 4 rfl rfl)
theorem dJ27_init_5 : decode cJ27_init 5 = .ok (.aload_n 1, 1) := dk_43 (dk_at dksJ27_init_0 5 rfl rfl)
theorem dJ27_init_6 : decode cJ27_init 6 = .ok (.putfield 7, 3) := dk_181 0 7 (dk_at dksJ27_init_0 6 rfl rfl)
theorem dJ27_init_9 : decode cJ27_init 9 = .ok (.return_, 1) := dk_177 (dk_at dksJ27_init_0 9 rfl rfl)
abbrev cJ27_iterator : ByteArray := prog_70_method_2_code
def yJ27_iterator : MethodName := ⟨RJ27, "iterator", "()Ljava/util/Iterator;"⟩
def dkwJ27_iterator_1 : List UInt8 := [180, 0, 7, 192, 0, 19, 182, 0, 21, 176]
abbrev dktJ27_iterator_1 : List UInt8 := dkwJ27_iterator_1 ++ []
def dkwJ27_iterator_0 : List UInt8 := [42, 180, 0, 7, 193, 0, 13, 153, 0, 14, 42, 180, 0, 7, 192, 0, 13, 182, 0, 15, 176, 42]
abbrev dktJ27_iterator_0 : List UInt8 := dkwJ27_iterator_0 ++ dktJ27_iterator_1
theorem dksJ27_iterator_0 : cJ27_iterator.data.toList.drop 0 = dktJ27_iterator_0 := by decide +kernel
theorem dksJ27_iterator_1 : cJ27_iterator.data.toList.drop 22 = dktJ27_iterator_1 := dk_seg dksJ27_iterator_0 22 rfl rfl
theorem dJ27_iterator_0 : decode cJ27_iterator 0 = .ok (.aload_n 0, 1) := dk_42 (dk_at dksJ27_iterator_0 0 rfl rfl)
theorem dJ27_iterator_1 : decode cJ27_iterator 1 = .ok (.getfield 7, 3) := dk_180 0 7 (dk_at dksJ27_iterator_0 1 rfl rfl)
theorem dJ27_iterator_4 : decode cJ27_iterator 4 = .ok (.instanceof 13, 3) := dk_193 0 13 (dk_at dksJ27_iterator_0 4 rfl rfl)
theorem dJ27_iterator_7 : decode cJ27_iterator 7 = .ok (.ifCond .eq 14, 3) := dk_153 0 14 (dk_at dksJ27_iterator_0 7 rfl rfl)
theorem dJ27_iterator_10 : decode cJ27_iterator 10 = .ok (.aload_n 0, 1) := dk_42 (dk_at dksJ27_iterator_0 10 rfl rfl)
theorem dJ27_iterator_11 : decode cJ27_iterator 11 = .ok (.getfield 7, 3) := dk_180 0 7 (dk_at dksJ27_iterator_0 11 rfl rfl)
theorem dJ27_iterator_14 : decode cJ27_iterator 14 = .ok (.checkcast 13, 3) := dk_192 0 13 (dk_at dksJ27_iterator_0 14 rfl rfl)
theorem dJ27_iterator_17 : decode cJ27_iterator 17 = .ok (.invokevirtual 15, 3) := dk_182 0 15 (dk_at dksJ27_iterator_0 17 rfl rfl)
theorem dJ27_iterator_20 : decode cJ27_iterator 20 = .ok (.areturn, 1) := dk_176 (dk_at dksJ27_iterator_0 20 rfl rfl)
theorem dJ27_iterator_21 : decode cJ27_iterator 21 = .ok (.aload_n 0, 1) := dk_42 (dk_at dksJ27_iterator_0 21 rfl rfl)
theorem dJ27_iterator_22 : decode cJ27_iterator 22 = .ok (.getfield 7, 3) := dk_180 0 7 (dk_at dksJ27_iterator_1 0 rfl rfl)
theorem dJ27_iterator_25 : decode cJ27_iterator 25 = .ok (.checkcast 19, 3) := dk_192 0 19 (dk_at dksJ27_iterator_1 3 rfl rfl)
theorem dJ27_iterator_28 : decode cJ27_iterator 28 = .ok (.invokevirtual 21, 3) := dk_182 0 21 (dk_at dksJ27_iterator_1 6 rfl rfl)
theorem dJ27_iterator_31 : decode cJ27_iterator 31 = .ok (.areturn, 1) := dk_176 (dk_at dksJ27_iterator_1 9 rfl rfl)
theorem q228 : (Jvm.Cond.initialized "java/util/TreeMap$KeySet") ∈ lw_all := lw_g (lw_at lw_m1 43 rfl) rfl
theorem q354 : (Jvm.Cond.selects "java/util/TreeMap$KeySet" ({ cls := "java/lang/Object", name := "getClass", desc := "()Ljava/lang/Class;" } : Jvm.MethodName) ({ cls := "java/lang/Object", name := "getClass", desc := "()Ljava/lang/Class;" } : Jvm.MethodName)) ∈ lw_all := lw_g (lw_at lw_m1 169 rfl) rfl
theorem q1556 : (Jvm.Cond.selects "java/util/TreeMap$KeySet" ({ cls := "java/util/AbstractCollection", name := "size", desc := "()I" } : Jvm.MethodName) ({ cls := "java/util/TreeMap$KeySet", name := "size", desc := "()I" } : Jvm.MethodName)) ∈ lw_all := lw_g (lw_at lw_m6 171 rfl) rfl
theorem q1557 : (Jvm.Cond.instanceMethod ({ cls := "java/util/TreeMap$KeySet", name := "size", desc := "()I" } : Jvm.MethodName)) ∈ lw_all := lw_g (lw_at lw_m6 172 rfl) rfl
theorem q1558 : (Jvm.Cond.code ({ cls := "java/util/TreeMap$KeySet", name := "size", desc := "()I" } : Jvm.MethodName) prog_70_method_4_code (1 : Nat) (Option.some Jvm.ClassFile.FieldType.int)) ∈ lw_all := lw_g (lw_at lw_m6 173 rfl) rfl
theorem q1559 : (Jvm.Cond.interfaceEntry "java/util/TreeMap$KeySet" (26 : Nat)) ∈ lw_tbl := lw_at lw_m6 174 rfl
theorem q1835 : (Jvm.Cond.instantiable "java/util/TreeMap$KeySet" (1 : Nat)) ∈ lw_all := lw_g (lw_at lw_m7 210 rfl) rfl
theorem q1837 : (Jvm.Cond.instanceMethod ({ cls := "java/util/TreeMap$KeySet", name := "<init>", desc := "(Ljava/util/NavigableMap;)V" } : Jvm.MethodName)) ∈ lw_all := lw_g (lw_at lw_m7 212 rfl) rfl
theorem q1838 : (Jvm.Cond.code ({ cls := "java/util/TreeMap$KeySet", name := "<init>", desc := "(Ljava/util/NavigableMap;)V" } : Jvm.MethodName) prog_70_method_1_code (2 : Nat) (Option.none : Option Jvm.ClassFile.FieldType)) ∈ lw_all := lw_g (lw_at lw_m7 213 rfl) rfl
theorem q1839 : (Jvm.Cond.methodLink "java/util/TreeMap$KeySet" (1 : Nat) ({ cls := "java/util/AbstractSet", name := "<init>", desc := "()V" } : Jvm.MethodName)) ∈ lw_all := lw_g (lw_at lw_m7 214 rfl) rfl
theorem q1840 : (Jvm.Cond.fieldLink "java/util/TreeMap$KeySet" (7 : Nat) "java/util/TreeMap$KeySet" "m" "Ljava/util/NavigableMap;") ∈ lw_all := lw_g (lw_at lw_m7 215 rfl) rfl
theorem q1841 : (Jvm.Cond.laysFinal "java/util/TreeMap$KeySet" "java/util/TreeMap$KeySet" "m" "Ljava/util/NavigableMap;") ∈ lw_all := lw_g (lw_at lw_m7 216 rfl) rfl
theorem q1842 : (Jvm.Cond.soleField "java/util/TreeMap$KeySet" "m") ∈ lw_all := lw_g (lw_at lw_m7 217 rfl) rfl
theorem q1843 : (Jvm.Cond.superclass "java/util/TreeMap$KeySet" "java/util/AbstractSet") ∈ lw_all := lw_g (lw_at lw_m7 218 rfl) rfl
theorem q1848 : (Jvm.Cond.castable "java/util/TreeMap$KeySet" "java/util/NavigableSet") ∈ lw_tbl := lw_at lw_m7 223 rfl
theorem q1849 : (Jvm.Cond.selects "java/util/TreeMap$KeySet" ({ cls := "java/util/NavigableSet", name := "iterator", desc := "()Ljava/util/Iterator;" } : Jvm.MethodName) ({ cls := "java/util/TreeMap$KeySet", name := "iterator", desc := "()Ljava/util/Iterator;" } : Jvm.MethodName)) ∈ lw_all := lw_g (lw_at lw_m7 224 rfl) rfl
theorem q1850 : (Jvm.Cond.unhidden "java/util/TreeMap$KeySet" "iterator" "()Ljava/util/Iterator;") ∈ lw_tbl := lw_at lw_m7 225 rfl
theorem q1851 : (Jvm.Cond.instanceMethod ({ cls := "java/util/TreeMap$KeySet", name := "iterator", desc := "()Ljava/util/Iterator;" } : Jvm.MethodName)) ∈ lw_all := lw_g (lw_at lw_m7 226 rfl) rfl
theorem q1852 : (Jvm.Cond.publicMethod ({ cls := "java/util/TreeMap$KeySet", name := "iterator", desc := "()Ljava/util/Iterator;" } : Jvm.MethodName)) ∈ lw_tbl := lw_at lw_m7 227 rfl
theorem q1853 : (Jvm.Cond.code ({ cls := "java/util/TreeMap$KeySet", name := "iterator", desc := "()Ljava/util/Iterator;" } : Jvm.MethodName) prog_70_method_2_code (1 : Nat) (Option.some (Jvm.ClassFile.FieldType.object "java/util/Iterator"))) ∈ lw_all := lw_g (lw_at lw_m7 228 rfl) rfl
theorem q1854 : (Jvm.Cond.classLink "java/util/TreeMap$KeySet" (13 : Nat) "java/util/TreeMap") ∈ lw_all := lw_g (lw_at lw_m7 229 rfl) rfl
theorem q1855 : (Jvm.Cond.methodLink "java/util/TreeMap$KeySet" (15 : Nat) ({ cls := "java/util/TreeMap", name := "keyIterator", desc := "()Ljava/util/Iterator;" } : Jvm.MethodName)) ∈ lw_all := lw_g (lw_at lw_m7 230 rfl) rfl
theorem q1885 : (Jvm.Cond.classLink "java/util/TreeMap$KeySet" (19 : Nat) "java/util/TreeMap$NavigableSubMap") ∈ lw_all := lw_g (lw_at lw_m8 20 rfl) rfl
theorem q1886 : (Jvm.Cond.methodLink "java/util/TreeMap$KeySet" (21 : Nat) ({ cls := "java/util/TreeMap$NavigableSubMap", name := "keyIterator", desc := "()Ljava/util/Iterator;" } : Jvm.MethodName)) ∈ lw_all := lw_g (lw_at lw_m8 21 rfl) rfl
theorem q3138 : (Jvm.Cond.castable "java/util/TreeMap$KeySet" "java/lang/Object") ∈ lw_tbl := lw_at lw_m13 73 rfl
theorem in_J27 : ∀ w ∈ wsJ270, w ∈ lw_all := lw_in wsJ270 [1841] (by decide +kernel) (by decide +kernel)
/-! java/util/TreeMap$PrivateEntryIterator -/
set_option maxRecDepth 100000
def RJ28 : String := "java/util/TreeMap$PrivateEntryIterator"
abbrev cJ28_hasNext : ByteArray := prog_72_method_2_code
def yJ28_hasNext : MethodName := ⟨RJ28, "hasNext", "()Z"⟩
def dkwJ28_hasNext_0 : List UInt8 := [42, 180, 0, 26, 198, 0, 7, 4, 167, 0, 4, 3, 172]
abbrev dktJ28_hasNext_0 : List UInt8 := dkwJ28_hasNext_0 ++ []
theorem dksJ28_hasNext_0 : cJ28_hasNext.data.toList.drop 0 = dktJ28_hasNext_0 := by decide +kernel
theorem dJ28_hasNext_0 : decode cJ28_hasNext 0 = .ok (.aload_n 0, 1) := dk_42 (dk_at dksJ28_hasNext_0 0 rfl rfl)
theorem dJ28_hasNext_1 : decode cJ28_hasNext 1 = .ok (.getfield 26, 3) := dk_180 0 26 (dk_at dksJ28_hasNext_0 1 rfl rfl)
theorem dJ28_hasNext_4 : decode cJ28_hasNext 4 = .ok (.ifnull 7, 3) := dk_198 0 7 (dk_at dksJ28_hasNext_0 4 rfl rfl)
theorem dJ28_hasNext_7 : decode cJ28_hasNext 7 = .ok (.iconst 1, 1) := dk_4 (dk_at dksJ28_hasNext_0 7 rfl rfl)
theorem dJ28_hasNext_8 : decode cJ28_hasNext 8 = .ok (.goto 4, 3) := dk_167 0 4 (dk_at dksJ28_hasNext_0 8 rfl rfl)
theorem dJ28_hasNext_11 : decode cJ28_hasNext 11 = .ok (.iconst 0, 1) := dk_3 (dk_at dksJ28_hasNext_0 11 rfl rfl)
theorem dJ28_hasNext_12 : decode cJ28_hasNext 12 = .ok (.ireturn, 1) := dk_172 (dk_at dksJ28_hasNext_0 12 rfl rfl)
abbrev cJ28_nextEntry : ByteArray := prog_72_method_3_code
def yJ28_nextEntry : MethodName := ⟨RJ28, "nextEntry", "()Ljava/util/TreeMap$Entry;"⟩
def dkwJ28_nextEntry_2 : List UInt8 := [43, 181, 0, 22, 43, 176]
abbrev dktJ28_nextEntry_2 : List UInt8 := dkwJ28_nextEntry_2 ++ []
def dkwJ28_nextEntry_1 : List UInt8 := [42, 180, 0, 19, 159, 0, 11, 187, 0, 32, 89, 183, 0, 34, 191, 42, 43, 184, 0, 35, 181, 0, 26, 42]
abbrev dktJ28_nextEntry_1 : List UInt8 := dkwJ28_nextEntry_1 ++ dktJ28_nextEntry_2
def dkwJ28_nextEntry_0 : List UInt8 := [42, 180, 0, 26, 76, 43, 199, 0, 11, 187, 0, 29, 89, 183, 0, 31, 191, 42, 180, 0, 1, 180, 0, 13]
abbrev dktJ28_nextEntry_0 : List UInt8 := dkwJ28_nextEntry_0 ++ dktJ28_nextEntry_1
theorem dksJ28_nextEntry_0 : cJ28_nextEntry.data.toList.drop 0 = dktJ28_nextEntry_0 := by decide +kernel
theorem dksJ28_nextEntry_1 : cJ28_nextEntry.data.toList.drop 24 = dktJ28_nextEntry_1 := dk_seg dksJ28_nextEntry_0 24 rfl rfl
theorem dksJ28_nextEntry_2 : cJ28_nextEntry.data.toList.drop 48 = dktJ28_nextEntry_2 := dk_seg dksJ28_nextEntry_1 24 rfl rfl
theorem dJ28_nextEntry_0 : decode cJ28_nextEntry 0 = .ok (.aload_n 0, 1) := dk_42 (dk_at dksJ28_nextEntry_0 0 rfl rfl)
theorem dJ28_nextEntry_1 : decode cJ28_nextEntry 1 = .ok (.getfield 26, 3) := dk_180 0 26 (dk_at dksJ28_nextEntry_0 1 rfl rfl)
theorem dJ28_nextEntry_4 : decode cJ28_nextEntry 4 = .ok (.astore_n 1, 1) := dk_76 (dk_at dksJ28_nextEntry_0 4 rfl rfl)
theorem dJ28_nextEntry_5 : decode cJ28_nextEntry 5 = .ok (.aload_n 1, 1) := dk_43 (dk_at dksJ28_nextEntry_0 5 rfl rfl)
theorem dJ28_nextEntry_6 : decode cJ28_nextEntry 6 = .ok (.ifnonnull 11, 3) := dk_199 0 11 (dk_at dksJ28_nextEntry_0 6 rfl rfl)
theorem dJ28_nextEntry_9 : decode cJ28_nextEntry 9 = .ok (.new 29, 3) := dk_187 0 29 (dk_at dksJ28_nextEntry_0 9 rfl rfl)
theorem dJ28_nextEntry_12 : decode cJ28_nextEntry 12 = .ok (.dup, 1) := dk_89 (dk_at dksJ28_nextEntry_0 12 rfl rfl)
theorem dJ28_nextEntry_13 : decode cJ28_nextEntry 13 = .ok (.invokespecial 31, 3) := dk_183 0 31 (dk_at dksJ28_nextEntry_0 13 rfl rfl)
theorem dJ28_nextEntry_16 : decode cJ28_nextEntry 16 = .ok (.athrow, 1) := dk_191 (dk_at dksJ28_nextEntry_0 16 rfl rfl)
theorem dJ28_nextEntry_17 : decode cJ28_nextEntry 17 = .ok (.aload_n 0, 1) := dk_42 (dk_at dksJ28_nextEntry_0 17 rfl rfl)
theorem dJ28_nextEntry_18 : decode cJ28_nextEntry 18 = .ok (.getfield 1, 3) := dk_180 0 1 (dk_at dksJ28_nextEntry_0 18 rfl rfl)
theorem dJ28_nextEntry_21 : decode cJ28_nextEntry 21 = .ok (.getfield 13, 3) := dk_180 0 13 (dk_at dksJ28_nextEntry_0 21 rfl rfl)
theorem dJ28_nextEntry_24 : decode cJ28_nextEntry 24 = .ok (.aload_n 0, 1) := dk_42 (dk_at dksJ28_nextEntry_1 0 rfl rfl)
theorem dJ28_nextEntry_25 : decode cJ28_nextEntry 25 = .ok (.getfield 19, 3) := dk_180 0 19 (dk_at dksJ28_nextEntry_1 1 rfl rfl)
theorem dJ28_nextEntry_28 : decode cJ28_nextEntry 28 = .ok (.if_icmp .eq 11, 3) := dk_159 0 11 (dk_at dksJ28_nextEntry_1 4 rfl rfl)
theorem dJ28_nextEntry_31 : decode cJ28_nextEntry 31 = .ok (.new 32, 3) := dk_187 0 32 (dk_at dksJ28_nextEntry_1 7 rfl rfl)
theorem dJ28_nextEntry_34 : decode cJ28_nextEntry 34 = .ok (.dup, 1) := dk_89 (dk_at dksJ28_nextEntry_1 10 rfl rfl)
theorem dJ28_nextEntry_35 : decode cJ28_nextEntry 35 = .ok (.invokespecial 34, 3) := dk_183 0 34 (dk_at dksJ28_nextEntry_1 11 rfl rfl)
theorem dJ28_nextEntry_38 : decode cJ28_nextEntry 38 = .ok (.athrow, 1) := dk_191 (dk_at dksJ28_nextEntry_1 14 rfl rfl)
theorem dJ28_nextEntry_39 : decode cJ28_nextEntry 39 = .ok (.aload_n 0, 1) := dk_42 (dk_at dksJ28_nextEntry_1 15 rfl rfl)
theorem dJ28_nextEntry_40 : decode cJ28_nextEntry 40 = .ok (.aload_n 1, 1) := dk_43 (dk_at dksJ28_nextEntry_1 16 rfl rfl)
theorem dJ28_nextEntry_41 : decode cJ28_nextEntry 41 = .ok (.invokestatic 35, 3) := dk_184 0 35 (dk_at dksJ28_nextEntry_1 17 rfl rfl)
theorem dJ28_nextEntry_44 : decode cJ28_nextEntry 44 = .ok (.putfield 26, 3) := dk_181 0 26 (dk_at dksJ28_nextEntry_1 20 rfl rfl)
theorem dJ28_nextEntry_47 : decode cJ28_nextEntry 47 = .ok (.aload_n 0, 1) := dk_42 (dk_at dksJ28_nextEntry_1 23 rfl rfl)
theorem dJ28_nextEntry_48 : decode cJ28_nextEntry 48 = .ok (.aload_n 1, 1) := dk_43 (dk_at dksJ28_nextEntry_2 0 rfl rfl)
theorem dJ28_nextEntry_49 : decode cJ28_nextEntry 49 = .ok (.putfield 22, 3) := dk_181 0 22 (dk_at dksJ28_nextEntry_2 1 rfl rfl)
theorem dJ28_nextEntry_52 : decode cJ28_nextEntry 52 = .ok (.aload_n 1, 1) := dk_43 (dk_at dksJ28_nextEntry_2 4 rfl rfl)
theorem dJ28_nextEntry_53 : decode cJ28_nextEntry 53 = .ok (.areturn, 1) := dk_176 (dk_at dksJ28_nextEntry_2 5 rfl rfl)
abbrev cJ28_init : ByteArray := prog_72_method_1_code
def yJ28_init : MethodName := ⟨RJ28, "<init>", "(Ljava/util/TreeMap;Ljava/util/TreeMap$Entry;)V"⟩
def dkwJ28_init_1 : List UInt8 := [181, 0, 26, 177]
abbrev dktJ28_init_1 : List UInt8 := dkwJ28_init_1 ++ []
def dkwJ28_init_0 : List UInt8 := [42, 43, 181, 0, 1, 42, 183, 0, 7, 42, 43, 180, 0, 13, 181, 0, 19, 42, 1, 181, 0, 22, 42, 44]
abbrev dktJ28_init_0 : List UInt8 := dkwJ28_init_0 ++ dktJ28_init_1
theorem dksJ28_init_0 : cJ28_init.data.toList.drop 0 = dktJ28_init_0 := by decide +kernel
theorem dksJ28_init_1 : cJ28_init.data.toList.drop 24 = dktJ28_init_1 := dk_seg dksJ28_init_0 24 rfl rfl
theorem dJ28_init_0 : decode cJ28_init 0 = .ok (.aload_n 0, 1) := dk_42 (dk_at dksJ28_init_0 0 rfl rfl)
theorem dJ28_init_1 : decode cJ28_init 1 = .ok (.aload_n 1, 1) := dk_43 (dk_at dksJ28_init_0 1 rfl rfl)
theorem dJ28_init_2 : decode cJ28_init 2 = .ok (.putfield 1, 3) := dk_181 0 1 (dk_at dksJ28_init_0 2 rfl rfl)
theorem dJ28_init_5 : decode cJ28_init 5 = .ok (.aload_n 0, 1) := dk_42 (dk_at dksJ28_init_0 5 rfl rfl)
theorem dJ28_init_6 : decode cJ28_init 6 = .ok (.invokespecial 7, 3) := dk_183 0 7 (dk_at dksJ28_init_0 6 rfl rfl)
theorem dJ28_init_9 : decode cJ28_init 9 = .ok (.aload_n 0, 1) := dk_42 (dk_at dksJ28_init_0 9 rfl rfl)
theorem dJ28_init_10 : decode cJ28_init 10 = .ok (.aload_n 1, 1) := dk_43 (dk_at dksJ28_init_0 10 rfl rfl)
theorem dJ28_init_11 : decode cJ28_init 11 = .ok (.getfield 13, 3) := dk_180 0 13 (dk_at dksJ28_init_0 11 rfl rfl)
theorem dJ28_init_14 : decode cJ28_init 14 = .ok (.putfield 19, 3) := dk_181 0 19 (dk_at dksJ28_init_0 14 rfl rfl)
theorem dJ28_init_17 : decode cJ28_init 17 = .ok (.aload_n 0, 1) := dk_42 (dk_at dksJ28_init_0 17 rfl rfl)
theorem dJ28_init_18 : decode cJ28_init 18 = .ok (.aconst_null, 1) := dk_1 (dk_at dksJ28_init_0 18 rfl rfl)
theorem dJ28_init_19 : decode cJ28_init 19 = .ok (.putfield 22, 3) := dk_181 0 22 (dk_at dksJ28_init_0 19 rfl rfl)
theorem dJ28_init_22 : decode cJ28_init 22 = .ok (.aload_n 0, 1) := dk_42 (dk_at dksJ28_init_0 22 rfl rfl)
theorem dJ28_init_23 : decode cJ28_init 23 = .ok (.aload_n 2, 1) := dk_44 (dk_at dksJ28_init_0 23 rfl rfl)
theorem dJ28_init_24 : decode cJ28_init 24 = .ok (.putfield 26, 3) := dk_181 0 26 (dk_at dksJ28_init_1 0 rfl rfl)
theorem dJ28_init_27 : decode cJ28_init 27 = .ok (.return_, 1) := dk_177 (dk_at dksJ28_init_1 3 rfl rfl)
theorem q229 : (Jvm.Cond.initialized "java/util/TreeMap$PrivateEntryIterator") ∈ lw_all := lw_g (lw_at lw_m1 44 rfl) rfl
theorem q1071 : (Jvm.Cond.fieldLinkNest "java/util/TreeMap$PrivateEntryIterator" (13 : Nat) "java/util/TreeMap" "modCount" "I" "java/util/TreeMap") ∈ lw_tbl := lw_at lw_m4 166 rfl
theorem q1616 : (Jvm.Cond.instanceMethod ({ cls := "java/util/TreeMap$PrivateEntryIterator", name := "hasNext", desc := "()Z" } : Jvm.MethodName)) ∈ lw_all := lw_g (lw_at lw_m6 231 rfl) rfl
theorem q1617 : (Jvm.Cond.publicMethod ({ cls := "java/util/TreeMap$PrivateEntryIterator", name := "hasNext", desc := "()Z" } : Jvm.MethodName)) ∈ lw_tbl := lw_at lw_m6 232 rfl
theorem q1618 : (Jvm.Cond.code ({ cls := "java/util/TreeMap$PrivateEntryIterator", name := "hasNext", desc := "()Z" } : Jvm.MethodName) prog_72_method_2_code (1 : Nat) (Option.some Jvm.ClassFile.FieldType.boolean)) ∈ lw_all := lw_g (lw_at lw_m6 233 rfl) rfl
theorem q1639 : (Jvm.Cond.declares ({ cls := "java/util/TreeMap$PrivateEntryIterator", name := "nextEntry", desc := "()Ljava/util/TreeMap$Entry;" } : Jvm.MethodName)) ∈ lw_tbl := lw_at lw_m7 14 rfl
theorem q1641 : (Jvm.Cond.instanceMethod ({ cls := "java/util/TreeMap$PrivateEntryIterator", name := "nextEntry", desc := "()Ljava/util/TreeMap$Entry;" } : Jvm.MethodName)) ∈ lw_all := lw_g (lw_at lw_m7 16 rfl) rfl
theorem q1642 : (Jvm.Cond.code ({ cls := "java/util/TreeMap$PrivateEntryIterator", name := "nextEntry", desc := "()Ljava/util/TreeMap$Entry;" } : Jvm.MethodName) prog_72_method_3_code (2 : Nat) (Option.some (Jvm.ClassFile.FieldType.object "java/util/TreeMap$Entry"))) ∈ lw_all := lw_g (lw_at lw_m7 17 rfl) rfl
theorem q1643 : (Jvm.Cond.methodLink "java/util/TreeMap$PrivateEntryIterator" (35 : Nat) ({ cls := "java/util/TreeMap", name := "successor", desc := "(Ljava/util/TreeMap$Entry;)Ljava/util/TreeMap$Entry;" } : Jvm.MethodName)) ∈ lw_all := lw_g (lw_at lw_m7 18 rfl) rfl
theorem q1869 : (Jvm.Cond.instanceMethod ({ cls := "java/util/TreeMap$PrivateEntryIterator", name := "<init>", desc := "(Ljava/util/TreeMap;Ljava/util/TreeMap$Entry;)V" } : Jvm.MethodName)) ∈ lw_all := lw_g (lw_at lw_m8 4 rfl) rfl
theorem q1870 : (Jvm.Cond.code ({ cls := "java/util/TreeMap$PrivateEntryIterator", name := "<init>", desc := "(Ljava/util/TreeMap;Ljava/util/TreeMap$Entry;)V" } : Jvm.MethodName) prog_72_method_1_code (3 : Nat) (Option.none : Option Jvm.ClassFile.FieldType)) ∈ lw_all := lw_g (lw_at lw_m8 5 rfl) rfl
theorem q1871 : (Jvm.Cond.methodLink "java/util/TreeMap$PrivateEntryIterator" (7 : Nat) ({ cls := "java/lang/Object", name := "<init>", desc := "()V" } : Jvm.MethodName)) ∈ lw_all := lw_g (lw_at lw_m8 6 rfl) rfl
theorem q1872 : (Jvm.Cond.fieldLink "java/util/TreeMap$PrivateEntryIterator" (26 : Nat) "java/util/TreeMap$PrivateEntryIterator" "next" "Ljava/util/TreeMap$Entry;") ∈ lw_all := lw_g (lw_at lw_m8 7 rfl) rfl
theorem q1873 : (Jvm.Cond.fieldLink "java/util/TreeMap$PrivateEntryIterator" (22 : Nat) "java/util/TreeMap$PrivateEntryIterator" "lastReturned" "Ljava/util/TreeMap$Entry;") ∈ lw_all := lw_g (lw_at lw_m8 8 rfl) rfl
theorem q1874 : (Jvm.Cond.fieldLink "java/util/TreeMap$PrivateEntryIterator" (19 : Nat) "java/util/TreeMap$PrivateEntryIterator" "expectedModCount" "I") ∈ lw_all := lw_g (lw_at lw_m8 9 rfl) rfl
theorem q1875 : (Jvm.Cond.fieldLink "java/util/TreeMap$PrivateEntryIterator" (1 : Nat) "java/util/TreeMap$PrivateEntryIterator" "this$0" "Ljava/util/TreeMap;") ∈ lw_all := lw_g (lw_at lw_m8 10 rfl) rfl
theorem q1877 : (Jvm.Cond.soleField "java/util/TreeMap$PrivateEntryIterator" "next") ∈ lw_all := lw_g (lw_at lw_m8 12 rfl) rfl
theorem q1879 : (Jvm.Cond.soleField "java/util/TreeMap$PrivateEntryIterator" "lastReturned") ∈ lw_all := lw_g (lw_at lw_m8 14 rfl) rfl
theorem q1881 : (Jvm.Cond.soleField "java/util/TreeMap$PrivateEntryIterator" "expectedModCount") ∈ lw_all := lw_g (lw_at lw_m8 16 rfl) rfl
theorem q1883 : (Jvm.Cond.soleField "java/util/TreeMap$PrivateEntryIterator" "this$0") ∈ lw_all := lw_g (lw_at lw_m8 18 rfl) rfl
/-! java/util/TreeMap$KeyIterator -/
set_option maxRecDepth 100000
def RJ29 : String := "java/util/TreeMap$KeyIterator"
def TJ29 : u_T := fun k => match k with
  | 0 => ("java/util/TreeMap$PrivateEntryIterator", "next", "Ljava/util/TreeMap$Entry;", false)
  | 1 => ("java/util/TreeMap$PrivateEntryIterator", "lastReturned", "Ljava/util/TreeMap$Entry;", false)
  | 2 => ("java/util/TreeMap$PrivateEntryIterator", "expectedModCount", "I", false)
  | _ => ("java/util/TreeMap$PrivateEntryIterator", "this$0", "Ljava/util/TreeMap;", true)
def tyJ29 : Nat → FieldType := fun k => match k with
  | 0 => .object "java/util/TreeMap$Entry"
  | 1 => .object "java/util/TreeMap$Entry"
  | 2 => .int
  | _ => .object "java/util/TreeMap"
abbrev wsJ290 : List Cond := u_ws RJ29 TJ29 4
theorem nmJ29 : ∀ a, a < 4 → ∀ b, b < 4 → a ≠ b → (TJ29 a).2.1 ≠ (TJ29 b).2.1 := by decide +kernel
theorem tyJ29_ok : ∀ k, k < 4 → parseFieldDescriptor (TJ29 k).2.2.1 = some (tyJ29 k) := by decide +kernel
abbrev cJ29_next : ByteArray := prog_69_method_2_code
def yJ29_next : MethodName := ⟨RJ29, "next", "()Ljava/lang/Object;"⟩
def dkwJ29_next_0 : List UInt8 := [42, 182, 0, 7, 180, 0, 13, 176]
abbrev dktJ29_next_0 : List UInt8 := dkwJ29_next_0 ++ []
theorem dksJ29_next_0 : cJ29_next.data.toList.drop 0 = dktJ29_next_0 := by decide +kernel
theorem dJ29_next_0 : decode cJ29_next 0 = .ok (.aload_n 0, 1) := dk_42 (dk_at dksJ29_next_0 0 rfl rfl)
theorem dJ29_next_1 : decode cJ29_next 1 = .ok (.invokevirtual 7, 3) := dk_182 0 7 (dk_at dksJ29_next_0 1 rfl rfl)
theorem dJ29_next_4 : decode cJ29_next 4 = .ok (.getfield 13, 3) := dk_180 0 13 (dk_at dksJ29_next_0 4 rfl rfl)
theorem dJ29_next_7 : decode cJ29_next 7 = .ok (.areturn, 1) := dk_176 (dk_at dksJ29_next_0 7 rfl rfl)
abbrev cJ29_init : ByteArray := prog_69_method_1_code
def yJ29_init : MethodName := ⟨RJ29, "<init>", "(Ljava/util/TreeMap;Ljava/util/TreeMap$Entry;)V"⟩
def dkwJ29_init_0 : List UInt8 := [42, 43, 44, 183, 0, 1, 177]
abbrev dktJ29_init_0 : List UInt8 := dkwJ29_init_0 ++ []
theorem dksJ29_init_0 : cJ29_init.data.toList.drop 0 = dktJ29_init_0 := by decide +kernel
theorem dJ29_init_0 : decode cJ29_init 0 = .ok (.aload_n 0, 1) := dk_42 (dk_at dksJ29_init_0 0 rfl rfl)
theorem dJ29_init_1 : decode cJ29_init 1 = .ok (.aload_n 1, 1) := dk_43 (dk_at dksJ29_init_0 1 rfl rfl)
theorem dJ29_init_2 : decode cJ29_init 2 = .ok (.aload_n 2, 1) := dk_44 (dk_at dksJ29_init_0 2 rfl rfl)
theorem dJ29_init_3 : decode cJ29_init 3 = .ok (.invokespecial 1, 3) := dk_183 0 1 (dk_at dksJ29_init_0 3 rfl rfl)
theorem dJ29_init_6 : decode cJ29_init 6 = .ok (.return_, 1) := dk_177 (dk_at dksJ29_init_0 6 rfl rfl)
theorem q230 : (Jvm.Cond.initialized "java/util/TreeMap$KeyIterator") ∈ lw_all := lw_g (lw_at lw_m1 45 rfl) rfl
theorem q353 : (Jvm.Cond.selects "java/util/TreeMap$KeyIterator" ({ cls := "java/lang/Object", name := "getClass", desc := "()Ljava/lang/Class;" } : Jvm.MethodName) ({ cls := "java/lang/Object", name := "getClass", desc := "()Ljava/lang/Class;" } : Jvm.MethodName)) ∈ lw_all := lw_g (lw_at lw_m1 168 rfl) rfl
theorem q1613 : (Jvm.Cond.castable "java/util/TreeMap$KeyIterator" "java/util/Iterator") ∈ lw_tbl := lw_at lw_m6 228 rfl
theorem q1614 : (Jvm.Cond.selects "java/util/TreeMap$KeyIterator" ({ cls := "java/util/Iterator", name := "hasNext", desc := "()Z" } : Jvm.MethodName) ({ cls := "java/util/TreeMap$PrivateEntryIterator", name := "hasNext", desc := "()Z" } : Jvm.MethodName)) ∈ lw_all := lw_g (lw_at lw_m6 229 rfl) rfl
theorem q1615 : (Jvm.Cond.unhidden "java/util/TreeMap$KeyIterator" "hasNext" "()Z") ∈ lw_tbl := lw_at lw_m6 230 rfl
theorem q1632 : (Jvm.Cond.selects "java/util/TreeMap$KeyIterator" ({ cls := "java/util/Iterator", name := "next", desc := "()Ljava/lang/Object;" } : Jvm.MethodName) ({ cls := "java/util/TreeMap$KeyIterator", name := "next", desc := "()Ljava/lang/Object;" } : Jvm.MethodName)) ∈ lw_all := lw_g (lw_at lw_m7 7 rfl) rfl
theorem q1633 : (Jvm.Cond.unhidden "java/util/TreeMap$KeyIterator" "next" "()Ljava/lang/Object;") ∈ lw_tbl := lw_at lw_m7 8 rfl
theorem q1634 : (Jvm.Cond.instanceMethod ({ cls := "java/util/TreeMap$KeyIterator", name := "next", desc := "()Ljava/lang/Object;" } : Jvm.MethodName)) ∈ lw_all := lw_g (lw_at lw_m7 9 rfl) rfl
theorem q1635 : (Jvm.Cond.publicMethod ({ cls := "java/util/TreeMap$KeyIterator", name := "next", desc := "()Ljava/lang/Object;" } : Jvm.MethodName)) ∈ lw_tbl := lw_at lw_m7 10 rfl
theorem q1636 : (Jvm.Cond.code ({ cls := "java/util/TreeMap$KeyIterator", name := "next", desc := "()Ljava/lang/Object;" } : Jvm.MethodName) prog_69_method_2_code (1 : Nat) (Option.some (Jvm.ClassFile.FieldType.object "java/lang/Object"))) ∈ lw_all := lw_g (lw_at lw_m7 11 rfl) rfl
theorem q1637 : (Jvm.Cond.methodLink "java/util/TreeMap$KeyIterator" (7 : Nat) ({ cls := "java/util/TreeMap$KeyIterator", name := "nextEntry", desc := "()Ljava/util/TreeMap$Entry;" } : Jvm.MethodName)) ∈ lw_all := lw_g (lw_at lw_m7 12 rfl) rfl
theorem q1638 : (Jvm.Cond.sameMethod "java/util/TreeMap$KeyIterator" "java/util/TreeMap$PrivateEntryIterator" "nextEntry" "()Ljava/util/TreeMap$Entry;") ∈ lw_all := lw_g (lw_at lw_m7 13 rfl) rfl
theorem q1640 : (Jvm.Cond.selects "java/util/TreeMap$KeyIterator" ({ cls := "java/util/TreeMap$KeyIterator", name := "nextEntry", desc := "()Ljava/util/TreeMap$Entry;" } : Jvm.MethodName) ({ cls := "java/util/TreeMap$PrivateEntryIterator", name := "nextEntry", desc := "()Ljava/util/TreeMap$Entry;" } : Jvm.MethodName)) ∈ lw_all := lw_g (lw_at lw_m7 15 rfl) rfl
theorem q1743 : (Jvm.Cond.fieldLink "java/util/TreeMap$KeyIterator" (13 : Nat) "java/util/TreeMap$Entry" "key" "Ljava/lang/Object;") ∈ lw_all := lw_g (lw_at lw_m7 118 rfl) rfl
theorem q1860 : (Jvm.Cond.instantiable "java/util/TreeMap$KeyIterator" (4 : Nat)) ∈ lw_all := lw_g (lw_at lw_m7 235 rfl) rfl
theorem q1866 : (Jvm.Cond.instanceMethod ({ cls := "java/util/TreeMap$KeyIterator", name := "<init>", desc := "(Ljava/util/TreeMap;Ljava/util/TreeMap$Entry;)V" } : Jvm.MethodName)) ∈ lw_all := lw_g (lw_at lw_m8 1 rfl) rfl
theorem q1867 : (Jvm.Cond.code ({ cls := "java/util/TreeMap$KeyIterator", name := "<init>", desc := "(Ljava/util/TreeMap;Ljava/util/TreeMap$Entry;)V" } : Jvm.MethodName) prog_69_method_1_code (3 : Nat) (Option.none : Option Jvm.ClassFile.FieldType)) ∈ lw_all := lw_g (lw_at lw_m8 2 rfl) rfl
theorem q1868 : (Jvm.Cond.methodLink "java/util/TreeMap$KeyIterator" (1 : Nat) ({ cls := "java/util/TreeMap$PrivateEntryIterator", name := "<init>", desc := "(Ljava/util/TreeMap;Ljava/util/TreeMap$Entry;)V" } : Jvm.MethodName)) ∈ lw_all := lw_g (lw_at lw_m8 3 rfl) rfl
theorem q1876 : (Jvm.Cond.lays "java/util/TreeMap$KeyIterator" "java/util/TreeMap$PrivateEntryIterator" "next" "Ljava/util/TreeMap$Entry;") ∈ lw_all := lw_g (lw_at lw_m8 11 rfl) rfl
theorem q1878 : (Jvm.Cond.lays "java/util/TreeMap$KeyIterator" "java/util/TreeMap$PrivateEntryIterator" "lastReturned" "Ljava/util/TreeMap$Entry;") ∈ lw_all := lw_g (lw_at lw_m8 13 rfl) rfl
theorem q1880 : (Jvm.Cond.lays "java/util/TreeMap$KeyIterator" "java/util/TreeMap$PrivateEntryIterator" "expectedModCount" "I") ∈ lw_all := lw_g (lw_at lw_m8 15 rfl) rfl
theorem q1882 : (Jvm.Cond.laysFinal "java/util/TreeMap$KeyIterator" "java/util/TreeMap$PrivateEntryIterator" "this$0" "Ljava/util/TreeMap;") ∈ lw_all := lw_g (lw_at lw_m8 17 rfl) rfl
theorem q1884 : (Jvm.Cond.superclass "java/util/TreeMap$KeyIterator" "java/util/TreeMap$PrivateEntryIterator") ∈ lw_all := lw_g (lw_at lw_m8 19 rfl) rfl
theorem q3139 : (Jvm.Cond.castable "java/util/TreeMap$KeyIterator" "java/lang/Object") ∈ lw_tbl := lw_at lw_m13 74 rfl
theorem in_J29 : ∀ w ∈ wsJ290, w ∈ lw_all := lw_in wsJ290 [1876, 1878, 1880, 1882] (by decide +kernel) (by decide +kernel)
/-! java/util/Objects -/
set_option maxRecDepth 100000
def RJ3 : String := "java/util/Objects"
abbrev cJ3_checkIndex : ByteArray := prog_56_method_17_code
def yJ3_checkIndex : MethodName := ⟨RJ3, "checkIndex", "(II)I"⟩
def dkwJ3_checkIndex_0 : List UInt8 := [26, 27, 1, 184, 0, 105, 172]
abbrev dktJ3_checkIndex_0 : List UInt8 := dkwJ3_checkIndex_0 ++ []
theorem dksJ3_checkIndex_0 : cJ3_checkIndex.data.toList.drop 0 = dktJ3_checkIndex_0 := by decide +kernel
theorem dJ3_checkIndex_0 : decode cJ3_checkIndex 0 = .ok (.iload_n 0, 1) := dk_26 (dk_at dksJ3_checkIndex_0 0 rfl rfl)
theorem dJ3_checkIndex_1 : decode cJ3_checkIndex 1 = .ok (.iload_n 1, 1) := dk_27 (dk_at dksJ3_checkIndex_0 1 rfl rfl)
theorem dJ3_checkIndex_2 : decode cJ3_checkIndex 2 = .ok (.aconst_null, 1) := dk_1 (dk_at dksJ3_checkIndex_0 2 rfl rfl)
theorem dJ3_checkIndex_3 : decode cJ3_checkIndex 3 = .ok (.invokestatic 105, 3) := dk_184 0 105 (dk_at dksJ3_checkIndex_0 3 rfl rfl)
theorem dJ3_checkIndex_6 : decode cJ3_checkIndex 6 = .ok (.ireturn, 1) := dk_172 (dk_at dksJ3_checkIndex_0 6 rfl rfl)
abbrev cJ3_requireNonNull : ByteArray := prog_56_method_10_code
def yJ3_requireNonNull : MethodName := ⟨RJ3, "requireNonNull", "(Ljava/lang/Object;)Ljava/lang/Object;"⟩
def dkwJ3_requireNonNull_0 : List UInt8 := [42, 199, 0, 11, 187, 0, 84, 89, 183, 0, 86, 191, 42, 176]
abbrev dktJ3_requireNonNull_0 : List UInt8 := dkwJ3_requireNonNull_0 ++ []
theorem dksJ3_requireNonNull_0 : cJ3_requireNonNull.data.toList.drop 0 = dktJ3_requireNonNull_0 := by decide +kernel
theorem dJ3_requireNonNull_0 : decode cJ3_requireNonNull 0 = .ok (.aload_n 0, 1) := dk_42 (dk_at dksJ3_requireNonNull_0 0 rfl rfl)
theorem dJ3_requireNonNull_1 : decode cJ3_requireNonNull 1 = .ok (.ifnonnull 11, 3) := dk_199 0 11 (dk_at dksJ3_requireNonNull_0 1 rfl rfl)
theorem dJ3_requireNonNull_4 : decode cJ3_requireNonNull 4 = .ok (.new 84, 3) := dk_187 0 84 (dk_at dksJ3_requireNonNull_0 4 rfl rfl)
theorem dJ3_requireNonNull_7 : decode cJ3_requireNonNull 7 = .ok (.dup, 1) := dk_89 (dk_at dksJ3_requireNonNull_0 7 rfl rfl)
theorem dJ3_requireNonNull_8 : decode cJ3_requireNonNull 8 = .ok (.invokespecial 86, 3) := dk_183 0 86 (dk_at dksJ3_requireNonNull_0 8 rfl rfl)
theorem dJ3_requireNonNull_11 : decode cJ3_requireNonNull 11 = .ok (.athrow, 1) := dk_191 (dk_at dksJ3_requireNonNull_0 11 rfl rfl)
theorem dJ3_requireNonNull_12 : decode cJ3_requireNonNull 12 = .ok (.aload_n 0, 1) := dk_42 (dk_at dksJ3_requireNonNull_0 12 rfl rfl)
theorem dJ3_requireNonNull_13 : decode cJ3_requireNonNull 13 = .ok (.areturn, 1) := dk_176 (dk_at dksJ3_requireNonNull_0 13 rfl rfl)
theorem q190 : (Jvm.Cond.initialized "java/util/Objects") ∈ lw_all := lw_g (lw_at lw_m1 5 rfl) rfl
theorem q287 : (Jvm.Cond.static ({ cls := "java/util/Objects", name := "checkIndex", desc := "(II)I" } : Jvm.MethodName)) ∈ lw_all := lw_g (lw_at lw_m1 102 rfl) rfl
theorem q288 : (Jvm.Cond.code ({ cls := "java/util/Objects", name := "checkIndex", desc := "(II)I" } : Jvm.MethodName) prog_56_method_17_code (2 : Nat) (Option.some Jvm.ClassFile.FieldType.int)) ∈ lw_all := lw_g (lw_at lw_m1 103 rfl) rfl
theorem q289 : (Jvm.Cond.methodLink "java/util/Objects" (105 : Nat) ({ cls := "jdk/internal/util/Preconditions", name := "checkIndex", desc := "(IILjava/util/function/BiFunction;)I" } : Jvm.MethodName)) ∈ lw_all := lw_g (lw_at lw_m1 104 rfl) rfl
theorem q1767 : (Jvm.Cond.static ({ cls := "java/util/Objects", name := "requireNonNull", desc := "(Ljava/lang/Object;)Ljava/lang/Object;" } : Jvm.MethodName)) ∈ lw_all := lw_g (lw_at lw_m7 142 rfl) rfl
theorem q1768 : (Jvm.Cond.code ({ cls := "java/util/Objects", name := "requireNonNull", desc := "(Ljava/lang/Object;)Ljava/lang/Object;" } : Jvm.MethodName) prog_56_method_10_code (1 : Nat) (Option.some (Jvm.ClassFile.FieldType.object "java/lang/Object"))) ∈ lw_all := lw_g (lw_at lw_m7 143 rfl) rfl
/-! java/lang/Object -/
set_option maxRecDepth 100000
def RJ30 : String := "java/lang/Object"
abbrev cJ30_init : ByteArray := object_method_1_code
def yJ30_init : MethodName := ⟨RJ30, "<init>", "()V"⟩
theorem dJ30_init_0 : decode cJ30_init 0 = .ok (.return_, 1) := by decide +kernel
theorem q242 : (Jvm.Cond.instanceMethod ({ cls := "java/lang/Object", name := "<init>", desc := "()V" } : Jvm.MethodName)) ∈ lw_all := lw_g (lw_at lw_m1 57 rfl) rfl
theorem q243 : (Jvm.Cond.code ({ cls := "java/lang/Object", name := "<init>", desc := "()V" } : Jvm.MethodName) object_method_1_code (1 : Nat) (Option.none : Option Jvm.ClassFile.FieldType)) ∈ lw_all := lw_g (lw_at lw_m1 58 rfl) rfl
theorem q327 : (Jvm.Cond.instanceMethod ({ cls := "java/lang/Object", name := "getClass", desc := "()Ljava/lang/Class;" } : Jvm.MethodName)) ∈ lw_all := lw_g (lw_at lw_m1 142 rfl) rfl
theorem q328 : (Jvm.Cond.sameMethod "java/lang/Object" "java/lang/Object" "getClass" "()Ljava/lang/Class;") ∈ lw_all := lw_g (lw_at lw_m1 143 rfl) rfl
theorem q357 : (Jvm.Cond.native ({ cls := "java/lang/Object", name := "getClass", desc := "()Ljava/lang/Class;" } : Jvm.MethodName)) ∈ lw_all := lw_g (lw_at lw_m1 172 rfl) rfl
theorem q513 : (Jvm.Cond.native ({ cls := "java/lang/Object", name := "clone", desc := "()Ljava/lang/Object;" } : Jvm.MethodName)) ∈ lw_all := lw_g (lw_at lw_m2 88 rfl) rfl
theorem q514 : (Jvm.Cond.instanceMethod ({ cls := "java/lang/Object", name := "clone", desc := "()Ljava/lang/Object;" } : Jvm.MethodName)) ∈ lw_all := lw_g (lw_at lw_m2 89 rfl) rfl
theorem q3113 : (Jvm.Cond.initialized "java/lang/Object") ∈ lw_all := lw_g (lw_at lw_m13 48 rfl) rfl
theorem q3148 : (Jvm.Cond.declares ({ cls := "java/lang/Object", name := "getClass", desc := "()Ljava/lang/Class;" } : Jvm.MethodName)) ∈ lw_tbl := lw_at lw_m13 83 rfl
theorem q3159 : (Jvm.Cond.instantiable "java/lang/Object" (0 : Nat)) ∈ lw_all := lw_g (lw_at lw_m13 94 rfl) rfl
/-! jdk/internal/util/Preconditions -/
set_option maxRecDepth 100000
def RJ4 : String := "jdk/internal/util/Preconditions"
abbrev cJ4_checkIndex : ByteArray := prog_77_method_11_code
def yJ4_checkIndex : MethodName := ⟨RJ4, "checkIndex", "(IILjava/util/function/BiFunction;)I"⟩
def dkwJ4_checkIndex_0 : List UInt8 := [26, 155, 0, 8, 26, 27, 161, 0, 10, 44, 26, 27, 184, 0, 95, 191, 26, 172]
abbrev dktJ4_checkIndex_0 : List UInt8 := dkwJ4_checkIndex_0 ++ []
theorem dksJ4_checkIndex_0 : cJ4_checkIndex.data.toList.drop 0 = dktJ4_checkIndex_0 := by decide +kernel
theorem dJ4_checkIndex_0 : decode cJ4_checkIndex 0 = .ok (.iload_n 0, 1) := dk_26 (dk_at dksJ4_checkIndex_0 0 rfl rfl)
theorem dJ4_checkIndex_1 : decode cJ4_checkIndex 1 = .ok (.ifCond .lt 8, 3) := dk_155 0 8 (dk_at dksJ4_checkIndex_0 1 rfl rfl)
theorem dJ4_checkIndex_4 : decode cJ4_checkIndex 4 = .ok (.iload_n 0, 1) := dk_26 (dk_at dksJ4_checkIndex_0 4 rfl rfl)
theorem dJ4_checkIndex_5 : decode cJ4_checkIndex 5 = .ok (.iload_n 1, 1) := dk_27 (dk_at dksJ4_checkIndex_0 5 rfl rfl)
theorem dJ4_checkIndex_6 : decode cJ4_checkIndex 6 = .ok (.if_icmp .lt 10, 3) := dk_161 0 10 (dk_at dksJ4_checkIndex_0 6 rfl rfl)
theorem dJ4_checkIndex_9 : decode cJ4_checkIndex 9 = .ok (.aload_n 2, 1) := dk_44 (dk_at dksJ4_checkIndex_0 9 rfl rfl)
theorem dJ4_checkIndex_10 : decode cJ4_checkIndex 10 = .ok (.iload_n 0, 1) := dk_26 (dk_at dksJ4_checkIndex_0 10 rfl rfl)
theorem dJ4_checkIndex_11 : decode cJ4_checkIndex 11 = .ok (.iload_n 1, 1) := dk_27 (dk_at dksJ4_checkIndex_0 11 rfl rfl)
theorem dJ4_checkIndex_12 : decode cJ4_checkIndex 12 = .ok (.invokestatic 95, 3) := dk_184 0 95 (dk_at dksJ4_checkIndex_0 12 rfl rfl)
theorem dJ4_checkIndex_15 : decode cJ4_checkIndex 15 = .ok (.athrow, 1) := dk_191 (dk_at dksJ4_checkIndex_0 15 rfl rfl)
theorem dJ4_checkIndex_16 : decode cJ4_checkIndex 16 = .ok (.iload_n 0, 1) := dk_26 (dk_at dksJ4_checkIndex_0 16 rfl rfl)
theorem dJ4_checkIndex_17 : decode cJ4_checkIndex 17 = .ok (.ireturn, 1) := dk_172 (dk_at dksJ4_checkIndex_0 17 rfl rfl)
theorem q191 : (Jvm.Cond.initialized "jdk/internal/util/Preconditions") ∈ lw_all := lw_g (lw_at lw_m1 6 rfl) rfl
theorem q290 : (Jvm.Cond.static ({ cls := "jdk/internal/util/Preconditions", name := "checkIndex", desc := "(IILjava/util/function/BiFunction;)I" } : Jvm.MethodName)) ∈ lw_all := lw_g (lw_at lw_m1 105 rfl) rfl
theorem q291 : (Jvm.Cond.code ({ cls := "jdk/internal/util/Preconditions", name := "checkIndex", desc := "(IILjava/util/function/BiFunction;)I" } : Jvm.MethodName) prog_77_method_11_code (3 : Nat) (Option.some Jvm.ClassFile.FieldType.int)) ∈ lw_all := lw_g (lw_at lw_m1 106 rfl) rfl
theorem q824 : (Jvm.Cond.laysStatic "jdk/internal/util/Preconditions" "SIOOBE_FORMATTER" "Ljava/util/function/BiFunction;") ∈ lw_tbl := lw_at lw_m3 159 rfl
/-! jdk/internal/util/ArraysSupport -/
set_option maxRecDepth 100000
def RJ5 : String := "jdk/internal/util/ArraysSupport"
abbrev cJ5_newLength : ByteArray := prog_76_method_27_code
def yJ5_newLength : MethodName := ⟨RJ5, "newLength", "(III)I"⟩
def dkwJ5_newLength_1 : List UInt8 := [184, 0, 201, 172]
abbrev dktJ5_newLength_1 : List UInt8 := dkwJ5_newLength_1 ++ []
def dkwJ5_newLength_0 : List UInt8 := [26, 27, 28, 184, 0, 194, 96, 62, 3, 29, 162, 0, 11, 29, 18, 200, 163, 0, 5, 29, 172, 26, 27]
abbrev dktJ5_newLength_0 : List UInt8 := dkwJ5_newLength_0 ++ dktJ5_newLength_1
theorem dksJ5_newLength_0 : cJ5_newLength.data.toList.drop 0 = dktJ5_newLength_0 := by decide +kernel
theorem dksJ5_newLength_1 : cJ5_newLength.data.toList.drop 23 = dktJ5_newLength_1 := dk_seg dksJ5_newLength_0 23 rfl rfl
theorem dJ5_newLength_0 : decode cJ5_newLength 0 = .ok (.iload_n 0, 1) := dk_26 (dk_at dksJ5_newLength_0 0 rfl rfl)
theorem dJ5_newLength_1 : decode cJ5_newLength 1 = .ok (.iload_n 1, 1) := dk_27 (dk_at dksJ5_newLength_0 1 rfl rfl)
theorem dJ5_newLength_2 : decode cJ5_newLength 2 = .ok (.iload_n 2, 1) := dk_28 (dk_at dksJ5_newLength_0 2 rfl rfl)
theorem dJ5_newLength_3 : decode cJ5_newLength 3 = .ok (.invokestatic 194, 3) := dk_184 0 194 (dk_at dksJ5_newLength_0 3 rfl rfl)
theorem dJ5_newLength_6 : decode cJ5_newLength 6 = .ok (.iadd, 1) := dk_96 (dk_at dksJ5_newLength_0 6 rfl rfl)
theorem dJ5_newLength_7 : decode cJ5_newLength 7 = .ok (.istore_n 3, 1) := dk_62 (dk_at dksJ5_newLength_0 7 rfl rfl)
theorem dJ5_newLength_8 : decode cJ5_newLength 8 = .ok (.iconst 0, 1) := dk_3 (dk_at dksJ5_newLength_0 8 rfl rfl)
theorem dJ5_newLength_9 : decode cJ5_newLength 9 = .ok (.iload_n 3, 1) := dk_29 (dk_at dksJ5_newLength_0 9 rfl rfl)
theorem dJ5_newLength_10 : decode cJ5_newLength 10 = .ok (.if_icmp .ge 11, 3) := dk_162 0 11 (dk_at dksJ5_newLength_0 10 rfl rfl)
theorem dJ5_newLength_13 : decode cJ5_newLength 13 = .ok (.iload_n 3, 1) := dk_29 (dk_at dksJ5_newLength_0 13 rfl rfl)
theorem dJ5_newLength_14 : decode cJ5_newLength 14 = .ok (.ldc 200, 2) := dk_18 200 (dk_at dksJ5_newLength_0 14 rfl rfl)
theorem dJ5_newLength_16 : decode cJ5_newLength 16 = .ok (.if_icmp .gt 5, 3) := dk_163 0 5 (dk_at dksJ5_newLength_0 16 rfl rfl)
theorem dJ5_newLength_19 : decode cJ5_newLength 19 = .ok (.iload_n 3, 1) := dk_29 (dk_at dksJ5_newLength_0 19 rfl rfl)
theorem dJ5_newLength_20 : decode cJ5_newLength 20 = .ok (.ireturn, 1) := dk_172 (dk_at dksJ5_newLength_0 20 rfl rfl)
theorem dJ5_newLength_21 : decode cJ5_newLength 21 = .ok (.iload_n 0, 1) := dk_26 (dk_at dksJ5_newLength_0 21 rfl rfl)
theorem dJ5_newLength_22 : decode cJ5_newLength 22 = .ok (.iload_n 1, 1) := dk_27 (dk_at dksJ5_newLength_0 22 rfl rfl)
theorem dJ5_newLength_23 : decode cJ5_newLength 23 = .ok (.invokestatic 201, 3) := dk_184 0 201 (dk_at dksJ5_newLength_1 0 rfl rfl)
theorem dJ5_newLength_26 : decode cJ5_newLength 26 = .ok (.ireturn, 1) := dk_172 (dk_at dksJ5_newLength_1 3 rfl rfl)
abbrev cJ5_hugeLength : ByteArray := prog_76_method_28_code
def yJ5_hugeLength : MethodName := ⟨RJ5, "hugeLength", "(II)I"⟩
def dkwJ5_hugeLength_2 : List UInt8 := [191, 28, 18, 200, 163, 0, 6, 18, 200, 172, 28, 172]
abbrev dktJ5_hugeLength_2 : List UInt8 := dkwJ5_hugeLength_2 ++ []
def dkwJ5_hugeLength_1 : List UInt8 := [26, 182, 0, 98, 18, 208, 182, 0, 94, 27, 182, 0, 98, 18, 210, 182, 0, 94, 182, 0, 101, 183, 0, 212]
abbrev dktJ5_hugeLength_1 : List UInt8 := dkwJ5_hugeLength_1 ++ dktJ5_hugeLength_2
def dkwJ5_hugeLength_0 : List UInt8 := [26, 27, 96, 61, 28, 156, 0, 44, 187, 0, 204, 89, 187, 0, 89, 89, 183, 0, 91, 18, 206, 182, 0, 94]
abbrev dktJ5_hugeLength_0 : List UInt8 := dkwJ5_hugeLength_0 ++ dktJ5_hugeLength_1
theorem dksJ5_hugeLength_0 : cJ5_hugeLength.data.toList.drop 0 = dktJ5_hugeLength_0 := by decide +kernel
theorem dksJ5_hugeLength_1 : cJ5_hugeLength.data.toList.drop 24 = dktJ5_hugeLength_1 := dk_seg dksJ5_hugeLength_0 24 rfl rfl
theorem dksJ5_hugeLength_2 : cJ5_hugeLength.data.toList.drop 48 = dktJ5_hugeLength_2 := dk_seg dksJ5_hugeLength_1 24 rfl rfl
theorem dJ5_hugeLength_0 : decode cJ5_hugeLength 0 = .ok (.iload_n 0, 1) := dk_26 (dk_at dksJ5_hugeLength_0 0 rfl rfl)
theorem dJ5_hugeLength_1 : decode cJ5_hugeLength 1 = .ok (.iload_n 1, 1) := dk_27 (dk_at dksJ5_hugeLength_0 1 rfl rfl)
theorem dJ5_hugeLength_2 : decode cJ5_hugeLength 2 = .ok (.iadd, 1) := dk_96 (dk_at dksJ5_hugeLength_0 2 rfl rfl)
theorem dJ5_hugeLength_3 : decode cJ5_hugeLength 3 = .ok (.istore_n 2, 1) := dk_61 (dk_at dksJ5_hugeLength_0 3 rfl rfl)
theorem dJ5_hugeLength_4 : decode cJ5_hugeLength 4 = .ok (.iload_n 2, 1) := dk_28 (dk_at dksJ5_hugeLength_0 4 rfl rfl)
theorem dJ5_hugeLength_5 : decode cJ5_hugeLength 5 = .ok (.ifCond .ge 44, 3) := dk_156 0 44 (dk_at dksJ5_hugeLength_0 5 rfl rfl)
theorem dJ5_hugeLength_8 : decode cJ5_hugeLength 8 = .ok (.new 204, 3) := dk_187 0 204 (dk_at dksJ5_hugeLength_0 8 rfl rfl)
theorem dJ5_hugeLength_11 : decode cJ5_hugeLength 11 = .ok (.dup, 1) := dk_89 (dk_at dksJ5_hugeLength_0 11 rfl rfl)
theorem dJ5_hugeLength_12 : decode cJ5_hugeLength 12 = .ok (.new 89, 3) := dk_187 0 89 (dk_at dksJ5_hugeLength_0 12 rfl rfl)
theorem dJ5_hugeLength_15 : decode cJ5_hugeLength 15 = .ok (.dup, 1) := dk_89 (dk_at dksJ5_hugeLength_0 15 rfl rfl)
theorem dJ5_hugeLength_16 : decode cJ5_hugeLength 16 = .ok (.invokespecial 91, 3) := dk_183 0 91 (dk_at dksJ5_hugeLength_0 16 rfl rfl)
theorem dJ5_hugeLength_19 : decode cJ5_hugeLength 19 = .ok (.ldc 206, 2) := dk_18 206 (dk_at dksJ5_hugeLength_0 19 rfl rfl)
theorem dJ5_hugeLength_21 : decode cJ5_hugeLength 21 = .ok (.invokevirtual 94, 3) := dk_182 0 94 (dk_at dksJ5_hugeLength_0 21 rfl rfl)
theorem dJ5_hugeLength_24 : decode cJ5_hugeLength 24 = .ok (.iload_n 0, 1) := dk_26 (dk_at dksJ5_hugeLength_1 0 rfl rfl)
theorem dJ5_hugeLength_25 : decode cJ5_hugeLength 25 = .ok (.invokevirtual 98, 3) := dk_182 0 98 (dk_at dksJ5_hugeLength_1 1 rfl rfl)
theorem dJ5_hugeLength_28 : decode cJ5_hugeLength 28 = .ok (.ldc 208, 2) := dk_18 208 (dk_at dksJ5_hugeLength_1 4 rfl rfl)
theorem dJ5_hugeLength_30 : decode cJ5_hugeLength 30 = .ok (.invokevirtual 94, 3) := dk_182 0 94 (dk_at dksJ5_hugeLength_1 6 rfl rfl)
theorem dJ5_hugeLength_33 : decode cJ5_hugeLength 33 = .ok (.iload_n 1, 1) := dk_27 (dk_at dksJ5_hugeLength_1 9 rfl rfl)
theorem dJ5_hugeLength_34 : decode cJ5_hugeLength 34 = .ok (.invokevirtual 98, 3) := dk_182 0 98 (dk_at dksJ5_hugeLength_1 10 rfl rfl)
theorem dJ5_hugeLength_37 : decode cJ5_hugeLength 37 = .ok (.ldc 210, 2) := dk_18 210 (dk_at dksJ5_hugeLength_1 13 rfl rfl)
theorem dJ5_hugeLength_39 : decode cJ5_hugeLength 39 = .ok (.invokevirtual 94, 3) := dk_182 0 94 (dk_at dksJ5_hugeLength_1 15 rfl rfl)
theorem dJ5_hugeLength_42 : decode cJ5_hugeLength 42 = .ok (.invokevirtual 101, 3) := dk_182 0 101 (dk_at dksJ5_hugeLength_1 18 rfl rfl)
theorem dJ5_hugeLength_45 : decode cJ5_hugeLength 45 = .ok (.invokespecial 212, 3) := dk_183 0 212 (dk_at dksJ5_hugeLength_1 21 rfl rfl)
theorem dJ5_hugeLength_48 : decode cJ5_hugeLength 48 = .ok (.athrow, 1) := dk_191 (dk_at dksJ5_hugeLength_2 0 rfl rfl)
theorem dJ5_hugeLength_49 : decode cJ5_hugeLength 49 = .ok (.iload_n 2, 1) := dk_28 (dk_at dksJ5_hugeLength_2 1 rfl rfl)
theorem dJ5_hugeLength_50 : decode cJ5_hugeLength 50 = .ok (.ldc 200, 2) := dk_18 200 (dk_at dksJ5_hugeLength_2 2 rfl rfl)
theorem dJ5_hugeLength_52 : decode cJ5_hugeLength 52 = .ok (.if_icmp .gt 6, 3) := dk_163 0 6 (dk_at dksJ5_hugeLength_2 4 rfl rfl)
theorem dJ5_hugeLength_55 : decode cJ5_hugeLength 55 = .ok (.ldc 200, 2) := dk_18 200 (dk_at dksJ5_hugeLength_2 7 rfl rfl)
theorem dJ5_hugeLength_57 : decode cJ5_hugeLength 57 = .ok (.ireturn, 1) := dk_172 (dk_at dksJ5_hugeLength_2 9 rfl rfl)
theorem dJ5_hugeLength_58 : decode cJ5_hugeLength 58 = .ok (.iload_n 2, 1) := dk_28 (dk_at dksJ5_hugeLength_2 10 rfl rfl)
theorem dJ5_hugeLength_59 : decode cJ5_hugeLength 59 = .ok (.ireturn, 1) := dk_172 (dk_at dksJ5_hugeLength_2 11 rfl rfl)
abbrev cJ5_mismatch : ByteArray := prog_76_method_13_code
def yJ5_mismatch : MethodName := ⟨RJ5, "mismatch", "([B[BI)I"⟩
def dkwJ5_mismatch_3 : List UInt8 := [172]
abbrev dktJ5_mismatch_3 : List UInt8 := dkwJ5_mismatch_3 ++ []
def dkwJ5_mismatch_2 : List UInt8 := [62, 29, 28, 162, 0, 20, 42, 29, 51, 43, 29, 51, 159, 0, 5, 29, 172, 132, 3, 1, 167, 255, 237, 2]
abbrev dktJ5_mismatch_2 : List UInt8 := dkwJ5_mismatch_2 ++ dktJ5_mismatch_3
def dkwJ5_mismatch_1 : List UInt8 := [43, 178, 0, 126, 133, 28, 178, 0, 129, 184, 0, 122, 62, 29, 155, 0, 5, 29, 172, 28, 29, 2, 130, 100]
abbrev dktJ5_mismatch_1 : List UInt8 := dkwJ5_mismatch_1 ++ dktJ5_mismatch_2
def dkwJ5_mismatch_0 : List UInt8 := [3, 62, 28, 16, 7, 164, 0, 44, 42, 3, 51, 43, 3, 51, 159, 0, 5, 3, 172, 42, 178, 0, 126, 133]
abbrev dktJ5_mismatch_0 : List UInt8 := dkwJ5_mismatch_0 ++ dktJ5_mismatch_1
theorem dksJ5_mismatch_0 : cJ5_mismatch.data.toList.drop 0 = dktJ5_mismatch_0 := by decide +kernel
theorem dksJ5_mismatch_1 : cJ5_mismatch.data.toList.drop 24 = dktJ5_mismatch_1 := dk_seg dksJ5_mismatch_0 24 rfl rfl
theorem dksJ5_mismatch_2 : cJ5_mismatch.data.toList.drop 48 = dktJ5_mismatch_2 := dk_seg dksJ5_mismatch_1 24 rfl rfl
theorem dksJ5_mismatch_3 : cJ5_mismatch.data.toList.drop 72 = dktJ5_mismatch_3 := dk_seg dksJ5_mismatch_2 24 rfl rfl
theorem dJ5_mismatch_0 : decode cJ5_mismatch 0 = .ok (.iconst 0, 1) := dk_3 (dk_at dksJ5_mismatch_0 0 rfl rfl)
theorem dJ5_mismatch_1 : decode cJ5_mismatch 1 = .ok (.istore_n 3, 1) := dk_62 (dk_at dksJ5_mismatch_0 1 rfl rfl)
theorem dJ5_mismatch_2 : decode cJ5_mismatch 2 = .ok (.iload_n 2, 1) := dk_28 (dk_at dksJ5_mismatch_0 2 rfl rfl)
theorem dJ5_mismatch_3 : decode cJ5_mismatch 3 = .ok (.bipush 7, 2) := dk_16 7 (dk_at dksJ5_mismatch_0 3 rfl rfl)
theorem dJ5_mismatch_5 : decode cJ5_mismatch 5 = .ok (.if_icmp .le 44, 3) := dk_164 0 44 (dk_at dksJ5_mismatch_0 5 rfl rfl)
theorem dJ5_mismatch_8 : decode cJ5_mismatch 8 = .ok (.aload_n 0, 1) := dk_42 (dk_at dksJ5_mismatch_0 8 rfl rfl)
theorem dJ5_mismatch_9 : decode cJ5_mismatch 9 = .ok (.iconst 0, 1) := dk_3 (dk_at dksJ5_mismatch_0 9 rfl rfl)
theorem dJ5_mismatch_10 : decode cJ5_mismatch 10 = .ok (.baload, 1) := dk_51 (dk_at dksJ5_mismatch_0 10 rfl rfl)
theorem dJ5_mismatch_11 : decode cJ5_mismatch 11 = .ok (.aload_n 1, 1) := dk_43 (dk_at dksJ5_mismatch_0 11 rfl rfl)
theorem dJ5_mismatch_12 : decode cJ5_mismatch 12 = .ok (.iconst 0, 1) := dk_3 (dk_at dksJ5_mismatch_0 12 rfl rfl)
theorem dJ5_mismatch_13 : decode cJ5_mismatch 13 = .ok (.baload, 1) := dk_51 (dk_at dksJ5_mismatch_0 13 rfl rfl)
theorem dJ5_mismatch_14 : decode cJ5_mismatch 14 = .ok (.if_icmp .eq 5, 3) := dk_159 0 5 (dk_at dksJ5_mismatch_0 14 rfl rfl)
theorem dJ5_mismatch_17 : decode cJ5_mismatch 17 = .ok (.iconst 0, 1) := dk_3 (dk_at dksJ5_mismatch_0 17 rfl rfl)
theorem dJ5_mismatch_18 : decode cJ5_mismatch 18 = .ok (.ireturn, 1) := dk_172 (dk_at dksJ5_mismatch_0 18 rfl rfl)
theorem dJ5_mismatch_19 : decode cJ5_mismatch 19 = .ok (.aload_n 0, 1) := dk_42 (dk_at dksJ5_mismatch_0 19 rfl rfl)
theorem dJ5_mismatch_20 : decode cJ5_mismatch 20 = .ok (.getstatic 126, 3) := dk_178 0 126 (dk_at dksJ5_mismatch_0 20 rfl rfl)
theorem dJ5_mismatch_23 : decode cJ5_mismatch 23 = .ok (.i2l, 1) := dk_133 (dk_at dksJ5_mismatch_0 23 rfl rfl)
theorem dJ5_mismatch_24 : decode cJ5_mismatch 24 = .ok (.aload_n 1, 1) := dk_43 (dk_at dksJ5_mismatch_1 0 rfl rfl)
theorem dJ5_mismatch_25 : decode cJ5_mismatch 25 = .ok (.getstatic 126, 3) := dk_178 0 126 (dk_at dksJ5_mismatch_1 1 rfl rfl)
theorem dJ5_mismatch_28 : decode cJ5_mismatch 28 = .ok (.i2l, 1) := dk_133 (dk_at dksJ5_mismatch_1 4 rfl rfl)
theorem dJ5_mismatch_29 : decode cJ5_mismatch 29 = .ok (.iload_n 2, 1) := dk_28 (dk_at dksJ5_mismatch_1 5 rfl rfl)
theorem dJ5_mismatch_30 : decode cJ5_mismatch 30 = .ok (.getstatic 129, 3) := dk_178 0 129 (dk_at dksJ5_mismatch_1 6 rfl rfl)
theorem dJ5_mismatch_33 : decode cJ5_mismatch 33 = .ok (.invokestatic 122, 3) := dk_184 0 122 (dk_at dksJ5_mismatch_1 9 rfl rfl)
theorem dJ5_mismatch_36 : decode cJ5_mismatch 36 = .ok (.istore_n 3, 1) := dk_62 (dk_at dksJ5_mismatch_1 12 rfl rfl)
theorem dJ5_mismatch_37 : decode cJ5_mismatch 37 = .ok (.iload_n 3, 1) := dk_29 (dk_at dksJ5_mismatch_1 13 rfl rfl)
theorem dJ5_mismatch_38 : decode cJ5_mismatch 38 = .ok (.ifCond .lt 5, 3) := dk_155 0 5 (dk_at dksJ5_mismatch_1 14 rfl rfl)
theorem dJ5_mismatch_41 : decode cJ5_mismatch 41 = .ok (.iload_n 3, 1) := dk_29 (dk_at dksJ5_mismatch_1 17 rfl rfl)
theorem dJ5_mismatch_42 : decode cJ5_mismatch 42 = .ok (.ireturn, 1) := dk_172 (dk_at dksJ5_mismatch_1 18 rfl rfl)
theorem dJ5_mismatch_43 : decode cJ5_mismatch 43 = .ok (.iload_n 2, 1) := dk_28 (dk_at dksJ5_mismatch_1 19 rfl rfl)
theorem dJ5_mismatch_44 : decode cJ5_mismatch 44 = .ok (.iload_n 3, 1) := dk_29 (dk_at dksJ5_mismatch_1 20 rfl rfl)
theorem dJ5_mismatch_45 : decode cJ5_mismatch 45 = .ok (.iconst (-1), 1) := dk_2 (dk_at dksJ5_mismatch_1 21 rfl rfl)
theorem dJ5_mismatch_46 : decode cJ5_mismatch 46 = .ok (.ixor, 1) := dk_130 (dk_at dksJ5_mismatch_1 22 rfl rfl)
theorem dJ5_mismatch_47 : decode cJ5_mismatch 47 = .ok (.isub, 1) := dk_100 (dk_at dksJ5_mismatch_1 23 rfl rfl)
theorem dJ5_mismatch_48 : decode cJ5_mismatch 48 = .ok (.istore_n 3, 1) := dk_62 (dk_at dksJ5_mismatch_2 0 rfl rfl)
theorem dJ5_mismatch_49 : decode cJ5_mismatch 49 = .ok (.iload_n 3, 1) := dk_29 (dk_at dksJ5_mismatch_2 1 rfl rfl)
theorem dJ5_mismatch_50 : decode cJ5_mismatch 50 = .ok (.iload_n 2, 1) := dk_28 (dk_at dksJ5_mismatch_2 2 rfl rfl)
theorem dJ5_mismatch_51 : decode cJ5_mismatch 51 = .ok (.if_icmp .ge 20, 3) := dk_162 0 20 (dk_at dksJ5_mismatch_2 3 rfl rfl)
theorem dJ5_mismatch_54 : decode cJ5_mismatch 54 = .ok (.aload_n 0, 1) := dk_42 (dk_at dksJ5_mismatch_2 6 rfl rfl)
theorem dJ5_mismatch_55 : decode cJ5_mismatch 55 = .ok (.iload_n 3, 1) := dk_29 (dk_at dksJ5_mismatch_2 7 rfl rfl)
theorem dJ5_mismatch_56 : decode cJ5_mismatch 56 = .ok (.baload, 1) := dk_51 (dk_at dksJ5_mismatch_2 8 rfl rfl)
theorem dJ5_mismatch_57 : decode cJ5_mismatch 57 = .ok (.aload_n 1, 1) := dk_43 (dk_at dksJ5_mismatch_2 9 rfl rfl)
theorem dJ5_mismatch_58 : decode cJ5_mismatch 58 = .ok (.iload_n 3, 1) := dk_29 (dk_at dksJ5_mismatch_2 10 rfl rfl)
theorem dJ5_mismatch_59 : decode cJ5_mismatch 59 = .ok (.baload, 1) := dk_51 (dk_at dksJ5_mismatch_2 11 rfl rfl)
theorem dJ5_mismatch_60 : decode cJ5_mismatch 60 = .ok (.if_icmp .eq 5, 3) := dk_159 0 5 (dk_at dksJ5_mismatch_2 12 rfl rfl)
theorem dJ5_mismatch_63 : decode cJ5_mismatch 63 = .ok (.iload_n 3, 1) := dk_29 (dk_at dksJ5_mismatch_2 15 rfl rfl)
theorem dJ5_mismatch_64 : decode cJ5_mismatch 64 = .ok (.ireturn, 1) := dk_172 (dk_at dksJ5_mismatch_2 16 rfl rfl)
theorem dJ5_mismatch_65 : decode cJ5_mismatch 65 = .ok (.iinc 3 1, 3) := dk_132 3 1 (dk_at dksJ5_mismatch_2 17 rfl rfl)
theorem dJ5_mismatch_68 : decode cJ5_mismatch 68 = .ok (.goto (-19), 3) := dk_167 255 237 (dk_at dksJ5_mismatch_2 20 rfl rfl)
theorem dJ5_mismatch_71 : decode cJ5_mismatch 71 = .ok (.iconst (-1), 1) := dk_2 (dk_at dksJ5_mismatch_2 23 rfl rfl)
theorem dJ5_mismatch_72 : decode cJ5_mismatch 72 = .ok (.ireturn, 1) := dk_172 (dk_at dksJ5_mismatch_3 0 rfl rfl)
abbrev cJ5_vectorizedMismatch : ByteArray := prog_76_method_3_code
def yJ5_vectorizedMismatch : MethodName := ⟨RJ5, "vectorizedMismatch", "(Ljava/lang/Object;JLjava/lang/Object;JII)I"⟩
def dkwJ5_vectorizedMismatch_11 : List UInt8 := [54, 10, 21, 10, 2, 130, 172, 21, 10, 2, 130, 172]
abbrev dktJ5_vectorizedMismatch_11 : List UInt8 := dkwJ5_vectorizedMismatch_11 ++ []
def dkwJ5_vectorizedMismatch_10 : List UInt8 := [178, 0, 46, 21, 7, 96, 122, 54, 17, 21, 9, 21, 8, 120, 21, 17, 96, 172, 21, 10, 21, 11, 100]
abbrev dktJ5_vectorizedMismatch_10 : List UInt8 := dkwJ5_vectorizedMismatch_10 ++ dktJ5_vectorizedMismatch_11
def dkwJ5_vectorizedMismatch_9 : List UInt8 := [153, 0, 18, 21, 16, 184, 0, 58, 178, 0, 46, 21, 7, 96, 122, 167, 0, 15, 21, 16, 184, 0, 11]
abbrev dktJ5_vectorizedMismatch_9 : List UInt8 := dkwJ5_vectorizedMismatch_9 ++ dktJ5_vectorizedMismatch_10
def dkwJ5_vectorizedMismatch_8 : List UInt8 := [182, 0, 54, 54, 15, 21, 14, 21, 15, 159, 0, 54, 21, 14, 21, 15, 130, 54, 16, 178, 0, 36]
abbrev dktJ5_vectorizedMismatch_8 : List UInt8 := dkwJ5_vectorizedMismatch_8 ++ dktJ5_vectorizedMismatch_9
def dkwJ5_vectorizedMismatch_7 : List UInt8 := [55, 12, 178, 0, 26, 42, 31, 22, 12, 97, 182, 0, 54, 54, 14, 178, 0, 26, 45, 22, 4, 22, 12, 97]
abbrev dktJ5_vectorizedMismatch_7 : List UInt8 := dkwJ5_vectorizedMismatch_7 ++ dktJ5_vectorizedMismatch_8
def dkwJ5_vectorizedMismatch_6 : List UInt8 := [4, 178, 0, 51, 21, 7, 100, 120, 54, 11, 21, 10, 21, 11, 161, 0, 104, 21, 9, 133, 178, 0, 20, 121]
abbrev dktJ5_vectorizedMismatch_6 : List UInt8 := dkwJ5_vectorizedMismatch_6 ++ dktJ5_vectorizedMismatch_7
def dkwJ5_vectorizedMismatch_5 : List UInt8 := [132, 9, 1, 167, 255, 148, 21, 6, 21, 9, 21, 8, 120, 100, 54, 10, 21, 7, 178, 0, 51, 162, 0, 126]
abbrev dktJ5_vectorizedMismatch_5 : List UInt8 := dkwJ5_vectorizedMismatch_5 ++ dktJ5_vectorizedMismatch_6
def dkwJ5_vectorizedMismatch_4 : List UInt8 := [22, 16, 184, 0, 49, 178, 0, 46, 21, 7, 96, 122, 54, 18, 21, 9, 21, 8, 120, 21, 18, 96, 172]
abbrev dktJ5_vectorizedMismatch_4 : List UInt8 := dkwJ5_vectorizedMismatch_4 ++ dktJ5_vectorizedMismatch_5
def dkwJ5_vectorizedMismatch_3 : List UInt8 := [55, 16, 178, 0, 36, 153, 0, 18, 22, 16, 184, 0, 40, 178, 0, 46, 21, 7, 96, 122, 167, 0, 15]
abbrev dktJ5_vectorizedMismatch_3 : List UInt8 := dkwJ5_vectorizedMismatch_3 ++ dktJ5_vectorizedMismatch_4
def dkwJ5_vectorizedMismatch_2 : List UInt8 := [22, 4, 22, 10, 97, 182, 0, 30, 55, 14, 22, 12, 22, 14, 148, 153, 0, 54, 22, 12, 22, 14, 131]
abbrev dktJ5_vectorizedMismatch_2 : List UInt8 := dkwJ5_vectorizedMismatch_2 ++ dktJ5_vectorizedMismatch_3
def dkwJ5_vectorizedMismatch_1 : List UInt8 := [178, 0, 20, 121, 55, 10, 178, 0, 26, 42, 31, 22, 10, 97, 182, 0, 30, 55, 12, 178, 0, 26, 45]
abbrev dktJ5_vectorizedMismatch_1 : List UInt8 := dkwJ5_vectorizedMismatch_1 ++ dktJ5_vectorizedMismatch_2
def dkwJ5_vectorizedMismatch_0 : List UInt8 := [178, 0, 20, 21, 7, 100, 54, 8, 3, 54, 9, 21, 9, 21, 6, 21, 8, 122, 162, 0, 104, 21, 9, 133]
abbrev dktJ5_vectorizedMismatch_0 : List UInt8 := dkwJ5_vectorizedMismatch_0 ++ dktJ5_vectorizedMismatch_1
theorem dksJ5_vectorizedMismatch_0 : cJ5_vectorizedMismatch.data.toList.drop 0 = dktJ5_vectorizedMismatch_0 := by decide +kernel
theorem dksJ5_vectorizedMismatch_1 : cJ5_vectorizedMismatch.data.toList.drop 24 = dktJ5_vectorizedMismatch_1 := dk_seg dksJ5_vectorizedMismatch_0 24 rfl rfl
theorem dksJ5_vectorizedMismatch_2 : cJ5_vectorizedMismatch.data.toList.drop 47 = dktJ5_vectorizedMismatch_2 := dk_seg dksJ5_vectorizedMismatch_1 23 rfl rfl
theorem dksJ5_vectorizedMismatch_3 : cJ5_vectorizedMismatch.data.toList.drop 70 = dktJ5_vectorizedMismatch_3 := dk_seg dksJ5_vectorizedMismatch_2 23 rfl rfl
theorem dksJ5_vectorizedMismatch_4 : cJ5_vectorizedMismatch.data.toList.drop 93 = dktJ5_vectorizedMismatch_4 := dk_seg dksJ5_vectorizedMismatch_3 23 rfl rfl
theorem dksJ5_vectorizedMismatch_5 : cJ5_vectorizedMismatch.data.toList.drop 116 = dktJ5_vectorizedMismatch_5 := dk_seg dksJ5_vectorizedMismatch_4 23 rfl rfl
theorem dksJ5_vectorizedMismatch_6 : cJ5_vectorizedMismatch.data.toList.drop 140 = dktJ5_vectorizedMismatch_6 := dk_seg dksJ5_vectorizedMismatch_5 24 rfl rfl
theorem dksJ5_vectorizedMismatch_7 : cJ5_vectorizedMismatch.data.toList.drop 164 = dktJ5_vectorizedMismatch_7 := dk_seg dksJ5_vectorizedMismatch_6 24 rfl rfl
theorem dksJ5_vectorizedMismatch_8 : cJ5_vectorizedMismatch.data.toList.drop 188 = dktJ5_vectorizedMismatch_8 := dk_seg dksJ5_vectorizedMismatch_7 24 rfl rfl
theorem dksJ5_vectorizedMismatch_9 : cJ5_vectorizedMismatch.data.toList.drop 210 = dktJ5_vectorizedMismatch_9 := dk_seg dksJ5_vectorizedMismatch_8 22 rfl rfl
theorem dksJ5_vectorizedMismatch_10 : cJ5_vectorizedMismatch.data.toList.drop 233 = dktJ5_vectorizedMismatch_10 := dk_seg dksJ5_vectorizedMismatch_9 23 rfl rfl
theorem dksJ5_vectorizedMismatch_11 : cJ5_vectorizedMismatch.data.toList.drop 256 = dktJ5_vectorizedMismatch_11 := dk_seg dksJ5_vectorizedMismatch_10 23 rfl rfl
theorem dJ5_vectorizedMismatch_0 : decode cJ5_vectorizedMismatch 0 = .ok (.getstatic 20, 3) := dk_178 0 20 (dk_at dksJ5_vectorizedMismatch_0 0 rfl rfl)
theorem dJ5_vectorizedMismatch_3 : decode cJ5_vectorizedMismatch 3 = .ok (.iload 7, 2) := dk_21 7 (dk_at dksJ5_vectorizedMismatch_0 3 rfl rfl)
theorem dJ5_vectorizedMismatch_5 : decode cJ5_vectorizedMismatch 5 = .ok (.isub, 1) := dk_100 (dk_at dksJ5_vectorizedMismatch_0 5 rfl rfl)
theorem dJ5_vectorizedMismatch_6 : decode cJ5_vectorizedMismatch 6 = .ok (.istore 8, 2) := dk_54 8 (dk_at dksJ5_vectorizedMismatch_0 6 rfl rfl)
theorem dJ5_vectorizedMismatch_8 : decode cJ5_vectorizedMismatch 8 = .ok (.iconst 0, 1) := dk_3 (dk_at dksJ5_vectorizedMismatch_0 8 rfl rfl)
theorem dJ5_vectorizedMismatch_9 : decode cJ5_vectorizedMismatch 9 = .ok (.istore 9, 2) := dk_54 9 (dk_at dksJ5_vectorizedMismatch_0 9 rfl rfl)
theorem dJ5_vectorizedMismatch_11 : decode cJ5_vectorizedMismatch 11 = .ok (.iload 9, 2) := dk_21 9 (dk_at dksJ5_vectorizedMismatch_0 11 rfl rfl)
theorem dJ5_vectorizedMismatch_13 : decode cJ5_vectorizedMismatch 13 = .ok (.iload 6, 2) := dk_21 6 (dk_at dksJ5_vectorizedMismatch_0 13 rfl rfl)
theorem dJ5_vectorizedMismatch_15 : decode cJ5_vectorizedMismatch 15 = .ok (.iload 8, 2) := dk_21 8 (dk_at dksJ5_vectorizedMismatch_0 15 rfl rfl)
theorem dJ5_vectorizedMismatch_17 : decode cJ5_vectorizedMismatch 17 = .ok (.ishr, 1) := dk_122 (dk_at dksJ5_vectorizedMismatch_0 17 rfl rfl)
theorem dJ5_vectorizedMismatch_18 : decode cJ5_vectorizedMismatch 18 = .ok (.if_icmp .ge 104, 3) := dk_162 0 104 (dk_at dksJ5_vectorizedMismatch_0 18 rfl rfl)
theorem dJ5_vectorizedMismatch_21 : decode cJ5_vectorizedMismatch 21 = .ok (.iload 9, 2) := dk_21 9 (dk_at dksJ5_vectorizedMismatch_0 21 rfl rfl)
theorem dJ5_vectorizedMismatch_23 : decode cJ5_vectorizedMismatch 23 = .ok (.i2l, 1) := dk_133 (dk_at dksJ5_vectorizedMismatch_0 23 rfl rfl)
theorem dJ5_vectorizedMismatch_24 : decode cJ5_vectorizedMismatch 24 = .ok (.getstatic 20, 3) := dk_178 0 20 (dk_at dksJ5_vectorizedMismatch_1 0 rfl rfl)
theorem dJ5_vectorizedMismatch_27 : decode cJ5_vectorizedMismatch 27 = .ok (.lshl, 1) := dk_121 (dk_at dksJ5_vectorizedMismatch_1 3 rfl rfl)
theorem dJ5_vectorizedMismatch_28 : decode cJ5_vectorizedMismatch 28 = .ok (.lstore 10, 2) := dk_55 10 (dk_at dksJ5_vectorizedMismatch_1 4 rfl rfl)
theorem dJ5_vectorizedMismatch_30 : decode cJ5_vectorizedMismatch 30 = .ok (.getstatic 26, 3) := dk_178 0 26 (dk_at dksJ5_vectorizedMismatch_1 6 rfl rfl)
theorem dJ5_vectorizedMismatch_33 : decode cJ5_vectorizedMismatch 33 = .ok (.aload_n 0, 1) := dk_42 (dk_at dksJ5_vectorizedMismatch_1 9 rfl rfl)
theorem dJ5_vectorizedMismatch_34 : decode cJ5_vectorizedMismatch 34 = .ok (.lload_n 1, 1) := dk_31 (dk_at dksJ5_vectorizedMismatch_1 10 rfl rfl)
theorem dJ5_vectorizedMismatch_35 : decode cJ5_vectorizedMismatch 35 = .ok (.lload 10, 2) := dk_22 10 (dk_at dksJ5_vectorizedMismatch_1 11 rfl rfl)
theorem dJ5_vectorizedMismatch_37 : decode cJ5_vectorizedMismatch 37 = .ok (.ladd, 1) := dk_97 (dk_at dksJ5_vectorizedMismatch_1 13 rfl rfl)
theorem dJ5_vectorizedMismatch_38 : decode cJ5_vectorizedMismatch 38 = .ok (.invokevirtual 30, 3) := dk_182 0 30 (dk_at dksJ5_vectorizedMismatch_1 14 rfl rfl)
theorem dJ5_vectorizedMismatch_41 : decode cJ5_vectorizedMismatch 41 = .ok (.lstore 12, 2) := dk_55 12 (dk_at dksJ5_vectorizedMismatch_1 17 rfl rfl)
theorem dJ5_vectorizedMismatch_43 : decode cJ5_vectorizedMismatch 43 = .ok (.getstatic 26, 3) := dk_178 0 26 (dk_at dksJ5_vectorizedMismatch_1 19 rfl rfl)
theorem dJ5_vectorizedMismatch_46 : decode cJ5_vectorizedMismatch 46 = .ok (.aload_n 3, 1) := dk_45 (dk_at dksJ5_vectorizedMismatch_1 22 rfl rfl)
theorem dJ5_vectorizedMismatch_47 : decode cJ5_vectorizedMismatch 47 = .ok (.lload 4, 2) := dk_22 4 (dk_at dksJ5_vectorizedMismatch_2 0 rfl rfl)
theorem dJ5_vectorizedMismatch_49 : decode cJ5_vectorizedMismatch 49 = .ok (.lload 10, 2) := dk_22 10 (dk_at dksJ5_vectorizedMismatch_2 2 rfl rfl)
theorem dJ5_vectorizedMismatch_51 : decode cJ5_vectorizedMismatch 51 = .ok (.ladd, 1) := dk_97 (dk_at dksJ5_vectorizedMismatch_2 4 rfl rfl)
theorem dJ5_vectorizedMismatch_52 : decode cJ5_vectorizedMismatch 52 = .ok (.invokevirtual 30, 3) := dk_182 0 30 (dk_at dksJ5_vectorizedMismatch_2 5 rfl rfl)
theorem dJ5_vectorizedMismatch_55 : decode cJ5_vectorizedMismatch 55 = .ok (.lstore 14, 2) := dk_55 14 (dk_at dksJ5_vectorizedMismatch_2 8 rfl rfl)
theorem dJ5_vectorizedMismatch_57 : decode cJ5_vectorizedMismatch 57 = .ok (.lload 12, 2) := dk_22 12 (dk_at dksJ5_vectorizedMismatch_2 10 rfl rfl)
theorem dJ5_vectorizedMismatch_59 : decode cJ5_vectorizedMismatch 59 = .ok (.lload 14, 2) := dk_22 14 (dk_at dksJ5_vectorizedMismatch_2 12 rfl rfl)
theorem dJ5_vectorizedMismatch_61 : decode cJ5_vectorizedMismatch 61 = .ok (.lcmp, 1) := dk_148 (dk_at dksJ5_vectorizedMismatch_2 14 rfl rfl)
theorem dJ5_vectorizedMismatch_62 : decode cJ5_vectorizedMismatch 62 = .ok (.ifCond .eq 54, 3) := dk_153 0 54 (dk_at dksJ5_vectorizedMismatch_2 15 rfl rfl)
theorem dJ5_vectorizedMismatch_65 : decode cJ5_vectorizedMismatch 65 = .ok (.lload 12, 2) := dk_22 12 (dk_at dksJ5_vectorizedMismatch_2 18 rfl rfl)
theorem dJ5_vectorizedMismatch_67 : decode cJ5_vectorizedMismatch 67 = .ok (.lload 14, 2) := dk_22 14 (dk_at dksJ5_vectorizedMismatch_2 20 rfl rfl)
theorem dJ5_vectorizedMismatch_69 : decode cJ5_vectorizedMismatch 69 = .ok (.lxor, 1) := dk_131 (dk_at dksJ5_vectorizedMismatch_2 22 rfl rfl)
theorem dJ5_vectorizedMismatch_70 : decode cJ5_vectorizedMismatch 70 = .ok (.lstore 16, 2) := dk_55 16 (dk_at dksJ5_vectorizedMismatch_3 0 rfl rfl)
theorem dJ5_vectorizedMismatch_72 : decode cJ5_vectorizedMismatch 72 = .ok (.getstatic 36, 3) := dk_178 0 36 (dk_at dksJ5_vectorizedMismatch_3 2 rfl rfl)
theorem dJ5_vectorizedMismatch_75 : decode cJ5_vectorizedMismatch 75 = .ok (.ifCond .eq 18, 3) := dk_153 0 18 (dk_at dksJ5_vectorizedMismatch_3 5 rfl rfl)
theorem dJ5_vectorizedMismatch_78 : decode cJ5_vectorizedMismatch 78 = .ok (.lload 16, 2) := dk_22 16 (dk_at dksJ5_vectorizedMismatch_3 8 rfl rfl)
theorem dJ5_vectorizedMismatch_80 : decode cJ5_vectorizedMismatch 80 = .ok (.invokestatic 40, 3) := dk_184 0 40 (dk_at dksJ5_vectorizedMismatch_3 10 rfl rfl)
theorem dJ5_vectorizedMismatch_83 : decode cJ5_vectorizedMismatch 83 = .ok (.getstatic 46, 3) := dk_178 0 46 (dk_at dksJ5_vectorizedMismatch_3 13 rfl rfl)
theorem dJ5_vectorizedMismatch_86 : decode cJ5_vectorizedMismatch 86 = .ok (.iload 7, 2) := dk_21 7 (dk_at dksJ5_vectorizedMismatch_3 16 rfl rfl)
theorem dJ5_vectorizedMismatch_88 : decode cJ5_vectorizedMismatch 88 = .ok (.iadd, 1) := dk_96 (dk_at dksJ5_vectorizedMismatch_3 18 rfl rfl)
theorem dJ5_vectorizedMismatch_89 : decode cJ5_vectorizedMismatch 89 = .ok (.ishr, 1) := dk_122 (dk_at dksJ5_vectorizedMismatch_3 19 rfl rfl)
theorem dJ5_vectorizedMismatch_90 : decode cJ5_vectorizedMismatch 90 = .ok (.goto 15, 3) := dk_167 0 15 (dk_at dksJ5_vectorizedMismatch_3 20 rfl rfl)
theorem dJ5_vectorizedMismatch_93 : decode cJ5_vectorizedMismatch 93 = .ok (.lload 16, 2) := dk_22 16 (dk_at dksJ5_vectorizedMismatch_4 0 rfl rfl)
theorem dJ5_vectorizedMismatch_95 : decode cJ5_vectorizedMismatch 95 = .ok (.invokestatic 49, 3) := dk_184 0 49 (dk_at dksJ5_vectorizedMismatch_4 2 rfl rfl)
theorem dJ5_vectorizedMismatch_98 : decode cJ5_vectorizedMismatch 98 = .ok (.getstatic 46, 3) := dk_178 0 46 (dk_at dksJ5_vectorizedMismatch_4 5 rfl rfl)
theorem dJ5_vectorizedMismatch_101 : decode cJ5_vectorizedMismatch 101 = .ok (.iload 7, 2) := dk_21 7 (dk_at dksJ5_vectorizedMismatch_4 8 rfl rfl)
theorem dJ5_vectorizedMismatch_103 : decode cJ5_vectorizedMismatch 103 = .ok (.iadd, 1) := dk_96 (dk_at dksJ5_vectorizedMismatch_4 10 rfl rfl)
theorem dJ5_vectorizedMismatch_104 : decode cJ5_vectorizedMismatch 104 = .ok (.ishr, 1) := dk_122 (dk_at dksJ5_vectorizedMismatch_4 11 rfl rfl)
theorem dJ5_vectorizedMismatch_105 : decode cJ5_vectorizedMismatch 105 = .ok (.istore 18, 2) := dk_54 18 (dk_at dksJ5_vectorizedMismatch_4 12 rfl rfl)
theorem dJ5_vectorizedMismatch_107 : decode cJ5_vectorizedMismatch 107 = .ok (.iload 9, 2) := dk_21 9 (dk_at dksJ5_vectorizedMismatch_4 14 rfl rfl)
theorem dJ5_vectorizedMismatch_109 : decode cJ5_vectorizedMismatch 109 = .ok (.iload 8, 2) := dk_21 8 (dk_at dksJ5_vectorizedMismatch_4 16 rfl rfl)
theorem dJ5_vectorizedMismatch_111 : decode cJ5_vectorizedMismatch 111 = .ok (.ishl, 1) := dk_120 (dk_at dksJ5_vectorizedMismatch_4 18 rfl rfl)
theorem dJ5_vectorizedMismatch_112 : decode cJ5_vectorizedMismatch 112 = .ok (.iload 18, 2) := dk_21 18 (dk_at dksJ5_vectorizedMismatch_4 19 rfl rfl)
theorem dJ5_vectorizedMismatch_114 : decode cJ5_vectorizedMismatch 114 = .ok (.iadd, 1) := dk_96 (dk_at dksJ5_vectorizedMismatch_4 21 rfl rfl)
theorem dJ5_vectorizedMismatch_115 : decode cJ5_vectorizedMismatch 115 = .ok (.ireturn, 1) := dk_172 (dk_at dksJ5_vectorizedMismatch_4 22 rfl rfl)
theorem dJ5_vectorizedMismatch_116 : decode cJ5_vectorizedMismatch 116 = .ok (.iinc 9 1, 3) := dk_132 9 1 (dk_at dksJ5_vectorizedMismatch_5 0 rfl rfl)
theorem dJ5_vectorizedMismatch_119 : decode cJ5_vectorizedMismatch 119 = .ok (.goto (-108), 3) := dk_167 255 148 (dk_at dksJ5_vectorizedMismatch_5 3 rfl rfl)
theorem dJ5_vectorizedMismatch_122 : decode cJ5_vectorizedMismatch 122 = .ok (.iload 6, 2) := dk_21 6 (dk_at dksJ5_vectorizedMismatch_5 6 rfl rfl)
theorem dJ5_vectorizedMismatch_124 : decode cJ5_vectorizedMismatch 124 = .ok (.iload 9, 2) := dk_21 9 (dk_at dksJ5_vectorizedMismatch_5 8 rfl rfl)
theorem dJ5_vectorizedMismatch_126 : decode cJ5_vectorizedMismatch 126 = .ok (.iload 8, 2) := dk_21 8 (dk_at dksJ5_vectorizedMismatch_5 10 rfl rfl)
theorem dJ5_vectorizedMismatch_128 : decode cJ5_vectorizedMismatch 128 = .ok (.ishl, 1) := dk_120 (dk_at dksJ5_vectorizedMismatch_5 12 rfl rfl)
theorem dJ5_vectorizedMismatch_129 : decode cJ5_vectorizedMismatch 129 = .ok (.isub, 1) := dk_100 (dk_at dksJ5_vectorizedMismatch_5 13 rfl rfl)
theorem dJ5_vectorizedMismatch_130 : decode cJ5_vectorizedMismatch 130 = .ok (.istore 10, 2) := dk_54 10 (dk_at dksJ5_vectorizedMismatch_5 14 rfl rfl)
theorem dJ5_vectorizedMismatch_132 : decode cJ5_vectorizedMismatch 132 = .ok (.iload 7, 2) := dk_21 7 (dk_at dksJ5_vectorizedMismatch_5 16 rfl rfl)
theorem dJ5_vectorizedMismatch_134 : decode cJ5_vectorizedMismatch 134 = .ok (.getstatic 51, 3) := dk_178 0 51 (dk_at dksJ5_vectorizedMismatch_5 18 rfl rfl)
theorem dJ5_vectorizedMismatch_137 : decode cJ5_vectorizedMismatch 137 = .ok (.if_icmp .ge 126, 3) := dk_162 0 126 (dk_at dksJ5_vectorizedMismatch_5 21 rfl rfl)
theorem dJ5_vectorizedMismatch_140 : decode cJ5_vectorizedMismatch 140 = .ok (.iconst 1, 1) := dk_4 (dk_at dksJ5_vectorizedMismatch_6 0 rfl rfl)
theorem dJ5_vectorizedMismatch_141 : decode cJ5_vectorizedMismatch 141 = .ok (.getstatic 51, 3) := dk_178 0 51 (dk_at dksJ5_vectorizedMismatch_6 1 rfl rfl)
theorem dJ5_vectorizedMismatch_144 : decode cJ5_vectorizedMismatch 144 = .ok (.iload 7, 2) := dk_21 7 (dk_at dksJ5_vectorizedMismatch_6 4 rfl rfl)
theorem dJ5_vectorizedMismatch_146 : decode cJ5_vectorizedMismatch 146 = .ok (.isub, 1) := dk_100 (dk_at dksJ5_vectorizedMismatch_6 6 rfl rfl)
theorem dJ5_vectorizedMismatch_147 : decode cJ5_vectorizedMismatch 147 = .ok (.ishl, 1) := dk_120 (dk_at dksJ5_vectorizedMismatch_6 7 rfl rfl)
theorem dJ5_vectorizedMismatch_148 : decode cJ5_vectorizedMismatch 148 = .ok (.istore 11, 2) := dk_54 11 (dk_at dksJ5_vectorizedMismatch_6 8 rfl rfl)
theorem dJ5_vectorizedMismatch_150 : decode cJ5_vectorizedMismatch 150 = .ok (.iload 10, 2) := dk_21 10 (dk_at dksJ5_vectorizedMismatch_6 10 rfl rfl)
theorem dJ5_vectorizedMismatch_152 : decode cJ5_vectorizedMismatch 152 = .ok (.iload 11, 2) := dk_21 11 (dk_at dksJ5_vectorizedMismatch_6 12 rfl rfl)
theorem dJ5_vectorizedMismatch_154 : decode cJ5_vectorizedMismatch 154 = .ok (.if_icmp .lt 104, 3) := dk_161 0 104 (dk_at dksJ5_vectorizedMismatch_6 14 rfl rfl)
theorem dJ5_vectorizedMismatch_157 : decode cJ5_vectorizedMismatch 157 = .ok (.iload 9, 2) := dk_21 9 (dk_at dksJ5_vectorizedMismatch_6 17 rfl rfl)
theorem dJ5_vectorizedMismatch_159 : decode cJ5_vectorizedMismatch 159 = .ok (.i2l, 1) := dk_133 (dk_at dksJ5_vectorizedMismatch_6 19 rfl rfl)
theorem dJ5_vectorizedMismatch_160 : decode cJ5_vectorizedMismatch 160 = .ok (.getstatic 20, 3) := dk_178 0 20 (dk_at dksJ5_vectorizedMismatch_6 20 rfl rfl)
theorem dJ5_vectorizedMismatch_163 : decode cJ5_vectorizedMismatch 163 = .ok (.lshl, 1) := dk_121 (dk_at dksJ5_vectorizedMismatch_6 23 rfl rfl)
theorem dJ5_vectorizedMismatch_164 : decode cJ5_vectorizedMismatch 164 = .ok (.lstore 12, 2) := dk_55 12 (dk_at dksJ5_vectorizedMismatch_7 0 rfl rfl)
theorem dJ5_vectorizedMismatch_166 : decode cJ5_vectorizedMismatch 166 = .ok (.getstatic 26, 3) := dk_178 0 26 (dk_at dksJ5_vectorizedMismatch_7 2 rfl rfl)
theorem dJ5_vectorizedMismatch_169 : decode cJ5_vectorizedMismatch 169 = .ok (.aload_n 0, 1) := dk_42 (dk_at dksJ5_vectorizedMismatch_7 5 rfl rfl)
theorem dJ5_vectorizedMismatch_170 : decode cJ5_vectorizedMismatch 170 = .ok (.lload_n 1, 1) := dk_31 (dk_at dksJ5_vectorizedMismatch_7 6 rfl rfl)
theorem dJ5_vectorizedMismatch_171 : decode cJ5_vectorizedMismatch 171 = .ok (.lload 12, 2) := dk_22 12 (dk_at dksJ5_vectorizedMismatch_7 7 rfl rfl)
theorem dJ5_vectorizedMismatch_173 : decode cJ5_vectorizedMismatch 173 = .ok (.ladd, 1) := dk_97 (dk_at dksJ5_vectorizedMismatch_7 9 rfl rfl)
theorem dJ5_vectorizedMismatch_174 : decode cJ5_vectorizedMismatch 174 = .ok (.invokevirtual 54, 3) := dk_182 0 54 (dk_at dksJ5_vectorizedMismatch_7 10 rfl rfl)
theorem dJ5_vectorizedMismatch_177 : decode cJ5_vectorizedMismatch 177 = .ok (.istore 14, 2) := dk_54 14 (dk_at dksJ5_vectorizedMismatch_7 13 rfl rfl)
theorem dJ5_vectorizedMismatch_179 : decode cJ5_vectorizedMismatch 179 = .ok (.getstatic 26, 3) := dk_178 0 26 (dk_at dksJ5_vectorizedMismatch_7 15 rfl rfl)
theorem dJ5_vectorizedMismatch_182 : decode cJ5_vectorizedMismatch 182 = .ok (.aload_n 3, 1) := dk_45 (dk_at dksJ5_vectorizedMismatch_7 18 rfl rfl)
theorem dJ5_vectorizedMismatch_183 : decode cJ5_vectorizedMismatch 183 = .ok (.lload 4, 2) := dk_22 4 (dk_at dksJ5_vectorizedMismatch_7 19 rfl rfl)
theorem dJ5_vectorizedMismatch_185 : decode cJ5_vectorizedMismatch 185 = .ok (.lload 12, 2) := dk_22 12 (dk_at dksJ5_vectorizedMismatch_7 21 rfl rfl)
theorem dJ5_vectorizedMismatch_187 : decode cJ5_vectorizedMismatch 187 = .ok (.ladd, 1) := dk_97 (dk_at dksJ5_vectorizedMismatch_7 23 rfl rfl)
theorem dJ5_vectorizedMismatch_188 : decode cJ5_vectorizedMismatch 188 = .ok (.invokevirtual 54, 3) := dk_182 0 54 (dk_at dksJ5_vectorizedMismatch_8 0 rfl rfl)
theorem dJ5_vectorizedMismatch_191 : decode cJ5_vectorizedMismatch 191 = .ok (.istore 15, 2) := dk_54 15 (dk_at dksJ5_vectorizedMismatch_8 3 rfl rfl)
theorem dJ5_vectorizedMismatch_193 : decode cJ5_vectorizedMismatch 193 = .ok (.iload 14, 2) := dk_21 14 (dk_at dksJ5_vectorizedMismatch_8 5 rfl rfl)
theorem dJ5_vectorizedMismatch_195 : decode cJ5_vectorizedMismatch 195 = .ok (.iload 15, 2) := dk_21 15 (dk_at dksJ5_vectorizedMismatch_8 7 rfl rfl)
theorem dJ5_vectorizedMismatch_197 : decode cJ5_vectorizedMismatch 197 = .ok (.if_icmp .eq 54, 3) := dk_159 0 54 (dk_at dksJ5_vectorizedMismatch_8 9 rfl rfl)
theorem dJ5_vectorizedMismatch_200 : decode cJ5_vectorizedMismatch 200 = .ok (.iload 14, 2) := dk_21 14 (dk_at dksJ5_vectorizedMismatch_8 12 rfl rfl)
theorem dJ5_vectorizedMismatch_202 : decode cJ5_vectorizedMismatch 202 = .ok (.iload 15, 2) := dk_21 15 (dk_at dksJ5_vectorizedMismatch_8 14 rfl rfl)
theorem dJ5_vectorizedMismatch_204 : decode cJ5_vectorizedMismatch 204 = .ok (.ixor, 1) := dk_130 (dk_at dksJ5_vectorizedMismatch_8 16 rfl rfl)
theorem dJ5_vectorizedMismatch_205 : decode cJ5_vectorizedMismatch 205 = .ok (.istore 16, 2) := dk_54 16 (dk_at dksJ5_vectorizedMismatch_8 17 rfl rfl)
theorem dJ5_vectorizedMismatch_207 : decode cJ5_vectorizedMismatch 207 = .ok (.getstatic 36, 3) := dk_178 0 36 (dk_at dksJ5_vectorizedMismatch_8 19 rfl rfl)
theorem dJ5_vectorizedMismatch_210 : decode cJ5_vectorizedMismatch 210 = .ok (.ifCond .eq 18, 3) := dk_153 0 18 (dk_at dksJ5_vectorizedMismatch_9 0 rfl rfl)
theorem dJ5_vectorizedMismatch_213 : decode cJ5_vectorizedMismatch 213 = .ok (.iload 16, 2) := dk_21 16 (dk_at dksJ5_vectorizedMismatch_9 3 rfl rfl)
theorem dJ5_vectorizedMismatch_215 : decode cJ5_vectorizedMismatch 215 = .ok (.invokestatic 58, 3) := dk_184 0 58 (dk_at dksJ5_vectorizedMismatch_9 5 rfl rfl)
theorem dJ5_vectorizedMismatch_218 : decode cJ5_vectorizedMismatch 218 = .ok (.getstatic 46, 3) := dk_178 0 46 (dk_at dksJ5_vectorizedMismatch_9 8 rfl rfl)
theorem dJ5_vectorizedMismatch_221 : decode cJ5_vectorizedMismatch 221 = .ok (.iload 7, 2) := dk_21 7 (dk_at dksJ5_vectorizedMismatch_9 11 rfl rfl)
theorem dJ5_vectorizedMismatch_223 : decode cJ5_vectorizedMismatch 223 = .ok (.iadd, 1) := dk_96 (dk_at dksJ5_vectorizedMismatch_9 13 rfl rfl)
theorem dJ5_vectorizedMismatch_224 : decode cJ5_vectorizedMismatch 224 = .ok (.ishr, 1) := dk_122 (dk_at dksJ5_vectorizedMismatch_9 14 rfl rfl)
theorem dJ5_vectorizedMismatch_225 : decode cJ5_vectorizedMismatch 225 = .ok (.goto 15, 3) := dk_167 0 15 (dk_at dksJ5_vectorizedMismatch_9 15 rfl rfl)
theorem dJ5_vectorizedMismatch_228 : decode cJ5_vectorizedMismatch 228 = .ok (.iload 16, 2) := dk_21 16 (dk_at dksJ5_vectorizedMismatch_9 18 rfl rfl)
theorem dJ5_vectorizedMismatch_230 : decode cJ5_vectorizedMismatch 230 = .ok (.invokestatic 11, 3) := dk_184 0 11 (dk_at dksJ5_vectorizedMismatch_9 20 rfl rfl)
theorem dJ5_vectorizedMismatch_233 : decode cJ5_vectorizedMismatch 233 = .ok (.getstatic 46, 3) := dk_178 0 46 (dk_at dksJ5_vectorizedMismatch_10 0 rfl rfl)
theorem dJ5_vectorizedMismatch_236 : decode cJ5_vectorizedMismatch 236 = .ok (.iload 7, 2) := dk_21 7 (dk_at dksJ5_vectorizedMismatch_10 3 rfl rfl)
theorem dJ5_vectorizedMismatch_238 : decode cJ5_vectorizedMismatch 238 = .ok (.iadd, 1) := dk_96 (dk_at dksJ5_vectorizedMismatch_10 5 rfl rfl)
theorem dJ5_vectorizedMismatch_239 : decode cJ5_vectorizedMismatch 239 = .ok (.ishr, 1) := dk_122 (dk_at dksJ5_vectorizedMismatch_10 6 rfl rfl)
theorem dJ5_vectorizedMismatch_240 : decode cJ5_vectorizedMismatch 240 = .ok (.istore 17, 2) := dk_54 17 (dk_at dksJ5_vectorizedMismatch_10 7 rfl rfl)
theorem dJ5_vectorizedMismatch_242 : decode cJ5_vectorizedMismatch 242 = .ok (.iload 9, 2) := dk_21 9 (dk_at dksJ5_vectorizedMismatch_10 9 rfl rfl)
theorem dJ5_vectorizedMismatch_244 : decode cJ5_vectorizedMismatch 244 = .ok (.iload 8, 2) := dk_21 8 (dk_at dksJ5_vectorizedMismatch_10 11 rfl rfl)
theorem dJ5_vectorizedMismatch_246 : decode cJ5_vectorizedMismatch 246 = .ok (.ishl, 1) := dk_120 (dk_at dksJ5_vectorizedMismatch_10 13 rfl rfl)
theorem dJ5_vectorizedMismatch_247 : decode cJ5_vectorizedMismatch 247 = .ok (.iload 17, 2) := dk_21 17 (dk_at dksJ5_vectorizedMismatch_10 14 rfl rfl)
theorem dJ5_vectorizedMismatch_249 : decode cJ5_vectorizedMismatch 249 = .ok (.iadd, 1) := dk_96 (dk_at dksJ5_vectorizedMismatch_10 16 rfl rfl)
theorem dJ5_vectorizedMismatch_250 : decode cJ5_vectorizedMismatch 250 = .ok (.ireturn, 1) := dk_172 (dk_at dksJ5_vectorizedMismatch_10 17 rfl rfl)
theorem dJ5_vectorizedMismatch_251 : decode cJ5_vectorizedMismatch 251 = .ok (.iload 10, 2) := dk_21 10 (dk_at dksJ5_vectorizedMismatch_10 18 rfl rfl)
theorem dJ5_vectorizedMismatch_253 : decode cJ5_vectorizedMismatch 253 = .ok (.iload 11, 2) := dk_21 11 (dk_at dksJ5_vectorizedMismatch_10 20 rfl rfl)
theorem dJ5_vectorizedMismatch_255 : decode cJ5_vectorizedMismatch 255 = .ok (.isub, 1) := dk_100 (dk_at dksJ5_vectorizedMismatch_10 22 rfl rfl)
theorem dJ5_vectorizedMismatch_256 : decode cJ5_vectorizedMismatch 256 = .ok (.istore 10, 2) := dk_54 10 (dk_at dksJ5_vectorizedMismatch_11 0 rfl rfl)
theorem dJ5_vectorizedMismatch_258 : decode cJ5_vectorizedMismatch 258 = .ok (.iload 10, 2) := dk_21 10 (dk_at dksJ5_vectorizedMismatch_11 2 rfl rfl)
theorem dJ5_vectorizedMismatch_260 : decode cJ5_vectorizedMismatch 260 = .ok (.iconst (-1), 1) := dk_2 (dk_at dksJ5_vectorizedMismatch_11 4 rfl rfl)
theorem dJ5_vectorizedMismatch_261 : decode cJ5_vectorizedMismatch 261 = .ok (.ixor, 1) := dk_130 (dk_at dksJ5_vectorizedMismatch_11 5 rfl rfl)
theorem dJ5_vectorizedMismatch_262 : decode cJ5_vectorizedMismatch 262 = .ok (.ireturn, 1) := dk_172 (dk_at dksJ5_vectorizedMismatch_11 6 rfl rfl)
theorem dJ5_vectorizedMismatch_263 : decode cJ5_vectorizedMismatch 263 = .ok (.iload 10, 2) := dk_21 10 (dk_at dksJ5_vectorizedMismatch_11 7 rfl rfl)
theorem dJ5_vectorizedMismatch_265 : decode cJ5_vectorizedMismatch 265 = .ok (.iconst (-1), 1) := dk_2 (dk_at dksJ5_vectorizedMismatch_11 9 rfl rfl)
theorem dJ5_vectorizedMismatch_266 : decode cJ5_vectorizedMismatch 266 = .ok (.ixor, 1) := dk_130 (dk_at dksJ5_vectorizedMismatch_11 10 rfl rfl)
theorem dJ5_vectorizedMismatch_267 : decode cJ5_vectorizedMismatch 267 = .ok (.ireturn, 1) := dk_172 (dk_at dksJ5_vectorizedMismatch_11 11 rfl rfl)
theorem q192 : (Jvm.Cond.initialized "jdk/internal/util/ArraysSupport") ∈ lw_all := lw_g (lw_at lw_m1 7 rfl) rfl
theorem q314 : (Jvm.Cond.static ({ cls := "jdk/internal/util/ArraysSupport", name := "newLength", desc := "(III)I" } : Jvm.MethodName)) ∈ lw_all := lw_g (lw_at lw_m1 129 rfl) rfl
theorem q315 : (Jvm.Cond.code ({ cls := "jdk/internal/util/ArraysSupport", name := "newLength", desc := "(III)I" } : Jvm.MethodName) prog_76_method_27_code (4 : Nat) (Option.some Jvm.ClassFile.FieldType.int)) ∈ lw_all := lw_g (lw_at lw_m1 130 rfl) rfl
theorem q316 : (Jvm.Cond.methodLink "jdk/internal/util/ArraysSupport" (194 : Nat) ({ cls := "java/lang/Math", name := "max", desc := "(II)I" } : Jvm.MethodName)) ∈ lw_all := lw_g (lw_at lw_m1 131 rfl) rfl
theorem q319 : (Jvm.Cond.constant "jdk/internal/util/ArraysSupport" (200 : Nat) (2147483639 : Int32)) ∈ lw_all := lw_g (lw_at lw_m1 134 rfl) rfl
theorem q320 : (Jvm.Cond.methodLink "jdk/internal/util/ArraysSupport" (201 : Nat) ({ cls := "jdk/internal/util/ArraysSupport", name := "hugeLength", desc := "(II)I" } : Jvm.MethodName)) ∈ lw_all := lw_g (lw_at lw_m1 135 rfl) rfl
theorem q321 : (Jvm.Cond.static ({ cls := "jdk/internal/util/ArraysSupport", name := "hugeLength", desc := "(II)I" } : Jvm.MethodName)) ∈ lw_all := lw_g (lw_at lw_m1 136 rfl) rfl
theorem q322 : (Jvm.Cond.code ({ cls := "jdk/internal/util/ArraysSupport", name := "hugeLength", desc := "(II)I" } : Jvm.MethodName) prog_76_method_28_code (3 : Nat) (Option.some Jvm.ClassFile.FieldType.int)) ∈ lw_all := lw_g (lw_at lw_m1 137 rfl) rfl
theorem q1414 : (Jvm.Cond.static ({ cls := "jdk/internal/util/ArraysSupport", name := "mismatch", desc := "([B[BI)I" } : Jvm.MethodName)) ∈ lw_all := lw_g (lw_at lw_m6 29 rfl) rfl
theorem q1415 : (Jvm.Cond.code ({ cls := "jdk/internal/util/ArraysSupport", name := "mismatch", desc := "([B[BI)I" } : Jvm.MethodName) prog_76_method_13_code (4 : Nat) (Option.some Jvm.ClassFile.FieldType.int)) ∈ lw_all := lw_g (lw_at lw_m6 30 rfl) rfl
theorem q1416 : (Jvm.Cond.fieldLink "jdk/internal/util/ArraysSupport" (126 : Nat) "jdk/internal/misc/Unsafe" "ARRAY_BYTE_BASE_OFFSET" "I") ∈ lw_all := lw_g (lw_at lw_m6 31 rfl) rfl
theorem q1418 : (Jvm.Cond.fieldLink "jdk/internal/util/ArraysSupport" (129 : Nat) "jdk/internal/util/ArraysSupport" "LOG2_ARRAY_BYTE_INDEX_SCALE" "I") ∈ lw_all := lw_g (lw_at lw_m6 33 rfl) rfl
theorem q1419 : (Jvm.Cond.laysStatic "jdk/internal/util/ArraysSupport" "LOG2_ARRAY_BYTE_INDEX_SCALE" "I") ∈ lw_tbl := lw_at lw_m6 34 rfl
theorem q1420 : (Jvm.Cond.methodLink "jdk/internal/util/ArraysSupport" (122 : Nat) ({ cls := "jdk/internal/util/ArraysSupport", name := "vectorizedMismatch", desc := "(Ljava/lang/Object;JLjava/lang/Object;JII)I" } : Jvm.MethodName)) ∈ lw_all := lw_g (lw_at lw_m6 35 rfl) rfl
theorem q1421 : (Jvm.Cond.static ({ cls := "jdk/internal/util/ArraysSupport", name := "vectorizedMismatch", desc := "(Ljava/lang/Object;JLjava/lang/Object;JII)I" } : Jvm.MethodName)) ∈ lw_all := lw_g (lw_at lw_m6 36 rfl) rfl
theorem q1422 : (Jvm.Cond.code ({ cls := "jdk/internal/util/ArraysSupport", name := "vectorizedMismatch", desc := "(Ljava/lang/Object;JLjava/lang/Object;JII)I" } : Jvm.MethodName) prog_76_method_3_code (19 : Nat) (Option.some Jvm.ClassFile.FieldType.int)) ∈ lw_all := lw_g (lw_at lw_m6 37 rfl) rfl
theorem q1423 : (Jvm.Cond.fieldLink "jdk/internal/util/ArraysSupport" (20 : Nat) "jdk/internal/util/ArraysSupport" "LOG2_ARRAY_LONG_INDEX_SCALE" "I") ∈ lw_all := lw_g (lw_at lw_m6 38 rfl) rfl
theorem q1424 : (Jvm.Cond.laysStatic "jdk/internal/util/ArraysSupport" "LOG2_ARRAY_LONG_INDEX_SCALE" "I") ∈ lw_tbl := lw_at lw_m6 39 rfl
theorem q1425 : (Jvm.Cond.fieldLink "jdk/internal/util/ArraysSupport" (26 : Nat) "jdk/internal/util/ArraysSupport" "U" "Ljdk/internal/misc/Unsafe;") ∈ lw_all := lw_g (lw_at lw_m6 40 rfl) rfl
theorem q1426 : (Jvm.Cond.laysStatic "jdk/internal/util/ArraysSupport" "U" "Ljdk/internal/misc/Unsafe;") ∈ lw_tbl := lw_at lw_m6 41 rfl
theorem q1427 : (Jvm.Cond.methodLink "jdk/internal/util/ArraysSupport" (30 : Nat) ({ cls := "jdk/internal/misc/Unsafe", name := "getLongUnaligned", desc := "(Ljava/lang/Object;J)J" } : Jvm.MethodName)) ∈ lw_all := lw_g (lw_at lw_m6 42 rfl) rfl
theorem q1479 : (Jvm.Cond.fieldLink "jdk/internal/util/ArraysSupport" (36 : Nat) "jdk/internal/util/ArraysSupport" "BIG_ENDIAN" "Z") ∈ lw_all := lw_g (lw_at lw_m6 94 rfl) rfl
theorem q1480 : (Jvm.Cond.laysStatic "jdk/internal/util/ArraysSupport" "BIG_ENDIAN" "Z") ∈ lw_tbl := lw_at lw_m6 95 rfl
theorem q1481 : (Jvm.Cond.methodLink "jdk/internal/util/ArraysSupport" (40 : Nat) ({ cls := "java/lang/Long", name := "numberOfLeadingZeros", desc := "(J)I" } : Jvm.MethodName)) ∈ lw_all := lw_g (lw_at lw_m6 96 rfl) rfl
theorem q1487 : (Jvm.Cond.fieldLink "jdk/internal/util/ArraysSupport" (46 : Nat) "jdk/internal/util/ArraysSupport" "LOG2_BYTE_BIT_SIZE" "I") ∈ lw_all := lw_g (lw_at lw_m6 102 rfl) rfl
theorem q1488 : (Jvm.Cond.laysStatic "jdk/internal/util/ArraysSupport" "LOG2_BYTE_BIT_SIZE" "I") ∈ lw_tbl := lw_at lw_m6 103 rfl
theorem q1489 : (Jvm.Cond.methodLink "jdk/internal/util/ArraysSupport" (49 : Nat) ({ cls := "java/lang/Long", name := "numberOfTrailingZeros", desc := "(J)I" } : Jvm.MethodName)) ∈ lw_all := lw_g (lw_at lw_m6 104 rfl) rfl
theorem q1490 : (Jvm.Cond.fieldLink "jdk/internal/util/ArraysSupport" (51 : Nat) "jdk/internal/util/ArraysSupport" "LOG2_ARRAY_INT_INDEX_SCALE" "I") ∈ lw_all := lw_g (lw_at lw_m6 105 rfl) rfl
theorem q1491 : (Jvm.Cond.laysStatic "jdk/internal/util/ArraysSupport" "LOG2_ARRAY_INT_INDEX_SCALE" "I") ∈ lw_tbl := lw_at lw_m6 106 rfl
theorem q1492 : (Jvm.Cond.methodLink "jdk/internal/util/ArraysSupport" (54 : Nat) ({ cls := "jdk/internal/misc/Unsafe", name := "getIntUnaligned", desc := "(Ljava/lang/Object;J)I" } : Jvm.MethodName)) ∈ lw_all := lw_g (lw_at lw_m6 107 rfl) rfl
theorem q1509 : (Jvm.Cond.methodLink "jdk/internal/util/ArraysSupport" (58 : Nat) ({ cls := "java/lang/Integer", name := "numberOfLeadingZeros", desc := "(I)I" } : Jvm.MethodName)) ∈ lw_all := lw_g (lw_at lw_m6 124 rfl) rfl
theorem q1510 : (Jvm.Cond.methodLink "jdk/internal/util/ArraysSupport" (11 : Nat) ({ cls := "java/lang/Integer", name := "numberOfTrailingZeros", desc := "(I)I" } : Jvm.MethodName)) ∈ lw_all := lw_g (lw_at lw_m6 125 rfl) rfl
/-! java/lang/Math -/
set_option maxRecDepth 100000
def RJ6 : String := "java/lang/Math"
abbrev cJ6_max : ByteArray := prog_30_method_65_code
def yJ6_max : MethodName := ⟨RJ6, "max", "(II)I"⟩
def dkwJ6_max_0 : List UInt8 := [26, 27, 161, 0, 7, 26, 167, 0, 4, 27, 172]
abbrev dktJ6_max_0 : List UInt8 := dkwJ6_max_0 ++ []
theorem dksJ6_max_0 : cJ6_max.data.toList.drop 0 = dktJ6_max_0 := by decide +kernel
theorem dJ6_max_0 : decode cJ6_max 0 = .ok (.iload_n 0, 1) := dk_26 (dk_at dksJ6_max_0 0 rfl rfl)
theorem dJ6_max_1 : decode cJ6_max 1 = .ok (.iload_n 1, 1) := dk_27 (dk_at dksJ6_max_0 1 rfl rfl)
theorem dJ6_max_2 : decode cJ6_max 2 = .ok (.if_icmp .lt 7, 3) := dk_161 0 7 (dk_at dksJ6_max_0 2 rfl rfl)
theorem dJ6_max_5 : decode cJ6_max 5 = .ok (.iload_n 0, 1) := dk_26 (dk_at dksJ6_max_0 5 rfl rfl)
theorem dJ6_max_6 : decode cJ6_max 6 = .ok (.goto 4, 3) := dk_167 0 4 (dk_at dksJ6_max_0 6 rfl rfl)
theorem dJ6_max_9 : decode cJ6_max 9 = .ok (.iload_n 1, 1) := dk_27 (dk_at dksJ6_max_0 9 rfl rfl)
theorem dJ6_max_10 : decode cJ6_max 10 = .ok (.ireturn, 1) := dk_172 (dk_at dksJ6_max_0 10 rfl rfl)
abbrev cJ6_min : ByteArray := prog_30_method_69_code
def yJ6_min : MethodName := ⟨RJ6, "min", "(II)I"⟩
def dkwJ6_min_0 : List UInt8 := [26, 27, 163, 0, 7, 26, 167, 0, 4, 27, 172]
abbrev dktJ6_min_0 : List UInt8 := dkwJ6_min_0 ++ []
theorem dksJ6_min_0 : cJ6_min.data.toList.drop 0 = dktJ6_min_0 := by decide +kernel
theorem dJ6_min_0 : decode cJ6_min 0 = .ok (.iload_n 0, 1) := dk_26 (dk_at dksJ6_min_0 0 rfl rfl)
theorem dJ6_min_1 : decode cJ6_min 1 = .ok (.iload_n 1, 1) := dk_27 (dk_at dksJ6_min_0 1 rfl rfl)
theorem dJ6_min_2 : decode cJ6_min 2 = .ok (.if_icmp .gt 7, 3) := dk_163 0 7 (dk_at dksJ6_min_0 2 rfl rfl)
theorem dJ6_min_5 : decode cJ6_min 5 = .ok (.iload_n 0, 1) := dk_26 (dk_at dksJ6_min_0 5 rfl rfl)
theorem dJ6_min_6 : decode cJ6_min 6 = .ok (.goto 4, 3) := dk_167 0 4 (dk_at dksJ6_min_0 6 rfl rfl)
theorem dJ6_min_9 : decode cJ6_min 9 = .ok (.iload_n 1, 1) := dk_27 (dk_at dksJ6_min_0 9 rfl rfl)
theorem dJ6_min_10 : decode cJ6_min 10 = .ok (.ireturn, 1) := dk_172 (dk_at dksJ6_min_0 10 rfl rfl)
theorem q193 : (Jvm.Cond.initialized "java/lang/Math") ∈ lw_all := lw_g (lw_at lw_m1 8 rfl) rfl
theorem q317 : (Jvm.Cond.static ({ cls := "java/lang/Math", name := "max", desc := "(II)I" } : Jvm.MethodName)) ∈ lw_all := lw_g (lw_at lw_m1 132 rfl) rfl
theorem q318 : (Jvm.Cond.code ({ cls := "java/lang/Math", name := "max", desc := "(II)I" } : Jvm.MethodName) prog_30_method_65_code (2 : Nat) (Option.some Jvm.ClassFile.FieldType.int)) ∈ lw_all := lw_g (lw_at lw_m1 133 rfl) rfl
theorem q365 : (Jvm.Cond.static ({ cls := "java/lang/Math", name := "min", desc := "(II)I" } : Jvm.MethodName)) ∈ lw_all := lw_g (lw_at lw_m1 180 rfl) rfl
theorem q366 : (Jvm.Cond.code ({ cls := "java/lang/Math", name := "min", desc := "(II)I" } : Jvm.MethodName) prog_30_method_69_code (2 : Nat) (Option.some Jvm.ClassFile.FieldType.int)) ∈ lw_all := lw_g (lw_at lw_m1 181 rfl) rfl
/-! java/util/Arrays -/
set_option maxRecDepth 100000
def RJ7 : String := "java/util/Arrays"
abbrev cJ7_copyOf : ByteArray := prog_46_method_119_code
def yJ7_copyOf : MethodName := ⟨RJ7, "copyOf", "([Ljava/lang/Object;I)[Ljava/lang/Object;"⟩
def dkwJ7_copyOf_0 : List UInt8 := [42, 27, 42, 182, 0, 86, 184, 1, 44, 176]
abbrev dktJ7_copyOf_0 : List UInt8 := dkwJ7_copyOf_0 ++ []
theorem dksJ7_copyOf_0 : cJ7_copyOf.data.toList.drop 0 = dktJ7_copyOf_0 := by decide +kernel
theorem dJ7_copyOf_0 : decode cJ7_copyOf 0 = .ok (.aload_n 0, 1) := dk_42 (dk_at dksJ7_copyOf_0 0 rfl rfl)
theorem dJ7_copyOf_1 : decode cJ7_copyOf 1 = .ok (.iload_n 1, 1) := dk_27 (dk_at dksJ7_copyOf_0 1 rfl rfl)
theorem dJ7_copyOf_2 : decode cJ7_copyOf 2 = .ok (.aload_n 0, 1) := dk_42 (dk_at dksJ7_copyOf_0 2 rfl rfl)
theorem dJ7_copyOf_3 : decode cJ7_copyOf 3 = .ok (.invokevirtual 86, 3) := dk_182 0 86 (dk_at dksJ7_copyOf_0 3 rfl rfl)
theorem dJ7_copyOf_6 : decode cJ7_copyOf 6 = .ok (.invokestatic 300, 3) := dk_184 1 44 (dk_at dksJ7_copyOf_0 6 rfl rfl)
theorem dJ7_copyOf_9 : decode cJ7_copyOf 9 = .ok (.areturn, 1) := dk_176 (dk_at dksJ7_copyOf_0 9 rfl rfl)
abbrev cJ7_copyOf_2 : ByteArray := prog_46_method_120_code
def yJ7_copyOf_2 : MethodName := ⟨RJ7, "copyOf", "([Ljava/lang/Object;ILjava/lang/Class;)[Ljava/lang/Object;"⟩
def dkwJ7_copyOf_2_1 : List UInt8 := [78, 42, 3, 45, 3, 42, 190, 27, 184, 1, 48, 184, 0, 150, 45, 176]
abbrev dktJ7_copyOf_2_1 : List UInt8 := dkwJ7_copyOf_2_1 ++ []
def dkwJ7_copyOf_2_0 : List UInt8 := [44, 18, 110, 166, 0, 10, 27, 189, 0, 2, 167, 0, 14, 44, 182, 0, 90, 27, 184, 0, 95, 192, 0, 110]
abbrev dktJ7_copyOf_2_0 : List UInt8 := dkwJ7_copyOf_2_0 ++ dktJ7_copyOf_2_1
theorem dksJ7_copyOf_2_0 : cJ7_copyOf_2.data.toList.drop 0 = dktJ7_copyOf_2_0 := by decide +kernel
theorem dksJ7_copyOf_2_1 : cJ7_copyOf_2.data.toList.drop 24 = dktJ7_copyOf_2_1 := dk_seg dksJ7_copyOf_2_0 24 rfl rfl
theorem dJ7_copyOf_2_0 : decode cJ7_copyOf_2 0 = .ok (.aload_n 2, 1) := dk_44 (dk_at dksJ7_copyOf_2_0 0 rfl rfl)
theorem dJ7_copyOf_2_1 : decode cJ7_copyOf_2 1 = .ok (.ldc 110, 2) := dk_18 110 (dk_at dksJ7_copyOf_2_0 1 rfl rfl)
theorem dJ7_copyOf_2_3 : decode cJ7_copyOf_2 3 = .ok (.if_acmp .ne 10, 3) := dk_166 0 10 (dk_at dksJ7_copyOf_2_0 3 rfl rfl)
theorem dJ7_copyOf_2_6 : decode cJ7_copyOf_2 6 = .ok (.iload_n 1, 1) := dk_27 (dk_at dksJ7_copyOf_2_0 6 rfl rfl)
theorem dJ7_copyOf_2_7 : decode cJ7_copyOf_2 7 = .ok (.anewarray 2, 3) := dk_189 0 2 (dk_at dksJ7_copyOf_2_0 7 rfl rfl)
theorem dJ7_copyOf_2_10 : decode cJ7_copyOf_2 10 = .ok (.goto 14, 3) := dk_167 0 14 (dk_at dksJ7_copyOf_2_0 10 rfl rfl)
theorem dJ7_copyOf_2_13 : decode cJ7_copyOf_2 13 = .ok (.aload_n 2, 1) := dk_44 (dk_at dksJ7_copyOf_2_0 13 rfl rfl)
theorem dJ7_copyOf_2_14 : decode cJ7_copyOf_2 14 = .ok (.invokevirtual 90, 3) := dk_182 0 90 (dk_at dksJ7_copyOf_2_0 14 rfl rfl)
theorem dJ7_copyOf_2_17 : decode cJ7_copyOf_2 17 = .ok (.iload_n 1, 1) := dk_27 (dk_at dksJ7_copyOf_2_0 17 rfl rfl)
theorem dJ7_copyOf_2_18 : decode cJ7_copyOf_2 18 = .ok (.invokestatic 95, 3) := dk_184 0 95 (dk_at dksJ7_copyOf_2_0 18 rfl rfl)
theorem dJ7_copyOf_2_21 : decode cJ7_copyOf_2 21 = .ok (.checkcast 110, 3) := dk_192 0 110 (dk_at dksJ7_copyOf_2_0 21 rfl rfl)
theorem dJ7_copyOf_2_24 : decode cJ7_copyOf_2 24 = .ok (.astore_n 3, 1) := dk_78 (dk_at dksJ7_copyOf_2_1 0 rfl rfl)
theorem dJ7_copyOf_2_25 : decode cJ7_copyOf_2 25 = .ok (.aload_n 0, 1) := dk_42 (dk_at dksJ7_copyOf_2_1 1 rfl rfl)
theorem dJ7_copyOf_2_26 : decode cJ7_copyOf_2 26 = .ok (.iconst 0, 1) := dk_3 (dk_at dksJ7_copyOf_2_1 2 rfl rfl)
theorem dJ7_copyOf_2_27 : decode cJ7_copyOf_2 27 = .ok (.aload_n 3, 1) := dk_45 (dk_at dksJ7_copyOf_2_1 3 rfl rfl)
theorem dJ7_copyOf_2_28 : decode cJ7_copyOf_2 28 = .ok (.iconst 0, 1) := dk_3 (dk_at dksJ7_copyOf_2_1 4 rfl rfl)
theorem dJ7_copyOf_2_29 : decode cJ7_copyOf_2 29 = .ok (.aload_n 0, 1) := dk_42 (dk_at dksJ7_copyOf_2_1 5 rfl rfl)
theorem dJ7_copyOf_2_30 : decode cJ7_copyOf_2 30 = .ok (.arraylength, 1) := dk_190 (dk_at dksJ7_copyOf_2_1 6 rfl rfl)
theorem dJ7_copyOf_2_31 : decode cJ7_copyOf_2 31 = .ok (.iload_n 1, 1) := dk_27 (dk_at dksJ7_copyOf_2_1 7 rfl rfl)
theorem dJ7_copyOf_2_32 : decode cJ7_copyOf_2 32 = .ok (.invokestatic 304, 3) := dk_184 1 48 (dk_at dksJ7_copyOf_2_1 8 rfl rfl)
theorem dJ7_copyOf_2_35 : decode cJ7_copyOf_2 35 = .ok (.invokestatic 150, 3) := dk_184 0 150 (dk_at dksJ7_copyOf_2_1 11 rfl rfl)
theorem dJ7_copyOf_2_38 : decode cJ7_copyOf_2 38 = .ok (.aload_n 3, 1) := dk_45 (dk_at dksJ7_copyOf_2_1 14 rfl rfl)
theorem dJ7_copyOf_2_39 : decode cJ7_copyOf_2 39 = .ok (.areturn, 1) := dk_176 (dk_at dksJ7_copyOf_2_1 15 rfl rfl)
abbrev cJ7_copyOf_3 : ByteArray := prog_46_method_124_code
def yJ7_copyOf_3 : MethodName := ⟨RJ7, "copyOf", "([JI)[J"⟩
def dkwJ7_copyOf_3_1 : List UInt8 := [27, 184, 1, 48, 184, 0, 150, 44, 176]
abbrev dktJ7_copyOf_3_1 : List UInt8 := dkwJ7_copyOf_3_1 ++ []
def dkwJ7_copyOf_3_0 : List UInt8 := [27, 42, 190, 160, 0, 11, 42, 182, 1, 63, 192, 1, 64, 176, 27, 188, 11, 77, 42, 3, 44, 3, 42, 190]
abbrev dktJ7_copyOf_3_0 : List UInt8 := dkwJ7_copyOf_3_0 ++ dktJ7_copyOf_3_1
theorem dksJ7_copyOf_3_0 : cJ7_copyOf_3.data.toList.drop 0 = dktJ7_copyOf_3_0 := by decide +kernel
theorem dksJ7_copyOf_3_1 : cJ7_copyOf_3.data.toList.drop 24 = dktJ7_copyOf_3_1 := dk_seg dksJ7_copyOf_3_0 24 rfl rfl
theorem dJ7_copyOf_3_0 : decode cJ7_copyOf_3 0 = .ok (.iload_n 1, 1) := dk_27 (dk_at dksJ7_copyOf_3_0 0 rfl rfl)
theorem dJ7_copyOf_3_1 : decode cJ7_copyOf_3 1 = .ok (.aload_n 0, 1) := dk_42 (dk_at dksJ7_copyOf_3_0 1 rfl rfl)
theorem dJ7_copyOf_3_2 : decode cJ7_copyOf_3 2 = .ok (.arraylength, 1) := dk_190 (dk_at dksJ7_copyOf_3_0 2 rfl rfl)
theorem dJ7_copyOf_3_3 : decode cJ7_copyOf_3 3 = .ok (.if_icmp .ne 11, 3) := dk_160 0 11 (dk_at dksJ7_copyOf_3_0 3 rfl rfl)
theorem dJ7_copyOf_3_6 : decode cJ7_copyOf_3 6 = .ok (.aload_n 0, 1) := dk_42 (dk_at dksJ7_copyOf_3_0 6 rfl rfl)
theorem dJ7_copyOf_3_7 : decode cJ7_copyOf_3 7 = .ok (.invokevirtual 319, 3) := dk_182 1 63 (dk_at dksJ7_copyOf_3_0 7 rfl rfl)
theorem dJ7_copyOf_3_10 : decode cJ7_copyOf_3 10 = .ok (.checkcast 320, 3) := dk_192 1 64 (dk_at dksJ7_copyOf_3_0 10 rfl rfl)
theorem dJ7_copyOf_3_13 : decode cJ7_copyOf_3 13 = .ok (.areturn, 1) := dk_176 (dk_at dksJ7_copyOf_3_0 13 rfl rfl)
theorem dJ7_copyOf_3_14 : decode cJ7_copyOf_3 14 = .ok (.iload_n 1, 1) := dk_27 (dk_at dksJ7_copyOf_3_0 14 rfl rfl)
theorem dJ7_copyOf_3_15 : decode cJ7_copyOf_3 15 = .ok (.newarray .long, 2) := dk_188_11 (dk_at dksJ7_copyOf_3_0 15 rfl rfl)
theorem dJ7_copyOf_3_17 : decode cJ7_copyOf_3 17 = .ok (.astore_n 2, 1) := dk_77 (dk_at dksJ7_copyOf_3_0 17 rfl rfl)
theorem dJ7_copyOf_3_18 : decode cJ7_copyOf_3 18 = .ok (.aload_n 0, 1) := dk_42 (dk_at dksJ7_copyOf_3_0 18 rfl rfl)
theorem dJ7_copyOf_3_19 : decode cJ7_copyOf_3 19 = .ok (.iconst 0, 1) := dk_3 (dk_at dksJ7_copyOf_3_0 19 rfl rfl)
theorem dJ7_copyOf_3_20 : decode cJ7_copyOf_3 20 = .ok (.aload_n 2, 1) := dk_44 (dk_at dksJ7_copyOf_3_0 20 rfl rfl)
theorem dJ7_copyOf_3_21 : decode cJ7_copyOf_3 21 = .ok (.iconst 0, 1) := dk_3 (dk_at dksJ7_copyOf_3_0 21 rfl rfl)
theorem dJ7_copyOf_3_22 : decode cJ7_copyOf_3 22 = .ok (.aload_n 0, 1) := dk_42 (dk_at dksJ7_copyOf_3_0 22 rfl rfl)
theorem dJ7_copyOf_3_23 : decode cJ7_copyOf_3 23 = .ok (.arraylength, 1) := dk_190 (dk_at dksJ7_copyOf_3_0 23 rfl rfl)
theorem dJ7_copyOf_3_24 : decode cJ7_copyOf_3 24 = .ok (.iload_n 1, 1) := dk_27 (dk_at dksJ7_copyOf_3_1 0 rfl rfl)
theorem dJ7_copyOf_3_25 : decode cJ7_copyOf_3 25 = .ok (.invokestatic 304, 3) := dk_184 1 48 (dk_at dksJ7_copyOf_3_1 1 rfl rfl)
theorem dJ7_copyOf_3_28 : decode cJ7_copyOf_3 28 = .ok (.invokestatic 150, 3) := dk_184 0 150 (dk_at dksJ7_copyOf_3_1 4 rfl rfl)
theorem dJ7_copyOf_3_31 : decode cJ7_copyOf_3 31 = .ok (.aload_n 2, 1) := dk_44 (dk_at dksJ7_copyOf_3_1 7 rfl rfl)
theorem dJ7_copyOf_3_32 : decode cJ7_copyOf_3 32 = .ok (.areturn, 1) := dk_176 (dk_at dksJ7_copyOf_3_1 8 rfl rfl)
theorem q194 : (Jvm.Cond.initialized "java/util/Arrays") ∈ lw_all := lw_g (lw_at lw_m1 9 rfl) rfl
theorem q324 : (Jvm.Cond.static ({ cls := "java/util/Arrays", name := "copyOf", desc := "([Ljava/lang/Object;I)[Ljava/lang/Object;" } : Jvm.MethodName)) ∈ lw_all := lw_g (lw_at lw_m1 139 rfl) rfl
theorem q325 : (Jvm.Cond.code ({ cls := "java/util/Arrays", name := "copyOf", desc := "([Ljava/lang/Object;I)[Ljava/lang/Object;" } : Jvm.MethodName) prog_46_method_119_code (2 : Nat) (Option.some (Jvm.ClassFile.FieldType.array (Jvm.ClassFile.FieldType.object "java/lang/Object")))) ∈ lw_all := lw_g (lw_at lw_m1 140 rfl) rfl
theorem q326 : (Jvm.Cond.methodLink "java/util/Arrays" (86 : Nat) ({ cls := "java/lang/Object", name := "getClass", desc := "()Ljava/lang/Class;" } : Jvm.MethodName)) ∈ lw_all := lw_g (lw_at lw_m1 141 rfl) rfl
theorem q358 : (Jvm.Cond.methodLink "java/util/Arrays" (300 : Nat) ({ cls := "java/util/Arrays", name := "copyOf", desc := "([Ljava/lang/Object;ILjava/lang/Class;)[Ljava/lang/Object;" } : Jvm.MethodName)) ∈ lw_all := lw_g (lw_at lw_m1 173 rfl) rfl
theorem q359 : (Jvm.Cond.static ({ cls := "java/util/Arrays", name := "copyOf", desc := "([Ljava/lang/Object;ILjava/lang/Class;)[Ljava/lang/Object;" } : Jvm.MethodName)) ∈ lw_all := lw_g (lw_at lw_m1 174 rfl) rfl
theorem q360 : (Jvm.Cond.code ({ cls := "java/util/Arrays", name := "copyOf", desc := "([Ljava/lang/Object;ILjava/lang/Class;)[Ljava/lang/Object;" } : Jvm.MethodName) prog_46_method_120_code (4 : Nat) (Option.some (Jvm.ClassFile.FieldType.array (Jvm.ClassFile.FieldType.object "java/lang/Object")))) ∈ lw_all := lw_g (lw_at lw_m1 175 rfl) rfl
theorem q361 : (Jvm.Cond.classLink "java/util/Arrays" (110 : Nat) "[Ljava/lang/Object;") ∈ lw_all := lw_g (lw_at lw_m1 176 rfl) rfl
theorem q363 : (Jvm.Cond.classLink "java/util/Arrays" (2 : Nat) "java/lang/Object") ∈ lw_all := lw_g (lw_at lw_m1 178 rfl) rfl
theorem q364 : (Jvm.Cond.methodLink "java/util/Arrays" (304 : Nat) ({ cls := "java/lang/Math", name := "min", desc := "(II)I" } : Jvm.MethodName)) ∈ lw_all := lw_g (lw_at lw_m1 179 rfl) rfl
theorem q367 : (Jvm.Cond.methodLink "java/util/Arrays" (150 : Nat) ({ cls := "java/lang/System", name := "arraycopy", desc := "(Ljava/lang/Object;ILjava/lang/Object;II)V" } : Jvm.MethodName)) ∈ lw_all := lw_g (lw_at lw_m1 182 rfl) rfl
theorem q509 : (Jvm.Cond.static ({ cls := "java/util/Arrays", name := "copyOf", desc := "([JI)[J" } : Jvm.MethodName)) ∈ lw_all := lw_g (lw_at lw_m2 84 rfl) rfl
theorem q510 : (Jvm.Cond.code ({ cls := "java/util/Arrays", name := "copyOf", desc := "([JI)[J" } : Jvm.MethodName) prog_46_method_124_code (3 : Nat) (Option.some (Jvm.ClassFile.FieldType.array Jvm.ClassFile.FieldType.long))) ∈ lw_all := lw_g (lw_at lw_m2 85 rfl) rfl
theorem q511 : (Jvm.Cond.methodLink "java/util/Arrays" (319 : Nat) ({ cls := "[J", name := "clone", desc := "()Ljava/lang/Object;" } : Jvm.MethodName)) ∈ lw_all := lw_g (lw_at lw_m2 86 rfl) rfl
theorem q517 : (Jvm.Cond.classLink "java/util/Arrays" (320 : Nat) "[J") ∈ lw_all := lw_g (lw_at lw_m2 92 rfl) rfl
/-! java/util/BitSet -/
set_option maxRecDepth 100000
def RJ8 : String := "java/util/BitSet"
def TJ8 : u_T := fun k => match k with
  | 0 => ("java/util/BitSet", "words", "[J", false)
  | 1 => ("java/util/BitSet", "wordsInUse", "I", false)
  | _ => ("java/util/BitSet", "sizeIsSticky", "Z", false)
def tyJ8 : Nat → FieldType := fun k => match k with
  | 0 => .array .long
  | 1 => .int
  | _ => .boolean
abbrev wsJ80 : List Cond := u_ws RJ8 TJ8 3
theorem nmJ8 : ∀ a, a < 3 → ∀ b, b < 3 → a ≠ b → (TJ8 a).2.1 ≠ (TJ8 b).2.1 := by decide +kernel
theorem tyJ8_ok : ∀ k, k < 3 → parseFieldDescriptor (TJ8 k).2.2.1 = some (tyJ8 k) := by decide +kernel
abbrev cJ8_init : ByteArray := prog_47_method_4_code
def yJ8_init : MethodName := ⟨RJ8, "<init>", "()V"⟩
def dkwJ8_init_1 : List UInt8 := [181, 0, 24, 177]
abbrev dktJ8_init_1 : List UInt8 := dkwJ8_init_1 ++ []
def dkwJ8_init_0 : List UInt8 := [42, 183, 0, 21, 42, 3, 181, 0, 7, 42, 3, 181, 0, 24, 42, 16, 64, 182, 0, 27, 42, 3]
abbrev dktJ8_init_0 : List UInt8 := dkwJ8_init_0 ++ dktJ8_init_1
theorem dksJ8_init_0 : cJ8_init.data.toList.drop 0 = dktJ8_init_0 := by decide +kernel
theorem dksJ8_init_1 : cJ8_init.data.toList.drop 22 = dktJ8_init_1 := dk_seg dksJ8_init_0 22 rfl rfl
theorem dJ8_init_0 : decode cJ8_init 0 = .ok (.aload_n 0, 1) := dk_42 (dk_at dksJ8_init_0 0 rfl rfl)
theorem dJ8_init_1 : decode cJ8_init 1 = .ok (.invokespecial 21, 3) := dk_183 0 21 (dk_at dksJ8_init_0 1 rfl rfl)
theorem dJ8_init_4 : decode cJ8_init 4 = .ok (.aload_n 0, 1) := dk_42 (dk_at dksJ8_init_0 4 rfl rfl)
theorem dJ8_init_5 : decode cJ8_init 5 = .ok (.iconst 0, 1) := dk_3 (dk_at dksJ8_init_0 5 rfl rfl)
theorem dJ8_init_6 : decode cJ8_init 6 = .ok (.putfield 7, 3) := dk_181 0 7 (dk_at dksJ8_init_0 6 rfl rfl)
theorem dJ8_init_9 : decode cJ8_init 9 = .ok (.aload_n 0, 1) := dk_42 (dk_at dksJ8_init_0 9 rfl rfl)
theorem dJ8_init_10 : decode cJ8_init 10 = .ok (.iconst 0, 1) := dk_3 (dk_at dksJ8_init_0 10 rfl rfl)
theorem dJ8_init_11 : decode cJ8_init 11 = .ok (.putfield 24, 3) := dk_181 0 24 (dk_at dksJ8_init_0 11 rfl rfl)
theorem dJ8_init_14 : decode cJ8_init 14 = .ok (.aload_n 0, 1) := dk_42 (dk_at dksJ8_init_0 14 rfl rfl)
theorem dJ8_init_15 : decode cJ8_init 15 = .ok (.bipush 64, 2) := dk_16 64 (dk_at dksJ8_init_0 15 rfl rfl)
theorem dJ8_init_17 : decode cJ8_init 17 = .ok (.invokevirtual 27, 3) := dk_182 0 27 (dk_at dksJ8_init_0 17 rfl rfl)
theorem dJ8_init_20 : decode cJ8_init 20 = .ok (.aload_n 0, 1) := dk_42 (dk_at dksJ8_init_0 20 rfl rfl)
theorem dJ8_init_21 : decode cJ8_init 21 = .ok (.iconst 0, 1) := dk_3 (dk_at dksJ8_init_0 21 rfl rfl)
theorem dJ8_init_22 : decode cJ8_init 22 = .ok (.putfield 24, 3) := dk_181 0 24 (dk_at dksJ8_init_1 0 rfl rfl)
theorem dJ8_init_25 : decode cJ8_init 25 = .ok (.return_, 1) := dk_177 (dk_at dksJ8_init_1 3 rfl rfl)
abbrev cJ8_initWords : ByteArray := prog_47_method_6_code
def yJ8_initWords : MethodName := ⟨RJ8, "initWords", "(I)V"⟩
def dkwJ8_initWords_0 : List UInt8 := [42, 27, 4, 100, 184, 0, 52, 4, 96, 188, 11, 181, 0, 11, 177]
abbrev dktJ8_initWords_0 : List UInt8 := dkwJ8_initWords_0 ++ []
theorem dksJ8_initWords_0 : cJ8_initWords.data.toList.drop 0 = dktJ8_initWords_0 := by decide +kernel
theorem dJ8_initWords_0 : decode cJ8_initWords 0 = .ok (.aload_n 0, 1) := dk_42 (dk_at dksJ8_initWords_0 0 rfl rfl)
theorem dJ8_initWords_1 : decode cJ8_initWords 1 = .ok (.iload_n 1, 1) := dk_27 (dk_at dksJ8_initWords_0 1 rfl rfl)
theorem dJ8_initWords_2 : decode cJ8_initWords 2 = .ok (.iconst 1, 1) := dk_4 (dk_at dksJ8_initWords_0 2 rfl rfl)
theorem dJ8_initWords_3 : decode cJ8_initWords 3 = .ok (.isub, 1) := dk_100 (dk_at dksJ8_initWords_0 3 rfl rfl)
theorem dJ8_initWords_4 : decode cJ8_initWords 4 = .ok (.invokestatic 52, 3) := dk_184 0 52 (dk_at dksJ8_initWords_0 4 rfl rfl)
theorem dJ8_initWords_7 : decode cJ8_initWords 7 = .ok (.iconst 1, 1) := dk_4 (dk_at dksJ8_initWords_0 7 rfl rfl)
theorem dJ8_initWords_8 : decode cJ8_initWords 8 = .ok (.iadd, 1) := dk_96 (dk_at dksJ8_initWords_0 8 rfl rfl)
theorem dJ8_initWords_9 : decode cJ8_initWords 9 = .ok (.newarray .long, 2) := dk_188_11 (dk_at dksJ8_initWords_0 9 rfl rfl)
theorem dJ8_initWords_11 : decode cJ8_initWords 11 = .ok (.putfield 11, 3) := dk_181 0 11 (dk_at dksJ8_initWords_0 11 rfl rfl)
theorem dJ8_initWords_14 : decode cJ8_initWords 14 = .ok (.return_, 1) := dk_177 (dk_at dksJ8_initWords_0 14 rfl rfl)
abbrev cJ8_wordIndex : ByteArray := prog_47_method_1_code
def yJ8_wordIndex : MethodName := ⟨RJ8, "wordIndex", "(I)I"⟩
def dkwJ8_wordIndex_0 : List UInt8 := [26, 16, 6, 122, 172]
abbrev dktJ8_wordIndex_0 : List UInt8 := dkwJ8_wordIndex_0 ++ []
theorem dksJ8_wordIndex_0 : cJ8_wordIndex.data.toList.drop 0 = dktJ8_wordIndex_0 := by decide +kernel
theorem dJ8_wordIndex_0 : decode cJ8_wordIndex 0 = .ok (.iload_n 0, 1) := dk_26 (dk_at dksJ8_wordIndex_0 0 rfl rfl)
theorem dJ8_wordIndex_1 : decode cJ8_wordIndex 1 = .ok (.bipush 6, 2) := dk_16 6 (dk_at dksJ8_wordIndex_0 1 rfl rfl)
theorem dJ8_wordIndex_3 : decode cJ8_wordIndex 3 = .ok (.ishr, 1) := dk_122 (dk_at dksJ8_wordIndex_0 3 rfl rfl)
theorem dJ8_wordIndex_4 : decode cJ8_wordIndex 4 = .ok (.ireturn, 1) := dk_172 (dk_at dksJ8_wordIndex_0 4 rfl rfl)
abbrev cJ8_clear : ByteArray := prog_47_method_25_code
def yJ8_clear : MethodName := ⟨RJ8, "clear", "()V"⟩
def dkwJ8_clear_1 : List UInt8 := [167, 255, 232, 177]
abbrev dktJ8_clear_1 : List UInt8 := dkwJ8_clear_1 ++ []
def dkwJ8_clear_0 : List UInt8 := [42, 180, 0, 7, 158, 0, 23, 42, 180, 0, 11, 42, 89, 180, 0, 7, 4, 100, 90, 181, 0, 7, 9, 80]
abbrev dktJ8_clear_0 : List UInt8 := dkwJ8_clear_0 ++ dktJ8_clear_1
theorem dksJ8_clear_0 : cJ8_clear.data.toList.drop 0 = dktJ8_clear_0 := by decide +kernel
theorem dksJ8_clear_1 : cJ8_clear.data.toList.drop 24 = dktJ8_clear_1 := dk_seg dksJ8_clear_0 24 rfl rfl
theorem dJ8_clear_0 : decode cJ8_clear 0 = .ok (.aload_n 0, 1) := dk_42 (dk_at dksJ8_clear_0 0 rfl rfl)
theorem dJ8_clear_1 : decode cJ8_clear 1 = .ok (.getfield 7, 3) := dk_180 0 7 (dk_at dksJ8_clear_0 1 rfl rfl)
theorem dJ8_clear_4 : decode cJ8_clear 4 = .ok (.ifCond .le 23, 3) := dk_158 0 23 (dk_at dksJ8_clear_0 4 rfl rfl)
theorem dJ8_clear_7 : decode cJ8_clear 7 = .ok (.aload_n 0, 1) := dk_42 (dk_at dksJ8_clear_0 7 rfl rfl)
theorem dJ8_clear_8 : decode cJ8_clear 8 = .ok (.getfield 11, 3) := dk_180 0 11 (dk_at dksJ8_clear_0 8 rfl rfl)
theorem dJ8_clear_11 : decode cJ8_clear 11 = .ok (.aload_n 0, 1) := dk_42 (dk_at dksJ8_clear_0 11 rfl rfl)
theorem dJ8_clear_12 : decode cJ8_clear 12 = .ok (.dup, 1) := dk_89 (dk_at dksJ8_clear_0 12 rfl rfl)
theorem dJ8_clear_13 : decode cJ8_clear 13 = .ok (.getfield 7, 3) := dk_180 0 7 (dk_at dksJ8_clear_0 13 rfl rfl)
theorem dJ8_clear_16 : decode cJ8_clear 16 = .ok (.iconst 1, 1) := dk_4 (dk_at dksJ8_clear_0 16 rfl rfl)
theorem dJ8_clear_17 : decode cJ8_clear 17 = .ok (.isub, 1) := dk_100 (dk_at dksJ8_clear_0 17 rfl rfl)
theorem dJ8_clear_18 : decode cJ8_clear 18 = .ok (.dup_x1, 1) := dk_90 (dk_at dksJ8_clear_0 18 rfl rfl)
theorem dJ8_clear_19 : decode cJ8_clear 19 = .ok (.putfield 7, 3) := dk_181 0 7 (dk_at dksJ8_clear_0 19 rfl rfl)
theorem dJ8_clear_22 : decode cJ8_clear 22 = .ok (.lconst 0, 1) := dk_9 (dk_at dksJ8_clear_0 22 rfl rfl)
theorem dJ8_clear_23 : decode cJ8_clear 23 = .ok (.lastore, 1) := dk_80 (dk_at dksJ8_clear_0 23 rfl rfl)
theorem dJ8_clear_24 : decode cJ8_clear 24 = .ok (.goto (-24), 3) := dk_167 255 232 (dk_at dksJ8_clear_1 0 rfl rfl)
theorem dJ8_clear_27 : decode cJ8_clear 27 = .ok (.return_, 1) := dk_177 (dk_at dksJ8_clear_1 3 rfl rfl)
abbrev cJ8_or : ByteArray := prog_47_method_37_code
def yJ8_or : MethodName := ⟨RJ8, "or", "(Ljava/util/BitSet;)V"⟩
def dkwJ8_or_4 : List UInt8 := [180, 0, 7, 28, 100, 184, 0, 199, 42, 182, 0, 56, 177]
abbrev dktJ8_or_4 : List UInt8 := dkwJ8_or_4 ++ []
def dkwJ8_or_3 : List UInt8 := [167, 255, 233, 28, 43, 180, 0, 7, 162, 0, 22, 43, 180, 0, 11, 28, 42, 180, 0, 11, 28, 42]
abbrev dktJ8_or_3 : List UInt8 := dkwJ8_or_3 ++ dktJ8_or_4
def dkwJ8_or_2 : List UInt8 := [29, 28, 162, 0, 24, 42, 180, 0, 11, 29, 92, 47, 43, 180, 0, 11, 29, 47, 129, 80, 132, 3, 1]
abbrev dktJ8_or_2 : List UInt8 := dkwJ8_or_2 ++ dktJ8_or_3
def dkwJ8_or_1 : List UInt8 := [180, 0, 7, 162, 0, 19, 42, 43, 180, 0, 7, 182, 0, 139, 42, 43, 180, 0, 7, 181, 0, 7, 3, 62]
abbrev dktJ8_or_1 : List UInt8 := dkwJ8_or_1 ++ dktJ8_or_2
def dkwJ8_or_0 : List UInt8 := [42, 43, 166, 0, 4, 177, 42, 180, 0, 7, 43, 180, 0, 7, 184, 0, 193, 61, 42, 180, 0, 7, 43]
abbrev dktJ8_or_0 : List UInt8 := dkwJ8_or_0 ++ dktJ8_or_1
theorem dksJ8_or_0 : cJ8_or.data.toList.drop 0 = dktJ8_or_0 := by decide +kernel
theorem dksJ8_or_1 : cJ8_or.data.toList.drop 23 = dktJ8_or_1 := dk_seg dksJ8_or_0 23 rfl rfl
theorem dksJ8_or_2 : cJ8_or.data.toList.drop 47 = dktJ8_or_2 := dk_seg dksJ8_or_1 24 rfl rfl
theorem dksJ8_or_3 : cJ8_or.data.toList.drop 70 = dktJ8_or_3 := dk_seg dksJ8_or_2 23 rfl rfl
theorem dksJ8_or_4 : cJ8_or.data.toList.drop 92 = dktJ8_or_4 := dk_seg dksJ8_or_3 22 rfl rfl
theorem dJ8_or_0 : decode cJ8_or 0 = .ok (.aload_n 0, 1) := dk_42 (dk_at dksJ8_or_0 0 rfl rfl)
theorem dJ8_or_1 : decode cJ8_or 1 = .ok (.aload_n 1, 1) := dk_43 (dk_at dksJ8_or_0 1 rfl rfl)
theorem dJ8_or_2 : decode cJ8_or 2 = .ok (.if_acmp .ne 4, 3) := dk_166 0 4 (dk_at dksJ8_or_0 2 rfl rfl)
theorem dJ8_or_5 : decode cJ8_or 5 = .ok (.return_, 1) := dk_177 (dk_at dksJ8_or_0 5 rfl rfl)
theorem dJ8_or_6 : decode cJ8_or 6 = .ok (.aload_n 0, 1) := dk_42 (dk_at dksJ8_or_0 6 rfl rfl)
theorem dJ8_or_7 : decode cJ8_or 7 = .ok (.getfield 7, 3) := dk_180 0 7 (dk_at dksJ8_or_0 7 rfl rfl)
theorem dJ8_or_10 : decode cJ8_or 10 = .ok (.aload_n 1, 1) := dk_43 (dk_at dksJ8_or_0 10 rfl rfl)
theorem dJ8_or_11 : decode cJ8_or 11 = .ok (.getfield 7, 3) := dk_180 0 7 (dk_at dksJ8_or_0 11 rfl rfl)
theorem dJ8_or_14 : decode cJ8_or 14 = .ok (.invokestatic 193, 3) := dk_184 0 193 (dk_at dksJ8_or_0 14 rfl rfl)
theorem dJ8_or_17 : decode cJ8_or 17 = .ok (.istore_n 2, 1) := dk_61 (dk_at dksJ8_or_0 17 rfl rfl)
theorem dJ8_or_18 : decode cJ8_or 18 = .ok (.aload_n 0, 1) := dk_42 (dk_at dksJ8_or_0 18 rfl rfl)
theorem dJ8_or_19 : decode cJ8_or 19 = .ok (.getfield 7, 3) := dk_180 0 7 (dk_at dksJ8_or_0 19 rfl rfl)
theorem dJ8_or_22 : decode cJ8_or 22 = .ok (.aload_n 1, 1) := dk_43 (dk_at dksJ8_or_0 22 rfl rfl)
theorem dJ8_or_23 : decode cJ8_or 23 = .ok (.getfield 7, 3) := dk_180 0 7 (dk_at dksJ8_or_1 0 rfl rfl)
theorem dJ8_or_26 : decode cJ8_or 26 = .ok (.if_icmp .ge 19, 3) := dk_162 0 19 (dk_at dksJ8_or_1 3 rfl rfl)
theorem dJ8_or_29 : decode cJ8_or 29 = .ok (.aload_n 0, 1) := dk_42 (dk_at dksJ8_or_1 6 rfl rfl)
theorem dJ8_or_30 : decode cJ8_or 30 = .ok (.aload_n 1, 1) := dk_43 (dk_at dksJ8_or_1 7 rfl rfl)
theorem dJ8_or_31 : decode cJ8_or 31 = .ok (.getfield 7, 3) := dk_180 0 7 (dk_at dksJ8_or_1 8 rfl rfl)
theorem dJ8_or_34 : decode cJ8_or 34 = .ok (.invokevirtual 139, 3) := dk_182 0 139 (dk_at dksJ8_or_1 11 rfl rfl)
theorem dJ8_or_37 : decode cJ8_or 37 = .ok (.aload_n 0, 1) := dk_42 (dk_at dksJ8_or_1 14 rfl rfl)
theorem dJ8_or_38 : decode cJ8_or 38 = .ok (.aload_n 1, 1) := dk_43 (dk_at dksJ8_or_1 15 rfl rfl)
theorem dJ8_or_39 : decode cJ8_or 39 = .ok (.getfield 7, 3) := dk_180 0 7 (dk_at dksJ8_or_1 16 rfl rfl)
theorem dJ8_or_42 : decode cJ8_or 42 = .ok (.putfield 7, 3) := dk_181 0 7 (dk_at dksJ8_or_1 19 rfl rfl)
theorem dJ8_or_45 : decode cJ8_or 45 = .ok (.iconst 0, 1) := dk_3 (dk_at dksJ8_or_1 22 rfl rfl)
theorem dJ8_or_46 : decode cJ8_or 46 = .ok (.istore_n 3, 1) := dk_62 (dk_at dksJ8_or_1 23 rfl rfl)
theorem dJ8_or_47 : decode cJ8_or 47 = .ok (.iload_n 3, 1) := dk_29 (dk_at dksJ8_or_2 0 rfl rfl)
theorem dJ8_or_48 : decode cJ8_or 48 = .ok (.iload_n 2, 1) := dk_28 (dk_at dksJ8_or_2 1 rfl rfl)
theorem dJ8_or_49 : decode cJ8_or 49 = .ok (.if_icmp .ge 24, 3) := dk_162 0 24 (dk_at dksJ8_or_2 2 rfl rfl)
theorem dJ8_or_52 : decode cJ8_or 52 = .ok (.aload_n 0, 1) := dk_42 (dk_at dksJ8_or_2 5 rfl rfl)
theorem dJ8_or_53 : decode cJ8_or 53 = .ok (.getfield 11, 3) := dk_180 0 11 (dk_at dksJ8_or_2 6 rfl rfl)
theorem dJ8_or_56 : decode cJ8_or 56 = .ok (.iload_n 3, 1) := dk_29 (dk_at dksJ8_or_2 9 rfl rfl)
theorem dJ8_or_57 : decode cJ8_or 57 = .ok (.dup2, 1) := dk_92 (dk_at dksJ8_or_2 10 rfl rfl)
theorem dJ8_or_58 : decode cJ8_or 58 = .ok (.laload, 1) := dk_47 (dk_at dksJ8_or_2 11 rfl rfl)
theorem dJ8_or_59 : decode cJ8_or 59 = .ok (.aload_n 1, 1) := dk_43 (dk_at dksJ8_or_2 12 rfl rfl)
theorem dJ8_or_60 : decode cJ8_or 60 = .ok (.getfield 11, 3) := dk_180 0 11 (dk_at dksJ8_or_2 13 rfl rfl)
theorem dJ8_or_63 : decode cJ8_or 63 = .ok (.iload_n 3, 1) := dk_29 (dk_at dksJ8_or_2 16 rfl rfl)
theorem dJ8_or_64 : decode cJ8_or 64 = .ok (.laload, 1) := dk_47 (dk_at dksJ8_or_2 17 rfl rfl)
theorem dJ8_or_65 : decode cJ8_or 65 = .ok (.lor, 1) := dk_129 (dk_at dksJ8_or_2 18 rfl rfl)
theorem dJ8_or_66 : decode cJ8_or 66 = .ok (.lastore, 1) := dk_80 (dk_at dksJ8_or_2 19 rfl rfl)
theorem dJ8_or_67 : decode cJ8_or 67 = .ok (.iinc 3 1, 3) := dk_132 3 1 (dk_at dksJ8_or_2 20 rfl rfl)
theorem dJ8_or_70 : decode cJ8_or 70 = .ok (.goto (-23), 3) := dk_167 255 233 (dk_at dksJ8_or_3 0 rfl rfl)
theorem dJ8_or_73 : decode cJ8_or 73 = .ok (.iload_n 2, 1) := dk_28 (dk_at dksJ8_or_3 3 rfl rfl)
theorem dJ8_or_74 : decode cJ8_or 74 = .ok (.aload_n 1, 1) := dk_43 (dk_at dksJ8_or_3 4 rfl rfl)
theorem dJ8_or_75 : decode cJ8_or 75 = .ok (.getfield 7, 3) := dk_180 0 7 (dk_at dksJ8_or_3 5 rfl rfl)
theorem dJ8_or_78 : decode cJ8_or 78 = .ok (.if_icmp .ge 22, 3) := dk_162 0 22 (dk_at dksJ8_or_3 8 rfl rfl)
theorem dJ8_or_81 : decode cJ8_or 81 = .ok (.aload_n 1, 1) := dk_43 (dk_at dksJ8_or_3 11 rfl rfl)
theorem dJ8_or_82 : decode cJ8_or 82 = .ok (.getfield 11, 3) := dk_180 0 11 (dk_at dksJ8_or_3 12 rfl rfl)
theorem dJ8_or_85 : decode cJ8_or 85 = .ok (.iload_n 2, 1) := dk_28 (dk_at dksJ8_or_3 15 rfl rfl)
theorem dJ8_or_86 : decode cJ8_or 86 = .ok (.aload_n 0, 1) := dk_42 (dk_at dksJ8_or_3 16 rfl rfl)
theorem dJ8_or_87 : decode cJ8_or 87 = .ok (.getfield 11, 3) := dk_180 0 11 (dk_at dksJ8_or_3 17 rfl rfl)
theorem dJ8_or_90 : decode cJ8_or 90 = .ok (.iload_n 2, 1) := dk_28 (dk_at dksJ8_or_3 20 rfl rfl)
theorem dJ8_or_91 : decode cJ8_or 91 = .ok (.aload_n 0, 1) := dk_42 (dk_at dksJ8_or_3 21 rfl rfl)
theorem dJ8_or_92 : decode cJ8_or 92 = .ok (.getfield 7, 3) := dk_180 0 7 (dk_at dksJ8_or_4 0 rfl rfl)
theorem dJ8_or_95 : decode cJ8_or 95 = .ok (.iload_n 2, 1) := dk_28 (dk_at dksJ8_or_4 3 rfl rfl)
theorem dJ8_or_96 : decode cJ8_or 96 = .ok (.isub, 1) := dk_100 (dk_at dksJ8_or_4 4 rfl rfl)
theorem dJ8_or_97 : decode cJ8_or 97 = .ok (.invokestatic 199, 3) := dk_184 0 199 (dk_at dksJ8_or_4 5 rfl rfl)
theorem dJ8_or_100 : decode cJ8_or 100 = .ok (.aload_n 0, 1) := dk_42 (dk_at dksJ8_or_4 8 rfl rfl)
theorem dJ8_or_101 : decode cJ8_or 101 = .ok (.invokevirtual 56, 3) := dk_182 0 56 (dk_at dksJ8_or_4 9 rfl rfl)
theorem dJ8_or_104 : decode cJ8_or 104 = .ok (.return_, 1) := dk_177 (dk_at dksJ8_or_4 12 rfl rfl)
abbrev cJ8_ensureCapacity : ByteArray := prog_47_method_14_code
def yJ8_ensureCapacity : MethodName := ⟨RJ8, "ensureCapacity", "(I)V"⟩
def dkwJ8_ensureCapacity_1 : List UInt8 := [180, 0, 11, 28, 184, 0, 59, 181, 0, 11, 42, 3, 181, 0, 24, 177]
abbrev dktJ8_ensureCapacity_1 : List UInt8 := dkwJ8_ensureCapacity_1 ++ []
def dkwJ8_ensureCapacity_0 : List UInt8 := [42, 180, 0, 11, 190, 27, 162, 0, 32, 5, 42, 180, 0, 11, 190, 104, 27, 184, 0, 133, 61, 42, 42]
abbrev dktJ8_ensureCapacity_0 : List UInt8 := dkwJ8_ensureCapacity_0 ++ dktJ8_ensureCapacity_1
theorem dksJ8_ensureCapacity_0 : cJ8_ensureCapacity.data.toList.drop 0 = dktJ8_ensureCapacity_0 := by decide +kernel
theorem dksJ8_ensureCapacity_1 : cJ8_ensureCapacity.data.toList.drop 23 = dktJ8_ensureCapacity_1 := dk_seg dksJ8_ensureCapacity_0 23 rfl rfl
theorem dJ8_ensureCapacity_0 : decode cJ8_ensureCapacity 0 = .ok (.aload_n 0, 1) := dk_42 (dk_at dksJ8_ensureCapacity_0 0 rfl rfl)
theorem dJ8_ensureCapacity_1 : decode cJ8_ensureCapacity 1 = .ok (.getfield 11, 3) := dk_180 0 11 (dk_at dksJ8_ensureCapacity_0 1 rfl rfl)
theorem dJ8_ensureCapacity_4 : decode cJ8_ensureCapacity 4 = .ok (.arraylength, 1) := dk_190 (dk_at dksJ8_ensureCapacity_0 4 rfl rfl)
theorem dJ8_ensureCapacity_5 : decode cJ8_ensureCapacity 5 = .ok (.iload_n 1, 1) := dk_27 (dk_at dksJ8_ensureCapacity_0 5 rfl rfl)
theorem dJ8_ensureCapacity_6 : decode cJ8_ensureCapacity 6 = .ok (.if_icmp .ge 32, 3) := dk_162 0 32 (dk_at dksJ8_ensureCapacity_0 6 rfl rfl)
theorem dJ8_ensureCapacity_9 : decode cJ8_ensureCapacity 9 = .ok (.iconst 2, 1) := dk_5 (dk_at dksJ8_ensureCapacity_0 9 rfl rfl)
theorem dJ8_ensureCapacity_10 : decode cJ8_ensureCapacity 10 = .ok (.aload_n 0, 1) := dk_42 (dk_at dksJ8_ensureCapacity_0 10 rfl rfl)
theorem dJ8_ensureCapacity_11 : decode cJ8_ensureCapacity 11 = .ok (.getfield 11, 3) := dk_180 0 11 (dk_at dksJ8_ensureCapacity_0 11 rfl rfl)
theorem dJ8_ensureCapacity_14 : decode cJ8_ensureCapacity 14 = .ok (.arraylength, 1) := dk_190 (dk_at dksJ8_ensureCapacity_0 14 rfl rfl)
theorem dJ8_ensureCapacity_15 : decode cJ8_ensureCapacity 15 = .ok (.imul, 1) := dk_104 (dk_at dksJ8_ensureCapacity_0 15 rfl rfl)
theorem dJ8_ensureCapacity_16 : decode cJ8_ensureCapacity 16 = .ok (.iload_n 1, 1) := dk_27 (dk_at dksJ8_ensureCapacity_0 16 rfl rfl)
theorem dJ8_ensureCapacity_17 : decode cJ8_ensureCapacity 17 = .ok (.invokestatic 133, 3) := dk_184 0 133 (dk_at dksJ8_ensureCapacity_0 17 rfl rfl)
theorem dJ8_ensureCapacity_20 : decode cJ8_ensureCapacity 20 = .ok (.istore_n 2, 1) := dk_61 (dk_at dksJ8_ensureCapacity_0 20 rfl rfl)
theorem dJ8_ensureCapacity_21 : decode cJ8_ensureCapacity 21 = .ok (.aload_n 0, 1) := dk_42 (dk_at dksJ8_ensureCapacity_0 21 rfl rfl)
theorem dJ8_ensureCapacity_22 : decode cJ8_ensureCapacity 22 = .ok (.aload_n 0, 1) := dk_42 (dk_at dksJ8_ensureCapacity_0 22 rfl rfl)
theorem dJ8_ensureCapacity_23 : decode cJ8_ensureCapacity 23 = .ok (.getfield 11, 3) := dk_180 0 11 (dk_at dksJ8_ensureCapacity_1 0 rfl rfl)
theorem dJ8_ensureCapacity_26 : decode cJ8_ensureCapacity 26 = .ok (.iload_n 2, 1) := dk_28 (dk_at dksJ8_ensureCapacity_1 3 rfl rfl)
theorem dJ8_ensureCapacity_27 : decode cJ8_ensureCapacity 27 = .ok (.invokestatic 59, 3) := dk_184 0 59 (dk_at dksJ8_ensureCapacity_1 4 rfl rfl)
theorem dJ8_ensureCapacity_30 : decode cJ8_ensureCapacity 30 = .ok (.putfield 11, 3) := dk_181 0 11 (dk_at dksJ8_ensureCapacity_1 7 rfl rfl)
theorem dJ8_ensureCapacity_33 : decode cJ8_ensureCapacity 33 = .ok (.aload_n 0, 1) := dk_42 (dk_at dksJ8_ensureCapacity_1 10 rfl rfl)
theorem dJ8_ensureCapacity_34 : decode cJ8_ensureCapacity 34 = .ok (.iconst 0, 1) := dk_3 (dk_at dksJ8_ensureCapacity_1 11 rfl rfl)
theorem dJ8_ensureCapacity_35 : decode cJ8_ensureCapacity 35 = .ok (.putfield 24, 3) := dk_181 0 24 (dk_at dksJ8_ensureCapacity_1 12 rfl rfl)
theorem dJ8_ensureCapacity_38 : decode cJ8_ensureCapacity 38 = .ok (.return_, 1) := dk_177 (dk_at dksJ8_ensureCapacity_1 15 rfl rfl)
abbrev cJ8_checkInvariants : ByteArray := prog_47_method_2_code
def yJ8_checkInvariants : MethodName := ⟨RJ8, "checkInvariants", "()V"⟩
def dkwJ8_checkInvariants_4 : List UInt8 := [180, 0, 7, 47, 9, 148, 153, 0, 11, 187, 0, 15, 89, 183, 0, 17, 191, 177]
abbrev dktJ8_checkInvariants_4 : List UInt8 := dkwJ8_checkInvariants_4 ++ []
def dkwJ8_checkInvariants_3 : List UInt8 := [178, 0, 3, 154, 0, 37, 42, 180, 0, 7, 42, 180, 0, 11, 190, 159, 0, 25, 42, 180, 0, 11, 42]
abbrev dktJ8_checkInvariants_3 : List UInt8 := dkwJ8_checkInvariants_3 ++ dktJ8_checkInvariants_4
def dkwJ8_checkInvariants_2 : List UInt8 := [155, 0, 15, 42, 180, 0, 7, 42, 180, 0, 11, 190, 164, 0, 11, 187, 0, 15, 89, 183, 0, 17, 191]
abbrev dktJ8_checkInvariants_2 : List UInt8 := dkwJ8_checkInvariants_2 ++ dktJ8_checkInvariants_3
def dkwJ8_checkInvariants_1 : List UInt8 := [9, 148, 154, 0, 11, 187, 0, 15, 89, 183, 0, 17, 191, 178, 0, 3, 154, 0, 30, 42, 180, 0, 7]
abbrev dktJ8_checkInvariants_1 : List UInt8 := dkwJ8_checkInvariants_1 ++ dktJ8_checkInvariants_2
def dkwJ8_checkInvariants_0 : List UInt8 := [178, 0, 3, 154, 0, 34, 42, 180, 0, 7, 153, 0, 27, 42, 180, 0, 11, 42, 180, 0, 7, 4, 100, 47]
abbrev dktJ8_checkInvariants_0 : List UInt8 := dkwJ8_checkInvariants_0 ++ dktJ8_checkInvariants_1
theorem dksJ8_checkInvariants_0 : cJ8_checkInvariants.data.toList.drop 0 = dktJ8_checkInvariants_0 := by decide +kernel
theorem dksJ8_checkInvariants_1 : cJ8_checkInvariants.data.toList.drop 24 = dktJ8_checkInvariants_1 := dk_seg dksJ8_checkInvariants_0 24 rfl rfl
theorem dksJ8_checkInvariants_2 : cJ8_checkInvariants.data.toList.drop 47 = dktJ8_checkInvariants_2 := dk_seg dksJ8_checkInvariants_1 23 rfl rfl
theorem dksJ8_checkInvariants_3 : cJ8_checkInvariants.data.toList.drop 70 = dktJ8_checkInvariants_3 := dk_seg dksJ8_checkInvariants_2 23 rfl rfl
theorem dksJ8_checkInvariants_4 : cJ8_checkInvariants.data.toList.drop 93 = dktJ8_checkInvariants_4 := dk_seg dksJ8_checkInvariants_3 23 rfl rfl
theorem dJ8_checkInvariants_0 : decode cJ8_checkInvariants 0 = .ok (.getstatic 3, 3) := dk_178 0 3 (dk_at dksJ8_checkInvariants_0 0 rfl rfl)
theorem dJ8_checkInvariants_3 : decode cJ8_checkInvariants 3 = .ok (.ifCond .ne 34, 3) := dk_154 0 34 (dk_at dksJ8_checkInvariants_0 3 rfl rfl)
theorem dJ8_checkInvariants_6 : decode cJ8_checkInvariants 6 = .ok (.aload_n 0, 1) := dk_42 (dk_at dksJ8_checkInvariants_0 6 rfl rfl)
theorem dJ8_checkInvariants_7 : decode cJ8_checkInvariants 7 = .ok (.getfield 7, 3) := dk_180 0 7 (dk_at dksJ8_checkInvariants_0 7 rfl rfl)
theorem dJ8_checkInvariants_10 : decode cJ8_checkInvariants 10 = .ok (.ifCond .eq 27, 3) := dk_153 0 27 (dk_at dksJ8_checkInvariants_0 10 rfl rfl)
theorem dJ8_checkInvariants_13 : decode cJ8_checkInvariants 13 = .ok (.aload_n 0, 1) := dk_42 (dk_at dksJ8_checkInvariants_0 13 rfl rfl)
theorem dJ8_checkInvariants_14 : decode cJ8_checkInvariants 14 = .ok (.getfield 11, 3) := dk_180 0 11 (dk_at dksJ8_checkInvariants_0 14 rfl rfl)
theorem dJ8_checkInvariants_17 : decode cJ8_checkInvariants 17 = .ok (.aload_n 0, 1) := dk_42 (dk_at dksJ8_checkInvariants_0 17 rfl rfl)
theorem dJ8_checkInvariants_18 : decode cJ8_checkInvariants 18 = .ok (.getfield 7, 3) := dk_180 0 7 (dk_at dksJ8_checkInvariants_0 18 rfl rfl)
theorem dJ8_checkInvariants_21 : decode cJ8_checkInvariants 21 = .ok (.iconst 1, 1) := dk_4 (dk_at dksJ8_checkInvariants_0 21 rfl rfl)
theorem dJ8_checkInvariants_22 : decode cJ8_checkInvariants 22 = .ok (.isub, 1) := dk_100 (dk_at dksJ8_checkInvariants_0 22 rfl rfl)
theorem dJ8_checkInvariants_23 : decode cJ8_checkInvariants 23 = .ok (.laload, 1) := dk_47 (dk_at dksJ8_checkInvariants_0 23 rfl rfl)
theorem dJ8_checkInvariants_24 : decode cJ8_checkInvariants 24 = .ok (.lconst 0, 1) := dk_9 (dk_at dksJ8_checkInvariants_1 0 rfl rfl)
theorem dJ8_checkInvariants_25 : decode cJ8_checkInvariants 25 = .ok (.lcmp, 1) := dk_148 (dk_at dksJ8_checkInvariants_1 1 rfl rfl)
theorem dJ8_checkInvariants_26 : decode cJ8_checkInvariants 26 = .ok (.ifCond .ne 11, 3) := dk_154 0 11 (dk_at dksJ8_checkInvariants_1 2 rfl rfl)
theorem dJ8_checkInvariants_29 : decode cJ8_checkInvariants 29 = .ok (.new 15, 3) := dk_187 0 15 (dk_at dksJ8_checkInvariants_1 5 rfl rfl)
theorem dJ8_checkInvariants_32 : decode cJ8_checkInvariants 32 = .ok (.dup, 1) := dk_89 (dk_at dksJ8_checkInvariants_1 8 rfl rfl)
theorem dJ8_checkInvariants_33 : decode cJ8_checkInvariants 33 = .ok (.invokespecial 17, 3) := dk_183 0 17 (dk_at dksJ8_checkInvariants_1 9 rfl rfl)
theorem dJ8_checkInvariants_36 : decode cJ8_checkInvariants 36 = .ok (.athrow, 1) := dk_191 (dk_at dksJ8_checkInvariants_1 12 rfl rfl)
theorem dJ8_checkInvariants_37 : decode cJ8_checkInvariants 37 = .ok (.getstatic 3, 3) := dk_178 0 3 (dk_at dksJ8_checkInvariants_1 13 rfl rfl)
theorem dJ8_checkInvariants_40 : decode cJ8_checkInvariants 40 = .ok (.ifCond .ne 30, 3) := dk_154 0 30 (dk_at dksJ8_checkInvariants_1 16 rfl rfl)
theorem dJ8_checkInvariants_43 : decode cJ8_checkInvariants 43 = .ok (.aload_n 0, 1) := dk_42 (dk_at dksJ8_checkInvariants_1 19 rfl rfl)
theorem dJ8_checkInvariants_44 : decode cJ8_checkInvariants 44 = .ok (.getfield 7, 3) := dk_180 0 7 (dk_at dksJ8_checkInvariants_1 20 rfl rfl)
theorem dJ8_checkInvariants_47 : decode cJ8_checkInvariants 47 = .ok (.ifCond .lt 15, 3) := dk_155 0 15 (dk_at dksJ8_checkInvariants_2 0 rfl rfl)
theorem dJ8_checkInvariants_50 : decode cJ8_checkInvariants 50 = .ok (.aload_n 0, 1) := dk_42 (dk_at dksJ8_checkInvariants_2 3 rfl rfl)
theorem dJ8_checkInvariants_51 : decode cJ8_checkInvariants 51 = .ok (.getfield 7, 3) := dk_180 0 7 (dk_at dksJ8_checkInvariants_2 4 rfl rfl)
theorem dJ8_checkInvariants_54 : decode cJ8_checkInvariants 54 = .ok (.aload_n 0, 1) := dk_42 (dk_at dksJ8_checkInvariants_2 7 rfl rfl)
theorem dJ8_checkInvariants_55 : decode cJ8_checkInvariants 55 = .ok (.getfield 11, 3) := dk_180 0 11 (dk_at dksJ8_checkInvariants_2 8 rfl rfl)
theorem dJ8_checkInvariants_58 : decode cJ8_checkInvariants 58 = .ok (.arraylength, 1) := dk_190 (dk_at dksJ8_checkInvariants_2 11 rfl rfl)
theorem dJ8_checkInvariants_59 : decode cJ8_checkInvariants 59 = .ok (.if_icmp .le 11, 3) := dk_164 0 11 (dk_at dksJ8_checkInvariants_2 12 rfl rfl)
theorem dJ8_checkInvariants_62 : decode cJ8_checkInvariants 62 = .ok (.new 15, 3) := dk_187 0 15 (dk_at dksJ8_checkInvariants_2 15 rfl rfl)
theorem dJ8_checkInvariants_65 : decode cJ8_checkInvariants 65 = .ok (.dup, 1) := dk_89 (dk_at dksJ8_checkInvariants_2 18 rfl rfl)
theorem dJ8_checkInvariants_66 : decode cJ8_checkInvariants 66 = .ok (.invokespecial 17, 3) := dk_183 0 17 (dk_at dksJ8_checkInvariants_2 19 rfl rfl)
theorem dJ8_checkInvariants_69 : decode cJ8_checkInvariants 69 = .ok (.athrow, 1) := dk_191 (dk_at dksJ8_checkInvariants_2 22 rfl rfl)
theorem dJ8_checkInvariants_70 : decode cJ8_checkInvariants 70 = .ok (.getstatic 3, 3) := dk_178 0 3 (dk_at dksJ8_checkInvariants_3 0 rfl rfl)
theorem dJ8_checkInvariants_73 : decode cJ8_checkInvariants 73 = .ok (.ifCond .ne 37, 3) := dk_154 0 37 (dk_at dksJ8_checkInvariants_3 3 rfl rfl)
theorem dJ8_checkInvariants_76 : decode cJ8_checkInvariants 76 = .ok (.aload_n 0, 1) := dk_42 (dk_at dksJ8_checkInvariants_3 6 rfl rfl)
theorem dJ8_checkInvariants_77 : decode cJ8_checkInvariants 77 = .ok (.getfield 7, 3) := dk_180 0 7 (dk_at dksJ8_checkInvariants_3 7 rfl rfl)
theorem dJ8_checkInvariants_80 : decode cJ8_checkInvariants 80 = .ok (.aload_n 0, 1) := dk_42 (dk_at dksJ8_checkInvariants_3 10 rfl rfl)
theorem dJ8_checkInvariants_81 : decode cJ8_checkInvariants 81 = .ok (.getfield 11, 3) := dk_180 0 11 (dk_at dksJ8_checkInvariants_3 11 rfl rfl)
theorem dJ8_checkInvariants_84 : decode cJ8_checkInvariants 84 = .ok (.arraylength, 1) := dk_190 (dk_at dksJ8_checkInvariants_3 14 rfl rfl)
theorem dJ8_checkInvariants_85 : decode cJ8_checkInvariants 85 = .ok (.if_icmp .eq 25, 3) := dk_159 0 25 (dk_at dksJ8_checkInvariants_3 15 rfl rfl)
theorem dJ8_checkInvariants_88 : decode cJ8_checkInvariants 88 = .ok (.aload_n 0, 1) := dk_42 (dk_at dksJ8_checkInvariants_3 18 rfl rfl)
theorem dJ8_checkInvariants_89 : decode cJ8_checkInvariants 89 = .ok (.getfield 11, 3) := dk_180 0 11 (dk_at dksJ8_checkInvariants_3 19 rfl rfl)
theorem dJ8_checkInvariants_92 : decode cJ8_checkInvariants 92 = .ok (.aload_n 0, 1) := dk_42 (dk_at dksJ8_checkInvariants_3 22 rfl rfl)
theorem dJ8_checkInvariants_93 : decode cJ8_checkInvariants 93 = .ok (.getfield 7, 3) := dk_180 0 7 (dk_at dksJ8_checkInvariants_4 0 rfl rfl)
theorem dJ8_checkInvariants_96 : decode cJ8_checkInvariants 96 = .ok (.laload, 1) := dk_47 (dk_at dksJ8_checkInvariants_4 3 rfl rfl)
theorem dJ8_checkInvariants_97 : decode cJ8_checkInvariants 97 = .ok (.lconst 0, 1) := dk_9 (dk_at dksJ8_checkInvariants_4 4 rfl rfl)
theorem dJ8_checkInvariants_98 : decode cJ8_checkInvariants 98 = .ok (.lcmp, 1) := dk_148 (dk_at dksJ8_checkInvariants_4 5 rfl rfl)
theorem dJ8_checkInvariants_99 : decode cJ8_checkInvariants 99 = .ok (.ifCond .eq 11, 3) := dk_153 0 11 (dk_at dksJ8_checkInvariants_4 6 rfl rfl)
theorem dJ8_checkInvariants_102 : decode cJ8_checkInvariants 102 = .ok (.new 15, 3) := dk_187 0 15 (dk_at dksJ8_checkInvariants_4 9 rfl rfl)
theorem dJ8_checkInvariants_105 : decode cJ8_checkInvariants 105 = .ok (.dup, 1) := dk_89 (dk_at dksJ8_checkInvariants_4 12 rfl rfl)
theorem dJ8_checkInvariants_106 : decode cJ8_checkInvariants 106 = .ok (.invokespecial 17, 3) := dk_183 0 17 (dk_at dksJ8_checkInvariants_4 13 rfl rfl)
theorem dJ8_checkInvariants_109 : decode cJ8_checkInvariants 109 = .ok (.athrow, 1) := dk_191 (dk_at dksJ8_checkInvariants_4 16 rfl rfl)
theorem dJ8_checkInvariants_110 : decode cJ8_checkInvariants 110 = .ok (.return_, 1) := dk_177 (dk_at dksJ8_checkInvariants_4 17 rfl rfl)
abbrev cJ8_set : ByteArray := prog_47_method_21_code
def yJ8_set : MethodName := ⟨RJ8, "set", "(II)V"⟩
def dkwJ8_set_5 : List UInt8 := [42, 182, 0, 56, 177]
abbrev dktJ8_set_5 : List UInt8 := dkwJ8_set_5 ++ []
def dkwJ8_set_4 : List UInt8 := [21, 9, 20, 0, 165, 80, 132, 9, 1, 167, 255, 236, 42, 180, 0, 11, 21, 4, 92, 47, 22, 7, 129, 80]
abbrev dktJ8_set_4 : List UInt8 := dkwJ8_set_4 ++ dktJ8_set_5
def dkwJ8_set_3 : List UInt8 := [29, 92, 47, 22, 5, 129, 80, 29, 4, 96, 54, 9, 21, 9, 21, 4, 162, 0, 19, 42, 180, 0, 11]
abbrev dktJ8_set_3 : List UInt8 := dkwJ8_set_3 ++ dktJ8_set_4
def dkwJ8_set_2 : List UInt8 := [160, 0, 20, 42, 180, 0, 11, 29, 92, 47, 22, 5, 22, 7, 127, 129, 80, 167, 0, 54, 42, 180, 0, 11]
abbrev dktJ8_set_2 : List UInt8 := dkwJ8_set_2 ++ dktJ8_set_3
def dkwJ8_set_1 : List UInt8 := [42, 21, 4, 182, 0, 155, 20, 0, 165, 27, 121, 55, 5, 20, 0, 165, 28, 116, 125, 55, 7, 29, 21, 4]
abbrev dktJ8_set_1 : List UInt8 := dkwJ8_set_1 ++ dktJ8_set_2
def dkwJ8_set_0 : List UInt8 := [27, 28, 184, 0, 161, 27, 28, 160, 0, 4, 177, 27, 184, 0, 52, 62, 28, 4, 100, 184, 0, 52, 54, 4]
abbrev dktJ8_set_0 : List UInt8 := dkwJ8_set_0 ++ dktJ8_set_1
theorem dksJ8_set_0 : cJ8_set.data.toList.drop 0 = dktJ8_set_0 := by decide +kernel
theorem dksJ8_set_1 : cJ8_set.data.toList.drop 24 = dktJ8_set_1 := dk_seg dksJ8_set_0 24 rfl rfl
theorem dksJ8_set_2 : cJ8_set.data.toList.drop 48 = dktJ8_set_2 := dk_seg dksJ8_set_1 24 rfl rfl
theorem dksJ8_set_3 : cJ8_set.data.toList.drop 72 = dktJ8_set_3 := dk_seg dksJ8_set_2 24 rfl rfl
theorem dksJ8_set_4 : cJ8_set.data.toList.drop 95 = dktJ8_set_4 := dk_seg dksJ8_set_3 23 rfl rfl
theorem dksJ8_set_5 : cJ8_set.data.toList.drop 119 = dktJ8_set_5 := dk_seg dksJ8_set_4 24 rfl rfl
theorem dJ8_set_0 : decode cJ8_set 0 = .ok (.iload_n 1, 1) := dk_27 (dk_at dksJ8_set_0 0 rfl rfl)
theorem dJ8_set_1 : decode cJ8_set 1 = .ok (.iload_n 2, 1) := dk_28 (dk_at dksJ8_set_0 1 rfl rfl)
theorem dJ8_set_2 : decode cJ8_set 2 = .ok (.invokestatic 161, 3) := dk_184 0 161 (dk_at dksJ8_set_0 2 rfl rfl)
theorem dJ8_set_5 : decode cJ8_set 5 = .ok (.iload_n 1, 1) := dk_27 (dk_at dksJ8_set_0 5 rfl rfl)
theorem dJ8_set_6 : decode cJ8_set 6 = .ok (.iload_n 2, 1) := dk_28 (dk_at dksJ8_set_0 6 rfl rfl)
theorem dJ8_set_7 : decode cJ8_set 7 = .ok (.if_icmp .ne 4, 3) := dk_160 0 4 (dk_at dksJ8_set_0 7 rfl rfl)
theorem dJ8_set_10 : decode cJ8_set 10 = .ok (.return_, 1) := dk_177 (dk_at dksJ8_set_0 10 rfl rfl)
theorem dJ8_set_11 : decode cJ8_set 11 = .ok (.iload_n 1, 1) := dk_27 (dk_at dksJ8_set_0 11 rfl rfl)
theorem dJ8_set_12 : decode cJ8_set 12 = .ok (.invokestatic 52, 3) := dk_184 0 52 (dk_at dksJ8_set_0 12 rfl rfl)
theorem dJ8_set_15 : decode cJ8_set 15 = .ok (.istore_n 3, 1) := dk_62 (dk_at dksJ8_set_0 15 rfl rfl)
theorem dJ8_set_16 : decode cJ8_set 16 = .ok (.iload_n 2, 1) := dk_28 (dk_at dksJ8_set_0 16 rfl rfl)
theorem dJ8_set_17 : decode cJ8_set 17 = .ok (.iconst 1, 1) := dk_4 (dk_at dksJ8_set_0 17 rfl rfl)
theorem dJ8_set_18 : decode cJ8_set 18 = .ok (.isub, 1) := dk_100 (dk_at dksJ8_set_0 18 rfl rfl)
theorem dJ8_set_19 : decode cJ8_set 19 = .ok (.invokestatic 52, 3) := dk_184 0 52 (dk_at dksJ8_set_0 19 rfl rfl)
theorem dJ8_set_22 : decode cJ8_set 22 = .ok (.istore 4, 2) := dk_54 4 (dk_at dksJ8_set_0 22 rfl rfl)
theorem dJ8_set_24 : decode cJ8_set 24 = .ok (.aload_n 0, 1) := dk_42 (dk_at dksJ8_set_1 0 rfl rfl)
theorem dJ8_set_25 : decode cJ8_set 25 = .ok (.iload 4, 2) := dk_21 4 (dk_at dksJ8_set_1 1 rfl rfl)
theorem dJ8_set_27 : decode cJ8_set 27 = .ok (.invokevirtual 155, 3) := dk_182 0 155 (dk_at dksJ8_set_1 3 rfl rfl)
theorem dJ8_set_30 : decode cJ8_set 30 = .ok (.ldc2_w 165, 3) := dk_20 0 165 (dk_at dksJ8_set_1 6 rfl rfl)
theorem dJ8_set_33 : decode cJ8_set 33 = .ok (.iload_n 1, 1) := dk_27 (dk_at dksJ8_set_1 9 rfl rfl)
theorem dJ8_set_34 : decode cJ8_set 34 = .ok (.lshl, 1) := dk_121 (dk_at dksJ8_set_1 10 rfl rfl)
theorem dJ8_set_35 : decode cJ8_set 35 = .ok (.lstore 5, 2) := dk_55 5 (dk_at dksJ8_set_1 11 rfl rfl)
theorem dJ8_set_37 : decode cJ8_set 37 = .ok (.ldc2_w 165, 3) := dk_20 0 165 (dk_at dksJ8_set_1 13 rfl rfl)
theorem dJ8_set_40 : decode cJ8_set 40 = .ok (.iload_n 2, 1) := dk_28 (dk_at dksJ8_set_1 16 rfl rfl)
theorem dJ8_set_41 : decode cJ8_set 41 = .ok (.ineg, 1) := dk_116 (dk_at dksJ8_set_1 17 rfl rfl)
theorem dJ8_set_42 : decode cJ8_set 42 = .ok (.lushr, 1) := dk_125 (dk_at dksJ8_set_1 18 rfl rfl)
theorem dJ8_set_43 : decode cJ8_set 43 = .ok (.lstore 7, 2) := dk_55 7 (dk_at dksJ8_set_1 19 rfl rfl)
theorem dJ8_set_45 : decode cJ8_set 45 = .ok (.iload_n 3, 1) := dk_29 (dk_at dksJ8_set_1 21 rfl rfl)
theorem dJ8_set_46 : decode cJ8_set 46 = .ok (.iload 4, 2) := dk_21 4 (dk_at dksJ8_set_1 22 rfl rfl)
theorem dJ8_set_48 : decode cJ8_set 48 = .ok (.if_icmp .ne 20, 3) := dk_160 0 20 (dk_at dksJ8_set_2 0 rfl rfl)
theorem dJ8_set_51 : decode cJ8_set 51 = .ok (.aload_n 0, 1) := dk_42 (dk_at dksJ8_set_2 3 rfl rfl)
theorem dJ8_set_52 : decode cJ8_set 52 = .ok (.getfield 11, 3) := dk_180 0 11 (dk_at dksJ8_set_2 4 rfl rfl)
theorem dJ8_set_55 : decode cJ8_set 55 = .ok (.iload_n 3, 1) := dk_29 (dk_at dksJ8_set_2 7 rfl rfl)
theorem dJ8_set_56 : decode cJ8_set 56 = .ok (.dup2, 1) := dk_92 (dk_at dksJ8_set_2 8 rfl rfl)
theorem dJ8_set_57 : decode cJ8_set 57 = .ok (.laload, 1) := dk_47 (dk_at dksJ8_set_2 9 rfl rfl)
theorem dJ8_set_58 : decode cJ8_set 58 = .ok (.lload 5, 2) := dk_22 5 (dk_at dksJ8_set_2 10 rfl rfl)
theorem dJ8_set_60 : decode cJ8_set 60 = .ok (.lload 7, 2) := dk_22 7 (dk_at dksJ8_set_2 12 rfl rfl)
theorem dJ8_set_62 : decode cJ8_set 62 = .ok (.land, 1) := dk_127 (dk_at dksJ8_set_2 14 rfl rfl)
theorem dJ8_set_63 : decode cJ8_set 63 = .ok (.lor, 1) := dk_129 (dk_at dksJ8_set_2 15 rfl rfl)
theorem dJ8_set_64 : decode cJ8_set 64 = .ok (.lastore, 1) := dk_80 (dk_at dksJ8_set_2 16 rfl rfl)
theorem dJ8_set_65 : decode cJ8_set 65 = .ok (.goto 54, 3) := dk_167 0 54 (dk_at dksJ8_set_2 17 rfl rfl)
theorem dJ8_set_68 : decode cJ8_set 68 = .ok (.aload_n 0, 1) := dk_42 (dk_at dksJ8_set_2 20 rfl rfl)
theorem dJ8_set_69 : decode cJ8_set 69 = .ok (.getfield 11, 3) := dk_180 0 11 (dk_at dksJ8_set_2 21 rfl rfl)
theorem dJ8_set_72 : decode cJ8_set 72 = .ok (.iload_n 3, 1) := dk_29 (dk_at dksJ8_set_3 0 rfl rfl)
theorem dJ8_set_73 : decode cJ8_set 73 = .ok (.dup2, 1) := dk_92 (dk_at dksJ8_set_3 1 rfl rfl)
theorem dJ8_set_74 : decode cJ8_set 74 = .ok (.laload, 1) := dk_47 (dk_at dksJ8_set_3 2 rfl rfl)
theorem dJ8_set_75 : decode cJ8_set 75 = .ok (.lload 5, 2) := dk_22 5 (dk_at dksJ8_set_3 3 rfl rfl)
theorem dJ8_set_77 : decode cJ8_set 77 = .ok (.lor, 1) := dk_129 (dk_at dksJ8_set_3 5 rfl rfl)
theorem dJ8_set_78 : decode cJ8_set 78 = .ok (.lastore, 1) := dk_80 (dk_at dksJ8_set_3 6 rfl rfl)
theorem dJ8_set_79 : decode cJ8_set 79 = .ok (.iload_n 3, 1) := dk_29 (dk_at dksJ8_set_3 7 rfl rfl)
theorem dJ8_set_80 : decode cJ8_set 80 = .ok (.iconst 1, 1) := dk_4 (dk_at dksJ8_set_3 8 rfl rfl)
theorem dJ8_set_81 : decode cJ8_set 81 = .ok (.iadd, 1) := dk_96 (dk_at dksJ8_set_3 9 rfl rfl)
theorem dJ8_set_82 : decode cJ8_set 82 = .ok (.istore 9, 2) := dk_54 9 (dk_at dksJ8_set_3 10 rfl rfl)
theorem dJ8_set_84 : decode cJ8_set 84 = .ok (.iload 9, 2) := dk_21 9 (dk_at dksJ8_set_3 12 rfl rfl)
theorem dJ8_set_86 : decode cJ8_set 86 = .ok (.iload 4, 2) := dk_21 4 (dk_at dksJ8_set_3 14 rfl rfl)
theorem dJ8_set_88 : decode cJ8_set 88 = .ok (.if_icmp .ge 19, 3) := dk_162 0 19 (dk_at dksJ8_set_3 16 rfl rfl)
theorem dJ8_set_91 : decode cJ8_set 91 = .ok (.aload_n 0, 1) := dk_42 (dk_at dksJ8_set_3 19 rfl rfl)
theorem dJ8_set_92 : decode cJ8_set 92 = .ok (.getfield 11, 3) := dk_180 0 11 (dk_at dksJ8_set_3 20 rfl rfl)
theorem dJ8_set_95 : decode cJ8_set 95 = .ok (.iload 9, 2) := dk_21 9 (dk_at dksJ8_set_4 0 rfl rfl)
theorem dJ8_set_97 : decode cJ8_set 97 = .ok (.ldc2_w 165, 3) := dk_20 0 165 (dk_at dksJ8_set_4 2 rfl rfl)
theorem dJ8_set_100 : decode cJ8_set 100 = .ok (.lastore, 1) := dk_80 (dk_at dksJ8_set_4 5 rfl rfl)
theorem dJ8_set_101 : decode cJ8_set 101 = .ok (.iinc 9 1, 3) := dk_132 9 1 (dk_at dksJ8_set_4 6 rfl rfl)
theorem dJ8_set_104 : decode cJ8_set 104 = .ok (.goto (-20), 3) := dk_167 255 236 (dk_at dksJ8_set_4 9 rfl rfl)
theorem dJ8_set_107 : decode cJ8_set 107 = .ok (.aload_n 0, 1) := dk_42 (dk_at dksJ8_set_4 12 rfl rfl)
theorem dJ8_set_108 : decode cJ8_set 108 = .ok (.getfield 11, 3) := dk_180 0 11 (dk_at dksJ8_set_4 13 rfl rfl)
theorem dJ8_set_111 : decode cJ8_set 111 = .ok (.iload 4, 2) := dk_21 4 (dk_at dksJ8_set_4 16 rfl rfl)
theorem dJ8_set_113 : decode cJ8_set 113 = .ok (.dup2, 1) := dk_92 (dk_at dksJ8_set_4 18 rfl rfl)
theorem dJ8_set_114 : decode cJ8_set 114 = .ok (.laload, 1) := dk_47 (dk_at dksJ8_set_4 19 rfl rfl)
theorem dJ8_set_115 : decode cJ8_set 115 = .ok (.lload 7, 2) := dk_22 7 (dk_at dksJ8_set_4 20 rfl rfl)
theorem dJ8_set_117 : decode cJ8_set 117 = .ok (.lor, 1) := dk_129 (dk_at dksJ8_set_4 22 rfl rfl)
theorem dJ8_set_118 : decode cJ8_set 118 = .ok (.lastore, 1) := dk_80 (dk_at dksJ8_set_4 23 rfl rfl)
theorem dJ8_set_119 : decode cJ8_set 119 = .ok (.aload_n 0, 1) := dk_42 (dk_at dksJ8_set_5 0 rfl rfl)
theorem dJ8_set_120 : decode cJ8_set 120 = .ok (.invokevirtual 56, 3) := dk_182 0 56 (dk_at dksJ8_set_5 1 rfl rfl)
theorem dJ8_set_123 : decode cJ8_set 123 = .ok (.return_, 1) := dk_177 (dk_at dksJ8_set_5 4 rfl rfl)
abbrev cJ8_checkRange : ByteArray := prog_47_method_16_code
def yJ8_checkRange : MethodName := ⟨RJ8, "checkRange", "(II)V"⟩
def dkwJ8_checkRange_4 : List UInt8 := [182, 0, 42, 182, 0, 45, 183, 0, 146, 191, 177]
abbrev dktJ8_checkRange_4 : List UInt8 := dkwJ8_checkRange_4 ++ []
def dkwJ8_checkRange_3 : List UInt8 := [187, 0, 33, 89, 183, 0, 35, 18, 149, 182, 0, 38, 26, 182, 0, 42, 18, 151, 182, 0, 38, 27]
abbrev dktJ8_checkRange_3 : List UInt8 := dkwJ8_checkRange_3 ++ dktJ8_checkRange_4
def dkwJ8_checkRange_2 : List UInt8 := [182, 0, 38, 27, 182, 0, 42, 182, 0, 45, 183, 0, 146, 191, 26, 27, 164, 0, 39, 187, 0, 142, 89]
abbrev dktJ8_checkRange_2 : List UInt8 := dkwJ8_checkRange_2 ++ dktJ8_checkRange_3
def dkwJ8_checkRange_1 : List UInt8 := [182, 0, 45, 183, 0, 146, 191, 27, 156, 0, 30, 187, 0, 142, 89, 187, 0, 33, 89, 183, 0, 35, 18, 147]
abbrev dktJ8_checkRange_1 : List UInt8 := dkwJ8_checkRange_1 ++ dktJ8_checkRange_2
def dkwJ8_checkRange_0 : List UInt8 := [26, 156, 0, 30, 187, 0, 142, 89, 187, 0, 33, 89, 183, 0, 35, 18, 144, 182, 0, 38, 26, 182, 0, 42]
abbrev dktJ8_checkRange_0 : List UInt8 := dkwJ8_checkRange_0 ++ dktJ8_checkRange_1
theorem dksJ8_checkRange_0 : cJ8_checkRange.data.toList.drop 0 = dktJ8_checkRange_0 := by decide +kernel
theorem dksJ8_checkRange_1 : cJ8_checkRange.data.toList.drop 24 = dktJ8_checkRange_1 := dk_seg dksJ8_checkRange_0 24 rfl rfl
theorem dksJ8_checkRange_2 : cJ8_checkRange.data.toList.drop 48 = dktJ8_checkRange_2 := dk_seg dksJ8_checkRange_1 24 rfl rfl
theorem dksJ8_checkRange_3 : cJ8_checkRange.data.toList.drop 71 = dktJ8_checkRange_3 := dk_seg dksJ8_checkRange_2 23 rfl rfl
theorem dksJ8_checkRange_4 : cJ8_checkRange.data.toList.drop 93 = dktJ8_checkRange_4 := dk_seg dksJ8_checkRange_3 22 rfl rfl
theorem dJ8_checkRange_0 : decode cJ8_checkRange 0 = .ok (.iload_n 0, 1) := dk_26 (dk_at dksJ8_checkRange_0 0 rfl rfl)
theorem dJ8_checkRange_1 : decode cJ8_checkRange 1 = .ok (.ifCond .ge 30, 3) := dk_156 0 30 (dk_at dksJ8_checkRange_0 1 rfl rfl)
theorem dJ8_checkRange_4 : decode cJ8_checkRange 4 = .ok (.new 142, 3) := dk_187 0 142 (dk_at dksJ8_checkRange_0 4 rfl rfl)
theorem dJ8_checkRange_7 : decode cJ8_checkRange 7 = .ok (.dup, 1) := dk_89 (dk_at dksJ8_checkRange_0 7 rfl rfl)
theorem dJ8_checkRange_8 : decode cJ8_checkRange 8 = .ok (.new 33, 3) := dk_187 0 33 (dk_at dksJ8_checkRange_0 8 rfl rfl)
theorem dJ8_checkRange_11 : decode cJ8_checkRange 11 = .ok (.dup, 1) := dk_89 (dk_at dksJ8_checkRange_0 11 rfl rfl)
theorem dJ8_checkRange_12 : decode cJ8_checkRange 12 = .ok (.invokespecial 35, 3) := dk_183 0 35 (dk_at dksJ8_checkRange_0 12 rfl rfl)
theorem dJ8_checkRange_15 : decode cJ8_checkRange 15 = .ok (.ldc 144, 2) := dk_18 144 (dk_at dksJ8_checkRange_0 15 rfl rfl)
theorem dJ8_checkRange_17 : decode cJ8_checkRange 17 = .ok (.invokevirtual 38, 3) := dk_182 0 38 (dk_at dksJ8_checkRange_0 17 rfl rfl)
theorem dJ8_checkRange_20 : decode cJ8_checkRange 20 = .ok (.iload_n 0, 1) := dk_26 (dk_at dksJ8_checkRange_0 20 rfl rfl)
theorem dJ8_checkRange_21 : decode cJ8_checkRange 21 = .ok (.invokevirtual 42, 3) := dk_182 0 42 (dk_at dksJ8_checkRange_0 21 rfl rfl)
theorem dJ8_checkRange_24 : decode cJ8_checkRange 24 = .ok (.invokevirtual 45, 3) := dk_182 0 45 (dk_at dksJ8_checkRange_1 0 rfl rfl)
theorem dJ8_checkRange_27 : decode cJ8_checkRange 27 = .ok (.invokespecial 146, 3) := dk_183 0 146 (dk_at dksJ8_checkRange_1 3 rfl rfl)
theorem dJ8_checkRange_30 : decode cJ8_checkRange 30 = .ok (.athrow, 1) := dk_191 (dk_at dksJ8_checkRange_1 6 rfl rfl)
theorem dJ8_checkRange_31 : decode cJ8_checkRange 31 = .ok (.iload_n 1, 1) := dk_27 (dk_at dksJ8_checkRange_1 7 rfl rfl)
theorem dJ8_checkRange_32 : decode cJ8_checkRange 32 = .ok (.ifCond .ge 30, 3) := dk_156 0 30 (dk_at dksJ8_checkRange_1 8 rfl rfl)
theorem dJ8_checkRange_35 : decode cJ8_checkRange 35 = .ok (.new 142, 3) := dk_187 0 142 (dk_at dksJ8_checkRange_1 11 rfl rfl)
theorem dJ8_checkRange_38 : decode cJ8_checkRange 38 = .ok (.dup, 1) := dk_89 (dk_at dksJ8_checkRange_1 14 rfl rfl)
theorem dJ8_checkRange_39 : decode cJ8_checkRange 39 = .ok (.new 33, 3) := dk_187 0 33 (dk_at dksJ8_checkRange_1 15 rfl rfl)
theorem dJ8_checkRange_42 : decode cJ8_checkRange 42 = .ok (.dup, 1) := dk_89 (dk_at dksJ8_checkRange_1 18 rfl rfl)
theorem dJ8_checkRange_43 : decode cJ8_checkRange 43 = .ok (.invokespecial 35, 3) := dk_183 0 35 (dk_at dksJ8_checkRange_1 19 rfl rfl)
theorem dJ8_checkRange_46 : decode cJ8_checkRange 46 = .ok (.ldc 147, 2) := dk_18 147 (dk_at dksJ8_checkRange_1 22 rfl rfl)
theorem dJ8_checkRange_48 : decode cJ8_checkRange 48 = .ok (.invokevirtual 38, 3) := dk_182 0 38 (dk_at dksJ8_checkRange_2 0 rfl rfl)
theorem dJ8_checkRange_51 : decode cJ8_checkRange 51 = .ok (.iload_n 1, 1) := dk_27 (dk_at dksJ8_checkRange_2 3 rfl rfl)
theorem dJ8_checkRange_52 : decode cJ8_checkRange 52 = .ok (.invokevirtual 42, 3) := dk_182 0 42 (dk_at dksJ8_checkRange_2 4 rfl rfl)
theorem dJ8_checkRange_55 : decode cJ8_checkRange 55 = .ok (.invokevirtual 45, 3) := dk_182 0 45 (dk_at dksJ8_checkRange_2 7 rfl rfl)
theorem dJ8_checkRange_58 : decode cJ8_checkRange 58 = .ok (.invokespecial 146, 3) := dk_183 0 146 (dk_at dksJ8_checkRange_2 10 rfl rfl)
theorem dJ8_checkRange_61 : decode cJ8_checkRange 61 = .ok (.athrow, 1) := dk_191 (dk_at dksJ8_checkRange_2 13 rfl rfl)
theorem dJ8_checkRange_62 : decode cJ8_checkRange 62 = .ok (.iload_n 0, 1) := dk_26 (dk_at dksJ8_checkRange_2 14 rfl rfl)
theorem dJ8_checkRange_63 : decode cJ8_checkRange 63 = .ok (.iload_n 1, 1) := dk_27 (dk_at dksJ8_checkRange_2 15 rfl rfl)
theorem dJ8_checkRange_64 : decode cJ8_checkRange 64 = .ok (.if_icmp .le 39, 3) := dk_164 0 39 (dk_at dksJ8_checkRange_2 16 rfl rfl)
theorem dJ8_checkRange_67 : decode cJ8_checkRange 67 = .ok (.new 142, 3) := dk_187 0 142 (dk_at dksJ8_checkRange_2 19 rfl rfl)
theorem dJ8_checkRange_70 : decode cJ8_checkRange 70 = .ok (.dup, 1) := dk_89 (dk_at dksJ8_checkRange_2 22 rfl rfl)
theorem dJ8_checkRange_71 : decode cJ8_checkRange 71 = .ok (.new 33, 3) := dk_187 0 33 (dk_at dksJ8_checkRange_3 0 rfl rfl)
theorem dJ8_checkRange_74 : decode cJ8_checkRange 74 = .ok (.dup, 1) := dk_89 (dk_at dksJ8_checkRange_3 3 rfl rfl)
theorem dJ8_checkRange_75 : decode cJ8_checkRange 75 = .ok (.invokespecial 35, 3) := dk_183 0 35 (dk_at dksJ8_checkRange_3 4 rfl rfl)
theorem dJ8_checkRange_78 : decode cJ8_checkRange 78 = .ok (.ldc 149, 2) := dk_18 149 (dk_at dksJ8_checkRange_3 7 rfl rfl)
theorem dJ8_checkRange_80 : decode cJ8_checkRange 80 = .ok (.invokevirtual 38, 3) := dk_182 0 38 (dk_at dksJ8_checkRange_3 9 rfl rfl)
theorem dJ8_checkRange_83 : decode cJ8_checkRange 83 = .ok (.iload_n 0, 1) := dk_26 (dk_at dksJ8_checkRange_3 12 rfl rfl)
theorem dJ8_checkRange_84 : decode cJ8_checkRange 84 = .ok (.invokevirtual 42, 3) := dk_182 0 42 (dk_at dksJ8_checkRange_3 13 rfl rfl)
theorem dJ8_checkRange_87 : decode cJ8_checkRange 87 = .ok (.ldc 151, 2) := dk_18 151 (dk_at dksJ8_checkRange_3 16 rfl rfl)
theorem dJ8_checkRange_89 : decode cJ8_checkRange 89 = .ok (.invokevirtual 38, 3) := dk_182 0 38 (dk_at dksJ8_checkRange_3 18 rfl rfl)
theorem dJ8_checkRange_92 : decode cJ8_checkRange 92 = .ok (.iload_n 1, 1) := dk_27 (dk_at dksJ8_checkRange_3 21 rfl rfl)
theorem dJ8_checkRange_93 : decode cJ8_checkRange 93 = .ok (.invokevirtual 42, 3) := dk_182 0 42 (dk_at dksJ8_checkRange_4 0 rfl rfl)
theorem dJ8_checkRange_96 : decode cJ8_checkRange 96 = .ok (.invokevirtual 45, 3) := dk_182 0 45 (dk_at dksJ8_checkRange_4 3 rfl rfl)
theorem dJ8_checkRange_99 : decode cJ8_checkRange 99 = .ok (.invokespecial 146, 3) := dk_183 0 146 (dk_at dksJ8_checkRange_4 6 rfl rfl)
theorem dJ8_checkRange_102 : decode cJ8_checkRange 102 = .ok (.athrow, 1) := dk_191 (dk_at dksJ8_checkRange_4 9 rfl rfl)
theorem dJ8_checkRange_103 : decode cJ8_checkRange 103 = .ok (.return_, 1) := dk_177 (dk_at dksJ8_checkRange_4 10 rfl rfl)
abbrev cJ8_expandTo : ByteArray := prog_47_method_15_code
def yJ8_expandTo : MethodName := ⟨RJ8, "expandTo", "(I)V"⟩
def dkwJ8_expandTo_0 : List UInt8 := [27, 4, 96, 61, 42, 180, 0, 7, 28, 162, 0, 13, 42, 28, 182, 0, 139, 42, 28, 181, 0, 7, 177]
abbrev dktJ8_expandTo_0 : List UInt8 := dkwJ8_expandTo_0 ++ []
theorem dksJ8_expandTo_0 : cJ8_expandTo.data.toList.drop 0 = dktJ8_expandTo_0 := by decide +kernel
theorem dJ8_expandTo_0 : decode cJ8_expandTo 0 = .ok (.iload_n 1, 1) := dk_27 (dk_at dksJ8_expandTo_0 0 rfl rfl)
theorem dJ8_expandTo_1 : decode cJ8_expandTo 1 = .ok (.iconst 1, 1) := dk_4 (dk_at dksJ8_expandTo_0 1 rfl rfl)
theorem dJ8_expandTo_2 : decode cJ8_expandTo 2 = .ok (.iadd, 1) := dk_96 (dk_at dksJ8_expandTo_0 2 rfl rfl)
theorem dJ8_expandTo_3 : decode cJ8_expandTo 3 = .ok (.istore_n 2, 1) := dk_61 (dk_at dksJ8_expandTo_0 3 rfl rfl)
theorem dJ8_expandTo_4 : decode cJ8_expandTo 4 = .ok (.aload_n 0, 1) := dk_42 (dk_at dksJ8_expandTo_0 4 rfl rfl)
theorem dJ8_expandTo_5 : decode cJ8_expandTo 5 = .ok (.getfield 7, 3) := dk_180 0 7 (dk_at dksJ8_expandTo_0 5 rfl rfl)
theorem dJ8_expandTo_8 : decode cJ8_expandTo 8 = .ok (.iload_n 2, 1) := dk_28 (dk_at dksJ8_expandTo_0 8 rfl rfl)
theorem dJ8_expandTo_9 : decode cJ8_expandTo 9 = .ok (.if_icmp .ge 13, 3) := dk_162 0 13 (dk_at dksJ8_expandTo_0 9 rfl rfl)
theorem dJ8_expandTo_12 : decode cJ8_expandTo 12 = .ok (.aload_n 0, 1) := dk_42 (dk_at dksJ8_expandTo_0 12 rfl rfl)
theorem dJ8_expandTo_13 : decode cJ8_expandTo 13 = .ok (.iload_n 2, 1) := dk_28 (dk_at dksJ8_expandTo_0 13 rfl rfl)
theorem dJ8_expandTo_14 : decode cJ8_expandTo 14 = .ok (.invokevirtual 139, 3) := dk_182 0 139 (dk_at dksJ8_expandTo_0 14 rfl rfl)
theorem dJ8_expandTo_17 : decode cJ8_expandTo 17 = .ok (.aload_n 0, 1) := dk_42 (dk_at dksJ8_expandTo_0 17 rfl rfl)
theorem dJ8_expandTo_18 : decode cJ8_expandTo 18 = .ok (.iload_n 2, 1) := dk_28 (dk_at dksJ8_expandTo_0 18 rfl rfl)
theorem dJ8_expandTo_19 : decode cJ8_expandTo 19 = .ok (.putfield 7, 3) := dk_181 0 7 (dk_at dksJ8_expandTo_0 19 rfl rfl)
theorem dJ8_expandTo_22 : decode cJ8_expandTo 22 = .ok (.return_, 1) := dk_177 (dk_at dksJ8_expandTo_0 22 rfl rfl)
abbrev cJ8_set_2 : ByteArray := prog_47_method_19_code
def yJ8_set_2 : MethodName := ⟨RJ8, "set", "(I)V"⟩
def dkwJ8_set_2_2 : List UInt8 := [10, 27, 121, 129, 80, 42, 182, 0, 56, 177]
abbrev dktJ8_set_2_2 : List UInt8 := dkwJ8_set_2_2 ++ []
def dkwJ8_set_2_1 : List UInt8 := [182, 0, 45, 183, 0, 146, 191, 27, 184, 0, 52, 61, 42, 28, 182, 0, 155, 42, 180, 0, 11, 28, 92, 47]
abbrev dktJ8_set_2_1 : List UInt8 := dkwJ8_set_2_1 ++ dktJ8_set_2_2
def dkwJ8_set_2_0 : List UInt8 := [27, 156, 0, 30, 187, 0, 142, 89, 187, 0, 33, 89, 183, 0, 35, 18, 153, 182, 0, 38, 27, 182, 0, 42]
abbrev dktJ8_set_2_0 : List UInt8 := dkwJ8_set_2_0 ++ dktJ8_set_2_1
theorem dksJ8_set_2_0 : cJ8_set_2.data.toList.drop 0 = dktJ8_set_2_0 := by decide +kernel
theorem dksJ8_set_2_1 : cJ8_set_2.data.toList.drop 24 = dktJ8_set_2_1 := dk_seg dksJ8_set_2_0 24 rfl rfl
theorem dksJ8_set_2_2 : cJ8_set_2.data.toList.drop 48 = dktJ8_set_2_2 := dk_seg dksJ8_set_2_1 24 rfl rfl
theorem dJ8_set_2_0 : decode cJ8_set_2 0 = .ok (.iload_n 1, 1) := dk_27 (dk_at dksJ8_set_2_0 0 rfl rfl)
theorem dJ8_set_2_1 : decode cJ8_set_2 1 = .ok (.ifCond .ge 30, 3) := dk_156 0 30 (dk_at dksJ8_set_2_0 1 rfl rfl)
theorem dJ8_set_2_4 : decode cJ8_set_2 4 = .ok (.new 142, 3) := dk_187 0 142 (dk_at dksJ8_set_2_0 4 rfl rfl)
theorem dJ8_set_2_7 : decode cJ8_set_2 7 = .ok (.dup, 1) := dk_89 (dk_at dksJ8_set_2_0 7 rfl rfl)
theorem dJ8_set_2_8 : decode cJ8_set_2 8 = .ok (.new 33, 3) := dk_187 0 33 (dk_at dksJ8_set_2_0 8 rfl rfl)
theorem dJ8_set_2_11 : decode cJ8_set_2 11 = .ok (.dup, 1) := dk_89 (dk_at dksJ8_set_2_0 11 rfl rfl)
theorem dJ8_set_2_12 : decode cJ8_set_2 12 = .ok (.invokespecial 35, 3) := dk_183 0 35 (dk_at dksJ8_set_2_0 12 rfl rfl)
theorem dJ8_set_2_15 : decode cJ8_set_2 15 = .ok (.ldc 153, 2) := dk_18 153 (dk_at dksJ8_set_2_0 15 rfl rfl)
theorem dJ8_set_2_17 : decode cJ8_set_2 17 = .ok (.invokevirtual 38, 3) := dk_182 0 38 (dk_at dksJ8_set_2_0 17 rfl rfl)
theorem dJ8_set_2_20 : decode cJ8_set_2 20 = .ok (.iload_n 1, 1) := dk_27 (dk_at dksJ8_set_2_0 20 rfl rfl)
theorem dJ8_set_2_21 : decode cJ8_set_2 21 = .ok (.invokevirtual 42, 3) := dk_182 0 42 (dk_at dksJ8_set_2_0 21 rfl rfl)
theorem dJ8_set_2_24 : decode cJ8_set_2 24 = .ok (.invokevirtual 45, 3) := dk_182 0 45 (dk_at dksJ8_set_2_1 0 rfl rfl)
theorem dJ8_set_2_27 : decode cJ8_set_2 27 = .ok (.invokespecial 146, 3) := dk_183 0 146 (dk_at dksJ8_set_2_1 3 rfl rfl)
theorem dJ8_set_2_30 : decode cJ8_set_2 30 = .ok (.athrow, 1) := dk_191 (dk_at dksJ8_set_2_1 6 rfl rfl)
theorem dJ8_set_2_31 : decode cJ8_set_2 31 = .ok (.iload_n 1, 1) := dk_27 (dk_at dksJ8_set_2_1 7 rfl rfl)
theorem dJ8_set_2_32 : decode cJ8_set_2 32 = .ok (.invokestatic 52, 3) := dk_184 0 52 (dk_at dksJ8_set_2_1 8 rfl rfl)
theorem dJ8_set_2_35 : decode cJ8_set_2 35 = .ok (.istore_n 2, 1) := dk_61 (dk_at dksJ8_set_2_1 11 rfl rfl)
theorem dJ8_set_2_36 : decode cJ8_set_2 36 = .ok (.aload_n 0, 1) := dk_42 (dk_at dksJ8_set_2_1 12 rfl rfl)
theorem dJ8_set_2_37 : decode cJ8_set_2 37 = .ok (.iload_n 2, 1) := dk_28 (dk_at dksJ8_set_2_1 13 rfl rfl)
theorem dJ8_set_2_38 : decode cJ8_set_2 38 = .ok (.invokevirtual 155, 3) := dk_182 0 155 (dk_at dksJ8_set_2_1 14 rfl rfl)
theorem dJ8_set_2_41 : decode cJ8_set_2 41 = .ok (.aload_n 0, 1) := dk_42 (dk_at dksJ8_set_2_1 17 rfl rfl)
theorem dJ8_set_2_42 : decode cJ8_set_2 42 = .ok (.getfield 11, 3) := dk_180 0 11 (dk_at dksJ8_set_2_1 18 rfl rfl)
theorem dJ8_set_2_45 : decode cJ8_set_2 45 = .ok (.iload_n 2, 1) := dk_28 (dk_at dksJ8_set_2_1 21 rfl rfl)
theorem dJ8_set_2_46 : decode cJ8_set_2 46 = .ok (.dup2, 1) := dk_92 (dk_at dksJ8_set_2_1 22 rfl rfl)
theorem dJ8_set_2_47 : decode cJ8_set_2 47 = .ok (.laload, 1) := dk_47 (dk_at dksJ8_set_2_1 23 rfl rfl)
theorem dJ8_set_2_48 : decode cJ8_set_2 48 = .ok (.lconst 1, 1) := dk_10 (dk_at dksJ8_set_2_2 0 rfl rfl)
theorem dJ8_set_2_49 : decode cJ8_set_2 49 = .ok (.iload_n 1, 1) := dk_27 (dk_at dksJ8_set_2_2 1 rfl rfl)
theorem dJ8_set_2_50 : decode cJ8_set_2 50 = .ok (.lshl, 1) := dk_121 (dk_at dksJ8_set_2_2 2 rfl rfl)
theorem dJ8_set_2_51 : decode cJ8_set_2 51 = .ok (.lor, 1) := dk_129 (dk_at dksJ8_set_2_2 3 rfl rfl)
theorem dJ8_set_2_52 : decode cJ8_set_2 52 = .ok (.lastore, 1) := dk_80 (dk_at dksJ8_set_2_2 4 rfl rfl)
theorem dJ8_set_2_53 : decode cJ8_set_2 53 = .ok (.aload_n 0, 1) := dk_42 (dk_at dksJ8_set_2_2 5 rfl rfl)
theorem dJ8_set_2_54 : decode cJ8_set_2 54 = .ok (.invokevirtual 56, 3) := dk_182 0 56 (dk_at dksJ8_set_2_2 6 rfl rfl)
theorem dJ8_set_2_57 : decode cJ8_set_2 57 = .ok (.return_, 1) := dk_177 (dk_at dksJ8_set_2_2 9 rfl rfl)
abbrev cJ8_andNot : ByteArray := prog_47_method_39_code
def yJ8_andNot : MethodName := ⟨RJ8, "andNot", "(Ljava/util/BitSet;)V"⟩
def dkwJ8_andNot_2 : List UInt8 := [182, 0, 56, 177]
abbrev dktJ8_andNot_2 : List UInt8 := dkwJ8_andNot_2 ++ []
def dkwJ8_andNot_1 : List UInt8 := [47, 43, 180, 0, 11, 28, 47, 20, 0, 165, 131, 127, 80, 132, 2, 255, 167, 255, 230, 42, 182, 0, 158, 42]
abbrev dktJ8_andNot_1 : List UInt8 := dkwJ8_andNot_1 ++ dktJ8_andNot_2
def dkwJ8_andNot_0 : List UInt8 := [42, 180, 0, 7, 43, 180, 0, 7, 184, 0, 193, 4, 100, 61, 28, 155, 0, 28, 42, 180, 0, 11, 28, 92]
abbrev dktJ8_andNot_0 : List UInt8 := dkwJ8_andNot_0 ++ dktJ8_andNot_1
theorem dksJ8_andNot_0 : cJ8_andNot.data.toList.drop 0 = dktJ8_andNot_0 := by decide +kernel
theorem dksJ8_andNot_1 : cJ8_andNot.data.toList.drop 24 = dktJ8_andNot_1 := dk_seg dksJ8_andNot_0 24 rfl rfl
theorem dksJ8_andNot_2 : cJ8_andNot.data.toList.drop 48 = dktJ8_andNot_2 := dk_seg dksJ8_andNot_1 24 rfl rfl
theorem dJ8_andNot_0 : decode cJ8_andNot 0 = .ok (.aload_n 0, 1) := dk_42 (dk_at dksJ8_andNot_0 0 rfl rfl)
theorem dJ8_andNot_1 : decode cJ8_andNot 1 = .ok (.getfield 7, 3) := dk_180 0 7 (dk_at dksJ8_andNot_0 1 rfl rfl)
theorem dJ8_andNot_4 : decode cJ8_andNot 4 = .ok (.aload_n 1, 1) := dk_43 (dk_at dksJ8_andNot_0 4 rfl rfl)
theorem dJ8_andNot_5 : decode cJ8_andNot 5 = .ok (.getfield 7, 3) := dk_180 0 7 (dk_at dksJ8_andNot_0 5 rfl rfl)
theorem dJ8_andNot_8 : decode cJ8_andNot 8 = .ok (.invokestatic 193, 3) := dk_184 0 193 (dk_at dksJ8_andNot_0 8 rfl rfl)
theorem dJ8_andNot_11 : decode cJ8_andNot 11 = .ok (.iconst 1, 1) := dk_4 (dk_at dksJ8_andNot_0 11 rfl rfl)
theorem dJ8_andNot_12 : decode cJ8_andNot 12 = .ok (.isub, 1) := dk_100 (dk_at dksJ8_andNot_0 12 rfl rfl)
theorem dJ8_andNot_13 : decode cJ8_andNot 13 = .ok (.istore_n 2, 1) := dk_61 (dk_at dksJ8_andNot_0 13 rfl rfl)
theorem dJ8_andNot_14 : decode cJ8_andNot 14 = .ok (.iload_n 2, 1) := dk_28 (dk_at dksJ8_andNot_0 14 rfl rfl)
theorem dJ8_andNot_15 : decode cJ8_andNot 15 = .ok (.ifCond .lt 28, 3) := dk_155 0 28 (dk_at dksJ8_andNot_0 15 rfl rfl)
theorem dJ8_andNot_18 : decode cJ8_andNot 18 = .ok (.aload_n 0, 1) := dk_42 (dk_at dksJ8_andNot_0 18 rfl rfl)
theorem dJ8_andNot_19 : decode cJ8_andNot 19 = .ok (.getfield 11, 3) := dk_180 0 11 (dk_at dksJ8_andNot_0 19 rfl rfl)
theorem dJ8_andNot_22 : decode cJ8_andNot 22 = .ok (.iload_n 2, 1) := dk_28 (dk_at dksJ8_andNot_0 22 rfl rfl)
theorem dJ8_andNot_23 : decode cJ8_andNot 23 = .ok (.dup2, 1) := dk_92 (dk_at dksJ8_andNot_0 23 rfl rfl)
theorem dJ8_andNot_24 : decode cJ8_andNot 24 = .ok (.laload, 1) := dk_47 (dk_at dksJ8_andNot_1 0 rfl rfl)
theorem dJ8_andNot_25 : decode cJ8_andNot 25 = .ok (.aload_n 1, 1) := dk_43 (dk_at dksJ8_andNot_1 1 rfl rfl)
theorem dJ8_andNot_26 : decode cJ8_andNot 26 = .ok (.getfield 11, 3) := dk_180 0 11 (dk_at dksJ8_andNot_1 2 rfl rfl)
theorem dJ8_andNot_29 : decode cJ8_andNot 29 = .ok (.iload_n 2, 1) := dk_28 (dk_at dksJ8_andNot_1 5 rfl rfl)
theorem dJ8_andNot_30 : decode cJ8_andNot 30 = .ok (.laload, 1) := dk_47 (dk_at dksJ8_andNot_1 6 rfl rfl)
theorem dJ8_andNot_31 : decode cJ8_andNot 31 = .ok (.ldc2_w 165, 3) := dk_20 0 165 (dk_at dksJ8_andNot_1 7 rfl rfl)
theorem dJ8_andNot_34 : decode cJ8_andNot 34 = .ok (.lxor, 1) := dk_131 (dk_at dksJ8_andNot_1 10 rfl rfl)
theorem dJ8_andNot_35 : decode cJ8_andNot 35 = .ok (.land, 1) := dk_127 (dk_at dksJ8_andNot_1 11 rfl rfl)
theorem dJ8_andNot_36 : decode cJ8_andNot 36 = .ok (.lastore, 1) := dk_80 (dk_at dksJ8_andNot_1 12 rfl rfl)
theorem dJ8_andNot_37 : decode cJ8_andNot 37 = .ok (.iinc 2 (-1), 3) := dk_132 2 255 (dk_at dksJ8_andNot_1 13 rfl rfl)
theorem dJ8_andNot_40 : decode cJ8_andNot 40 = .ok (.goto (-26), 3) := dk_167 255 230 (dk_at dksJ8_andNot_1 16 rfl rfl)
theorem dJ8_andNot_43 : decode cJ8_andNot 43 = .ok (.aload_n 0, 1) := dk_42 (dk_at dksJ8_andNot_1 19 rfl rfl)
theorem dJ8_andNot_44 : decode cJ8_andNot 44 = .ok (.invokevirtual 158, 3) := dk_182 0 158 (dk_at dksJ8_andNot_1 20 rfl rfl)
theorem dJ8_andNot_47 : decode cJ8_andNot 47 = .ok (.aload_n 0, 1) := dk_42 (dk_at dksJ8_andNot_1 23 rfl rfl)
theorem dJ8_andNot_48 : decode cJ8_andNot 48 = .ok (.invokevirtual 56, 3) := dk_182 0 56 (dk_at dksJ8_andNot_2 0 rfl rfl)
theorem dJ8_andNot_51 : decode cJ8_andNot 51 = .ok (.return_, 1) := dk_177 (dk_at dksJ8_andNot_2 3 rfl rfl)
abbrev cJ8_recalculateWordsInUse : ByteArray := prog_47_method_3_code
def yJ8_recalculateWordsInUse : MethodName := ⟨RJ8, "recalculateWordsInUse", "()V"⟩
def dkwJ8_recalculateWordsInUse_1 : List UInt8 := [167, 0, 9, 132, 1, 255, 167, 255, 235, 42, 27, 4, 96, 181, 0, 7, 177]
abbrev dktJ8_recalculateWordsInUse_1 : List UInt8 := dkwJ8_recalculateWordsInUse_1 ++ []
def dkwJ8_recalculateWordsInUse_0 : List UInt8 := [42, 180, 0, 7, 4, 100, 60, 27, 155, 0, 23, 42, 180, 0, 11, 27, 47, 9, 148, 153, 0, 6]
abbrev dktJ8_recalculateWordsInUse_0 : List UInt8 := dkwJ8_recalculateWordsInUse_0 ++ dktJ8_recalculateWordsInUse_1
theorem dksJ8_recalculateWordsInUse_0 : cJ8_recalculateWordsInUse.data.toList.drop 0 = dktJ8_recalculateWordsInUse_0 := by decide +kernel
theorem dksJ8_recalculateWordsInUse_1 : cJ8_recalculateWordsInUse.data.toList.drop 22 = dktJ8_recalculateWordsInUse_1 := dk_seg dksJ8_recalculateWordsInUse_0 22 rfl rfl
theorem dJ8_recalculateWordsInUse_0 : decode cJ8_recalculateWordsInUse 0 = .ok (.aload_n 0, 1) := dk_42 (dk_at dksJ8_recalculateWordsInUse_0 0 rfl rfl)
theorem dJ8_recalculateWordsInUse_1 : decode cJ8_recalculateWordsInUse 1 = .ok (.getfield 7, 3) := dk_180 0 7 (dk_at dksJ8_recalculateWordsInUse_0 1 rfl rfl)
theorem dJ8_recalculateWordsInUse_4 : decode cJ8_recalculateWordsInUse 4 = .ok (.iconst 1, 1) := dk_4 (dk_at dksJ8_recalculateWordsInUse_0 4 rfl rfl)
theorem dJ8_recalculateWordsInUse_5 : decode cJ8_recalculateWordsInUse 5 = .ok (.isub, 1) := dk_100 (dk_at dksJ8_recalculateWordsInUse_0 5 rfl rfl)
theorem dJ8_recalculateWordsInUse_6 : decode cJ8_recalculateWordsInUse 6 = .ok (.istore_n 1, 1) := dk_60 (dk_at dksJ8_recalculateWordsInUse_0 6 rfl rfl)
theorem dJ8_recalculateWordsInUse_7 : decode cJ8_recalculateWordsInUse 7 = .ok (.iload_n 1, 1) := dk_27 (dk_at dksJ8_recalculateWordsInUse_0 7 rfl rfl)
theorem dJ8_recalculateWordsInUse_8 : decode cJ8_recalculateWordsInUse 8 = .ok (.ifCond .lt 23, 3) := dk_155 0 23 (dk_at dksJ8_recalculateWordsInUse_0 8 rfl rfl)
theorem dJ8_recalculateWordsInUse_11 : decode cJ8_recalculateWordsInUse 11 = .ok (.aload_n 0, 1) := dk_42 (dk_at dksJ8_recalculateWordsInUse_0 11 rfl rfl)
theorem dJ8_recalculateWordsInUse_12 : decode cJ8_recalculateWordsInUse 12 = .ok (.getfield 11, 3) := dk_180 0 11 (dk_at dksJ8_recalculateWordsInUse_0 12 rfl rfl)
theorem dJ8_recalculateWordsInUse_15 : decode cJ8_recalculateWordsInUse 15 = .ok (.iload_n 1, 1) := dk_27 (dk_at dksJ8_recalculateWordsInUse_0 15 rfl rfl)
theorem dJ8_recalculateWordsInUse_16 : decode cJ8_recalculateWordsInUse 16 = .ok (.laload, 1) := dk_47 (dk_at dksJ8_recalculateWordsInUse_0 16 rfl rfl)
theorem dJ8_recalculateWordsInUse_17 : decode cJ8_recalculateWordsInUse 17 = .ok (.lconst 0, 1) := dk_9 (dk_at dksJ8_recalculateWordsInUse_0 17 rfl rfl)
theorem dJ8_recalculateWordsInUse_18 : decode cJ8_recalculateWordsInUse 18 = .ok (.lcmp, 1) := dk_148 (dk_at dksJ8_recalculateWordsInUse_0 18 rfl rfl)
theorem dJ8_recalculateWordsInUse_19 : decode cJ8_recalculateWordsInUse 19 = .ok (.ifCond .eq 6, 3) := dk_153 0 6 (dk_at dksJ8_recalculateWordsInUse_0 19 rfl rfl)
theorem dJ8_recalculateWordsInUse_22 : decode cJ8_recalculateWordsInUse 22 = .ok (.goto 9, 3) := dk_167 0 9 (dk_at dksJ8_recalculateWordsInUse_1 0 rfl rfl)
theorem dJ8_recalculateWordsInUse_25 : decode cJ8_recalculateWordsInUse 25 = .ok (.iinc 1 (-1), 3) := dk_132 1 255 (dk_at dksJ8_recalculateWordsInUse_1 3 rfl rfl)
theorem dJ8_recalculateWordsInUse_28 : decode cJ8_recalculateWordsInUse 28 = .ok (.goto (-21), 3) := dk_167 255 235 (dk_at dksJ8_recalculateWordsInUse_1 6 rfl rfl)
theorem dJ8_recalculateWordsInUse_31 : decode cJ8_recalculateWordsInUse 31 = .ok (.aload_n 0, 1) := dk_42 (dk_at dksJ8_recalculateWordsInUse_1 9 rfl rfl)
theorem dJ8_recalculateWordsInUse_32 : decode cJ8_recalculateWordsInUse 32 = .ok (.iload_n 1, 1) := dk_27 (dk_at dksJ8_recalculateWordsInUse_1 10 rfl rfl)
theorem dJ8_recalculateWordsInUse_33 : decode cJ8_recalculateWordsInUse 33 = .ok (.iconst 1, 1) := dk_4 (dk_at dksJ8_recalculateWordsInUse_1 11 rfl rfl)
theorem dJ8_recalculateWordsInUse_34 : decode cJ8_recalculateWordsInUse 34 = .ok (.iadd, 1) := dk_96 (dk_at dksJ8_recalculateWordsInUse_1 12 rfl rfl)
theorem dJ8_recalculateWordsInUse_35 : decode cJ8_recalculateWordsInUse 35 = .ok (.putfield 7, 3) := dk_181 0 7 (dk_at dksJ8_recalculateWordsInUse_1 13 rfl rfl)
theorem dJ8_recalculateWordsInUse_38 : decode cJ8_recalculateWordsInUse 38 = .ok (.return_, 1) := dk_177 (dk_at dksJ8_recalculateWordsInUse_1 16 rfl rfl)
abbrev cJ8_cardinality : ByteArray := prog_47_method_35_code
def yJ8_cardinality : MethodName := ⟨RJ8, "cardinality", "()I"⟩
def dkwJ8_cardinality_1 : List UInt8 := [132, 2, 1, 167, 255, 233, 27, 172]
abbrev dktJ8_cardinality_1 : List UInt8 := dkwJ8_cardinality_1 ++ []
def dkwJ8_cardinality_0 : List UInt8 := [3, 60, 3, 61, 28, 42, 180, 0, 7, 162, 0, 21, 27, 42, 180, 0, 11, 28, 47, 184, 0, 196, 96, 60]
abbrev dktJ8_cardinality_0 : List UInt8 := dkwJ8_cardinality_0 ++ dktJ8_cardinality_1
theorem dksJ8_cardinality_0 : cJ8_cardinality.data.toList.drop 0 = dktJ8_cardinality_0 := by decide +kernel
theorem dksJ8_cardinality_1 : cJ8_cardinality.data.toList.drop 24 = dktJ8_cardinality_1 := dk_seg dksJ8_cardinality_0 24 rfl rfl
theorem dJ8_cardinality_0 : decode cJ8_cardinality 0 = .ok (.iconst 0, 1) := dk_3 (dk_at dksJ8_cardinality_0 0 rfl rfl)
theorem dJ8_cardinality_1 : decode cJ8_cardinality 1 = .ok (.istore_n 1, 1) := dk_60 (dk_at dksJ8_cardinality_0 1 rfl rfl)
theorem dJ8_cardinality_2 : decode cJ8_cardinality 2 = .ok (.iconst 0, 1) := dk_3 (dk_at dksJ8_cardinality_0 2 rfl rfl)
theorem dJ8_cardinality_3 : decode cJ8_cardinality 3 = .ok (.istore_n 2, 1) := dk_61 (dk_at dksJ8_cardinality_0 3 rfl rfl)
theorem dJ8_cardinality_4 : decode cJ8_cardinality 4 = .ok (.iload_n 2, 1) := dk_28 (dk_at dksJ8_cardinality_0 4 rfl rfl)
theorem dJ8_cardinality_5 : decode cJ8_cardinality 5 = .ok (.aload_n 0, 1) := dk_42 (dk_at dksJ8_cardinality_0 5 rfl rfl)
theorem dJ8_cardinality_6 : decode cJ8_cardinality 6 = .ok (.getfield 7, 3) := dk_180 0 7 (dk_at dksJ8_cardinality_0 6 rfl rfl)
theorem dJ8_cardinality_9 : decode cJ8_cardinality 9 = .ok (.if_icmp .ge 21, 3) := dk_162 0 21 (dk_at dksJ8_cardinality_0 9 rfl rfl)
theorem dJ8_cardinality_12 : decode cJ8_cardinality 12 = .ok (.iload_n 1, 1) := dk_27 (dk_at dksJ8_cardinality_0 12 rfl rfl)
theorem dJ8_cardinality_13 : decode cJ8_cardinality 13 = .ok (.aload_n 0, 1) := dk_42 (dk_at dksJ8_cardinality_0 13 rfl rfl)
theorem dJ8_cardinality_14 : decode cJ8_cardinality 14 = .ok (.getfield 11, 3) := dk_180 0 11 (dk_at dksJ8_cardinality_0 14 rfl rfl)
theorem dJ8_cardinality_17 : decode cJ8_cardinality 17 = .ok (.iload_n 2, 1) := dk_28 (dk_at dksJ8_cardinality_0 17 rfl rfl)
theorem dJ8_cardinality_18 : decode cJ8_cardinality 18 = .ok (.laload, 1) := dk_47 (dk_at dksJ8_cardinality_0 18 rfl rfl)
theorem dJ8_cardinality_19 : decode cJ8_cardinality 19 = .ok (.invokestatic 196, 3) := dk_184 0 196 (dk_at dksJ8_cardinality_0 19 rfl rfl)
theorem dJ8_cardinality_22 : decode cJ8_cardinality 22 = .ok (.iadd, 1) := dk_96 (dk_at dksJ8_cardinality_0 22 rfl rfl)
theorem dJ8_cardinality_23 : decode cJ8_cardinality 23 = .ok (.istore_n 1, 1) := dk_60 (dk_at dksJ8_cardinality_0 23 rfl rfl)
theorem dJ8_cardinality_24 : decode cJ8_cardinality 24 = .ok (.iinc 2 1, 3) := dk_132 2 1 (dk_at dksJ8_cardinality_1 0 rfl rfl)
theorem dJ8_cardinality_27 : decode cJ8_cardinality 27 = .ok (.goto (-23), 3) := dk_167 255 233 (dk_at dksJ8_cardinality_1 3 rfl rfl)
theorem dJ8_cardinality_30 : decode cJ8_cardinality 30 = .ok (.iload_n 1, 1) := dk_27 (dk_at dksJ8_cardinality_1 6 rfl rfl)
theorem dJ8_cardinality_31 : decode cJ8_cardinality 31 = .ok (.ireturn, 1) := dk_172 (dk_at dksJ8_cardinality_1 7 rfl rfl)
abbrev cJ8_nextSetBit : ByteArray := prog_47_method_28_code
def yJ8_nextSetBit : MethodName := ⟨RJ8, "nextSetBit", "(I)I"⟩
def dkwJ8_nextSetBit_4 : List UInt8 := [28, 47, 66, 167, 255, 220]
abbrev dktJ8_nextSetBit_4 : List UInt8 := dkwJ8_nextSetBit_4 ++ []
def dkwJ8_nextSetBit_3 : List UInt8 := [104, 33, 184, 0, 182, 96, 172, 132, 2, 1, 28, 42, 180, 0, 7, 160, 0, 5, 2, 172, 42, 180, 0, 11]
abbrev dktJ8_nextSetBit_3 : List UInt8 := dkwJ8_nextSetBit_3 ++ dktJ8_nextSetBit_4
def dkwJ8_nextSetBit_2 : List UInt8 := [2, 172, 42, 180, 0, 11, 28, 47, 20, 0, 165, 27, 121, 127, 66, 33, 9, 148, 153, 0, 13, 28, 16, 64]
abbrev dktJ8_nextSetBit_2 : List UInt8 := dkwJ8_nextSetBit_2 ++ dktJ8_nextSetBit_3
def dkwJ8_nextSetBit_1 : List UInt8 := [182, 0, 45, 183, 0, 146, 191, 42, 182, 0, 56, 27, 184, 0, 52, 61, 28, 42, 180, 0, 7, 161, 0, 5]
abbrev dktJ8_nextSetBit_1 : List UInt8 := dkwJ8_nextSetBit_1 ++ dktJ8_nextSetBit_2
def dkwJ8_nextSetBit_0 : List UInt8 := [27, 156, 0, 30, 187, 0, 142, 89, 187, 0, 33, 89, 183, 0, 35, 18, 144, 182, 0, 38, 27, 182, 0, 42]
abbrev dktJ8_nextSetBit_0 : List UInt8 := dkwJ8_nextSetBit_0 ++ dktJ8_nextSetBit_1
theorem dksJ8_nextSetBit_0 : cJ8_nextSetBit.data.toList.drop 0 = dktJ8_nextSetBit_0 := by decide +kernel
theorem dksJ8_nextSetBit_1 : cJ8_nextSetBit.data.toList.drop 24 = dktJ8_nextSetBit_1 := dk_seg dksJ8_nextSetBit_0 24 rfl rfl
theorem dksJ8_nextSetBit_2 : cJ8_nextSetBit.data.toList.drop 48 = dktJ8_nextSetBit_2 := dk_seg dksJ8_nextSetBit_1 24 rfl rfl
theorem dksJ8_nextSetBit_3 : cJ8_nextSetBit.data.toList.drop 72 = dktJ8_nextSetBit_3 := dk_seg dksJ8_nextSetBit_2 24 rfl rfl
theorem dksJ8_nextSetBit_4 : cJ8_nextSetBit.data.toList.drop 96 = dktJ8_nextSetBit_4 := dk_seg dksJ8_nextSetBit_3 24 rfl rfl
theorem dJ8_nextSetBit_0 : decode cJ8_nextSetBit 0 = .ok (.iload_n 1, 1) := dk_27 (dk_at dksJ8_nextSetBit_0 0 rfl rfl)
theorem dJ8_nextSetBit_1 : decode cJ8_nextSetBit 1 = .ok (.ifCond .ge 30, 3) := dk_156 0 30 (dk_at dksJ8_nextSetBit_0 1 rfl rfl)
theorem dJ8_nextSetBit_4 : decode cJ8_nextSetBit 4 = .ok (.new 142, 3) := dk_187 0 142 (dk_at dksJ8_nextSetBit_0 4 rfl rfl)
theorem dJ8_nextSetBit_7 : decode cJ8_nextSetBit 7 = .ok (.dup, 1) := dk_89 (dk_at dksJ8_nextSetBit_0 7 rfl rfl)
theorem dJ8_nextSetBit_8 : decode cJ8_nextSetBit 8 = .ok (.new 33, 3) := dk_187 0 33 (dk_at dksJ8_nextSetBit_0 8 rfl rfl)
theorem dJ8_nextSetBit_11 : decode cJ8_nextSetBit 11 = .ok (.dup, 1) := dk_89 (dk_at dksJ8_nextSetBit_0 11 rfl rfl)
theorem dJ8_nextSetBit_12 : decode cJ8_nextSetBit 12 = .ok (.invokespecial 35, 3) := dk_183 0 35 (dk_at dksJ8_nextSetBit_0 12 rfl rfl)
theorem dJ8_nextSetBit_15 : decode cJ8_nextSetBit 15 = .ok (.ldc 144, 2) := dk_18 144 (dk_at dksJ8_nextSetBit_0 15 rfl rfl)
theorem dJ8_nextSetBit_17 : decode cJ8_nextSetBit 17 = .ok (.invokevirtual 38, 3) := dk_182 0 38 (dk_at dksJ8_nextSetBit_0 17 rfl rfl)
theorem dJ8_nextSetBit_20 : decode cJ8_nextSetBit 20 = .ok (.iload_n 1, 1) := dk_27 (dk_at dksJ8_nextSetBit_0 20 rfl rfl)
theorem dJ8_nextSetBit_21 : decode cJ8_nextSetBit 21 = .ok (.invokevirtual 42, 3) := dk_182 0 42 (dk_at dksJ8_nextSetBit_0 21 rfl rfl)
theorem dJ8_nextSetBit_24 : decode cJ8_nextSetBit 24 = .ok (.invokevirtual 45, 3) := dk_182 0 45 (dk_at dksJ8_nextSetBit_1 0 rfl rfl)
theorem dJ8_nextSetBit_27 : decode cJ8_nextSetBit 27 = .ok (.invokespecial 146, 3) := dk_183 0 146 (dk_at dksJ8_nextSetBit_1 3 rfl rfl)
theorem dJ8_nextSetBit_30 : decode cJ8_nextSetBit 30 = .ok (.athrow, 1) := dk_191 (dk_at dksJ8_nextSetBit_1 6 rfl rfl)
theorem dJ8_nextSetBit_31 : decode cJ8_nextSetBit 31 = .ok (.aload_n 0, 1) := dk_42 (dk_at dksJ8_nextSetBit_1 7 rfl rfl)
theorem dJ8_nextSetBit_32 : decode cJ8_nextSetBit 32 = .ok (.invokevirtual 56, 3) := dk_182 0 56 (dk_at dksJ8_nextSetBit_1 8 rfl rfl)
theorem dJ8_nextSetBit_35 : decode cJ8_nextSetBit 35 = .ok (.iload_n 1, 1) := dk_27 (dk_at dksJ8_nextSetBit_1 11 rfl rfl)
theorem dJ8_nextSetBit_36 : decode cJ8_nextSetBit 36 = .ok (.invokestatic 52, 3) := dk_184 0 52 (dk_at dksJ8_nextSetBit_1 12 rfl rfl)
theorem dJ8_nextSetBit_39 : decode cJ8_nextSetBit 39 = .ok (.istore_n 2, 1) := dk_61 (dk_at dksJ8_nextSetBit_1 15 rfl rfl)
theorem dJ8_nextSetBit_40 : decode cJ8_nextSetBit 40 = .ok (.iload_n 2, 1) := dk_28 (dk_at dksJ8_nextSetBit_1 16 rfl rfl)
theorem dJ8_nextSetBit_41 : decode cJ8_nextSetBit 41 = .ok (.aload_n 0, 1) := dk_42 (dk_at dksJ8_nextSetBit_1 17 rfl rfl)
theorem dJ8_nextSetBit_42 : decode cJ8_nextSetBit 42 = .ok (.getfield 7, 3) := dk_180 0 7 (dk_at dksJ8_nextSetBit_1 18 rfl rfl)
theorem dJ8_nextSetBit_45 : decode cJ8_nextSetBit 45 = .ok (.if_icmp .lt 5, 3) := dk_161 0 5 (dk_at dksJ8_nextSetBit_1 21 rfl rfl)
theorem dJ8_nextSetBit_48 : decode cJ8_nextSetBit 48 = .ok (.iconst (-1), 1) := dk_2 (dk_at dksJ8_nextSetBit_2 0 rfl rfl)
theorem dJ8_nextSetBit_49 : decode cJ8_nextSetBit 49 = .ok (.ireturn, 1) := dk_172 (dk_at dksJ8_nextSetBit_2 1 rfl rfl)
theorem dJ8_nextSetBit_50 : decode cJ8_nextSetBit 50 = .ok (.aload_n 0, 1) := dk_42 (dk_at dksJ8_nextSetBit_2 2 rfl rfl)
theorem dJ8_nextSetBit_51 : decode cJ8_nextSetBit 51 = .ok (.getfield 11, 3) := dk_180 0 11 (dk_at dksJ8_nextSetBit_2 3 rfl rfl)
theorem dJ8_nextSetBit_54 : decode cJ8_nextSetBit 54 = .ok (.iload_n 2, 1) := dk_28 (dk_at dksJ8_nextSetBit_2 6 rfl rfl)
theorem dJ8_nextSetBit_55 : decode cJ8_nextSetBit 55 = .ok (.laload, 1) := dk_47 (dk_at dksJ8_nextSetBit_2 7 rfl rfl)
theorem dJ8_nextSetBit_56 : decode cJ8_nextSetBit 56 = .ok (.ldc2_w 165, 3) := dk_20 0 165 (dk_at dksJ8_nextSetBit_2 8 rfl rfl)
theorem dJ8_nextSetBit_59 : decode cJ8_nextSetBit 59 = .ok (.iload_n 1, 1) := dk_27 (dk_at dksJ8_nextSetBit_2 11 rfl rfl)
theorem dJ8_nextSetBit_60 : decode cJ8_nextSetBit 60 = .ok (.lshl, 1) := dk_121 (dk_at dksJ8_nextSetBit_2 12 rfl rfl)
theorem dJ8_nextSetBit_61 : decode cJ8_nextSetBit 61 = .ok (.land, 1) := dk_127 (dk_at dksJ8_nextSetBit_2 13 rfl rfl)
theorem dJ8_nextSetBit_62 : decode cJ8_nextSetBit 62 = .ok (.lstore_n 3, 1) := dk_66 (dk_at dksJ8_nextSetBit_2 14 rfl rfl)
theorem dJ8_nextSetBit_63 : decode cJ8_nextSetBit 63 = .ok (.lload_n 3, 1) := dk_33 (dk_at dksJ8_nextSetBit_2 15 rfl rfl)
theorem dJ8_nextSetBit_64 : decode cJ8_nextSetBit 64 = .ok (.lconst 0, 1) := dk_9 (dk_at dksJ8_nextSetBit_2 16 rfl rfl)
theorem dJ8_nextSetBit_65 : decode cJ8_nextSetBit 65 = .ok (.lcmp, 1) := dk_148 (dk_at dksJ8_nextSetBit_2 17 rfl rfl)
theorem dJ8_nextSetBit_66 : decode cJ8_nextSetBit 66 = .ok (.ifCond .eq 13, 3) := dk_153 0 13 (dk_at dksJ8_nextSetBit_2 18 rfl rfl)
theorem dJ8_nextSetBit_69 : decode cJ8_nextSetBit 69 = .ok (.iload_n 2, 1) := dk_28 (dk_at dksJ8_nextSetBit_2 21 rfl rfl)
theorem dJ8_nextSetBit_70 : decode cJ8_nextSetBit 70 = .ok (.bipush 64, 2) := dk_16 64 (dk_at dksJ8_nextSetBit_2 22 rfl rfl)
theorem dJ8_nextSetBit_72 : decode cJ8_nextSetBit 72 = .ok (.imul, 1) := dk_104 (dk_at dksJ8_nextSetBit_3 0 rfl rfl)
theorem dJ8_nextSetBit_73 : decode cJ8_nextSetBit 73 = .ok (.lload_n 3, 1) := dk_33 (dk_at dksJ8_nextSetBit_3 1 rfl rfl)
theorem dJ8_nextSetBit_74 : decode cJ8_nextSetBit 74 = .ok (.invokestatic 182, 3) := dk_184 0 182 (dk_at dksJ8_nextSetBit_3 2 rfl rfl)
theorem dJ8_nextSetBit_77 : decode cJ8_nextSetBit 77 = .ok (.iadd, 1) := dk_96 (dk_at dksJ8_nextSetBit_3 5 rfl rfl)
theorem dJ8_nextSetBit_78 : decode cJ8_nextSetBit 78 = .ok (.ireturn, 1) := dk_172 (dk_at dksJ8_nextSetBit_3 6 rfl rfl)
theorem dJ8_nextSetBit_79 : decode cJ8_nextSetBit 79 = .ok (.iinc 2 1, 3) := dk_132 2 1 (dk_at dksJ8_nextSetBit_3 7 rfl rfl)
theorem dJ8_nextSetBit_82 : decode cJ8_nextSetBit 82 = .ok (.iload_n 2, 1) := dk_28 (dk_at dksJ8_nextSetBit_3 10 rfl rfl)
theorem dJ8_nextSetBit_83 : decode cJ8_nextSetBit 83 = .ok (.aload_n 0, 1) := dk_42 (dk_at dksJ8_nextSetBit_3 11 rfl rfl)
theorem dJ8_nextSetBit_84 : decode cJ8_nextSetBit 84 = .ok (.getfield 7, 3) := dk_180 0 7 (dk_at dksJ8_nextSetBit_3 12 rfl rfl)
theorem dJ8_nextSetBit_87 : decode cJ8_nextSetBit 87 = .ok (.if_icmp .ne 5, 3) := dk_160 0 5 (dk_at dksJ8_nextSetBit_3 15 rfl rfl)
theorem dJ8_nextSetBit_90 : decode cJ8_nextSetBit 90 = .ok (.iconst (-1), 1) := dk_2 (dk_at dksJ8_nextSetBit_3 18 rfl rfl)
theorem dJ8_nextSetBit_91 : decode cJ8_nextSetBit 91 = .ok (.ireturn, 1) := dk_172 (dk_at dksJ8_nextSetBit_3 19 rfl rfl)
theorem dJ8_nextSetBit_92 : decode cJ8_nextSetBit 92 = .ok (.aload_n 0, 1) := dk_42 (dk_at dksJ8_nextSetBit_3 20 rfl rfl)
theorem dJ8_nextSetBit_93 : decode cJ8_nextSetBit 93 = .ok (.getfield 11, 3) := dk_180 0 11 (dk_at dksJ8_nextSetBit_3 21 rfl rfl)
theorem dJ8_nextSetBit_96 : decode cJ8_nextSetBit 96 = .ok (.iload_n 2, 1) := dk_28 (dk_at dksJ8_nextSetBit_4 0 rfl rfl)
theorem dJ8_nextSetBit_97 : decode cJ8_nextSetBit 97 = .ok (.laload, 1) := dk_47 (dk_at dksJ8_nextSetBit_4 1 rfl rfl)
theorem dJ8_nextSetBit_98 : decode cJ8_nextSetBit 98 = .ok (.lstore_n 3, 1) := dk_66 (dk_at dksJ8_nextSetBit_4 2 rfl rfl)
theorem dJ8_nextSetBit_99 : decode cJ8_nextSetBit 99 = .ok (.goto (-36), 3) := dk_167 255 220 (dk_at dksJ8_nextSetBit_4 3 rfl rfl)
abbrev cJ8_get : ByteArray := prog_47_method_26_code
def yJ8_get : MethodName := ⟨RJ8, "get", "(I)Z"⟩
def dkwJ8_get_2 : List UInt8 := [42, 180, 0, 11, 28, 47, 10, 27, 121, 127, 9, 148, 153, 0, 7, 4, 167, 0, 4, 3, 172]
abbrev dktJ8_get_2 : List UInt8 := dkwJ8_get_2 ++ []
def dkwJ8_get_1 : List UInt8 := [182, 0, 45, 183, 0, 146, 191, 42, 182, 0, 56, 27, 184, 0, 52, 61, 28, 42, 180, 0, 7, 162, 0, 22]
abbrev dktJ8_get_1 : List UInt8 := dkwJ8_get_1 ++ dktJ8_get_2
def dkwJ8_get_0 : List UInt8 := [27, 156, 0, 30, 187, 0, 142, 89, 187, 0, 33, 89, 183, 0, 35, 18, 153, 182, 0, 38, 27, 182, 0, 42]
abbrev dktJ8_get_0 : List UInt8 := dkwJ8_get_0 ++ dktJ8_get_1
theorem dksJ8_get_0 : cJ8_get.data.toList.drop 0 = dktJ8_get_0 := by decide +kernel
theorem dksJ8_get_1 : cJ8_get.data.toList.drop 24 = dktJ8_get_1 := dk_seg dksJ8_get_0 24 rfl rfl
theorem dksJ8_get_2 : cJ8_get.data.toList.drop 48 = dktJ8_get_2 := dk_seg dksJ8_get_1 24 rfl rfl
theorem dJ8_get_0 : decode cJ8_get 0 = .ok (.iload_n 1, 1) := dk_27 (dk_at dksJ8_get_0 0 rfl rfl)
theorem dJ8_get_1 : decode cJ8_get 1 = .ok (.ifCond .ge 30, 3) := dk_156 0 30 (dk_at dksJ8_get_0 1 rfl rfl)
theorem dJ8_get_4 : decode cJ8_get 4 = .ok (.new 142, 3) := dk_187 0 142 (dk_at dksJ8_get_0 4 rfl rfl)
theorem dJ8_get_7 : decode cJ8_get 7 = .ok (.dup, 1) := dk_89 (dk_at dksJ8_get_0 7 rfl rfl)
theorem dJ8_get_8 : decode cJ8_get 8 = .ok (.new 33, 3) := dk_187 0 33 (dk_at dksJ8_get_0 8 rfl rfl)
theorem dJ8_get_11 : decode cJ8_get 11 = .ok (.dup, 1) := dk_89 (dk_at dksJ8_get_0 11 rfl rfl)
theorem dJ8_get_12 : decode cJ8_get 12 = .ok (.invokespecial 35, 3) := dk_183 0 35 (dk_at dksJ8_get_0 12 rfl rfl)
theorem dJ8_get_15 : decode cJ8_get 15 = .ok (.ldc 153, 2) := dk_18 153 (dk_at dksJ8_get_0 15 rfl rfl)
theorem dJ8_get_17 : decode cJ8_get 17 = .ok (.invokevirtual 38, 3) := dk_182 0 38 (dk_at dksJ8_get_0 17 rfl rfl)
theorem dJ8_get_20 : decode cJ8_get 20 = .ok (.iload_n 1, 1) := dk_27 (dk_at dksJ8_get_0 20 rfl rfl)
theorem dJ8_get_21 : decode cJ8_get 21 = .ok (.invokevirtual 42, 3) := dk_182 0 42 (dk_at dksJ8_get_0 21 rfl rfl)
theorem dJ8_get_24 : decode cJ8_get 24 = .ok (.invokevirtual 45, 3) := dk_182 0 45 (dk_at dksJ8_get_1 0 rfl rfl)
theorem dJ8_get_27 : decode cJ8_get 27 = .ok (.invokespecial 146, 3) := dk_183 0 146 (dk_at dksJ8_get_1 3 rfl rfl)
theorem dJ8_get_30 : decode cJ8_get 30 = .ok (.athrow, 1) := dk_191 (dk_at dksJ8_get_1 6 rfl rfl)
theorem dJ8_get_31 : decode cJ8_get 31 = .ok (.aload_n 0, 1) := dk_42 (dk_at dksJ8_get_1 7 rfl rfl)
theorem dJ8_get_32 : decode cJ8_get 32 = .ok (.invokevirtual 56, 3) := dk_182 0 56 (dk_at dksJ8_get_1 8 rfl rfl)
theorem dJ8_get_35 : decode cJ8_get 35 = .ok (.iload_n 1, 1) := dk_27 (dk_at dksJ8_get_1 11 rfl rfl)
theorem dJ8_get_36 : decode cJ8_get 36 = .ok (.invokestatic 52, 3) := dk_184 0 52 (dk_at dksJ8_get_1 12 rfl rfl)
theorem dJ8_get_39 : decode cJ8_get 39 = .ok (.istore_n 2, 1) := dk_61 (dk_at dksJ8_get_1 15 rfl rfl)
theorem dJ8_get_40 : decode cJ8_get 40 = .ok (.iload_n 2, 1) := dk_28 (dk_at dksJ8_get_1 16 rfl rfl)
theorem dJ8_get_41 : decode cJ8_get 41 = .ok (.aload_n 0, 1) := dk_42 (dk_at dksJ8_get_1 17 rfl rfl)
theorem dJ8_get_42 : decode cJ8_get 42 = .ok (.getfield 7, 3) := dk_180 0 7 (dk_at dksJ8_get_1 18 rfl rfl)
theorem dJ8_get_45 : decode cJ8_get 45 = .ok (.if_icmp .ge 22, 3) := dk_162 0 22 (dk_at dksJ8_get_1 21 rfl rfl)
theorem dJ8_get_48 : decode cJ8_get 48 = .ok (.aload_n 0, 1) := dk_42 (dk_at dksJ8_get_2 0 rfl rfl)
theorem dJ8_get_49 : decode cJ8_get 49 = .ok (.getfield 11, 3) := dk_180 0 11 (dk_at dksJ8_get_2 1 rfl rfl)
theorem dJ8_get_52 : decode cJ8_get 52 = .ok (.iload_n 2, 1) := dk_28 (dk_at dksJ8_get_2 4 rfl rfl)
theorem dJ8_get_53 : decode cJ8_get 53 = .ok (.laload, 1) := dk_47 (dk_at dksJ8_get_2 5 rfl rfl)
theorem dJ8_get_54 : decode cJ8_get 54 = .ok (.lconst 1, 1) := dk_10 (dk_at dksJ8_get_2 6 rfl rfl)
theorem dJ8_get_55 : decode cJ8_get 55 = .ok (.iload_n 1, 1) := dk_27 (dk_at dksJ8_get_2 7 rfl rfl)
theorem dJ8_get_56 : decode cJ8_get 56 = .ok (.lshl, 1) := dk_121 (dk_at dksJ8_get_2 8 rfl rfl)
theorem dJ8_get_57 : decode cJ8_get 57 = .ok (.land, 1) := dk_127 (dk_at dksJ8_get_2 9 rfl rfl)
theorem dJ8_get_58 : decode cJ8_get 58 = .ok (.lconst 0, 1) := dk_9 (dk_at dksJ8_get_2 10 rfl rfl)
theorem dJ8_get_59 : decode cJ8_get 59 = .ok (.lcmp, 1) := dk_148 (dk_at dksJ8_get_2 11 rfl rfl)
theorem dJ8_get_60 : decode cJ8_get 60 = .ok (.ifCond .eq 7, 3) := dk_153 0 7 (dk_at dksJ8_get_2 12 rfl rfl)
theorem dJ8_get_63 : decode cJ8_get 63 = .ok (.iconst 1, 1) := dk_4 (dk_at dksJ8_get_2 15 rfl rfl)
theorem dJ8_get_64 : decode cJ8_get 64 = .ok (.goto 4, 3) := dk_167 0 4 (dk_at dksJ8_get_2 16 rfl rfl)
theorem dJ8_get_67 : decode cJ8_get 67 = .ok (.iconst 0, 1) := dk_3 (dk_at dksJ8_get_2 19 rfl rfl)
theorem dJ8_get_68 : decode cJ8_get 68 = .ok (.ireturn, 1) := dk_172 (dk_at dksJ8_get_2 20 rfl rfl)
abbrev cJ8_clear_2 : ByteArray := prog_47_method_23_code
def yJ8_clear_2 : MethodName := ⟨RJ8, "clear", "(I)V"⟩
def dkwJ8_clear_2_2 : List UInt8 := [180, 0, 11, 28, 92, 47, 10, 27, 121, 20, 0, 165, 131, 127, 80, 42, 182, 0, 158, 42, 182, 0, 56, 177]
abbrev dktJ8_clear_2_2 : List UInt8 := dkwJ8_clear_2_2 ++ []
def dkwJ8_clear_2_1 : List UInt8 := [182, 0, 45, 183, 0, 146, 191, 27, 184, 0, 52, 61, 28, 42, 180, 0, 7, 161, 0, 4, 177, 42]
abbrev dktJ8_clear_2_1 : List UInt8 := dkwJ8_clear_2_1 ++ dktJ8_clear_2_2
def dkwJ8_clear_2_0 : List UInt8 := [27, 156, 0, 30, 187, 0, 142, 89, 187, 0, 33, 89, 183, 0, 35, 18, 153, 182, 0, 38, 27, 182, 0, 42]
abbrev dktJ8_clear_2_0 : List UInt8 := dkwJ8_clear_2_0 ++ dktJ8_clear_2_1
theorem dksJ8_clear_2_0 : cJ8_clear_2.data.toList.drop 0 = dktJ8_clear_2_0 := by decide +kernel
theorem dksJ8_clear_2_1 : cJ8_clear_2.data.toList.drop 24 = dktJ8_clear_2_1 := dk_seg dksJ8_clear_2_0 24 rfl rfl
theorem dksJ8_clear_2_2 : cJ8_clear_2.data.toList.drop 46 = dktJ8_clear_2_2 := dk_seg dksJ8_clear_2_1 22 rfl rfl
theorem dJ8_clear_2_0 : decode cJ8_clear_2 0 = .ok (.iload_n 1, 1) := dk_27 (dk_at dksJ8_clear_2_0 0 rfl rfl)
theorem dJ8_clear_2_1 : decode cJ8_clear_2 1 = .ok (.ifCond .ge 30, 3) := dk_156 0 30 (dk_at dksJ8_clear_2_0 1 rfl rfl)
theorem dJ8_clear_2_4 : decode cJ8_clear_2 4 = .ok (.new 142, 3) := dk_187 0 142 (dk_at dksJ8_clear_2_0 4 rfl rfl)
theorem dJ8_clear_2_7 : decode cJ8_clear_2 7 = .ok (.dup, 1) := dk_89 (dk_at dksJ8_clear_2_0 7 rfl rfl)
theorem dJ8_clear_2_8 : decode cJ8_clear_2 8 = .ok (.new 33, 3) := dk_187 0 33 (dk_at dksJ8_clear_2_0 8 rfl rfl)
theorem dJ8_clear_2_11 : decode cJ8_clear_2 11 = .ok (.dup, 1) := dk_89 (dk_at dksJ8_clear_2_0 11 rfl rfl)
theorem dJ8_clear_2_12 : decode cJ8_clear_2 12 = .ok (.invokespecial 35, 3) := dk_183 0 35 (dk_at dksJ8_clear_2_0 12 rfl rfl)
theorem dJ8_clear_2_15 : decode cJ8_clear_2 15 = .ok (.ldc 153, 2) := dk_18 153 (dk_at dksJ8_clear_2_0 15 rfl rfl)
theorem dJ8_clear_2_17 : decode cJ8_clear_2 17 = .ok (.invokevirtual 38, 3) := dk_182 0 38 (dk_at dksJ8_clear_2_0 17 rfl rfl)
theorem dJ8_clear_2_20 : decode cJ8_clear_2 20 = .ok (.iload_n 1, 1) := dk_27 (dk_at dksJ8_clear_2_0 20 rfl rfl)
theorem dJ8_clear_2_21 : decode cJ8_clear_2 21 = .ok (.invokevirtual 42, 3) := dk_182 0 42 (dk_at dksJ8_clear_2_0 21 rfl rfl)
theorem dJ8_clear_2_24 : decode cJ8_clear_2 24 = .ok (.invokevirtual 45, 3) := dk_182 0 45 (dk_at dksJ8_clear_2_1 0 rfl rfl)
theorem dJ8_clear_2_27 : decode cJ8_clear_2 27 = .ok (.invokespecial 146, 3) := dk_183 0 146 (dk_at dksJ8_clear_2_1 3 rfl rfl)
theorem dJ8_clear_2_30 : decode cJ8_clear_2 30 = .ok (.athrow, 1) := dk_191 (dk_at dksJ8_clear_2_1 6 rfl rfl)
theorem dJ8_clear_2_31 : decode cJ8_clear_2 31 = .ok (.iload_n 1, 1) := dk_27 (dk_at dksJ8_clear_2_1 7 rfl rfl)
theorem dJ8_clear_2_32 : decode cJ8_clear_2 32 = .ok (.invokestatic 52, 3) := dk_184 0 52 (dk_at dksJ8_clear_2_1 8 rfl rfl)
theorem dJ8_clear_2_35 : decode cJ8_clear_2 35 = .ok (.istore_n 2, 1) := dk_61 (dk_at dksJ8_clear_2_1 11 rfl rfl)
theorem dJ8_clear_2_36 : decode cJ8_clear_2 36 = .ok (.iload_n 2, 1) := dk_28 (dk_at dksJ8_clear_2_1 12 rfl rfl)
theorem dJ8_clear_2_37 : decode cJ8_clear_2 37 = .ok (.aload_n 0, 1) := dk_42 (dk_at dksJ8_clear_2_1 13 rfl rfl)
theorem dJ8_clear_2_38 : decode cJ8_clear_2 38 = .ok (.getfield 7, 3) := dk_180 0 7 (dk_at dksJ8_clear_2_1 14 rfl rfl)
theorem dJ8_clear_2_41 : decode cJ8_clear_2 41 = .ok (.if_icmp .lt 4, 3) := dk_161 0 4 (dk_at dksJ8_clear_2_1 17 rfl rfl)
theorem dJ8_clear_2_44 : decode cJ8_clear_2 44 = .ok (.return_, 1) := dk_177 (dk_at dksJ8_clear_2_1 20 rfl rfl)
theorem dJ8_clear_2_45 : decode cJ8_clear_2 45 = .ok (.aload_n 0, 1) := dk_42 (dk_at dksJ8_clear_2_1 21 rfl rfl)
theorem dJ8_clear_2_46 : decode cJ8_clear_2 46 = .ok (.getfield 11, 3) := dk_180 0 11 (dk_at dksJ8_clear_2_2 0 rfl rfl)
theorem dJ8_clear_2_49 : decode cJ8_clear_2 49 = .ok (.iload_n 2, 1) := dk_28 (dk_at dksJ8_clear_2_2 3 rfl rfl)
theorem dJ8_clear_2_50 : decode cJ8_clear_2 50 = .ok (.dup2, 1) := dk_92 (dk_at dksJ8_clear_2_2 4 rfl rfl)
theorem dJ8_clear_2_51 : decode cJ8_clear_2 51 = .ok (.laload, 1) := dk_47 (dk_at dksJ8_clear_2_2 5 rfl rfl)
theorem dJ8_clear_2_52 : decode cJ8_clear_2 52 = .ok (.lconst 1, 1) := dk_10 (dk_at dksJ8_clear_2_2 6 rfl rfl)
theorem dJ8_clear_2_53 : decode cJ8_clear_2 53 = .ok (.iload_n 1, 1) := dk_27 (dk_at dksJ8_clear_2_2 7 rfl rfl)
theorem dJ8_clear_2_54 : decode cJ8_clear_2 54 = .ok (.lshl, 1) := dk_121 (dk_at dksJ8_clear_2_2 8 rfl rfl)
theorem dJ8_clear_2_55 : decode cJ8_clear_2 55 = .ok (.ldc2_w 165, 3) := dk_20 0 165 (dk_at dksJ8_clear_2_2 9 rfl rfl)
theorem dJ8_clear_2_58 : decode cJ8_clear_2 58 = .ok (.lxor, 1) := dk_131 (dk_at dksJ8_clear_2_2 12 rfl rfl)
theorem dJ8_clear_2_59 : decode cJ8_clear_2 59 = .ok (.land, 1) := dk_127 (dk_at dksJ8_clear_2_2 13 rfl rfl)
theorem dJ8_clear_2_60 : decode cJ8_clear_2 60 = .ok (.lastore, 1) := dk_80 (dk_at dksJ8_clear_2_2 14 rfl rfl)
theorem dJ8_clear_2_61 : decode cJ8_clear_2 61 = .ok (.aload_n 0, 1) := dk_42 (dk_at dksJ8_clear_2_2 15 rfl rfl)
theorem dJ8_clear_2_62 : decode cJ8_clear_2 62 = .ok (.invokevirtual 158, 3) := dk_182 0 158 (dk_at dksJ8_clear_2_2 16 rfl rfl)
theorem dJ8_clear_2_65 : decode cJ8_clear_2 65 = .ok (.aload_n 0, 1) := dk_42 (dk_at dksJ8_clear_2_2 19 rfl rfl)
theorem dJ8_clear_2_66 : decode cJ8_clear_2 66 = .ok (.invokevirtual 56, 3) := dk_182 0 56 (dk_at dksJ8_clear_2_2 20 rfl rfl)
theorem dJ8_clear_2_69 : decode cJ8_clear_2 69 = .ok (.return_, 1) := dk_177 (dk_at dksJ8_clear_2_2 23 rfl rfl)
theorem q198 : (Jvm.Cond.initialized "java/util/BitSet") ∈ lw_all := lw_g (lw_at lw_m1 13 rfl) rfl
theorem q348 : (Jvm.Cond.selects "java/util/BitSet" ({ cls := "java/lang/Object", name := "getClass", desc := "()Ljava/lang/Class;" } : Jvm.MethodName) ({ cls := "java/lang/Object", name := "getClass", desc := "()Ljava/lang/Class;" } : Jvm.MethodName)) ∈ lw_all := lw_g (lw_at lw_m1 163 rfl) rfl
theorem q451 : (Jvm.Cond.instantiable "java/util/BitSet" (3 : Nat)) ∈ lw_all := lw_g (lw_at lw_m2 26 rfl) rfl
theorem q453 : (Jvm.Cond.instanceMethod ({ cls := "java/util/BitSet", name := "<init>", desc := "()V" } : Jvm.MethodName)) ∈ lw_all := lw_g (lw_at lw_m2 28 rfl) rfl
theorem q454 : (Jvm.Cond.code ({ cls := "java/util/BitSet", name := "<init>", desc := "()V" } : Jvm.MethodName) prog_47_method_4_code (1 : Nat) (Option.none : Option Jvm.ClassFile.FieldType)) ∈ lw_all := lw_g (lw_at lw_m2 29 rfl) rfl
theorem q455 : (Jvm.Cond.methodLink "java/util/BitSet" (21 : Nat) ({ cls := "java/lang/Object", name := "<init>", desc := "()V" } : Jvm.MethodName)) ∈ lw_all := lw_g (lw_at lw_m2 30 rfl) rfl
theorem q456 : (Jvm.Cond.methodLink "java/util/BitSet" (27 : Nat) ({ cls := "java/util/BitSet", name := "initWords", desc := "(I)V" } : Jvm.MethodName)) ∈ lw_all := lw_g (lw_at lw_m2 31 rfl) rfl
theorem q457 : (Jvm.Cond.privateMethod ({ cls := "java/util/BitSet", name := "initWords", desc := "(I)V" } : Jvm.MethodName)) ∈ lw_tbl := lw_at lw_m2 32 rfl
theorem q458 : (Jvm.Cond.instanceMethod ({ cls := "java/util/BitSet", name := "initWords", desc := "(I)V" } : Jvm.MethodName)) ∈ lw_all := lw_g (lw_at lw_m2 33 rfl) rfl
theorem q459 : (Jvm.Cond.code ({ cls := "java/util/BitSet", name := "initWords", desc := "(I)V" } : Jvm.MethodName) prog_47_method_6_code (2 : Nat) (Option.none : Option Jvm.ClassFile.FieldType)) ∈ lw_all := lw_g (lw_at lw_m2 34 rfl) rfl
theorem q460 : (Jvm.Cond.methodLink "java/util/BitSet" (52 : Nat) ({ cls := "java/util/BitSet", name := "wordIndex", desc := "(I)I" } : Jvm.MethodName)) ∈ lw_all := lw_g (lw_at lw_m2 35 rfl) rfl
theorem q461 : (Jvm.Cond.static ({ cls := "java/util/BitSet", name := "wordIndex", desc := "(I)I" } : Jvm.MethodName)) ∈ lw_all := lw_g (lw_at lw_m2 36 rfl) rfl
theorem q462 : (Jvm.Cond.code ({ cls := "java/util/BitSet", name := "wordIndex", desc := "(I)I" } : Jvm.MethodName) prog_47_method_1_code (1 : Nat) (Option.some Jvm.ClassFile.FieldType.int)) ∈ lw_all := lw_g (lw_at lw_m2 37 rfl) rfl
theorem q463 : (Jvm.Cond.fieldLink "java/util/BitSet" (11 : Nat) "java/util/BitSet" "words" "[J") ∈ lw_all := lw_g (lw_at lw_m2 38 rfl) rfl
theorem q464 : (Jvm.Cond.fieldLink "java/util/BitSet" (7 : Nat) "java/util/BitSet" "wordsInUse" "I") ∈ lw_all := lw_g (lw_at lw_m2 39 rfl) rfl
theorem q465 : (Jvm.Cond.fieldLink "java/util/BitSet" (24 : Nat) "java/util/BitSet" "sizeIsSticky" "Z") ∈ lw_all := lw_g (lw_at lw_m2 40 rfl) rfl
theorem q466 : (Jvm.Cond.lays "java/util/BitSet" "java/util/BitSet" "words" "[J") ∈ lw_all := lw_g (lw_at lw_m2 41 rfl) rfl
theorem q467 : (Jvm.Cond.soleField "java/util/BitSet" "words") ∈ lw_all := lw_g (lw_at lw_m2 42 rfl) rfl
theorem q468 : (Jvm.Cond.lays "java/util/BitSet" "java/util/BitSet" "wordsInUse" "I") ∈ lw_all := lw_g (lw_at lw_m2 43 rfl) rfl
theorem q469 : (Jvm.Cond.soleField "java/util/BitSet" "wordsInUse") ∈ lw_all := lw_g (lw_at lw_m2 44 rfl) rfl
theorem q470 : (Jvm.Cond.lays "java/util/BitSet" "java/util/BitSet" "sizeIsSticky" "Z") ∈ lw_all := lw_g (lw_at lw_m2 45 rfl) rfl
theorem q471 : (Jvm.Cond.soleField "java/util/BitSet" "sizeIsSticky") ∈ lw_all := lw_g (lw_at lw_m2 46 rfl) rfl
theorem q472 : (Jvm.Cond.superclass "java/util/BitSet" "java/lang/Object") ∈ lw_all := lw_g (lw_at lw_m2 47 rfl) rfl
theorem q495 : (Jvm.Cond.instanceMethod ({ cls := "java/util/BitSet", name := "clear", desc := "()V" } : Jvm.MethodName)) ∈ lw_all := lw_g (lw_at lw_m2 70 rfl) rfl
theorem q496 : (Jvm.Cond.selects "java/util/BitSet" ({ cls := "java/util/BitSet", name := "clear", desc := "()V" } : Jvm.MethodName) ({ cls := "java/util/BitSet", name := "clear", desc := "()V" } : Jvm.MethodName)) ∈ lw_all := lw_g (lw_at lw_m2 71 rfl) rfl
theorem q497 : (Jvm.Cond.code ({ cls := "java/util/BitSet", name := "clear", desc := "()V" } : Jvm.MethodName) prog_47_method_25_code (1 : Nat) (Option.none : Option Jvm.ClassFile.FieldType)) ∈ lw_all := lw_g (lw_at lw_m2 72 rfl) rfl
theorem q499 : (Jvm.Cond.instanceMethod ({ cls := "java/util/BitSet", name := "or", desc := "(Ljava/util/BitSet;)V" } : Jvm.MethodName)) ∈ lw_all := lw_g (lw_at lw_m2 74 rfl) rfl
theorem q500 : (Jvm.Cond.selects "java/util/BitSet" ({ cls := "java/util/BitSet", name := "or", desc := "(Ljava/util/BitSet;)V" } : Jvm.MethodName) ({ cls := "java/util/BitSet", name := "or", desc := "(Ljava/util/BitSet;)V" } : Jvm.MethodName)) ∈ lw_all := lw_g (lw_at lw_m2 75 rfl) rfl
theorem q501 : (Jvm.Cond.code ({ cls := "java/util/BitSet", name := "or", desc := "(Ljava/util/BitSet;)V" } : Jvm.MethodName) prog_47_method_37_code (4 : Nat) (Option.none : Option Jvm.ClassFile.FieldType)) ∈ lw_all := lw_g (lw_at lw_m2 76 rfl) rfl
theorem q502 : (Jvm.Cond.methodLink "java/util/BitSet" (193 : Nat) ({ cls := "java/lang/Math", name := "min", desc := "(II)I" } : Jvm.MethodName)) ∈ lw_all := lw_g (lw_at lw_m2 77 rfl) rfl
theorem q503 : (Jvm.Cond.methodLink "java/util/BitSet" (139 : Nat) ({ cls := "java/util/BitSet", name := "ensureCapacity", desc := "(I)V" } : Jvm.MethodName)) ∈ lw_all := lw_g (lw_at lw_m2 78 rfl) rfl
theorem q504 : (Jvm.Cond.privateMethod ({ cls := "java/util/BitSet", name := "ensureCapacity", desc := "(I)V" } : Jvm.MethodName)) ∈ lw_tbl := lw_at lw_m2 79 rfl
theorem q505 : (Jvm.Cond.instanceMethod ({ cls := "java/util/BitSet", name := "ensureCapacity", desc := "(I)V" } : Jvm.MethodName)) ∈ lw_all := lw_g (lw_at lw_m2 80 rfl) rfl
theorem q506 : (Jvm.Cond.code ({ cls := "java/util/BitSet", name := "ensureCapacity", desc := "(I)V" } : Jvm.MethodName) prog_47_method_14_code (3 : Nat) (Option.none : Option Jvm.ClassFile.FieldType)) ∈ lw_all := lw_g (lw_at lw_m2 81 rfl) rfl
theorem q507 : (Jvm.Cond.methodLink "java/util/BitSet" (133 : Nat) ({ cls := "java/lang/Math", name := "max", desc := "(II)I" } : Jvm.MethodName)) ∈ lw_all := lw_g (lw_at lw_m2 82 rfl) rfl
theorem q508 : (Jvm.Cond.methodLink "java/util/BitSet" (59 : Nat) ({ cls := "java/util/Arrays", name := "copyOf", desc := "([JI)[J" } : Jvm.MethodName)) ∈ lw_all := lw_g (lw_at lw_m2 83 rfl) rfl
theorem q518 : (Jvm.Cond.methodLink "java/util/BitSet" (199 : Nat) ({ cls := "java/lang/System", name := "arraycopy", desc := "(Ljava/lang/Object;ILjava/lang/Object;II)V" } : Jvm.MethodName)) ∈ lw_all := lw_g (lw_at lw_m2 93 rfl) rfl
theorem q519 : (Jvm.Cond.methodLink "java/util/BitSet" (56 : Nat) ({ cls := "java/util/BitSet", name := "checkInvariants", desc := "()V" } : Jvm.MethodName)) ∈ lw_all := lw_g (lw_at lw_m2 94 rfl) rfl
theorem q520 : (Jvm.Cond.privateMethod ({ cls := "java/util/BitSet", name := "checkInvariants", desc := "()V" } : Jvm.MethodName)) ∈ lw_tbl := lw_at lw_m2 95 rfl
theorem q521 : (Jvm.Cond.instanceMethod ({ cls := "java/util/BitSet", name := "checkInvariants", desc := "()V" } : Jvm.MethodName)) ∈ lw_all := lw_g (lw_at lw_m2 96 rfl) rfl
theorem q522 : (Jvm.Cond.code ({ cls := "java/util/BitSet", name := "checkInvariants", desc := "()V" } : Jvm.MethodName) prog_47_method_2_code (1 : Nat) (Option.none : Option Jvm.ClassFile.FieldType)) ∈ lw_all := lw_g (lw_at lw_m2 97 rfl) rfl
theorem q523 : (Jvm.Cond.fieldLink "java/util/BitSet" (3 : Nat) "java/util/BitSet" "$assertionsDisabled" "Z") ∈ lw_all := lw_g (lw_at lw_m2 98 rfl) rfl
theorem q524 : (Jvm.Cond.laysStatic "java/util/BitSet" "$assertionsDisabled" "Z") ∈ lw_tbl := lw_at lw_m2 99 rfl
theorem q530 : (Jvm.Cond.instanceMethod ({ cls := "java/util/BitSet", name := "set", desc := "(II)V" } : Jvm.MethodName)) ∈ lw_all := lw_g (lw_at lw_m2 105 rfl) rfl
theorem q531 : (Jvm.Cond.selects "java/util/BitSet" ({ cls := "java/util/BitSet", name := "set", desc := "(II)V" } : Jvm.MethodName) ({ cls := "java/util/BitSet", name := "set", desc := "(II)V" } : Jvm.MethodName)) ∈ lw_all := lw_g (lw_at lw_m2 106 rfl) rfl
theorem q532 : (Jvm.Cond.code ({ cls := "java/util/BitSet", name := "set", desc := "(II)V" } : Jvm.MethodName) prog_47_method_21_code (10 : Nat) (Option.none : Option Jvm.ClassFile.FieldType)) ∈ lw_all := lw_g (lw_at lw_m2 107 rfl) rfl
theorem q533 : (Jvm.Cond.methodLink "java/util/BitSet" (161 : Nat) ({ cls := "java/util/BitSet", name := "checkRange", desc := "(II)V" } : Jvm.MethodName)) ∈ lw_all := lw_g (lw_at lw_m2 108 rfl) rfl
theorem q534 : (Jvm.Cond.static ({ cls := "java/util/BitSet", name := "checkRange", desc := "(II)V" } : Jvm.MethodName)) ∈ lw_all := lw_g (lw_at lw_m2 109 rfl) rfl
theorem q535 : (Jvm.Cond.code ({ cls := "java/util/BitSet", name := "checkRange", desc := "(II)V" } : Jvm.MethodName) prog_47_method_16_code (2 : Nat) (Option.none : Option Jvm.ClassFile.FieldType)) ∈ lw_all := lw_g (lw_at lw_m2 110 rfl) rfl
theorem q536 : (Jvm.Cond.methodLink "java/util/BitSet" (155 : Nat) ({ cls := "java/util/BitSet", name := "expandTo", desc := "(I)V" } : Jvm.MethodName)) ∈ lw_all := lw_g (lw_at lw_m2 111 rfl) rfl
theorem q537 : (Jvm.Cond.privateMethod ({ cls := "java/util/BitSet", name := "expandTo", desc := "(I)V" } : Jvm.MethodName)) ∈ lw_tbl := lw_at lw_m2 112 rfl
theorem q538 : (Jvm.Cond.instanceMethod ({ cls := "java/util/BitSet", name := "expandTo", desc := "(I)V" } : Jvm.MethodName)) ∈ lw_all := lw_g (lw_at lw_m2 113 rfl) rfl
theorem q539 : (Jvm.Cond.code ({ cls := "java/util/BitSet", name := "expandTo", desc := "(I)V" } : Jvm.MethodName) prog_47_method_15_code (3 : Nat) (Option.none : Option Jvm.ClassFile.FieldType)) ∈ lw_all := lw_g (lw_at lw_m2 114 rfl) rfl
theorem q540 : (Jvm.Cond.constantLong "java/util/BitSet" (165 : Nat) (-1 : Int64)) ∈ lw_all := lw_g (lw_at lw_m2 115 rfl) rfl
theorem q542 : (Jvm.Cond.instanceMethod ({ cls := "java/util/BitSet", name := "set", desc := "(I)V" } : Jvm.MethodName)) ∈ lw_all := lw_g (lw_at lw_m2 117 rfl) rfl
theorem q543 : (Jvm.Cond.selects "java/util/BitSet" ({ cls := "java/util/BitSet", name := "set", desc := "(I)V" } : Jvm.MethodName) ({ cls := "java/util/BitSet", name := "set", desc := "(I)V" } : Jvm.MethodName)) ∈ lw_all := lw_g (lw_at lw_m2 118 rfl) rfl
theorem q544 : (Jvm.Cond.code ({ cls := "java/util/BitSet", name := "set", desc := "(I)V" } : Jvm.MethodName) prog_47_method_19_code (3 : Nat) (Option.none : Option Jvm.ClassFile.FieldType)) ∈ lw_all := lw_g (lw_at lw_m2 119 rfl) rfl
theorem q546 : (Jvm.Cond.instanceMethod ({ cls := "java/util/BitSet", name := "andNot", desc := "(Ljava/util/BitSet;)V" } : Jvm.MethodName)) ∈ lw_all := lw_g (lw_at lw_m2 121 rfl) rfl
theorem q547 : (Jvm.Cond.selects "java/util/BitSet" ({ cls := "java/util/BitSet", name := "andNot", desc := "(Ljava/util/BitSet;)V" } : Jvm.MethodName) ({ cls := "java/util/BitSet", name := "andNot", desc := "(Ljava/util/BitSet;)V" } : Jvm.MethodName)) ∈ lw_all := lw_g (lw_at lw_m2 122 rfl) rfl
theorem q548 : (Jvm.Cond.code ({ cls := "java/util/BitSet", name := "andNot", desc := "(Ljava/util/BitSet;)V" } : Jvm.MethodName) prog_47_method_39_code (3 : Nat) (Option.none : Option Jvm.ClassFile.FieldType)) ∈ lw_all := lw_g (lw_at lw_m2 123 rfl) rfl
theorem q549 : (Jvm.Cond.methodLink "java/util/BitSet" (158 : Nat) ({ cls := "java/util/BitSet", name := "recalculateWordsInUse", desc := "()V" } : Jvm.MethodName)) ∈ lw_all := lw_g (lw_at lw_m2 124 rfl) rfl
theorem q550 : (Jvm.Cond.privateMethod ({ cls := "java/util/BitSet", name := "recalculateWordsInUse", desc := "()V" } : Jvm.MethodName)) ∈ lw_tbl := lw_at lw_m2 125 rfl
theorem q551 : (Jvm.Cond.instanceMethod ({ cls := "java/util/BitSet", name := "recalculateWordsInUse", desc := "()V" } : Jvm.MethodName)) ∈ lw_all := lw_g (lw_at lw_m2 126 rfl) rfl
theorem q552 : (Jvm.Cond.code ({ cls := "java/util/BitSet", name := "recalculateWordsInUse", desc := "()V" } : Jvm.MethodName) prog_47_method_3_code (2 : Nat) (Option.none : Option Jvm.ClassFile.FieldType)) ∈ lw_all := lw_g (lw_at lw_m2 127 rfl) rfl
theorem q554 : (Jvm.Cond.instanceMethod ({ cls := "java/util/BitSet", name := "cardinality", desc := "()I" } : Jvm.MethodName)) ∈ lw_all := lw_g (lw_at lw_m2 129 rfl) rfl
theorem q555 : (Jvm.Cond.selects "java/util/BitSet" ({ cls := "java/util/BitSet", name := "cardinality", desc := "()I" } : Jvm.MethodName) ({ cls := "java/util/BitSet", name := "cardinality", desc := "()I" } : Jvm.MethodName)) ∈ lw_all := lw_g (lw_at lw_m2 130 rfl) rfl
theorem q556 : (Jvm.Cond.code ({ cls := "java/util/BitSet", name := "cardinality", desc := "()I" } : Jvm.MethodName) prog_47_method_35_code (3 : Nat) (Option.some Jvm.ClassFile.FieldType.int)) ∈ lw_all := lw_g (lw_at lw_m2 131 rfl) rfl
theorem q557 : (Jvm.Cond.methodLink "java/util/BitSet" (196 : Nat) ({ cls := "java/lang/Long", name := "bitCount", desc := "(J)I" } : Jvm.MethodName)) ∈ lw_all := lw_g (lw_at lw_m2 132 rfl) rfl
theorem q1139 : (Jvm.Cond.instanceMethod ({ cls := "java/util/BitSet", name := "nextSetBit", desc := "(I)I" } : Jvm.MethodName)) ∈ lw_all := lw_g (lw_at lw_m4 234 rfl) rfl
theorem q1140 : (Jvm.Cond.selects "java/util/BitSet" ({ cls := "java/util/BitSet", name := "nextSetBit", desc := "(I)I" } : Jvm.MethodName) ({ cls := "java/util/BitSet", name := "nextSetBit", desc := "(I)I" } : Jvm.MethodName)) ∈ lw_all := lw_g (lw_at lw_m4 235 rfl) rfl
theorem q1141 : (Jvm.Cond.code ({ cls := "java/util/BitSet", name := "nextSetBit", desc := "(I)I" } : Jvm.MethodName) prog_47_method_28_code (5 : Nat) (Option.some Jvm.ClassFile.FieldType.int)) ∈ lw_all := lw_g (lw_at lw_m4 236 rfl) rfl
theorem q1142 : (Jvm.Cond.methodLink "java/util/BitSet" (182 : Nat) ({ cls := "java/lang/Long", name := "numberOfTrailingZeros", desc := "(J)I" } : Jvm.MethodName)) ∈ lw_all := lw_g (lw_at lw_m4 237 rfl) rfl
theorem q1154 : (Jvm.Cond.instanceMethod ({ cls := "java/util/BitSet", name := "get", desc := "(I)Z" } : Jvm.MethodName)) ∈ lw_all := lw_g (lw_at lw_m5 9 rfl) rfl
theorem q1155 : (Jvm.Cond.selects "java/util/BitSet" ({ cls := "java/util/BitSet", name := "get", desc := "(I)Z" } : Jvm.MethodName) ({ cls := "java/util/BitSet", name := "get", desc := "(I)Z" } : Jvm.MethodName)) ∈ lw_all := lw_g (lw_at lw_m5 10 rfl) rfl
theorem q1156 : (Jvm.Cond.code ({ cls := "java/util/BitSet", name := "get", desc := "(I)Z" } : Jvm.MethodName) prog_47_method_26_code (3 : Nat) (Option.some Jvm.ClassFile.FieldType.boolean)) ∈ lw_all := lw_g (lw_at lw_m5 11 rfl) rfl
theorem q1661 : (Jvm.Cond.instanceMethod ({ cls := "java/util/BitSet", name := "clear", desc := "(I)V" } : Jvm.MethodName)) ∈ lw_all := lw_g (lw_at lw_m7 36 rfl) rfl
theorem q1662 : (Jvm.Cond.selects "java/util/BitSet" ({ cls := "java/util/BitSet", name := "clear", desc := "(I)V" } : Jvm.MethodName) ({ cls := "java/util/BitSet", name := "clear", desc := "(I)V" } : Jvm.MethodName)) ∈ lw_all := lw_g (lw_at lw_m7 37 rfl) rfl
theorem q1663 : (Jvm.Cond.code ({ cls := "java/util/BitSet", name := "clear", desc := "(I)V" } : Jvm.MethodName) prog_47_method_23_code (3 : Nat) (Option.none : Option Jvm.ClassFile.FieldType)) ∈ lw_all := lw_g (lw_at lw_m7 38 rfl) rfl
theorem q3120 : (Jvm.Cond.castable "java/util/BitSet" "java/lang/Object") ∈ lw_tbl := lw_at lw_m13 55 rfl
theorem in_J8 : ∀ w ∈ wsJ80, w ∈ lw_all := lw_in wsJ80 [466, 468, 470] (by decide +kernel) (by decide +kernel)
/-! java/lang/Number -/
set_option maxRecDepth 100000
def RJ9 : String := "java/lang/Number"
abbrev cJ9_init : ByteArray := prog_31_method_1_code
def yJ9_init : MethodName := ⟨RJ9, "<init>", "()V"⟩
theorem dJ9_init_0 : decode cJ9_init 0 = .ok (.aload_n 0, 1) := by decide +kernel
theorem dJ9_init_1 : decode cJ9_init 1 = .ok (.invokespecial 1, 3) := by decide +kernel
theorem dJ9_init_4 : decode cJ9_init 4 = .ok (.return_, 1) := by decide +kernel
theorem q199 : (Jvm.Cond.initialized "java/lang/Number") ∈ lw_all := lw_g (lw_at lw_m1 14 rfl) rfl
theorem q1698 : (Jvm.Cond.instanceMethod ({ cls := "java/lang/Number", name := "<init>", desc := "()V" } : Jvm.MethodName)) ∈ lw_all := lw_g (lw_at lw_m7 73 rfl) rfl
theorem q1699 : (Jvm.Cond.code ({ cls := "java/lang/Number", name := "<init>", desc := "()V" } : Jvm.MethodName) prog_31_method_1_code (1 : Nat) (Option.none : Option Jvm.ClassFile.FieldType)) ∈ lw_all := lw_g (lw_at lw_m7 74 rfl) rfl
theorem q1700 : (Jvm.Cond.methodLink "java/lang/Number" (1 : Nat) ({ cls := "java/lang/Object", name := "<init>", desc := "()V" } : Jvm.MethodName)) ∈ lw_all := lw_g (lw_at lw_m7 75 rfl) rfl
