theorem q169 : (Jvm.Cond.arrayClass Jvm.ClassFile.FieldType.int) ∈ lw_all := lw_g (lw_at lw_m1 70 rfl) rfl
set_option maxRecDepth 100000
theorem q190 : (Jvm.Cond.arrayOver (Jvm.ClassFile.FieldType.object "java/lang/String")) ∈ lw_tbl := lw_at lw_m1 91 rfl
theorem q213 : (Jvm.Cond.arrayOver (Jvm.ClassFile.FieldType.object "PretendDesk$House")) ∈ lw_tbl := lw_at lw_m1 114 rfl
theorem q215 : (Jvm.Cond.arrayOver (Jvm.ClassFile.FieldType.object "PretendDesk$Came")) ∈ lw_tbl := lw_at lw_m1 116 rfl
theorem q217 : (Jvm.Cond.arrayOver (Jvm.ClassFile.FieldType.object "PretendDesk$Case")) ∈ lw_tbl := lw_at lw_m1 118 rfl
theorem q219 : (Jvm.Cond.arrayOver (Jvm.ClassFile.FieldType.object "PretendDesk$Pattern")) ∈ lw_tbl := lw_at lw_m1 120 rfl
theorem q319 : (Jvm.Cond.arrayClass Jvm.ClassFile.FieldType.byte) ∈ lw_all := lw_g (lw_at lw_m1 220 rfl) rfl
theorem q320 : (Jvm.Cond.arrayClass Jvm.ClassFile.FieldType.long) ∈ lw_all := lw_g (lw_at lw_m1 221 rfl) rfl
theorem q321 : (Jvm.Cond.arrayOver (Jvm.ClassFile.FieldType.object "PretendDesk$Desk")) ∈ lw_tbl := lw_at lw_m1 222 rfl
theorem q497 : (Jvm.Cond.arrayOver (Jvm.ClassFile.FieldType.object "PretendDesk$Page")) ∈ lw_tbl := lw_at lw_m2 158 rfl
theorem q553 : (Jvm.Cond.arrayOver (Jvm.ClassFile.FieldType.object "PretendDesk$Box")) ∈ lw_tbl := lw_at lw_m2 214 rfl
theorem q868 : (Jvm.Cond.arrayOver (Jvm.ClassFile.FieldType.object "PretendDesk$Change")) ∈ lw_tbl := lw_at lw_m4 49 rfl
theorem q1591 : (Jvm.Cond.arrayClass Jvm.ClassFile.FieldType.boolean) ∈ lw_all := lw_g (lw_at lw_m7 52 rfl) rfl
theorem q108 : (Jvm.Cond.initialized "java/lang/System") ∈ lw_all := lw_g (lw_at lw_m1 9 rfl) rfl
set_option maxRecDepth 100000
theorem q488 : (Jvm.Cond.static ({ cls := "java/lang/System", name := "arraycopy", desc := "(Ljava/lang/Object;ILjava/lang/Object;II)V" } : Jvm.MethodName)) ∈ lw_all := lw_g (lw_at lw_m2 149 rfl) rfl
theorem q489 : (Jvm.Cond.native ({ cls := "java/lang/System", name := "arraycopy", desc := "(Ljava/lang/Object;ILjava/lang/Object;II)V" } : Jvm.MethodName)) ∈ lw_all := lw_g (lw_at lw_m2 150 rfl) rfl
/-! java/lang/String -/
set_option maxRecDepth 100000
def RJ0 : String := "java/lang/String"
abbrev cJ0_length : ByteArray := prog_25_method_54_code
def yJ0_length : MethodName := ⟨RJ0, "length", "()I"⟩
def dkwJ0_length_0 : List UInt8 := [42, 180, 0, 9, 190, 42, 182, 1, 79, 122, 172]
abbrev dktJ0_length_0 : List UInt8 := dkwJ0_length_0 ++ []
theorem dksJ0_length_0 : cJ0_length.data.toList.drop 0 = dktJ0_length_0 := by decide +kernel
theorem dJ0_length_0 : decode cJ0_length 0 = .ok (.aload_n 0, 1) := dk_42 (dk_at dksJ0_length_0 0 rfl rfl)
theorem dJ0_length_1 : decode cJ0_length 1 = .ok (.getfield 9, 3) := dk_180 0 9 (dk_at dksJ0_length_0 1 rfl rfl)
theorem dJ0_length_4 : decode cJ0_length 4 = .ok (.arraylength, 1) := dk_190 (dk_at dksJ0_length_0 4 rfl rfl)
theorem dJ0_length_5 : decode cJ0_length 5 = .ok (.aload_n 0, 1) := dk_42 (dk_at dksJ0_length_0 5 rfl rfl)
theorem dJ0_length_6 : decode cJ0_length 6 = .ok (.invokevirtual 335, 3) := dk_182 1 79 (dk_at dksJ0_length_0 6 rfl rfl)
theorem dJ0_length_9 : decode cJ0_length 9 = .ok (.ishr, 1) := dk_122 (dk_at dksJ0_length_0 9 rfl rfl)
theorem dJ0_length_10 : decode cJ0_length 10 = .ok (.ireturn, 1) := dk_172 (dk_at dksJ0_length_0 10 rfl rfl)
abbrev cJ0_coder : ByteArray := prog_25_method_152_code
def yJ0_coder : MethodName := ⟨RJ0, "coder", "()B"⟩
def dkwJ0_coder_0 : List UInt8 := [178, 0, 38, 153, 0, 10, 42, 180, 0, 15, 167, 0, 4, 4, 172]
abbrev dktJ0_coder_0 : List UInt8 := dkwJ0_coder_0 ++ []
theorem dksJ0_coder_0 : cJ0_coder.data.toList.drop 0 = dktJ0_coder_0 := by decide +kernel
theorem dJ0_coder_0 : decode cJ0_coder 0 = .ok (.getstatic 38, 3) := dk_178 0 38 (dk_at dksJ0_coder_0 0 rfl rfl)
theorem dJ0_coder_3 : decode cJ0_coder 3 = .ok (.ifCond .eq 10, 3) := dk_153 0 10 (dk_at dksJ0_coder_0 3 rfl rfl)
theorem dJ0_coder_6 : decode cJ0_coder 6 = .ok (.aload_n 0, 1) := dk_42 (dk_at dksJ0_coder_0 6 rfl rfl)
theorem dJ0_coder_7 : decode cJ0_coder 7 = .ok (.getfield 15, 3) := dk_180 0 15 (dk_at dksJ0_coder_0 7 rfl rfl)
theorem dJ0_coder_10 : decode cJ0_coder 10 = .ok (.goto 4, 3) := dk_167 0 4 (dk_at dksJ0_coder_0 10 rfl rfl)
theorem dJ0_coder_13 : decode cJ0_coder 13 = .ok (.iconst 1, 1) := dk_4 (dk_at dksJ0_coder_0 13 rfl rfl)
theorem dJ0_coder_14 : decode cJ0_coder 14 = .ok (.ireturn, 1) := dk_172 (dk_at dksJ0_coder_0 14 rfl rfl)
abbrev cJ0_charAt : ByteArray := prog_25_method_56_code
def yJ0_charAt : MethodName := ⟨RJ0, "charAt", "(I)C"⟩
def dkwJ0_charAt_1 : List UInt8 := [172]
abbrev dktJ0_charAt_1 : List UInt8 := dkwJ0_charAt_1 ++ []
def dkwJ0_charAt_0 : List UInt8 := [42, 182, 1, 236, 153, 0, 12, 42, 180, 0, 9, 27, 184, 1, 239, 172, 42, 180, 0, 9, 27, 184, 1, 242]
abbrev dktJ0_charAt_0 : List UInt8 := dkwJ0_charAt_0 ++ dktJ0_charAt_1
theorem dksJ0_charAt_0 : cJ0_charAt.data.toList.drop 0 = dktJ0_charAt_0 := by decide +kernel
theorem dksJ0_charAt_1 : cJ0_charAt.data.toList.drop 24 = dktJ0_charAt_1 := dk_seg dksJ0_charAt_0 24 rfl rfl
theorem dJ0_charAt_0 : decode cJ0_charAt 0 = .ok (.aload_n 0, 1) := dk_42 (dk_at dksJ0_charAt_0 0 rfl rfl)
theorem dJ0_charAt_1 : decode cJ0_charAt 1 = .ok (.invokevirtual 492, 3) := dk_182 1 236 (dk_at dksJ0_charAt_0 1 rfl rfl)
theorem dJ0_charAt_4 : decode cJ0_charAt 4 = .ok (.ifCond .eq 12, 3) := dk_153 0 12 (dk_at dksJ0_charAt_0 4 rfl rfl)
theorem dJ0_charAt_7 : decode cJ0_charAt 7 = .ok (.aload_n 0, 1) := dk_42 (dk_at dksJ0_charAt_0 7 rfl rfl)
theorem dJ0_charAt_8 : decode cJ0_charAt 8 = .ok (.getfield 9, 3) := dk_180 0 9 (dk_at dksJ0_charAt_0 8 rfl rfl)
theorem dJ0_charAt_11 : decode cJ0_charAt 11 = .ok (.iload_n 1, 1) := dk_27 (dk_at dksJ0_charAt_0 11 rfl rfl)
theorem dJ0_charAt_12 : decode cJ0_charAt 12 = .ok (.invokestatic 495, 3) := dk_184 1 239 (dk_at dksJ0_charAt_0 12 rfl rfl)
theorem dJ0_charAt_15 : decode cJ0_charAt 15 = .ok (.ireturn, 1) := dk_172 (dk_at dksJ0_charAt_0 15 rfl rfl)
theorem dJ0_charAt_16 : decode cJ0_charAt 16 = .ok (.aload_n 0, 1) := dk_42 (dk_at dksJ0_charAt_0 16 rfl rfl)
theorem dJ0_charAt_17 : decode cJ0_charAt 17 = .ok (.getfield 9, 3) := dk_180 0 9 (dk_at dksJ0_charAt_0 17 rfl rfl)
theorem dJ0_charAt_20 : decode cJ0_charAt 20 = .ok (.iload_n 1, 1) := dk_27 (dk_at dksJ0_charAt_0 20 rfl rfl)
theorem dJ0_charAt_21 : decode cJ0_charAt 21 = .ok (.invokestatic 498, 3) := dk_184 1 242 (dk_at dksJ0_charAt_0 21 rfl rfl)
theorem dJ0_charAt_24 : decode cJ0_charAt 24 = .ok (.ireturn, 1) := dk_172 (dk_at dksJ0_charAt_1 0 rfl rfl)
abbrev cJ0_isLatin1 : ByteArray := prog_25_method_154_code
def yJ0_isLatin1 : MethodName := ⟨RJ0, "isLatin1", "()Z"⟩
def dkwJ0_isLatin1_0 : List UInt8 := [178, 0, 38, 153, 0, 14, 42, 180, 0, 15, 154, 0, 7, 4, 167, 0, 4, 3, 172]
abbrev dktJ0_isLatin1_0 : List UInt8 := dkwJ0_isLatin1_0 ++ []
theorem dksJ0_isLatin1_0 : cJ0_isLatin1.data.toList.drop 0 = dktJ0_isLatin1_0 := by decide +kernel
theorem dJ0_isLatin1_0 : decode cJ0_isLatin1 0 = .ok (.getstatic 38, 3) := dk_178 0 38 (dk_at dksJ0_isLatin1_0 0 rfl rfl)
theorem dJ0_isLatin1_3 : decode cJ0_isLatin1 3 = .ok (.ifCond .eq 14, 3) := dk_153 0 14 (dk_at dksJ0_isLatin1_0 3 rfl rfl)
theorem dJ0_isLatin1_6 : decode cJ0_isLatin1 6 = .ok (.aload_n 0, 1) := dk_42 (dk_at dksJ0_isLatin1_0 6 rfl rfl)
theorem dJ0_isLatin1_7 : decode cJ0_isLatin1 7 = .ok (.getfield 15, 3) := dk_180 0 15 (dk_at dksJ0_isLatin1_0 7 rfl rfl)
theorem dJ0_isLatin1_10 : decode cJ0_isLatin1 10 = .ok (.ifCond .ne 7, 3) := dk_154 0 7 (dk_at dksJ0_isLatin1_0 10 rfl rfl)
theorem dJ0_isLatin1_13 : decode cJ0_isLatin1 13 = .ok (.iconst 1, 1) := dk_4 (dk_at dksJ0_isLatin1_0 13 rfl rfl)
theorem dJ0_isLatin1_14 : decode cJ0_isLatin1 14 = .ok (.goto 4, 3) := dk_167 0 4 (dk_at dksJ0_isLatin1_0 14 rfl rfl)
theorem dJ0_isLatin1_17 : decode cJ0_isLatin1 17 = .ok (.iconst 0, 1) := dk_3 (dk_at dksJ0_isLatin1_0 17 rfl rfl)
theorem dJ0_isLatin1_18 : decode cJ0_isLatin1 18 = .ok (.ireturn, 1) := dk_172 (dk_at dksJ0_isLatin1_0 18 rfl rfl)
abbrev cJ0_checkIndex : ByteArray := prog_25_method_155_code
def yJ0_checkIndex : MethodName := ⟨RJ0, "checkIndex", "(II)V"⟩
def dkwJ0_checkIndex_0 : List UInt8 := [26, 27, 178, 4, 29, 184, 4, 35, 87, 177]
abbrev dktJ0_checkIndex_0 : List UInt8 := dkwJ0_checkIndex_0 ++ []
theorem dksJ0_checkIndex_0 : cJ0_checkIndex.data.toList.drop 0 = dktJ0_checkIndex_0 := by decide +kernel
theorem dJ0_checkIndex_0 : decode cJ0_checkIndex 0 = .ok (.iload_n 0, 1) := dk_26 (dk_at dksJ0_checkIndex_0 0 rfl rfl)
theorem dJ0_checkIndex_1 : decode cJ0_checkIndex 1 = .ok (.iload_n 1, 1) := dk_27 (dk_at dksJ0_checkIndex_0 1 rfl rfl)
theorem dJ0_checkIndex_2 : decode cJ0_checkIndex 2 = .ok (.getstatic 1053, 3) := dk_178 4 29 (dk_at dksJ0_checkIndex_0 2 rfl rfl)
theorem dJ0_checkIndex_5 : decode cJ0_checkIndex 5 = .ok (.invokestatic 1059, 3) := dk_184 4 35 (dk_at dksJ0_checkIndex_0 5 rfl rfl)
theorem dJ0_checkIndex_8 : decode cJ0_checkIndex 8 = .ok (.pop, 1) := dk_87 (dk_at dksJ0_checkIndex_0 8 rfl rfl)
theorem dJ0_checkIndex_9 : decode cJ0_checkIndex 9 = .ok (.return_, 1) := dk_177 (dk_at dksJ0_checkIndex_0 9 rfl rfl)
theorem q113 : (Jvm.Cond.initialized "java/lang/String") ∈ lw_all := lw_g (lw_at lw_m1 14 rfl) rfl
theorem q654 : (Jvm.Cond.instanceMethod ({ cls := "java/lang/String", name := "length", desc := "()I" } : Jvm.MethodName)) ∈ lw_all := lw_g (lw_at lw_m3 75 rfl) rfl
theorem q655 : (Jvm.Cond.selects "java/lang/String" ({ cls := "java/lang/String", name := "length", desc := "()I" } : Jvm.MethodName) ({ cls := "java/lang/String", name := "length", desc := "()I" } : Jvm.MethodName)) ∈ lw_all := lw_g (lw_at lw_m3 76 rfl) rfl
theorem q656 : (Jvm.Cond.code ({ cls := "java/lang/String", name := "length", desc := "()I" } : Jvm.MethodName) prog_25_method_54_code (1 : Nat) (Option.some Jvm.ClassFile.FieldType.int)) ∈ lw_all := lw_g (lw_at lw_m3 77 rfl) rfl
theorem q657 : (Jvm.Cond.methodLink "java/lang/String" (335 : Nat) ({ cls := "java/lang/String", name := "coder", desc := "()B" } : Jvm.MethodName)) ∈ lw_all := lw_g (lw_at lw_m3 78 rfl) rfl
theorem q658 : (Jvm.Cond.instanceMethod ({ cls := "java/lang/String", name := "coder", desc := "()B" } : Jvm.MethodName)) ∈ lw_all := lw_g (lw_at lw_m3 79 rfl) rfl
theorem q659 : (Jvm.Cond.selects "java/lang/String" ({ cls := "java/lang/String", name := "coder", desc := "()B" } : Jvm.MethodName) ({ cls := "java/lang/String", name := "coder", desc := "()B" } : Jvm.MethodName)) ∈ lw_all := lw_g (lw_at lw_m3 80 rfl) rfl
theorem q660 : (Jvm.Cond.code ({ cls := "java/lang/String", name := "coder", desc := "()B" } : Jvm.MethodName) prog_25_method_152_code (1 : Nat) (Option.some Jvm.ClassFile.FieldType.byte)) ∈ lw_all := lw_g (lw_at lw_m3 81 rfl) rfl
theorem q661 : (Jvm.Cond.fieldLink "java/lang/String" (38 : Nat) "java/lang/String" "COMPACT_STRINGS" "Z") ∈ lw_all := lw_g (lw_at lw_m3 82 rfl) rfl
theorem q662 : (Jvm.Cond.laysStatic "java/lang/String" "COMPACT_STRINGS" "Z") ∈ lw_tbl := lw_at lw_m3 83 rfl
theorem q664 : (Jvm.Cond.instanceMethod ({ cls := "java/lang/String", name := "charAt", desc := "(I)C" } : Jvm.MethodName)) ∈ lw_all := lw_g (lw_at lw_m3 85 rfl) rfl
theorem q665 : (Jvm.Cond.selects "java/lang/String" ({ cls := "java/lang/String", name := "charAt", desc := "(I)C" } : Jvm.MethodName) ({ cls := "java/lang/String", name := "charAt", desc := "(I)C" } : Jvm.MethodName)) ∈ lw_all := lw_g (lw_at lw_m3 86 rfl) rfl
theorem q666 : (Jvm.Cond.code ({ cls := "java/lang/String", name := "charAt", desc := "(I)C" } : Jvm.MethodName) prog_25_method_56_code (2 : Nat) (Option.some Jvm.ClassFile.FieldType.char)) ∈ lw_all := lw_g (lw_at lw_m3 87 rfl) rfl
theorem q667 : (Jvm.Cond.methodLink "java/lang/String" (492 : Nat) ({ cls := "java/lang/String", name := "isLatin1", desc := "()Z" } : Jvm.MethodName)) ∈ lw_all := lw_g (lw_at lw_m3 88 rfl) rfl
theorem q668 : (Jvm.Cond.instanceMethod ({ cls := "java/lang/String", name := "isLatin1", desc := "()Z" } : Jvm.MethodName)) ∈ lw_all := lw_g (lw_at lw_m3 89 rfl) rfl
theorem q669 : (Jvm.Cond.selects "java/lang/String" ({ cls := "java/lang/String", name := "isLatin1", desc := "()Z" } : Jvm.MethodName) ({ cls := "java/lang/String", name := "isLatin1", desc := "()Z" } : Jvm.MethodName)) ∈ lw_all := lw_g (lw_at lw_m3 90 rfl) rfl
theorem q670 : (Jvm.Cond.code ({ cls := "java/lang/String", name := "isLatin1", desc := "()Z" } : Jvm.MethodName) prog_25_method_154_code (1 : Nat) (Option.some Jvm.ClassFile.FieldType.boolean)) ∈ lw_all := lw_g (lw_at lw_m3 91 rfl) rfl
theorem q671 : (Jvm.Cond.methodLink "java/lang/String" (495 : Nat) ({ cls := "java/lang/StringLatin1", name := "charAt", desc := "([BI)C" } : Jvm.MethodName)) ∈ lw_all := lw_g (lw_at lw_m3 92 rfl) rfl
theorem q675 : (Jvm.Cond.static ({ cls := "java/lang/String", name := "checkIndex", desc := "(II)V" } : Jvm.MethodName)) ∈ lw_all := lw_g (lw_at lw_m3 96 rfl) rfl
theorem q676 : (Jvm.Cond.code ({ cls := "java/lang/String", name := "checkIndex", desc := "(II)V" } : Jvm.MethodName) prog_25_method_155_code (2 : Nat) (Option.none : Option Jvm.ClassFile.FieldType)) ∈ lw_all := lw_g (lw_at lw_m3 97 rfl) rfl
theorem q677 : (Jvm.Cond.fieldLink "java/lang/String" (1053 : Nat) "jdk/internal/util/Preconditions" "SIOOBE_FORMATTER" "Ljava/util/function/BiFunction;") ∈ lw_all := lw_g (lw_at lw_m3 98 rfl) rfl
theorem q679 : (Jvm.Cond.methodLink "java/lang/String" (1059 : Nat) ({ cls := "jdk/internal/util/Preconditions", name := "checkIndex", desc := "(IILjava/util/function/BiFunction;)I" } : Jvm.MethodName)) ∈ lw_all := lw_g (lw_at lw_m3 100 rfl) rfl
theorem q682 : (Jvm.Cond.methodLink "java/lang/String" (498 : Nat) ({ cls := "java/lang/StringUTF16", name := "charAt", desc := "([BI)C" } : Jvm.MethodName)) ∈ lw_all := lw_g (lw_at lw_m3 103 rfl) rfl
theorem q2114 : (Jvm.Cond.fieldLink "java/lang/String" (9 : Nat) "java/lang/String" "value" "[B") ∈ lw_all := lw_g (lw_at lw_m9 95 rfl) rfl
theorem q2115 : (Jvm.Cond.fieldLink "java/lang/String" (15 : Nat) "java/lang/String" "coder" "B") ∈ lw_all := lw_g (lw_at lw_m9 96 rfl) rfl
/-! java/lang/StringLatin1 -/
set_option maxRecDepth 100000
def RJ1 : String := "java/lang/StringLatin1"
abbrev cJ1_charAt : ByteArray := prog_26_method_2_code
def yJ1_charAt : MethodName := ⟨RJ1, "charAt", "([BI)C"⟩
def dkwJ1_charAt_0 : List UInt8 := [27, 42, 190, 184, 0, 9, 42, 27, 51, 17, 0, 255, 126, 146, 172]
abbrev dktJ1_charAt_0 : List UInt8 := dkwJ1_charAt_0 ++ []
theorem dksJ1_charAt_0 : cJ1_charAt.data.toList.drop 0 = dktJ1_charAt_0 := by decide +kernel
theorem dJ1_charAt_0 : decode cJ1_charAt 0 = .ok (.iload_n 1, 1) := dk_27 (dk_at dksJ1_charAt_0 0 rfl rfl)
theorem dJ1_charAt_1 : decode cJ1_charAt 1 = .ok (.aload_n 0, 1) := dk_42 (dk_at dksJ1_charAt_0 1 rfl rfl)
theorem dJ1_charAt_2 : decode cJ1_charAt 2 = .ok (.arraylength, 1) := dk_190 (dk_at dksJ1_charAt_0 2 rfl rfl)
theorem dJ1_charAt_3 : decode cJ1_charAt 3 = .ok (.invokestatic 9, 3) := dk_184 0 9 (dk_at dksJ1_charAt_0 3 rfl rfl)
theorem dJ1_charAt_6 : decode cJ1_charAt 6 = .ok (.aload_n 0, 1) := dk_42 (dk_at dksJ1_charAt_0 6 rfl rfl)
theorem dJ1_charAt_7 : decode cJ1_charAt 7 = .ok (.iload_n 1, 1) := dk_27 (dk_at dksJ1_charAt_0 7 rfl rfl)
theorem dJ1_charAt_8 : decode cJ1_charAt 8 = .ok (.baload, 1) := dk_51 (dk_at dksJ1_charAt_0 8 rfl rfl)
theorem dJ1_charAt_9 : decode cJ1_charAt 9 = .ok (.sipush 255, 3) := dk_17 0 255 (dk_at dksJ1_charAt_0 9 rfl rfl)
theorem dJ1_charAt_12 : decode cJ1_charAt 12 = .ok (.iand, 1) := dk_126 (dk_at dksJ1_charAt_0 12 rfl rfl)
theorem dJ1_charAt_13 : decode cJ1_charAt 13 = .ok (.i2c, 1) := dk_146 (dk_at dksJ1_charAt_0 13 rfl rfl)
theorem dJ1_charAt_14 : decode cJ1_charAt 14 = .ok (.ireturn, 1) := dk_172 (dk_at dksJ1_charAt_0 14 rfl rfl)
theorem q114 : (Jvm.Cond.initialized "java/lang/StringLatin1") ∈ lw_all := lw_g (lw_at lw_m1 15 rfl) rfl
theorem q672 : (Jvm.Cond.static ({ cls := "java/lang/StringLatin1", name := "charAt", desc := "([BI)C" } : Jvm.MethodName)) ∈ lw_all := lw_g (lw_at lw_m3 93 rfl) rfl
theorem q673 : (Jvm.Cond.code ({ cls := "java/lang/StringLatin1", name := "charAt", desc := "([BI)C" } : Jvm.MethodName) prog_26_method_2_code (2 : Nat) (Option.some Jvm.ClassFile.FieldType.char)) ∈ lw_all := lw_g (lw_at lw_m3 94 rfl) rfl
theorem q674 : (Jvm.Cond.methodLink "java/lang/StringLatin1" (9 : Nat) ({ cls := "java/lang/String", name := "checkIndex", desc := "(II)V" } : Jvm.MethodName)) ∈ lw_all := lw_g (lw_at lw_m3 95 rfl) rfl
/-! jdk/internal/util/Preconditions -/
set_option maxRecDepth 100000
def RJ2 : String := "jdk/internal/util/Preconditions"
abbrev cJ2_checkIndex : ByteArray := prog_30_method_11_code
def yJ2_checkIndex : MethodName := ⟨RJ2, "checkIndex", "(IILjava/util/function/BiFunction;)I"⟩
def dkwJ2_checkIndex_0 : List UInt8 := [26, 155, 0, 8, 26, 27, 161, 0, 10, 44, 26, 27, 184, 0, 95, 191, 26, 172]
abbrev dktJ2_checkIndex_0 : List UInt8 := dkwJ2_checkIndex_0 ++ []
theorem dksJ2_checkIndex_0 : cJ2_checkIndex.data.toList.drop 0 = dktJ2_checkIndex_0 := by decide +kernel
theorem dJ2_checkIndex_0 : decode cJ2_checkIndex 0 = .ok (.iload_n 0, 1) := dk_26 (dk_at dksJ2_checkIndex_0 0 rfl rfl)
theorem dJ2_checkIndex_1 : decode cJ2_checkIndex 1 = .ok (.ifCond .lt 8, 3) := dk_155 0 8 (dk_at dksJ2_checkIndex_0 1 rfl rfl)
theorem dJ2_checkIndex_4 : decode cJ2_checkIndex 4 = .ok (.iload_n 0, 1) := dk_26 (dk_at dksJ2_checkIndex_0 4 rfl rfl)
theorem dJ2_checkIndex_5 : decode cJ2_checkIndex 5 = .ok (.iload_n 1, 1) := dk_27 (dk_at dksJ2_checkIndex_0 5 rfl rfl)
theorem dJ2_checkIndex_6 : decode cJ2_checkIndex 6 = .ok (.if_icmp .lt 10, 3) := dk_161 0 10 (dk_at dksJ2_checkIndex_0 6 rfl rfl)
theorem dJ2_checkIndex_9 : decode cJ2_checkIndex 9 = .ok (.aload_n 2, 1) := dk_44 (dk_at dksJ2_checkIndex_0 9 rfl rfl)
theorem dJ2_checkIndex_10 : decode cJ2_checkIndex 10 = .ok (.iload_n 0, 1) := dk_26 (dk_at dksJ2_checkIndex_0 10 rfl rfl)
theorem dJ2_checkIndex_11 : decode cJ2_checkIndex 11 = .ok (.iload_n 1, 1) := dk_27 (dk_at dksJ2_checkIndex_0 11 rfl rfl)
theorem dJ2_checkIndex_12 : decode cJ2_checkIndex 12 = .ok (.invokestatic 95, 3) := dk_184 0 95 (dk_at dksJ2_checkIndex_0 12 rfl rfl)
theorem dJ2_checkIndex_15 : decode cJ2_checkIndex 15 = .ok (.athrow, 1) := dk_191 (dk_at dksJ2_checkIndex_0 15 rfl rfl)
theorem dJ2_checkIndex_16 : decode cJ2_checkIndex 16 = .ok (.iload_n 0, 1) := dk_26 (dk_at dksJ2_checkIndex_0 16 rfl rfl)
theorem dJ2_checkIndex_17 : decode cJ2_checkIndex 17 = .ok (.ireturn, 1) := dk_172 (dk_at dksJ2_checkIndex_0 17 rfl rfl)
theorem q115 : (Jvm.Cond.initialized "jdk/internal/util/Preconditions") ∈ lw_all := lw_g (lw_at lw_m1 16 rfl) rfl
theorem q678 : (Jvm.Cond.laysStatic "jdk/internal/util/Preconditions" "SIOOBE_FORMATTER" "Ljava/util/function/BiFunction;") ∈ lw_tbl := lw_at lw_m3 99 rfl
theorem q680 : (Jvm.Cond.static ({ cls := "jdk/internal/util/Preconditions", name := "checkIndex", desc := "(IILjava/util/function/BiFunction;)I" } : Jvm.MethodName)) ∈ lw_all := lw_g (lw_at lw_m3 101 rfl) rfl
theorem q681 : (Jvm.Cond.code ({ cls := "jdk/internal/util/Preconditions", name := "checkIndex", desc := "(IILjava/util/function/BiFunction;)I" } : Jvm.MethodName) prog_30_method_11_code (3 : Nat) (Option.some Jvm.ClassFile.FieldType.int)) ∈ lw_all := lw_g (lw_at lw_m3 102 rfl) rfl
/-! java/lang/StringUTF16 -/
set_option maxRecDepth 100000
def RJ3 : String := "java/lang/StringUTF16"
abbrev cJ3_charAt : ByteArray := prog_27_method_83_code
def yJ3_charAt : MethodName := ⟨RJ3, "charAt", "([BI)C"⟩
def dkwJ3_charAt_0 : List UInt8 := [27, 42, 184, 0, 67, 42, 27, 184, 0, 71, 172]
abbrev dktJ3_charAt_0 : List UInt8 := dkwJ3_charAt_0 ++ []
theorem dksJ3_charAt_0 : cJ3_charAt.data.toList.drop 0 = dktJ3_charAt_0 := by decide +kernel
theorem dJ3_charAt_0 : decode cJ3_charAt 0 = .ok (.iload_n 1, 1) := dk_27 (dk_at dksJ3_charAt_0 0 rfl rfl)
theorem dJ3_charAt_1 : decode cJ3_charAt 1 = .ok (.aload_n 0, 1) := dk_42 (dk_at dksJ3_charAt_0 1 rfl rfl)
theorem dJ3_charAt_2 : decode cJ3_charAt 2 = .ok (.invokestatic 67, 3) := dk_184 0 67 (dk_at dksJ3_charAt_0 2 rfl rfl)
theorem dJ3_charAt_5 : decode cJ3_charAt 5 = .ok (.aload_n 0, 1) := dk_42 (dk_at dksJ3_charAt_0 5 rfl rfl)
theorem dJ3_charAt_6 : decode cJ3_charAt 6 = .ok (.iload_n 1, 1) := dk_27 (dk_at dksJ3_charAt_0 6 rfl rfl)
theorem dJ3_charAt_7 : decode cJ3_charAt 7 = .ok (.invokestatic 71, 3) := dk_184 0 71 (dk_at dksJ3_charAt_0 7 rfl rfl)
theorem dJ3_charAt_10 : decode cJ3_charAt 10 = .ok (.ireturn, 1) := dk_172 (dk_at dksJ3_charAt_0 10 rfl rfl)
abbrev cJ3_checkIndex : ByteArray := prog_27_method_91_code
def yJ3_checkIndex : MethodName := ⟨RJ3, "checkIndex", "(I[B)V"⟩
def dkwJ3_checkIndex_0 : List UInt8 := [26, 43, 184, 0, 48, 184, 1, 158, 177]
abbrev dktJ3_checkIndex_0 : List UInt8 := dkwJ3_checkIndex_0 ++ []
theorem dksJ3_checkIndex_0 : cJ3_checkIndex.data.toList.drop 0 = dktJ3_checkIndex_0 := by decide +kernel
theorem dJ3_checkIndex_0 : decode cJ3_checkIndex 0 = .ok (.iload_n 0, 1) := dk_26 (dk_at dksJ3_checkIndex_0 0 rfl rfl)
theorem dJ3_checkIndex_1 : decode cJ3_checkIndex 1 = .ok (.aload_n 1, 1) := dk_43 (dk_at dksJ3_checkIndex_0 1 rfl rfl)
theorem dJ3_checkIndex_2 : decode cJ3_checkIndex 2 = .ok (.invokestatic 48, 3) := dk_184 0 48 (dk_at dksJ3_checkIndex_0 2 rfl rfl)
theorem dJ3_checkIndex_5 : decode cJ3_checkIndex 5 = .ok (.invokestatic 414, 3) := dk_184 1 158 (dk_at dksJ3_checkIndex_0 5 rfl rfl)
theorem dJ3_checkIndex_8 : decode cJ3_checkIndex 8 = .ok (.return_, 1) := dk_177 (dk_at dksJ3_checkIndex_0 8 rfl rfl)
abbrev cJ3_length : ByteArray := prog_27_method_6_code
def yJ3_length : MethodName := ⟨RJ3, "length", "([B)I"⟩
def dkwJ3_length_0 : List UInt8 := [42, 190, 4, 122, 172]
abbrev dktJ3_length_0 : List UInt8 := dkwJ3_length_0 ++ []
theorem dksJ3_length_0 : cJ3_length.data.toList.drop 0 = dktJ3_length_0 := by decide +kernel
theorem dJ3_length_0 : decode cJ3_length 0 = .ok (.aload_n 0, 1) := dk_42 (dk_at dksJ3_length_0 0 rfl rfl)
theorem dJ3_length_1 : decode cJ3_length 1 = .ok (.arraylength, 1) := dk_190 (dk_at dksJ3_length_0 1 rfl rfl)
theorem dJ3_length_2 : decode cJ3_length 2 = .ok (.iconst 1, 1) := dk_4 (dk_at dksJ3_length_0 2 rfl rfl)
theorem dJ3_length_3 : decode cJ3_length 3 = .ok (.ishr, 1) := dk_122 (dk_at dksJ3_length_0 3 rfl rfl)
theorem dJ3_length_4 : decode cJ3_length 4 = .ok (.ireturn, 1) := dk_172 (dk_at dksJ3_length_0 4 rfl rfl)
abbrev cJ3_getChar : ByteArray := prog_27_method_5_code
def yJ3_getChar : MethodName := ⟨RJ3, "getChar", "([BI)C"⟩
def dkwJ3_getChar_2 : List UInt8 := [51, 17, 0, 255, 126, 178, 0, 63, 120, 128, 146, 172]
abbrev dktJ3_getChar_2 : List UInt8 := dkwJ3_getChar_2 ++ []
def dkwJ3_getChar_1 : List UInt8 := [183, 0, 56, 191, 27, 4, 120, 60, 42, 27, 132, 1, 1, 51, 17, 0, 255, 126, 178, 0, 59, 120, 42, 27]
abbrev dktJ3_getChar_1 : List UInt8 := dkwJ3_getChar_1 ++ dktJ3_getChar_2
def dkwJ3_getChar_0 : List UInt8 := [178, 0, 44, 154, 0, 25, 27, 155, 0, 11, 27, 42, 184, 0, 48, 161, 0, 13, 187, 0, 52, 89, 18, 54]
abbrev dktJ3_getChar_0 : List UInt8 := dkwJ3_getChar_0 ++ dktJ3_getChar_1
theorem dksJ3_getChar_0 : cJ3_getChar.data.toList.drop 0 = dktJ3_getChar_0 := by decide +kernel
theorem dksJ3_getChar_1 : cJ3_getChar.data.toList.drop 24 = dktJ3_getChar_1 := dk_seg dksJ3_getChar_0 24 rfl rfl
theorem dksJ3_getChar_2 : cJ3_getChar.data.toList.drop 48 = dktJ3_getChar_2 := dk_seg dksJ3_getChar_1 24 rfl rfl
theorem dJ3_getChar_0 : decode cJ3_getChar 0 = .ok (.getstatic 44, 3) := dk_178 0 44 (dk_at dksJ3_getChar_0 0 rfl rfl)
theorem dJ3_getChar_3 : decode cJ3_getChar 3 = .ok (.ifCond .ne 25, 3) := dk_154 0 25 (dk_at dksJ3_getChar_0 3 rfl rfl)
theorem dJ3_getChar_6 : decode cJ3_getChar 6 = .ok (.iload_n 1, 1) := dk_27 (dk_at dksJ3_getChar_0 6 rfl rfl)
theorem dJ3_getChar_7 : decode cJ3_getChar 7 = .ok (.ifCond .lt 11, 3) := dk_155 0 11 (dk_at dksJ3_getChar_0 7 rfl rfl)
theorem dJ3_getChar_10 : decode cJ3_getChar 10 = .ok (.iload_n 1, 1) := dk_27 (dk_at dksJ3_getChar_0 10 rfl rfl)
theorem dJ3_getChar_11 : decode cJ3_getChar 11 = .ok (.aload_n 0, 1) := dk_42 (dk_at dksJ3_getChar_0 11 rfl rfl)
theorem dJ3_getChar_12 : decode cJ3_getChar 12 = .ok (.invokestatic 48, 3) := dk_184 0 48 (dk_at dksJ3_getChar_0 12 rfl rfl)
theorem dJ3_getChar_15 : decode cJ3_getChar 15 = .ok (.if_icmp .lt 13, 3) := dk_161 0 13 (dk_at dksJ3_getChar_0 15 rfl rfl)
theorem dJ3_getChar_18 : decode cJ3_getChar 18 = .ok (.new 52, 3) := dk_187 0 52 (dk_at dksJ3_getChar_0 18 rfl rfl)
theorem dJ3_getChar_21 : decode cJ3_getChar 21 = .ok (.dup, 1) := dk_89 (dk_at dksJ3_getChar_0 21 rfl rfl)
theorem dJ3_getChar_22 : decode cJ3_getChar 22 = .ok (.ldc 54, 2) := dk_18 54 (dk_at dksJ3_getChar_0 22 rfl rfl)
theorem dJ3_getChar_24 : decode cJ3_getChar 24 = .ok (.invokespecial 56, 3) := dk_183 0 56 (dk_at dksJ3_getChar_1 0 rfl rfl)
theorem dJ3_getChar_27 : decode cJ3_getChar 27 = .ok (.athrow, 1) := dk_191 (dk_at dksJ3_getChar_1 3 rfl rfl)
theorem dJ3_getChar_28 : decode cJ3_getChar 28 = .ok (.iload_n 1, 1) := dk_27 (dk_at dksJ3_getChar_1 4 rfl rfl)
theorem dJ3_getChar_29 : decode cJ3_getChar 29 = .ok (.iconst 1, 1) := dk_4 (dk_at dksJ3_getChar_1 5 rfl rfl)
theorem dJ3_getChar_30 : decode cJ3_getChar 30 = .ok (.ishl, 1) := dk_120 (dk_at dksJ3_getChar_1 6 rfl rfl)
theorem dJ3_getChar_31 : decode cJ3_getChar 31 = .ok (.istore_n 1, 1) := dk_60 (dk_at dksJ3_getChar_1 7 rfl rfl)
theorem dJ3_getChar_32 : decode cJ3_getChar 32 = .ok (.aload_n 0, 1) := dk_42 (dk_at dksJ3_getChar_1 8 rfl rfl)
theorem dJ3_getChar_33 : decode cJ3_getChar 33 = .ok (.iload_n 1, 1) := dk_27 (dk_at dksJ3_getChar_1 9 rfl rfl)
theorem dJ3_getChar_34 : decode cJ3_getChar 34 = .ok (.iinc 1 1, 3) := dk_132 1 1 (dk_at dksJ3_getChar_1 10 rfl rfl)
theorem dJ3_getChar_37 : decode cJ3_getChar 37 = .ok (.baload, 1) := dk_51 (dk_at dksJ3_getChar_1 13 rfl rfl)
theorem dJ3_getChar_38 : decode cJ3_getChar 38 = .ok (.sipush 255, 3) := dk_17 0 255 (dk_at dksJ3_getChar_1 14 rfl rfl)
theorem dJ3_getChar_41 : decode cJ3_getChar 41 = .ok (.iand, 1) := dk_126 (dk_at dksJ3_getChar_1 17 rfl rfl)
theorem dJ3_getChar_42 : decode cJ3_getChar 42 = .ok (.getstatic 59, 3) := dk_178 0 59 (dk_at dksJ3_getChar_1 18 rfl rfl)
theorem dJ3_getChar_45 : decode cJ3_getChar 45 = .ok (.ishl, 1) := dk_120 (dk_at dksJ3_getChar_1 21 rfl rfl)
theorem dJ3_getChar_46 : decode cJ3_getChar 46 = .ok (.aload_n 0, 1) := dk_42 (dk_at dksJ3_getChar_1 22 rfl rfl)
theorem dJ3_getChar_47 : decode cJ3_getChar 47 = .ok (.iload_n 1, 1) := dk_27 (dk_at dksJ3_getChar_1 23 rfl rfl)
theorem dJ3_getChar_48 : decode cJ3_getChar 48 = .ok (.baload, 1) := dk_51 (dk_at dksJ3_getChar_2 0 rfl rfl)
theorem dJ3_getChar_49 : decode cJ3_getChar 49 = .ok (.sipush 255, 3) := dk_17 0 255 (dk_at dksJ3_getChar_2 1 rfl rfl)
theorem dJ3_getChar_52 : decode cJ3_getChar 52 = .ok (.iand, 1) := dk_126 (dk_at dksJ3_getChar_2 4 rfl rfl)
theorem dJ3_getChar_53 : decode cJ3_getChar 53 = .ok (.getstatic 63, 3) := dk_178 0 63 (dk_at dksJ3_getChar_2 5 rfl rfl)
theorem dJ3_getChar_56 : decode cJ3_getChar 56 = .ok (.ishl, 1) := dk_120 (dk_at dksJ3_getChar_2 8 rfl rfl)
theorem dJ3_getChar_57 : decode cJ3_getChar 57 = .ok (.ior, 1) := dk_128 (dk_at dksJ3_getChar_2 9 rfl rfl)
theorem dJ3_getChar_58 : decode cJ3_getChar 58 = .ok (.i2c, 1) := dk_146 (dk_at dksJ3_getChar_2 10 rfl rfl)
theorem dJ3_getChar_59 : decode cJ3_getChar 59 = .ok (.ireturn, 1) := dk_172 (dk_at dksJ3_getChar_2 11 rfl rfl)
theorem q116 : (Jvm.Cond.initialized "java/lang/StringUTF16") ∈ lw_all := lw_g (lw_at lw_m1 17 rfl) rfl
theorem q683 : (Jvm.Cond.static ({ cls := "java/lang/StringUTF16", name := "charAt", desc := "([BI)C" } : Jvm.MethodName)) ∈ lw_all := lw_g (lw_at lw_m3 104 rfl) rfl
theorem q684 : (Jvm.Cond.code ({ cls := "java/lang/StringUTF16", name := "charAt", desc := "([BI)C" } : Jvm.MethodName) prog_27_method_83_code (2 : Nat) (Option.some Jvm.ClassFile.FieldType.char)) ∈ lw_all := lw_g (lw_at lw_m3 105 rfl) rfl
theorem q685 : (Jvm.Cond.methodLink "java/lang/StringUTF16" (67 : Nat) ({ cls := "java/lang/StringUTF16", name := "checkIndex", desc := "(I[B)V" } : Jvm.MethodName)) ∈ lw_all := lw_g (lw_at lw_m3 106 rfl) rfl
theorem q686 : (Jvm.Cond.static ({ cls := "java/lang/StringUTF16", name := "checkIndex", desc := "(I[B)V" } : Jvm.MethodName)) ∈ lw_all := lw_g (lw_at lw_m3 107 rfl) rfl
theorem q687 : (Jvm.Cond.code ({ cls := "java/lang/StringUTF16", name := "checkIndex", desc := "(I[B)V" } : Jvm.MethodName) prog_27_method_91_code (2 : Nat) (Option.none : Option Jvm.ClassFile.FieldType)) ∈ lw_all := lw_g (lw_at lw_m3 108 rfl) rfl
theorem q688 : (Jvm.Cond.methodLink "java/lang/StringUTF16" (48 : Nat) ({ cls := "java/lang/StringUTF16", name := "length", desc := "([B)I" } : Jvm.MethodName)) ∈ lw_all := lw_g (lw_at lw_m3 109 rfl) rfl
theorem q689 : (Jvm.Cond.static ({ cls := "java/lang/StringUTF16", name := "length", desc := "([B)I" } : Jvm.MethodName)) ∈ lw_all := lw_g (lw_at lw_m3 110 rfl) rfl
theorem q690 : (Jvm.Cond.code ({ cls := "java/lang/StringUTF16", name := "length", desc := "([B)I" } : Jvm.MethodName) prog_27_method_6_code (1 : Nat) (Option.some Jvm.ClassFile.FieldType.int)) ∈ lw_all := lw_g (lw_at lw_m3 111 rfl) rfl
theorem q691 : (Jvm.Cond.methodLink "java/lang/StringUTF16" (414 : Nat) ({ cls := "java/lang/String", name := "checkIndex", desc := "(II)V" } : Jvm.MethodName)) ∈ lw_all := lw_g (lw_at lw_m3 112 rfl) rfl
theorem q692 : (Jvm.Cond.methodLink "java/lang/StringUTF16" (71 : Nat) ({ cls := "java/lang/StringUTF16", name := "getChar", desc := "([BI)C" } : Jvm.MethodName)) ∈ lw_all := lw_g (lw_at lw_m3 113 rfl) rfl
theorem q693 : (Jvm.Cond.static ({ cls := "java/lang/StringUTF16", name := "getChar", desc := "([BI)C" } : Jvm.MethodName)) ∈ lw_all := lw_g (lw_at lw_m3 114 rfl) rfl
theorem q694 : (Jvm.Cond.code ({ cls := "java/lang/StringUTF16", name := "getChar", desc := "([BI)C" } : Jvm.MethodName) prog_27_method_5_code (2 : Nat) (Option.some Jvm.ClassFile.FieldType.char)) ∈ lw_all := lw_g (lw_at lw_m3 115 rfl) rfl
theorem q695 : (Jvm.Cond.fieldLink "java/lang/StringUTF16" (44 : Nat) "java/lang/StringUTF16" "$assertionsDisabled" "Z") ∈ lw_all := lw_g (lw_at lw_m3 116 rfl) rfl
theorem q696 : (Jvm.Cond.laysStatic "java/lang/StringUTF16" "$assertionsDisabled" "Z") ∈ lw_tbl := lw_at lw_m3 117 rfl
theorem q697 : (Jvm.Cond.fieldLink "java/lang/StringUTF16" (59 : Nat) "java/lang/StringUTF16" "HI_BYTE_SHIFT" "I") ∈ lw_all := lw_g (lw_at lw_m3 118 rfl) rfl
theorem q698 : (Jvm.Cond.laysStatic "java/lang/StringUTF16" "HI_BYTE_SHIFT" "I") ∈ lw_tbl := lw_at lw_m3 119 rfl
theorem q699 : (Jvm.Cond.fieldLink "java/lang/StringUTF16" (63 : Nat) "java/lang/StringUTF16" "LO_BYTE_SHIFT" "I") ∈ lw_all := lw_g (lw_at lw_m3 120 rfl) rfl
theorem q700 : (Jvm.Cond.laysStatic "java/lang/StringUTF16" "LO_BYTE_SHIFT" "I") ∈ lw_tbl := lw_at lw_m3 121 rfl
/-! java/lang/Throwable -/
set_option maxRecDepth 100000
def RJ4 : String := "java/lang/Throwable"
def TJ4 : u_T := fun k => match k with
  | 0 => ("java/lang/Throwable", "cause", "Ljava/lang/Throwable;", false)
  | 1 => ("java/lang/Throwable", "stackTrace", "[Ljava/lang/StackTraceElement;", false)
  | 2 => ("java/lang/Throwable", "suppressedExceptions", "Ljava/util/List;", false)
  | 3 => ("java/lang/Throwable", "detailMessage", "Ljava/lang/String;", false)
  | _ => ("java/lang/Throwable", "backtrace", "Ljava/lang/Object;", false)
def tyJ4 : Nat → FieldType := fun k => match k with
  | 0 => .object "java/lang/Throwable"
  | 1 => .array (.object "java/lang/StackTraceElement")
  | 2 => .object "java/util/List"
  | 3 => .object "java/lang/String"
  | _ => .object "java/lang/Object"
abbrev wsJ40 : List Cond := u_ws RJ4 TJ4 5
theorem nmJ4 : ∀ a, a < 5 → ∀ b, b < 5 → a ≠ b → (TJ4 a).2.1 ≠ (TJ4 b).2.1 := by decide +kernel
theorem tyJ4_ok : ∀ k, k < 5 → parseFieldDescriptor (TJ4 k).2.2.1 = some (tyJ4 k) := by decide +kernel
abbrev cJ4_init : ByteArray := prog_29_method_1_code
def yJ4_init : MethodName := ⟨RJ4, "<init>", "()V"⟩
def dkwJ4_init_1 : List UInt8 := [182, 0, 27, 87, 177]
abbrev dktJ4_init_1 : List UInt8 := dkwJ4_init_1 ++ []
def dkwJ4_init_0 : List UInt8 := [42, 183, 0, 1, 42, 42, 181, 0, 7, 42, 178, 0, 13, 181, 0, 17, 42, 178, 0, 20, 181, 0, 24, 42]
abbrev dktJ4_init_0 : List UInt8 := dkwJ4_init_0 ++ dktJ4_init_1
theorem dksJ4_init_0 : cJ4_init.data.toList.drop 0 = dktJ4_init_0 := by decide +kernel
theorem dksJ4_init_1 : cJ4_init.data.toList.drop 24 = dktJ4_init_1 := dk_seg dksJ4_init_0 24 rfl rfl
theorem dJ4_init_0 : decode cJ4_init 0 = .ok (.aload_n 0, 1) := dk_42 (dk_at dksJ4_init_0 0 rfl rfl)
theorem dJ4_init_1 : decode cJ4_init 1 = .ok (.invokespecial 1, 3) := dk_183 0 1 (dk_at dksJ4_init_0 1 rfl rfl)
theorem dJ4_init_4 : decode cJ4_init 4 = .ok (.aload_n 0, 1) := dk_42 (dk_at dksJ4_init_0 4 rfl rfl)
theorem dJ4_init_5 : decode cJ4_init 5 = .ok (.aload_n 0, 1) := dk_42 (dk_at dksJ4_init_0 5 rfl rfl)
theorem dJ4_init_6 : decode cJ4_init 6 = .ok (.putfield 7, 3) := dk_181 0 7 (dk_at dksJ4_init_0 6 rfl rfl)
theorem dJ4_init_9 : decode cJ4_init 9 = .ok (.aload_n 0, 1) := dk_42 (dk_at dksJ4_init_0 9 rfl rfl)
theorem dJ4_init_10 : decode cJ4_init 10 = .ok (.getstatic 13, 3) := dk_178 0 13 (dk_at dksJ4_init_0 10 rfl rfl)
theorem dJ4_init_13 : decode cJ4_init 13 = .ok (.putfield 17, 3) := dk_181 0 17 (dk_at dksJ4_init_0 13 rfl rfl)
theorem dJ4_init_16 : decode cJ4_init 16 = .ok (.aload_n 0, 1) := dk_42 (dk_at dksJ4_init_0 16 rfl rfl)
theorem dJ4_init_17 : decode cJ4_init 17 = .ok (.getstatic 20, 3) := dk_178 0 20 (dk_at dksJ4_init_0 17 rfl rfl)
theorem dJ4_init_20 : decode cJ4_init 20 = .ok (.putfield 24, 3) := dk_181 0 24 (dk_at dksJ4_init_0 20 rfl rfl)
theorem dJ4_init_23 : decode cJ4_init 23 = .ok (.aload_n 0, 1) := dk_42 (dk_at dksJ4_init_0 23 rfl rfl)
theorem dJ4_init_24 : decode cJ4_init 24 = .ok (.invokevirtual 27, 3) := dk_182 0 27 (dk_at dksJ4_init_1 0 rfl rfl)
theorem dJ4_init_27 : decode cJ4_init 27 = .ok (.pop, 1) := dk_87 (dk_at dksJ4_init_1 3 rfl rfl)
theorem dJ4_init_28 : decode cJ4_init 28 = .ok (.return_, 1) := dk_177 (dk_at dksJ4_init_1 4 rfl rfl)
theorem q117 : (Jvm.Cond.initialized "java/lang/Throwable") ∈ lw_all := lw_g (lw_at lw_m1 18 rfl) rfl
theorem q712 : (Jvm.Cond.declares ({ cls := "java/lang/Throwable", name := "<init>", desc := "()V" } : Jvm.MethodName)) ∈ lw_tbl := lw_at lw_m3 133 rfl
theorem q713 : (Jvm.Cond.declares ({ cls := "java/lang/Throwable", name := "<init>", desc := "(Ljava/lang/String;)V" } : Jvm.MethodName)) ∈ lw_tbl := lw_at lw_m3 134 rfl
theorem q717 : (Jvm.Cond.lays "java/lang/Throwable" "java/lang/Throwable" "cause" "Ljava/lang/Throwable;") ∈ lw_all := lw_g (lw_at lw_m3 138 rfl) rfl
theorem q719 : (Jvm.Cond.lays "java/lang/Throwable" "java/lang/Throwable" "stackTrace" "[Ljava/lang/StackTraceElement;") ∈ lw_all := lw_g (lw_at lw_m3 140 rfl) rfl
theorem q721 : (Jvm.Cond.lays "java/lang/Throwable" "java/lang/Throwable" "suppressedExceptions" "Ljava/util/List;") ∈ lw_all := lw_g (lw_at lw_m3 142 rfl) rfl
theorem q723 : (Jvm.Cond.lays "java/lang/Throwable" "java/lang/Throwable" "detailMessage" "Ljava/lang/String;") ∈ lw_all := lw_g (lw_at lw_m3 144 rfl) rfl
theorem q725 : (Jvm.Cond.lays "java/lang/Throwable" "java/lang/Throwable" "backtrace" "Ljava/lang/Object;") ∈ lw_all := lw_g (lw_at lw_m3 146 rfl) rfl
theorem q726 : (Jvm.Cond.fieldLink "java/lang/Throwable" (198 : Nat) "java/lang/Throwable" "backtrace" "Ljava/lang/Object;") ∈ lw_all := lw_g (lw_at lw_m3 147 rfl) rfl
theorem q727 : (Jvm.Cond.superclass "java/lang/Throwable" "java/lang/Object") ∈ lw_all := lw_g (lw_at lw_m3 148 rfl) rfl
theorem q728 : (Jvm.Cond.instanceMethod ({ cls := "java/lang/Throwable", name := "<init>", desc := "()V" } : Jvm.MethodName)) ∈ lw_all := lw_g (lw_at lw_m3 149 rfl) rfl
theorem q729 : (Jvm.Cond.code ({ cls := "java/lang/Throwable", name := "<init>", desc := "()V" } : Jvm.MethodName) prog_29_method_1_code (1 : Nat) (Option.none : Option Jvm.ClassFile.FieldType)) ∈ lw_all := lw_g (lw_at lw_m3 150 rfl) rfl
theorem q730 : (Jvm.Cond.methodLink "java/lang/Throwable" (1 : Nat) ({ cls := "java/lang/Object", name := "<init>", desc := "()V" } : Jvm.MethodName)) ∈ lw_all := lw_g (lw_at lw_m3 151 rfl) rfl
theorem q731 : (Jvm.Cond.fieldLink "java/lang/Throwable" (13 : Nat) "java/lang/Throwable" "UNASSIGNED_STACK" "[Ljava/lang/StackTraceElement;") ∈ lw_all := lw_g (lw_at lw_m3 152 rfl) rfl
theorem q732 : (Jvm.Cond.laysStatic "java/lang/Throwable" "UNASSIGNED_STACK" "[Ljava/lang/StackTraceElement;") ∈ lw_tbl := lw_at lw_m3 153 rfl
theorem q733 : (Jvm.Cond.fieldLink "java/lang/Throwable" (20 : Nat) "java/lang/Throwable" "SUPPRESSED_SENTINEL" "Ljava/util/List;") ∈ lw_all := lw_g (lw_at lw_m3 154 rfl) rfl
theorem q734 : (Jvm.Cond.laysStatic "java/lang/Throwable" "SUPPRESSED_SENTINEL" "Ljava/util/List;") ∈ lw_tbl := lw_at lw_m3 155 rfl
theorem q735 : (Jvm.Cond.methodLink "java/lang/Throwable" (27 : Nat) ({ cls := "java/lang/Throwable", name := "fillInStackTrace", desc := "()Ljava/lang/Throwable;" } : Jvm.MethodName)) ∈ lw_all := lw_g (lw_at lw_m3 156 rfl) rfl
theorem q736 : (Jvm.Cond.instanceMethod ({ cls := "java/lang/Throwable", name := "fillInStackTrace", desc := "()Ljava/lang/Throwable;" } : Jvm.MethodName)) ∈ lw_all := lw_g (lw_at lw_m3 157 rfl) rfl
theorem q737 : (Jvm.Cond.sameMethod "java/lang/Throwable" "java/lang/Throwable" "fillInStackTrace" "()Ljava/lang/Throwable;") ∈ lw_all := lw_g (lw_at lw_m3 158 rfl) rfl
theorem q738 : (Jvm.Cond.codeSync ({ cls := "java/lang/Throwable", name := "fillInStackTrace", desc := "()Ljava/lang/Throwable;" } : Jvm.MethodName) prog_29_method_18_code (1 : Nat) (Option.some (Jvm.ClassFile.FieldType.object "java/lang/Throwable"))) ∈ lw_all := lw_g (lw_at lw_m3 159 rfl) rfl
theorem q739 : (Jvm.Cond.methodLink "java/lang/Throwable" (202 : Nat) ({ cls := "java/lang/Throwable", name := "fillInStackTrace", desc := "(I)Ljava/lang/Throwable;" } : Jvm.MethodName)) ∈ lw_all := lw_g (lw_at lw_m3 160 rfl) rfl
theorem q740 : (Jvm.Cond.privateMethod ({ cls := "java/lang/Throwable", name := "fillInStackTrace", desc := "(I)Ljava/lang/Throwable;" } : Jvm.MethodName)) ∈ lw_tbl := lw_at lw_m3 161 rfl
theorem q741 : (Jvm.Cond.instanceMethod ({ cls := "java/lang/Throwable", name := "fillInStackTrace", desc := "(I)Ljava/lang/Throwable;" } : Jvm.MethodName)) ∈ lw_all := lw_g (lw_at lw_m3 162 rfl) rfl
theorem q742 : (Jvm.Cond.instantiable "java/lang/Throwable" (6 : Nat)) ∈ lw_all := lw_g (lw_at lw_m3 163 rfl) rfl
theorem q743 : (Jvm.Cond.native ({ cls := "java/lang/Throwable", name := "fillInStackTrace", desc := "(I)Ljava/lang/Throwable;" } : Jvm.MethodName)) ∈ lw_all := lw_g (lw_at lw_m3 164 rfl) rfl
theorem q753 : (Jvm.Cond.fieldLink "java/lang/Throwable" (198 : Nat) "java/lang/Throwable" "backtrace" "Ljava/lang/Object;") ∈ lw_all := lw_g (lw_at lw_m3 174 rfl) rfl
theorem q754 : (Jvm.Cond.fieldLink "java/lang/Throwable" (7 : Nat) "java/lang/Throwable" "cause" "Ljava/lang/Throwable;") ∈ lw_all := lw_g (lw_at lw_m3 175 rfl) rfl
theorem q755 : (Jvm.Cond.fieldLink "java/lang/Throwable" (17 : Nat) "java/lang/Throwable" "stackTrace" "[Ljava/lang/StackTraceElement;") ∈ lw_all := lw_g (lw_at lw_m3 176 rfl) rfl
theorem q756 : (Jvm.Cond.fieldLink "java/lang/Throwable" (24 : Nat) "java/lang/Throwable" "suppressedExceptions" "Ljava/util/List;") ∈ lw_all := lw_g (lw_at lw_m3 177 rfl) rfl
theorem q759 : (Jvm.Cond.soleField "java/lang/Throwable" "backtrace") ∈ lw_all := lw_g (lw_at lw_m3 180 rfl) rfl
theorem q760 : (Jvm.Cond.soleField "java/lang/Throwable" "detailMessage") ∈ lw_all := lw_g (lw_at lw_m3 181 rfl) rfl
theorem q761 : (Jvm.Cond.soleField "java/lang/Throwable" "cause") ∈ lw_all := lw_g (lw_at lw_m3 182 rfl) rfl
theorem q762 : (Jvm.Cond.soleField "java/lang/Throwable" "stackTrace") ∈ lw_all := lw_g (lw_at lw_m3 183 rfl) rfl
theorem q764 : (Jvm.Cond.soleField "java/lang/Throwable" "depth") ∈ lw_all := lw_g (lw_at lw_m3 185 rfl) rfl
theorem q765 : (Jvm.Cond.soleField "java/lang/Throwable" "suppressedExceptions") ∈ lw_all := lw_g (lw_at lw_m3 186 rfl) rfl
theorem q2104 : (Jvm.Cond.sameMethod "java/lang/Throwable" "java/lang/Throwable" "fillInStackTrace" "(I)Ljava/lang/Throwable;") ∈ lw_all := lw_g (lw_at lw_m9 85 rfl) rfl
theorem in_J4 : ∀ w ∈ wsJ40, w ∈ lw_all := lw_in wsJ40 [717, 719, 721, 723, 725] (by decide +kernel) (by decide +kernel)
/-! java/lang/Exception -/
set_option maxRecDepth 100000
def RJ5 : String := "java/lang/Exception"
abbrev cJ5_init : ByteArray := prog_22_method_1_code
def yJ5_init : MethodName := ⟨RJ5, "<init>", "()V"⟩
theorem dJ5_init_0 : decode cJ5_init 0 = .ok (.aload_n 0, 1) := by decide +kernel
theorem dJ5_init_1 : decode cJ5_init 1 = .ok (.invokespecial 1, 3) := by decide +kernel
theorem dJ5_init_4 : decode cJ5_init 4 = .ok (.return_, 1) := by decide +kernel
theorem q118 : (Jvm.Cond.initialized "java/lang/Exception") ∈ lw_all := lw_g (lw_at lw_m1 19 rfl) rfl
theorem q710 : (Jvm.Cond.declares ({ cls := "java/lang/Exception", name := "<init>", desc := "()V" } : Jvm.MethodName)) ∈ lw_tbl := lw_at lw_m3 131 rfl
theorem q711 : (Jvm.Cond.declares ({ cls := "java/lang/Exception", name := "<init>", desc := "(Ljava/lang/String;)V" } : Jvm.MethodName)) ∈ lw_tbl := lw_at lw_m3 132 rfl
theorem q748 : (Jvm.Cond.instanceMethod ({ cls := "java/lang/Exception", name := "<init>", desc := "()V" } : Jvm.MethodName)) ∈ lw_all := lw_g (lw_at lw_m3 169 rfl) rfl
theorem q749 : (Jvm.Cond.code ({ cls := "java/lang/Exception", name := "<init>", desc := "()V" } : Jvm.MethodName) prog_22_method_1_code (1 : Nat) (Option.none : Option Jvm.ClassFile.FieldType)) ∈ lw_all := lw_g (lw_at lw_m3 170 rfl) rfl
theorem q750 : (Jvm.Cond.methodLink "java/lang/Exception" (1 : Nat) ({ cls := "java/lang/Throwable", name := "<init>", desc := "()V" } : Jvm.MethodName)) ∈ lw_all := lw_g (lw_at lw_m3 171 rfl) rfl
/-! java/lang/Math -/
set_option maxRecDepth 100000
def RJ6 : String := "java/lang/Math"
abbrev cJ6_min : ByteArray := prog_24_method_69_code
def yJ6_min : MethodName := ⟨RJ6, "min", "(II)I"⟩
def dkwJ6_min_0 : List UInt8 := [26, 27, 163, 0, 7, 26, 167, 0, 4, 27, 172]
abbrev dktJ6_min_0 : List UInt8 := dkwJ6_min_0 ++ []
theorem dksJ6_min_0 : cJ6_min.data.toList.drop 0 = dktJ6_min_0 := by decide +kernel
theorem dJ6_min_0 : decode cJ6_min 0 = .ok (.iload_n 0, 1) := dk_26 (dk_at dksJ6_min_0 0 rfl rfl)
theorem dJ6_min_1 : decode cJ6_min 1 = .ok (.iload_n 1, 1) := dk_27 (dk_at dksJ6_min_0 1 rfl rfl)
theorem dJ6_min_2 : decode cJ6_min 2 = .ok (.if_icmp .gt 7, 3) := dk_163 0 7 (dk_at dksJ6_min_0 2 rfl rfl)
theorem dJ6_min_5 : decode cJ6_min 5 = .ok (.iload_n 0, 1) := dk_26 (dk_at dksJ6_min_0 5 rfl rfl)
theorem dJ6_min_6 : decode cJ6_min 6 = .ok (.goto 4, 3) := dk_167 0 4 (dk_at dksJ6_min_0 6 rfl rfl)
theorem dJ6_min_9 : decode cJ6_min 9 = .ok (.iload_n 1, 1) := dk_27 (dk_at dksJ6_min_0 9 rfl rfl)
theorem dJ6_min_10 : decode cJ6_min 10 = .ok (.ireturn, 1) := dk_172 (dk_at dksJ6_min_0 10 rfl rfl)
abbrev cJ6_max : ByteArray := prog_24_method_65_code
def yJ6_max : MethodName := ⟨RJ6, "max", "(II)I"⟩
def dkwJ6_max_0 : List UInt8 := [26, 27, 161, 0, 7, 26, 167, 0, 4, 27, 172]
abbrev dktJ6_max_0 : List UInt8 := dkwJ6_max_0 ++ []
theorem dksJ6_max_0 : cJ6_max.data.toList.drop 0 = dktJ6_max_0 := by decide +kernel
theorem dJ6_max_0 : decode cJ6_max 0 = .ok (.iload_n 0, 1) := dk_26 (dk_at dksJ6_max_0 0 rfl rfl)
theorem dJ6_max_1 : decode cJ6_max 1 = .ok (.iload_n 1, 1) := dk_27 (dk_at dksJ6_max_0 1 rfl rfl)
theorem dJ6_max_2 : decode cJ6_max 2 = .ok (.if_icmp .lt 7, 3) := dk_161 0 7 (dk_at dksJ6_max_0 2 rfl rfl)
theorem dJ6_max_5 : decode cJ6_max 5 = .ok (.iload_n 0, 1) := dk_26 (dk_at dksJ6_max_0 5 rfl rfl)
theorem dJ6_max_6 : decode cJ6_max 6 = .ok (.goto 4, 3) := dk_167 0 4 (dk_at dksJ6_max_0 6 rfl rfl)
theorem dJ6_max_9 : decode cJ6_max 9 = .ok (.iload_n 1, 1) := dk_27 (dk_at dksJ6_max_0 9 rfl rfl)
theorem dJ6_max_10 : decode cJ6_max 10 = .ok (.ireturn, 1) := dk_172 (dk_at dksJ6_max_0 10 rfl rfl)
theorem q123 : (Jvm.Cond.initialized "java/lang/Math") ∈ lw_all := lw_g (lw_at lw_m1 24 rfl) rfl
theorem q924 : (Jvm.Cond.static ({ cls := "java/lang/Math", name := "min", desc := "(II)I" } : Jvm.MethodName)) ∈ lw_all := lw_g (lw_at lw_m4 105 rfl) rfl
theorem q925 : (Jvm.Cond.code ({ cls := "java/lang/Math", name := "min", desc := "(II)I" } : Jvm.MethodName) prog_24_method_69_code (2 : Nat) (Option.some Jvm.ClassFile.FieldType.int)) ∈ lw_all := lw_g (lw_at lw_m4 106 rfl) rfl
theorem q1038 : (Jvm.Cond.static ({ cls := "java/lang/Math", name := "max", desc := "(II)I" } : Jvm.MethodName)) ∈ lw_all := lw_g (lw_at lw_m4 219 rfl) rfl
theorem q1039 : (Jvm.Cond.code ({ cls := "java/lang/Math", name := "max", desc := "(II)I" } : Jvm.MethodName) prog_24_method_65_code (2 : Nat) (Option.some Jvm.ClassFile.FieldType.int)) ∈ lw_all := lw_g (lw_at lw_m4 220 rfl) rfl
/-! java/lang/Integer -/
set_option maxRecDepth 100000
def RJ7 : String := "java/lang/Integer"
abbrev cJ7_bitCount : ByteArray := prog_23_method_49_code
def yJ7_bitCount : MethodName := ⟨RJ7, "bitCount", "(I)I"⟩
def dkwJ7_bitCount_2 : List UInt8 := [26, 16, 63, 126, 172]
abbrev dktJ7_bitCount_2 : List UInt8 := dkwJ7_bitCount_2 ++ []
def dkwJ7_bitCount_1 : List UInt8 := [26, 26, 7, 124, 96, 19, 1, 11, 126, 59, 26, 26, 16, 8, 124, 96, 59, 26, 26, 16, 16, 124, 96, 59]
abbrev dktJ7_bitCount_1 : List UInt8 := dkwJ7_bitCount_1 ++ dktJ7_bitCount_2
def dkwJ7_bitCount_0 : List UInt8 := [26, 26, 4, 124, 19, 1, 9, 126, 100, 59, 26, 19, 1, 10, 126, 26, 5, 124, 19, 1, 10, 126, 96, 59]
abbrev dktJ7_bitCount_0 : List UInt8 := dkwJ7_bitCount_0 ++ dktJ7_bitCount_1
theorem dksJ7_bitCount_0 : cJ7_bitCount.data.toList.drop 0 = dktJ7_bitCount_0 := by decide +kernel
theorem dksJ7_bitCount_1 : cJ7_bitCount.data.toList.drop 24 = dktJ7_bitCount_1 := dk_seg dksJ7_bitCount_0 24 rfl rfl
theorem dksJ7_bitCount_2 : cJ7_bitCount.data.toList.drop 48 = dktJ7_bitCount_2 := dk_seg dksJ7_bitCount_1 24 rfl rfl
theorem dJ7_bitCount_0 : decode cJ7_bitCount 0 = .ok (.iload_n 0, 1) := dk_26 (dk_at dksJ7_bitCount_0 0 rfl rfl)
theorem dJ7_bitCount_1 : decode cJ7_bitCount 1 = .ok (.iload_n 0, 1) := dk_26 (dk_at dksJ7_bitCount_0 1 rfl rfl)
theorem dJ7_bitCount_2 : decode cJ7_bitCount 2 = .ok (.iconst 1, 1) := dk_4 (dk_at dksJ7_bitCount_0 2 rfl rfl)
theorem dJ7_bitCount_3 : decode cJ7_bitCount 3 = .ok (.iushr, 1) := dk_124 (dk_at dksJ7_bitCount_0 3 rfl rfl)
theorem dJ7_bitCount_4 : decode cJ7_bitCount 4 = .ok (.ldc_w 265, 3) := dk_19 1 9 (dk_at dksJ7_bitCount_0 4 rfl rfl)
theorem dJ7_bitCount_7 : decode cJ7_bitCount 7 = .ok (.iand, 1) := dk_126 (dk_at dksJ7_bitCount_0 7 rfl rfl)
theorem dJ7_bitCount_8 : decode cJ7_bitCount 8 = .ok (.isub, 1) := dk_100 (dk_at dksJ7_bitCount_0 8 rfl rfl)
theorem dJ7_bitCount_9 : decode cJ7_bitCount 9 = .ok (.istore_n 0, 1) := dk_59 (dk_at dksJ7_bitCount_0 9 rfl rfl)
theorem dJ7_bitCount_10 : decode cJ7_bitCount 10 = .ok (.iload_n 0, 1) := dk_26 (dk_at dksJ7_bitCount_0 10 rfl rfl)
theorem dJ7_bitCount_11 : decode cJ7_bitCount 11 = .ok (.ldc_w 266, 3) := dk_19 1 10 (dk_at dksJ7_bitCount_0 11 rfl rfl)
theorem dJ7_bitCount_14 : decode cJ7_bitCount 14 = .ok (.iand, 1) := dk_126 (dk_at dksJ7_bitCount_0 14 rfl rfl)
theorem dJ7_bitCount_15 : decode cJ7_bitCount 15 = .ok (.iload_n 0, 1) := dk_26 (dk_at dksJ7_bitCount_0 15 rfl rfl)
theorem dJ7_bitCount_16 : decode cJ7_bitCount 16 = .ok (.iconst 2, 1) := dk_5 (dk_at dksJ7_bitCount_0 16 rfl rfl)
theorem dJ7_bitCount_17 : decode cJ7_bitCount 17 = .ok (.iushr, 1) := dk_124 (dk_at dksJ7_bitCount_0 17 rfl rfl)
theorem dJ7_bitCount_18 : decode cJ7_bitCount 18 = .ok (.ldc_w 266, 3) := dk_19 1 10 (dk_at dksJ7_bitCount_0 18 rfl rfl)
theorem dJ7_bitCount_21 : decode cJ7_bitCount 21 = .ok (.iand, 1) := dk_126 (dk_at dksJ7_bitCount_0 21 rfl rfl)
theorem dJ7_bitCount_22 : decode cJ7_bitCount 22 = .ok (.iadd, 1) := dk_96 (dk_at dksJ7_bitCount_0 22 rfl rfl)
theorem dJ7_bitCount_23 : decode cJ7_bitCount 23 = .ok (.istore_n 0, 1) := dk_59 (dk_at dksJ7_bitCount_0 23 rfl rfl)
theorem dJ7_bitCount_24 : decode cJ7_bitCount 24 = .ok (.iload_n 0, 1) := dk_26 (dk_at dksJ7_bitCount_1 0 rfl rfl)
theorem dJ7_bitCount_25 : decode cJ7_bitCount 25 = .ok (.iload_n 0, 1) := dk_26 (dk_at dksJ7_bitCount_1 1 rfl rfl)
theorem dJ7_bitCount_26 : decode cJ7_bitCount 26 = .ok (.iconst 4, 1) := dk_7 (dk_at dksJ7_bitCount_1 2 rfl rfl)
theorem dJ7_bitCount_27 : decode cJ7_bitCount 27 = .ok (.iushr, 1) := dk_124 (dk_at dksJ7_bitCount_1 3 rfl rfl)
theorem dJ7_bitCount_28 : decode cJ7_bitCount 28 = .ok (.iadd, 1) := dk_96 (dk_at dksJ7_bitCount_1 4 rfl rfl)
theorem dJ7_bitCount_29 : decode cJ7_bitCount 29 = .ok (.ldc_w 267, 3) := dk_19 1 11 (dk_at dksJ7_bitCount_1 5 rfl rfl)
theorem dJ7_bitCount_32 : decode cJ7_bitCount 32 = .ok (.iand, 1) := dk_126 (dk_at dksJ7_bitCount_1 8 rfl rfl)
theorem dJ7_bitCount_33 : decode cJ7_bitCount 33 = .ok (.istore_n 0, 1) := dk_59 (dk_at dksJ7_bitCount_1 9 rfl rfl)
theorem dJ7_bitCount_34 : decode cJ7_bitCount 34 = .ok (.iload_n 0, 1) := dk_26 (dk_at dksJ7_bitCount_1 10 rfl rfl)
theorem dJ7_bitCount_35 : decode cJ7_bitCount 35 = .ok (.iload_n 0, 1) := dk_26 (dk_at dksJ7_bitCount_1 11 rfl rfl)
theorem dJ7_bitCount_36 : decode cJ7_bitCount 36 = .ok (.bipush 8, 2) := dk_16 8 (dk_at dksJ7_bitCount_1 12 rfl rfl)
theorem dJ7_bitCount_38 : decode cJ7_bitCount 38 = .ok (.iushr, 1) := dk_124 (dk_at dksJ7_bitCount_1 14 rfl rfl)
theorem dJ7_bitCount_39 : decode cJ7_bitCount 39 = .ok (.iadd, 1) := dk_96 (dk_at dksJ7_bitCount_1 15 rfl rfl)
theorem dJ7_bitCount_40 : decode cJ7_bitCount 40 = .ok (.istore_n 0, 1) := dk_59 (dk_at dksJ7_bitCount_1 16 rfl rfl)
theorem dJ7_bitCount_41 : decode cJ7_bitCount 41 = .ok (.iload_n 0, 1) := dk_26 (dk_at dksJ7_bitCount_1 17 rfl rfl)
theorem dJ7_bitCount_42 : decode cJ7_bitCount 42 = .ok (.iload_n 0, 1) := dk_26 (dk_at dksJ7_bitCount_1 18 rfl rfl)
theorem dJ7_bitCount_43 : decode cJ7_bitCount 43 = .ok (.bipush 16, 2) := dk_16 16 (dk_at dksJ7_bitCount_1 19 rfl rfl)
theorem dJ7_bitCount_45 : decode cJ7_bitCount 45 = .ok (.iushr, 1) := dk_124 (dk_at dksJ7_bitCount_1 21 rfl rfl)
theorem dJ7_bitCount_46 : decode cJ7_bitCount 46 = .ok (.iadd, 1) := dk_96 (dk_at dksJ7_bitCount_1 22 rfl rfl)
theorem dJ7_bitCount_47 : decode cJ7_bitCount 47 = .ok (.istore_n 0, 1) := dk_59 (dk_at dksJ7_bitCount_1 23 rfl rfl)
theorem dJ7_bitCount_48 : decode cJ7_bitCount 48 = .ok (.iload_n 0, 1) := dk_26 (dk_at dksJ7_bitCount_2 0 rfl rfl)
theorem dJ7_bitCount_49 : decode cJ7_bitCount 49 = .ok (.bipush 63, 2) := dk_16 63 (dk_at dksJ7_bitCount_2 1 rfl rfl)
theorem dJ7_bitCount_51 : decode cJ7_bitCount 51 = .ok (.iand, 1) := dk_126 (dk_at dksJ7_bitCount_2 3 rfl rfl)
theorem dJ7_bitCount_52 : decode cJ7_bitCount 52 = .ok (.ireturn, 1) := dk_172 (dk_at dksJ7_bitCount_2 4 rfl rfl)
theorem q124 : (Jvm.Cond.initialized "java/lang/Integer") ∈ lw_all := lw_g (lw_at lw_m1 25 rfl) rfl
theorem q1055 : (Jvm.Cond.static ({ cls := "java/lang/Integer", name := "bitCount", desc := "(I)I" } : Jvm.MethodName)) ∈ lw_all := lw_g (lw_at lw_m4 236 rfl) rfl
theorem q1056 : (Jvm.Cond.code ({ cls := "java/lang/Integer", name := "bitCount", desc := "(I)I" } : Jvm.MethodName) prog_23_method_49_code (1 : Nat) (Option.some Jvm.ClassFile.FieldType.int)) ∈ lw_all := lw_g (lw_at lw_m4 237 rfl) rfl
theorem q1057 : (Jvm.Cond.constant "java/lang/Integer" (265 : Nat) (1431655765 : Int32)) ∈ lw_all := lw_g (lw_at lw_m4 238 rfl) rfl
theorem q1058 : (Jvm.Cond.constant "java/lang/Integer" (266 : Nat) (858993459 : Int32)) ∈ lw_all := lw_g (lw_at lw_m4 239 rfl) rfl
theorem q1059 : (Jvm.Cond.constant "java/lang/Integer" (267 : Nat) (252645135 : Int32)) ∈ lw_all := lw_g (lw_at lw_m5 0 rfl) rfl
/-! java/lang/Object -/
set_option maxRecDepth 100000
def RJ8 : String := "java/lang/Object"
abbrev cJ8_init : ByteArray := object_method_1_code
def yJ8_init : MethodName := ⟨RJ8, "<init>", "()V"⟩
theorem dJ8_init_0 : decode cJ8_init 0 = .ok (.return_, 1) := by decide +kernel
theorem q135 : (Jvm.Cond.instanceMethod ({ cls := "java/lang/Object", name := "<init>", desc := "()V" } : Jvm.MethodName)) ∈ lw_all := lw_g (lw_at lw_m1 36 rfl) rfl
theorem q136 : (Jvm.Cond.code ({ cls := "java/lang/Object", name := "<init>", desc := "()V" } : Jvm.MethodName) object_method_1_code (1 : Nat) (Option.none : Option Jvm.ClassFile.FieldType)) ∈ lw_all := lw_g (lw_at lw_m1 37 rfl) rfl
/-! PretendDesk$Ruler -/
set_option maxRecDepth 100000
def RX1 : String := "PretendDesk$Ruler"
def TX1 : u_T := fun k => match k with
  | 0 => ("PretendDesk$Ruler", "tree", "[I", true)
  | 1 => ("PretendDesk$Ruler", "row", "[I", true)
  | 2 => ("PretendDesk$Ruler", "a", "LPretendDesk$Tree;", true)
  | 3 => ("PretendDesk$Ruler", "b", "LPretendDesk$Tree;", true)
  | _ => ("PretendDesk$Ruler", "this$0", "LPretendDesk;", true)
def tyX1 : Nat → FieldType := fun k => match k with
  | 0 => .array .int
  | 1 => .array .int
  | 2 => .object "PretendDesk$Tree"
  | 3 => .object "PretendDesk$Tree"
  | _ => .object "PretendDesk"
abbrev wsX10 : List Cond := u_ws RX1 TX1 5
theorem nmX1 : ∀ a, a < 5 → ∀ b, b < 5 → a ≠ b → (TX1 a).2.1 ≠ (TX1 b).2.1 := by decide +kernel
theorem tyX1_ok : ∀ k, k < 5 → parseFieldDescriptor (TX1 k).2.2.1 = some (tyX1 k) := by decide +kernel
abbrev cX1_init : ByteArray := prog_15_method_1_code
def yX1_init : MethodName := ⟨RX1, "<init>", "(LPretendDesk;)V"⟩
def dkwX1_init_2 : List UInt8 := [181, 0, 29, 177]
abbrev dktX1_init_2 : List UInt8 := dkwX1_init_2 ++ []
def dkwX1_init_1 : List UInt8 := [181, 0, 19, 42, 187, 0, 22, 89, 183, 0, 24, 181, 0, 25, 42, 187, 0, 22, 89, 183, 0, 24]
abbrev dktX1_init_1 : List UInt8 := dkwX1_init_1 ++ dktX1_init_2
def dkwX1_init_0 : List UInt8 := [42, 43, 181, 0, 3, 42, 183, 0, 9, 42, 17, 0, 225, 188, 10, 181, 0, 15, 42, 17, 1, 0, 188, 10]
abbrev dktX1_init_0 : List UInt8 := dkwX1_init_0 ++ dktX1_init_1
theorem dksX1_init_0 : cX1_init.data.toList.drop 0 = dktX1_init_0 := by decide +kernel
theorem dksX1_init_1 : cX1_init.data.toList.drop 24 = dktX1_init_1 := dk_seg dksX1_init_0 24 rfl rfl
theorem dksX1_init_2 : cX1_init.data.toList.drop 46 = dktX1_init_2 := dk_seg dksX1_init_1 22 rfl rfl
theorem dX1_init_0 : decode cX1_init 0 = .ok (.aload_n 0, 1) := dk_42 (dk_at dksX1_init_0 0 rfl rfl)
theorem dX1_init_1 : decode cX1_init 1 = .ok (.aload_n 1, 1) := dk_43 (dk_at dksX1_init_0 1 rfl rfl)
theorem dX1_init_2 : decode cX1_init 2 = .ok (.putfield 3, 3) := dk_181 0 3 (dk_at dksX1_init_0 2 rfl rfl)
theorem dX1_init_5 : decode cX1_init 5 = .ok (.aload_n 0, 1) := dk_42 (dk_at dksX1_init_0 5 rfl rfl)
theorem dX1_init_6 : decode cX1_init 6 = .ok (.invokespecial 9, 3) := dk_183 0 9 (dk_at dksX1_init_0 6 rfl rfl)
theorem dX1_init_9 : decode cX1_init 9 = .ok (.aload_n 0, 1) := dk_42 (dk_at dksX1_init_0 9 rfl rfl)
theorem dX1_init_10 : decode cX1_init 10 = .ok (.sipush 225, 3) := dk_17 0 225 (dk_at dksX1_init_0 10 rfl rfl)
theorem dX1_init_13 : decode cX1_init 13 = .ok (.newarray .int, 2) := dk_188_10 (dk_at dksX1_init_0 13 rfl rfl)
theorem dX1_init_15 : decode cX1_init 15 = .ok (.putfield 15, 3) := dk_181 0 15 (dk_at dksX1_init_0 15 rfl rfl)
theorem dX1_init_18 : decode cX1_init 18 = .ok (.aload_n 0, 1) := dk_42 (dk_at dksX1_init_0 18 rfl rfl)
theorem dX1_init_19 : decode cX1_init 19 = .ok (.sipush 256, 3) := dk_17 1 0 (dk_at dksX1_init_0 19 rfl rfl)
theorem dX1_init_22 : decode cX1_init 22 = .ok (.newarray .int, 2) := dk_188_10 (dk_at dksX1_init_0 22 rfl rfl)
theorem dX1_init_24 : decode cX1_init 24 = .ok (.putfield 19, 3) := dk_181 0 19 (dk_at dksX1_init_1 0 rfl rfl)
theorem dX1_init_27 : decode cX1_init 27 = .ok (.aload_n 0, 1) := dk_42 (dk_at dksX1_init_1 3 rfl rfl)
theorem dX1_init_28 : decode cX1_init 28 = .ok (.new 22, 3) := dk_187 0 22 (dk_at dksX1_init_1 4 rfl rfl)
theorem dX1_init_31 : decode cX1_init 31 = .ok (.dup, 1) := dk_89 (dk_at dksX1_init_1 7 rfl rfl)
theorem dX1_init_32 : decode cX1_init 32 = .ok (.invokespecial 24, 3) := dk_183 0 24 (dk_at dksX1_init_1 8 rfl rfl)
theorem dX1_init_35 : decode cX1_init 35 = .ok (.putfield 25, 3) := dk_181 0 25 (dk_at dksX1_init_1 11 rfl rfl)
theorem dX1_init_38 : decode cX1_init 38 = .ok (.aload_n 0, 1) := dk_42 (dk_at dksX1_init_1 14 rfl rfl)
theorem dX1_init_39 : decode cX1_init 39 = .ok (.new 22, 3) := dk_187 0 22 (dk_at dksX1_init_1 15 rfl rfl)
theorem dX1_init_42 : decode cX1_init 42 = .ok (.dup, 1) := dk_89 (dk_at dksX1_init_1 18 rfl rfl)
theorem dX1_init_43 : decode cX1_init 43 = .ok (.invokespecial 24, 3) := dk_183 0 24 (dk_at dksX1_init_1 19 rfl rfl)
theorem dX1_init_46 : decode cX1_init 46 = .ok (.putfield 29, 3) := dk_181 0 29 (dk_at dksX1_init_2 0 rfl rfl)
theorem dX1_init_49 : decode cX1_init 49 = .ok (.return_, 1) := dk_177 (dk_at dksX1_init_2 3 rfl rfl)
abbrev cX1_far : ByteArray := prog_15_method_2_code
def yX1_far : MethodName := ⟨RX1, "far", "()I"⟩
def dkwX1_far_3 : List UInt8 := [180, 0, 15, 16, 15, 42, 180, 0, 25, 180, 0, 32, 104, 42, 180, 0, 29, 180, 0, 32, 96, 46, 172]
abbrev dktX1_far_3 : List UInt8 := dkwX1_far_3 ++ []
def dkwX1_far_2 : List UInt8 := [153, 0, 9, 42, 27, 28, 182, 0, 40, 132, 2, 1, 167, 255, 212, 132, 1, 1, 167, 255, 193, 42]
abbrev dktX1_far_2 : List UInt8 := dkwX1_far_2 ++ dktX1_far_3
def dkwX1_far_1 : List UInt8 := [163, 0, 39, 42, 42, 180, 0, 25, 27, 182, 0, 36, 153, 0, 21, 42, 42, 180, 0, 29, 28, 182, 0, 36]
abbrev dktX1_far_1 : List UInt8 := dkwX1_far_1 ++ dktX1_far_2
def dkwX1_far_0 : List UInt8 := [3, 60, 27, 42, 180, 0, 25, 180, 0, 32, 163, 0, 58, 3, 61, 28, 42, 180, 0, 29, 180, 0, 32]
abbrev dktX1_far_0 : List UInt8 := dkwX1_far_0 ++ dktX1_far_1
theorem dksX1_far_0 : cX1_far.data.toList.drop 0 = dktX1_far_0 := by decide +kernel
theorem dksX1_far_1 : cX1_far.data.toList.drop 23 = dktX1_far_1 := dk_seg dksX1_far_0 23 rfl rfl
theorem dksX1_far_2 : cX1_far.data.toList.drop 47 = dktX1_far_2 := dk_seg dksX1_far_1 24 rfl rfl
theorem dksX1_far_3 : cX1_far.data.toList.drop 69 = dktX1_far_3 := dk_seg dksX1_far_2 22 rfl rfl
theorem dX1_far_0 : decode cX1_far 0 = .ok (.iconst 0, 1) := dk_3 (dk_at dksX1_far_0 0 rfl rfl)
theorem dX1_far_1 : decode cX1_far 1 = .ok (.istore_n 1, 1) := dk_60 (dk_at dksX1_far_0 1 rfl rfl)
theorem dX1_far_2 : decode cX1_far 2 = .ok (.iload_n 1, 1) := dk_27 (dk_at dksX1_far_0 2 rfl rfl)
theorem dX1_far_3 : decode cX1_far 3 = .ok (.aload_n 0, 1) := dk_42 (dk_at dksX1_far_0 3 rfl rfl)
theorem dX1_far_4 : decode cX1_far 4 = .ok (.getfield 25, 3) := dk_180 0 25 (dk_at dksX1_far_0 4 rfl rfl)
theorem dX1_far_7 : decode cX1_far 7 = .ok (.getfield 32, 3) := dk_180 0 32 (dk_at dksX1_far_0 7 rfl rfl)
theorem dX1_far_10 : decode cX1_far 10 = .ok (.if_icmp .gt 58, 3) := dk_163 0 58 (dk_at dksX1_far_0 10 rfl rfl)
theorem dX1_far_13 : decode cX1_far 13 = .ok (.iconst 0, 1) := dk_3 (dk_at dksX1_far_0 13 rfl rfl)
theorem dX1_far_14 : decode cX1_far 14 = .ok (.istore_n 2, 1) := dk_61 (dk_at dksX1_far_0 14 rfl rfl)
theorem dX1_far_15 : decode cX1_far 15 = .ok (.iload_n 2, 1) := dk_28 (dk_at dksX1_far_0 15 rfl rfl)
theorem dX1_far_16 : decode cX1_far 16 = .ok (.aload_n 0, 1) := dk_42 (dk_at dksX1_far_0 16 rfl rfl)
theorem dX1_far_17 : decode cX1_far 17 = .ok (.getfield 29, 3) := dk_180 0 29 (dk_at dksX1_far_0 17 rfl rfl)
theorem dX1_far_20 : decode cX1_far 20 = .ok (.getfield 32, 3) := dk_180 0 32 (dk_at dksX1_far_0 20 rfl rfl)
theorem dX1_far_23 : decode cX1_far 23 = .ok (.if_icmp .gt 39, 3) := dk_163 0 39 (dk_at dksX1_far_1 0 rfl rfl)
theorem dX1_far_26 : decode cX1_far 26 = .ok (.aload_n 0, 1) := dk_42 (dk_at dksX1_far_1 3 rfl rfl)
theorem dX1_far_27 : decode cX1_far 27 = .ok (.aload_n 0, 1) := dk_42 (dk_at dksX1_far_1 4 rfl rfl)
theorem dX1_far_28 : decode cX1_far 28 = .ok (.getfield 25, 3) := dk_180 0 25 (dk_at dksX1_far_1 5 rfl rfl)
theorem dX1_far_31 : decode cX1_far 31 = .ok (.iload_n 1, 1) := dk_27 (dk_at dksX1_far_1 8 rfl rfl)
theorem dX1_far_32 : decode cX1_far 32 = .ok (.invokevirtual 36, 3) := dk_182 0 36 (dk_at dksX1_far_1 9 rfl rfl)
theorem dX1_far_35 : decode cX1_far 35 = .ok (.ifCond .eq 21, 3) := dk_153 0 21 (dk_at dksX1_far_1 12 rfl rfl)
theorem dX1_far_38 : decode cX1_far 38 = .ok (.aload_n 0, 1) := dk_42 (dk_at dksX1_far_1 15 rfl rfl)
theorem dX1_far_39 : decode cX1_far 39 = .ok (.aload_n 0, 1) := dk_42 (dk_at dksX1_far_1 16 rfl rfl)
theorem dX1_far_40 : decode cX1_far 40 = .ok (.getfield 29, 3) := dk_180 0 29 (dk_at dksX1_far_1 17 rfl rfl)
theorem dX1_far_43 : decode cX1_far 43 = .ok (.iload_n 2, 1) := dk_28 (dk_at dksX1_far_1 20 rfl rfl)
theorem dX1_far_44 : decode cX1_far 44 = .ok (.invokevirtual 36, 3) := dk_182 0 36 (dk_at dksX1_far_1 21 rfl rfl)
theorem dX1_far_47 : decode cX1_far 47 = .ok (.ifCond .eq 9, 3) := dk_153 0 9 (dk_at dksX1_far_2 0 rfl rfl)
theorem dX1_far_50 : decode cX1_far 50 = .ok (.aload_n 0, 1) := dk_42 (dk_at dksX1_far_2 3 rfl rfl)
theorem dX1_far_51 : decode cX1_far 51 = .ok (.iload_n 1, 1) := dk_27 (dk_at dksX1_far_2 4 rfl rfl)
theorem dX1_far_52 : decode cX1_far 52 = .ok (.iload_n 2, 1) := dk_28 (dk_at dksX1_far_2 5 rfl rfl)
theorem dX1_far_53 : decode cX1_far 53 = .ok (.invokevirtual 40, 3) := dk_182 0 40 (dk_at dksX1_far_2 6 rfl rfl)
theorem dX1_far_56 : decode cX1_far 56 = .ok (.iinc 2 1, 3) := dk_132 2 1 (dk_at dksX1_far_2 9 rfl rfl)
theorem dX1_far_59 : decode cX1_far 59 = .ok (.goto (-44), 3) := dk_167 255 212 (dk_at dksX1_far_2 12 rfl rfl)
theorem dX1_far_62 : decode cX1_far 62 = .ok (.iinc 1 1, 3) := dk_132 1 1 (dk_at dksX1_far_2 15 rfl rfl)
theorem dX1_far_65 : decode cX1_far 65 = .ok (.goto (-63), 3) := dk_167 255 193 (dk_at dksX1_far_2 18 rfl rfl)
theorem dX1_far_68 : decode cX1_far 68 = .ok (.aload_n 0, 1) := dk_42 (dk_at dksX1_far_2 21 rfl rfl)
theorem dX1_far_69 : decode cX1_far 69 = .ok (.getfield 15, 3) := dk_180 0 15 (dk_at dksX1_far_3 0 rfl rfl)
theorem dX1_far_72 : decode cX1_far 72 = .ok (.bipush 15, 2) := dk_16 15 (dk_at dksX1_far_3 3 rfl rfl)
theorem dX1_far_74 : decode cX1_far 74 = .ok (.aload_n 0, 1) := dk_42 (dk_at dksX1_far_3 5 rfl rfl)
theorem dX1_far_75 : decode cX1_far 75 = .ok (.getfield 25, 3) := dk_180 0 25 (dk_at dksX1_far_3 6 rfl rfl)
theorem dX1_far_78 : decode cX1_far 78 = .ok (.getfield 32, 3) := dk_180 0 32 (dk_at dksX1_far_3 9 rfl rfl)
theorem dX1_far_81 : decode cX1_far 81 = .ok (.imul, 1) := dk_104 (dk_at dksX1_far_3 12 rfl rfl)
theorem dX1_far_82 : decode cX1_far 82 = .ok (.aload_n 0, 1) := dk_42 (dk_at dksX1_far_3 13 rfl rfl)
theorem dX1_far_83 : decode cX1_far 83 = .ok (.getfield 29, 3) := dk_180 0 29 (dk_at dksX1_far_3 14 rfl rfl)
theorem dX1_far_86 : decode cX1_far 86 = .ok (.getfield 32, 3) := dk_180 0 32 (dk_at dksX1_far_3 17 rfl rfl)
theorem dX1_far_89 : decode cX1_far 89 = .ok (.iadd, 1) := dk_96 (dk_at dksX1_far_3 20 rfl rfl)
theorem dX1_far_90 : decode cX1_far 90 = .ok (.iaload, 1) := dk_46 (dk_at dksX1_far_3 21 rfl rfl)
theorem dX1_far_91 : decode cX1_far 91 = .ok (.ireturn, 1) := dk_172 (dk_at dksX1_far_3 22 rfl rfl)
abbrev cX1_isCorner : ByteArray := prog_15_method_3_code
def yX1_isCorner : MethodName := ⟨RX1, "isCorner", "(LPretendDesk$Tree;I)Z"⟩
def dkwX1_isCorner_1 : List UInt8 := [160, 0, 5, 3, 172, 132, 3, 1, 167, 255, 228, 4, 172]
abbrev dktX1_isCorner_1 : List UInt8 := dkwX1_isCorner_1 ++ []
def dkwX1_isCorner_0 : List UInt8 := [28, 4, 96, 62, 29, 43, 180, 0, 32, 163, 0, 26, 43, 180, 0, 44, 29, 46, 43, 180, 0, 44, 28, 46]
abbrev dktX1_isCorner_0 : List UInt8 := dkwX1_isCorner_0 ++ dktX1_isCorner_1
theorem dksX1_isCorner_0 : cX1_isCorner.data.toList.drop 0 = dktX1_isCorner_0 := by decide +kernel
theorem dksX1_isCorner_1 : cX1_isCorner.data.toList.drop 24 = dktX1_isCorner_1 := dk_seg dksX1_isCorner_0 24 rfl rfl
theorem dX1_isCorner_0 : decode cX1_isCorner 0 = .ok (.iload_n 2, 1) := dk_28 (dk_at dksX1_isCorner_0 0 rfl rfl)
theorem dX1_isCorner_1 : decode cX1_isCorner 1 = .ok (.iconst 1, 1) := dk_4 (dk_at dksX1_isCorner_0 1 rfl rfl)
theorem dX1_isCorner_2 : decode cX1_isCorner 2 = .ok (.iadd, 1) := dk_96 (dk_at dksX1_isCorner_0 2 rfl rfl)
theorem dX1_isCorner_3 : decode cX1_isCorner 3 = .ok (.istore_n 3, 1) := dk_62 (dk_at dksX1_isCorner_0 3 rfl rfl)
theorem dX1_isCorner_4 : decode cX1_isCorner 4 = .ok (.iload_n 3, 1) := dk_29 (dk_at dksX1_isCorner_0 4 rfl rfl)
theorem dX1_isCorner_5 : decode cX1_isCorner 5 = .ok (.aload_n 1, 1) := dk_43 (dk_at dksX1_isCorner_0 5 rfl rfl)
theorem dX1_isCorner_6 : decode cX1_isCorner 6 = .ok (.getfield 32, 3) := dk_180 0 32 (dk_at dksX1_isCorner_0 6 rfl rfl)
theorem dX1_isCorner_9 : decode cX1_isCorner 9 = .ok (.if_icmp .gt 26, 3) := dk_163 0 26 (dk_at dksX1_isCorner_0 9 rfl rfl)
theorem dX1_isCorner_12 : decode cX1_isCorner 12 = .ok (.aload_n 1, 1) := dk_43 (dk_at dksX1_isCorner_0 12 rfl rfl)
theorem dX1_isCorner_13 : decode cX1_isCorner 13 = .ok (.getfield 44, 3) := dk_180 0 44 (dk_at dksX1_isCorner_0 13 rfl rfl)
theorem dX1_isCorner_16 : decode cX1_isCorner 16 = .ok (.iload_n 3, 1) := dk_29 (dk_at dksX1_isCorner_0 16 rfl rfl)
theorem dX1_isCorner_17 : decode cX1_isCorner 17 = .ok (.iaload, 1) := dk_46 (dk_at dksX1_isCorner_0 17 rfl rfl)
theorem dX1_isCorner_18 : decode cX1_isCorner 18 = .ok (.aload_n 1, 1) := dk_43 (dk_at dksX1_isCorner_0 18 rfl rfl)
theorem dX1_isCorner_19 : decode cX1_isCorner 19 = .ok (.getfield 44, 3) := dk_180 0 44 (dk_at dksX1_isCorner_0 19 rfl rfl)
theorem dX1_isCorner_22 : decode cX1_isCorner 22 = .ok (.iload_n 2, 1) := dk_28 (dk_at dksX1_isCorner_0 22 rfl rfl)
theorem dX1_isCorner_23 : decode cX1_isCorner 23 = .ok (.iaload, 1) := dk_46 (dk_at dksX1_isCorner_0 23 rfl rfl)
theorem dX1_isCorner_24 : decode cX1_isCorner 24 = .ok (.if_icmp .ne 5, 3) := dk_160 0 5 (dk_at dksX1_isCorner_1 0 rfl rfl)
theorem dX1_isCorner_27 : decode cX1_isCorner 27 = .ok (.iconst 0, 1) := dk_3 (dk_at dksX1_isCorner_1 3 rfl rfl)
theorem dX1_isCorner_28 : decode cX1_isCorner 28 = .ok (.ireturn, 1) := dk_172 (dk_at dksX1_isCorner_1 4 rfl rfl)
theorem dX1_isCorner_29 : decode cX1_isCorner 29 = .ok (.iinc 3 1, 3) := dk_132 3 1 (dk_at dksX1_isCorner_1 5 rfl rfl)
theorem dX1_isCorner_32 : decode cX1_isCorner 32 = .ok (.goto (-28), 3) := dk_167 255 228 (dk_at dksX1_isCorner_1 8 rfl rfl)
theorem dX1_isCorner_35 : decode cX1_isCorner 35 = .ok (.iconst 1, 1) := dk_4 (dk_at dksX1_isCorner_1 11 rfl rfl)
theorem dX1_isCorner_36 : decode cX1_isCorner 36 = .ok (.ireturn, 1) := dk_172 (dk_at dksX1_isCorner_1 12 rfl rfl)
abbrev cX1_lay : ByteArray := prog_15_method_5_code
def yX1_lay : MethodName := ⟨RX1, "lay", "(II)V"⟩
def dkwX1_lay_14 : List UInt8 := [96, 21, 9, 79, 132, 7, 1, 167, 255, 46, 132, 6, 1, 167, 255, 30, 177]
abbrev dktX1_lay_14 : List UInt8 := dkwX1_lay_14 ++ []
def dkwX1_lay_13 : List UInt8 := [180, 0, 19, 21, 8, 21, 9, 79, 21, 10, 153, 0, 18, 42, 180, 0, 15, 16, 15, 21, 6, 104, 21, 7]
abbrev dktX1_lay_13 : List UInt8 := dkwX1_lay_13 ++ dktX1_lay_14
def dkwX1_lay_12 : List UInt8 := [21, 4, 100, 46, 42, 180, 0, 15, 16, 15, 21, 6, 104, 21, 7, 96, 46, 96, 184, 0, 54, 54, 9, 42]
abbrev dktX1_lay_12 : List UInt8 := dkwX1_lay_12 ++ dktX1_lay_13
def dkwX1_lay_11 : List UInt8 := [42, 180, 0, 25, 180, 0, 44, 21, 6, 46, 29, 100, 104, 42, 180, 0, 29, 180, 0, 44, 21, 7, 46, 96]
abbrev dktX1_lay_11 : List UInt8 := dkwX1_lay_11 ++ dktX1_lay_12
def dkwX1_lay_10 : List UInt8 := [21, 6, 21, 7, 182, 0, 60, 96, 184, 0, 54, 54, 9, 167, 0, 58, 21, 9, 42, 180, 0, 19, 21, 5]
abbrev dktX1_lay_10 : List UInt8 := dkwX1_lay_10 ++ dktX1_lay_11
def dkwX1_lay_9 : List UInt8 := [3, 54, 10, 21, 10, 153, 0, 34, 21, 9, 42, 180, 0, 19, 21, 8, 21, 5, 100, 4, 100, 46, 42]
abbrev dktX1_lay_9 : List UInt8 := dkwX1_lay_9 ++ dktX1_lay_10
def dkwX1_lay_8 : List UInt8 := [46, 29, 160, 0, 22, 42, 180, 0, 29, 180, 0, 44, 21, 7, 46, 21, 4, 160, 0, 7, 4, 167, 0, 4]
abbrev dktX1_lay_8 : List UInt8 := dkwX1_lay_8 ++ dktX1_lay_9
def dkwX1_lay_7 : List UInt8 := [180, 0, 19, 21, 8, 4, 100, 46, 184, 0, 54, 5, 96, 54, 9, 42, 180, 0, 25, 180, 0, 44, 21, 6]
abbrev dktX1_lay_7 : List UInt8 := dkwX1_lay_7 ++ dktX1_lay_8
def dkwX1_lay_6 : List UInt8 := [4, 96, 104, 21, 7, 96, 21, 4, 100, 4, 96, 54, 8, 42, 180, 0, 19, 21, 8, 21, 5, 100, 46, 42]
abbrev dktX1_lay_6 : List UInt8 := dkwX1_lay_6 ++ dktX1_lay_7
def dkwX1_lay_5 : List UInt8 := [54, 6, 21, 6, 27, 163, 0, 226, 21, 4, 54, 7, 21, 7, 28, 163, 0, 210, 21, 5, 21, 6, 29, 100]
abbrev dktX1_lay_5 : List UInt8 := dkwX1_lay_5 ++ dktX1_lay_6
def dkwX1_lay_4 : List UInt8 := [100, 4, 96, 42, 180, 0, 19, 21, 6, 21, 4, 100, 46, 5, 96, 79, 132, 6, 1, 167, 255, 223, 29]
abbrev dktX1_lay_4 : List UInt8 := dkwX1_lay_4 ++ dktX1_lay_5
def dkwX1_lay_3 : List UInt8 := [132, 6, 1, 167, 255, 219, 21, 4, 54, 6, 21, 6, 28, 163, 0, 33, 42, 180, 0, 19, 21, 6, 21, 4]
abbrev dktX1_lay_3 : List UInt8 := dkwX1_lay_3 ++ dktX1_lay_4
def dkwX1_lay_2 : List UInt8 := [21, 6, 29, 100, 4, 96, 104, 42, 180, 0, 19, 21, 5, 21, 6, 29, 100, 104, 46, 5, 96, 79]
abbrev dktX1_lay_2 : List UInt8 := dkwX1_lay_2 ++ dktX1_lay_3
def dkwX1_lay_1 : List UInt8 := [54, 5, 42, 180, 0, 19, 3, 3, 79, 29, 54, 6, 21, 6, 27, 163, 0, 37, 42, 180, 0, 19, 21, 5]
abbrev dktX1_lay_1 : List UInt8 := dkwX1_lay_1 ++ dktX1_lay_2
def dkwX1_lay_0 : List UInt8 := [42, 180, 0, 25, 180, 0, 44, 27, 46, 62, 42, 180, 0, 29, 180, 0, 44, 28, 46, 54, 4, 16, 16]
abbrev dktX1_lay_0 : List UInt8 := dkwX1_lay_0 ++ dktX1_lay_1
theorem dksX1_lay_0 : cX1_lay.data.toList.drop 0 = dktX1_lay_0 := by decide +kernel
theorem dksX1_lay_1 : cX1_lay.data.toList.drop 23 = dktX1_lay_1 := dk_seg dksX1_lay_0 23 rfl rfl
theorem dksX1_lay_2 : cX1_lay.data.toList.drop 47 = dktX1_lay_2 := dk_seg dksX1_lay_1 24 rfl rfl
theorem dksX1_lay_3 : cX1_lay.data.toList.drop 69 = dktX1_lay_3 := dk_seg dksX1_lay_2 22 rfl rfl
theorem dksX1_lay_4 : cX1_lay.data.toList.drop 93 = dktX1_lay_4 := dk_seg dksX1_lay_3 24 rfl rfl
theorem dksX1_lay_5 : cX1_lay.data.toList.drop 116 = dktX1_lay_5 := dk_seg dksX1_lay_4 23 rfl rfl
theorem dksX1_lay_6 : cX1_lay.data.toList.drop 140 = dktX1_lay_6 := dk_seg dksX1_lay_5 24 rfl rfl
theorem dksX1_lay_7 : cX1_lay.data.toList.drop 164 = dktX1_lay_7 := dk_seg dksX1_lay_6 24 rfl rfl
theorem dksX1_lay_8 : cX1_lay.data.toList.drop 188 = dktX1_lay_8 := dk_seg dksX1_lay_7 24 rfl rfl
theorem dksX1_lay_9 : cX1_lay.data.toList.drop 212 = dktX1_lay_9 := dk_seg dksX1_lay_8 24 rfl rfl
theorem dksX1_lay_10 : cX1_lay.data.toList.drop 235 = dktX1_lay_10 := dk_seg dksX1_lay_9 23 rfl rfl
theorem dksX1_lay_11 : cX1_lay.data.toList.drop 259 = dktX1_lay_11 := dk_seg dksX1_lay_10 24 rfl rfl
theorem dksX1_lay_12 : cX1_lay.data.toList.drop 283 = dktX1_lay_12 := dk_seg dksX1_lay_11 24 rfl rfl
theorem dksX1_lay_13 : cX1_lay.data.toList.drop 307 = dktX1_lay_13 := dk_seg dksX1_lay_12 24 rfl rfl
theorem dksX1_lay_14 : cX1_lay.data.toList.drop 331 = dktX1_lay_14 := dk_seg dksX1_lay_13 24 rfl rfl
theorem dX1_lay_0 : decode cX1_lay 0 = .ok (.aload_n 0, 1) := dk_42 (dk_at dksX1_lay_0 0 rfl rfl)
theorem dX1_lay_1 : decode cX1_lay 1 = .ok (.getfield 25, 3) := dk_180 0 25 (dk_at dksX1_lay_0 1 rfl rfl)
theorem dX1_lay_4 : decode cX1_lay 4 = .ok (.getfield 44, 3) := dk_180 0 44 (dk_at dksX1_lay_0 4 rfl rfl)
theorem dX1_lay_7 : decode cX1_lay 7 = .ok (.iload_n 1, 1) := dk_27 (dk_at dksX1_lay_0 7 rfl rfl)
theorem dX1_lay_8 : decode cX1_lay 8 = .ok (.iaload, 1) := dk_46 (dk_at dksX1_lay_0 8 rfl rfl)
theorem dX1_lay_9 : decode cX1_lay 9 = .ok (.istore_n 3, 1) := dk_62 (dk_at dksX1_lay_0 9 rfl rfl)
theorem dX1_lay_10 : decode cX1_lay 10 = .ok (.aload_n 0, 1) := dk_42 (dk_at dksX1_lay_0 10 rfl rfl)
theorem dX1_lay_11 : decode cX1_lay 11 = .ok (.getfield 29, 3) := dk_180 0 29 (dk_at dksX1_lay_0 11 rfl rfl)
theorem dX1_lay_14 : decode cX1_lay 14 = .ok (.getfield 44, 3) := dk_180 0 44 (dk_at dksX1_lay_0 14 rfl rfl)
theorem dX1_lay_17 : decode cX1_lay 17 = .ok (.iload_n 2, 1) := dk_28 (dk_at dksX1_lay_0 17 rfl rfl)
theorem dX1_lay_18 : decode cX1_lay 18 = .ok (.iaload, 1) := dk_46 (dk_at dksX1_lay_0 18 rfl rfl)
theorem dX1_lay_19 : decode cX1_lay 19 = .ok (.istore 4, 2) := dk_54 4 (dk_at dksX1_lay_0 19 rfl rfl)
theorem dX1_lay_21 : decode cX1_lay 21 = .ok (.bipush 16, 2) := dk_16 16 (dk_at dksX1_lay_0 21 rfl rfl)
theorem dX1_lay_23 : decode cX1_lay 23 = .ok (.istore 5, 2) := dk_54 5 (dk_at dksX1_lay_1 0 rfl rfl)
theorem dX1_lay_25 : decode cX1_lay 25 = .ok (.aload_n 0, 1) := dk_42 (dk_at dksX1_lay_1 2 rfl rfl)
theorem dX1_lay_26 : decode cX1_lay 26 = .ok (.getfield 19, 3) := dk_180 0 19 (dk_at dksX1_lay_1 3 rfl rfl)
theorem dX1_lay_29 : decode cX1_lay 29 = .ok (.iconst 0, 1) := dk_3 (dk_at dksX1_lay_1 6 rfl rfl)
theorem dX1_lay_30 : decode cX1_lay 30 = .ok (.iconst 0, 1) := dk_3 (dk_at dksX1_lay_1 7 rfl rfl)
theorem dX1_lay_31 : decode cX1_lay 31 = .ok (.iastore, 1) := dk_79 (dk_at dksX1_lay_1 8 rfl rfl)
theorem dX1_lay_32 : decode cX1_lay 32 = .ok (.iload_n 3, 1) := dk_29 (dk_at dksX1_lay_1 9 rfl rfl)
theorem dX1_lay_33 : decode cX1_lay 33 = .ok (.istore 6, 2) := dk_54 6 (dk_at dksX1_lay_1 10 rfl rfl)
theorem dX1_lay_35 : decode cX1_lay 35 = .ok (.iload 6, 2) := dk_21 6 (dk_at dksX1_lay_1 12 rfl rfl)
theorem dX1_lay_37 : decode cX1_lay 37 = .ok (.iload_n 1, 1) := dk_27 (dk_at dksX1_lay_1 14 rfl rfl)
theorem dX1_lay_38 : decode cX1_lay 38 = .ok (.if_icmp .gt 37, 3) := dk_163 0 37 (dk_at dksX1_lay_1 15 rfl rfl)
theorem dX1_lay_41 : decode cX1_lay 41 = .ok (.aload_n 0, 1) := dk_42 (dk_at dksX1_lay_1 18 rfl rfl)
theorem dX1_lay_42 : decode cX1_lay 42 = .ok (.getfield 19, 3) := dk_180 0 19 (dk_at dksX1_lay_1 19 rfl rfl)
theorem dX1_lay_45 : decode cX1_lay 45 = .ok (.iload 5, 2) := dk_21 5 (dk_at dksX1_lay_1 22 rfl rfl)
theorem dX1_lay_47 : decode cX1_lay 47 = .ok (.iload 6, 2) := dk_21 6 (dk_at dksX1_lay_2 0 rfl rfl)
theorem dX1_lay_49 : decode cX1_lay 49 = .ok (.iload_n 3, 1) := dk_29 (dk_at dksX1_lay_2 2 rfl rfl)
theorem dX1_lay_50 : decode cX1_lay 50 = .ok (.isub, 1) := dk_100 (dk_at dksX1_lay_2 3 rfl rfl)
theorem dX1_lay_51 : decode cX1_lay 51 = .ok (.iconst 1, 1) := dk_4 (dk_at dksX1_lay_2 4 rfl rfl)
theorem dX1_lay_52 : decode cX1_lay 52 = .ok (.iadd, 1) := dk_96 (dk_at dksX1_lay_2 5 rfl rfl)
theorem dX1_lay_53 : decode cX1_lay 53 = .ok (.imul, 1) := dk_104 (dk_at dksX1_lay_2 6 rfl rfl)
theorem dX1_lay_54 : decode cX1_lay 54 = .ok (.aload_n 0, 1) := dk_42 (dk_at dksX1_lay_2 7 rfl rfl)
theorem dX1_lay_55 : decode cX1_lay 55 = .ok (.getfield 19, 3) := dk_180 0 19 (dk_at dksX1_lay_2 8 rfl rfl)
theorem dX1_lay_58 : decode cX1_lay 58 = .ok (.iload 5, 2) := dk_21 5 (dk_at dksX1_lay_2 11 rfl rfl)
theorem dX1_lay_60 : decode cX1_lay 60 = .ok (.iload 6, 2) := dk_21 6 (dk_at dksX1_lay_2 13 rfl rfl)
theorem dX1_lay_62 : decode cX1_lay 62 = .ok (.iload_n 3, 1) := dk_29 (dk_at dksX1_lay_2 15 rfl rfl)
theorem dX1_lay_63 : decode cX1_lay 63 = .ok (.isub, 1) := dk_100 (dk_at dksX1_lay_2 16 rfl rfl)
theorem dX1_lay_64 : decode cX1_lay 64 = .ok (.imul, 1) := dk_104 (dk_at dksX1_lay_2 17 rfl rfl)
theorem dX1_lay_65 : decode cX1_lay 65 = .ok (.iaload, 1) := dk_46 (dk_at dksX1_lay_2 18 rfl rfl)
theorem dX1_lay_66 : decode cX1_lay 66 = .ok (.iconst 2, 1) := dk_5 (dk_at dksX1_lay_2 19 rfl rfl)
theorem dX1_lay_67 : decode cX1_lay 67 = .ok (.iadd, 1) := dk_96 (dk_at dksX1_lay_2 20 rfl rfl)
theorem dX1_lay_68 : decode cX1_lay 68 = .ok (.iastore, 1) := dk_79 (dk_at dksX1_lay_2 21 rfl rfl)
theorem dX1_lay_69 : decode cX1_lay 69 = .ok (.iinc 6 1, 3) := dk_132 6 1 (dk_at dksX1_lay_3 0 rfl rfl)
theorem dX1_lay_72 : decode cX1_lay 72 = .ok (.goto (-37), 3) := dk_167 255 219 (dk_at dksX1_lay_3 3 rfl rfl)
theorem dX1_lay_75 : decode cX1_lay 75 = .ok (.iload 4, 2) := dk_21 4 (dk_at dksX1_lay_3 6 rfl rfl)
theorem dX1_lay_77 : decode cX1_lay 77 = .ok (.istore 6, 2) := dk_54 6 (dk_at dksX1_lay_3 8 rfl rfl)
theorem dX1_lay_79 : decode cX1_lay 79 = .ok (.iload 6, 2) := dk_21 6 (dk_at dksX1_lay_3 10 rfl rfl)
theorem dX1_lay_81 : decode cX1_lay 81 = .ok (.iload_n 2, 1) := dk_28 (dk_at dksX1_lay_3 12 rfl rfl)
theorem dX1_lay_82 : decode cX1_lay 82 = .ok (.if_icmp .gt 33, 3) := dk_163 0 33 (dk_at dksX1_lay_3 13 rfl rfl)
theorem dX1_lay_85 : decode cX1_lay 85 = .ok (.aload_n 0, 1) := dk_42 (dk_at dksX1_lay_3 16 rfl rfl)
theorem dX1_lay_86 : decode cX1_lay 86 = .ok (.getfield 19, 3) := dk_180 0 19 (dk_at dksX1_lay_3 17 rfl rfl)
theorem dX1_lay_89 : decode cX1_lay 89 = .ok (.iload 6, 2) := dk_21 6 (dk_at dksX1_lay_3 20 rfl rfl)
theorem dX1_lay_91 : decode cX1_lay 91 = .ok (.iload 4, 2) := dk_21 4 (dk_at dksX1_lay_3 22 rfl rfl)
theorem dX1_lay_93 : decode cX1_lay 93 = .ok (.isub, 1) := dk_100 (dk_at dksX1_lay_4 0 rfl rfl)
theorem dX1_lay_94 : decode cX1_lay 94 = .ok (.iconst 1, 1) := dk_4 (dk_at dksX1_lay_4 1 rfl rfl)
theorem dX1_lay_95 : decode cX1_lay 95 = .ok (.iadd, 1) := dk_96 (dk_at dksX1_lay_4 2 rfl rfl)
theorem dX1_lay_96 : decode cX1_lay 96 = .ok (.aload_n 0, 1) := dk_42 (dk_at dksX1_lay_4 3 rfl rfl)
theorem dX1_lay_97 : decode cX1_lay 97 = .ok (.getfield 19, 3) := dk_180 0 19 (dk_at dksX1_lay_4 4 rfl rfl)
theorem dX1_lay_100 : decode cX1_lay 100 = .ok (.iload 6, 2) := dk_21 6 (dk_at dksX1_lay_4 7 rfl rfl)
theorem dX1_lay_102 : decode cX1_lay 102 = .ok (.iload 4, 2) := dk_21 4 (dk_at dksX1_lay_4 9 rfl rfl)
theorem dX1_lay_104 : decode cX1_lay 104 = .ok (.isub, 1) := dk_100 (dk_at dksX1_lay_4 11 rfl rfl)
theorem dX1_lay_105 : decode cX1_lay 105 = .ok (.iaload, 1) := dk_46 (dk_at dksX1_lay_4 12 rfl rfl)
theorem dX1_lay_106 : decode cX1_lay 106 = .ok (.iconst 2, 1) := dk_5 (dk_at dksX1_lay_4 13 rfl rfl)
theorem dX1_lay_107 : decode cX1_lay 107 = .ok (.iadd, 1) := dk_96 (dk_at dksX1_lay_4 14 rfl rfl)
theorem dX1_lay_108 : decode cX1_lay 108 = .ok (.iastore, 1) := dk_79 (dk_at dksX1_lay_4 15 rfl rfl)
theorem dX1_lay_109 : decode cX1_lay 109 = .ok (.iinc 6 1, 3) := dk_132 6 1 (dk_at dksX1_lay_4 16 rfl rfl)
theorem dX1_lay_112 : decode cX1_lay 112 = .ok (.goto (-33), 3) := dk_167 255 223 (dk_at dksX1_lay_4 19 rfl rfl)
theorem dX1_lay_115 : decode cX1_lay 115 = .ok (.iload_n 3, 1) := dk_29 (dk_at dksX1_lay_4 22 rfl rfl)
theorem dX1_lay_116 : decode cX1_lay 116 = .ok (.istore 6, 2) := dk_54 6 (dk_at dksX1_lay_5 0 rfl rfl)
theorem dX1_lay_118 : decode cX1_lay 118 = .ok (.iload 6, 2) := dk_21 6 (dk_at dksX1_lay_5 2 rfl rfl)
theorem dX1_lay_120 : decode cX1_lay 120 = .ok (.iload_n 1, 1) := dk_27 (dk_at dksX1_lay_5 4 rfl rfl)
theorem dX1_lay_121 : decode cX1_lay 121 = .ok (.if_icmp .gt 226, 3) := dk_163 0 226 (dk_at dksX1_lay_5 5 rfl rfl)
theorem dX1_lay_124 : decode cX1_lay 124 = .ok (.iload 4, 2) := dk_21 4 (dk_at dksX1_lay_5 8 rfl rfl)
theorem dX1_lay_126 : decode cX1_lay 126 = .ok (.istore 7, 2) := dk_54 7 (dk_at dksX1_lay_5 10 rfl rfl)
theorem dX1_lay_128 : decode cX1_lay 128 = .ok (.iload 7, 2) := dk_21 7 (dk_at dksX1_lay_5 12 rfl rfl)
theorem dX1_lay_130 : decode cX1_lay 130 = .ok (.iload_n 2, 1) := dk_28 (dk_at dksX1_lay_5 14 rfl rfl)
theorem dX1_lay_131 : decode cX1_lay 131 = .ok (.if_icmp .gt 210, 3) := dk_163 0 210 (dk_at dksX1_lay_5 15 rfl rfl)
theorem dX1_lay_134 : decode cX1_lay 134 = .ok (.iload 5, 2) := dk_21 5 (dk_at dksX1_lay_5 18 rfl rfl)
theorem dX1_lay_136 : decode cX1_lay 136 = .ok (.iload 6, 2) := dk_21 6 (dk_at dksX1_lay_5 20 rfl rfl)
theorem dX1_lay_138 : decode cX1_lay 138 = .ok (.iload_n 3, 1) := dk_29 (dk_at dksX1_lay_5 22 rfl rfl)
theorem dX1_lay_139 : decode cX1_lay 139 = .ok (.isub, 1) := dk_100 (dk_at dksX1_lay_5 23 rfl rfl)
theorem dX1_lay_140 : decode cX1_lay 140 = .ok (.iconst 1, 1) := dk_4 (dk_at dksX1_lay_6 0 rfl rfl)
theorem dX1_lay_141 : decode cX1_lay 141 = .ok (.iadd, 1) := dk_96 (dk_at dksX1_lay_6 1 rfl rfl)
theorem dX1_lay_142 : decode cX1_lay 142 = .ok (.imul, 1) := dk_104 (dk_at dksX1_lay_6 2 rfl rfl)
theorem dX1_lay_143 : decode cX1_lay 143 = .ok (.iload 7, 2) := dk_21 7 (dk_at dksX1_lay_6 3 rfl rfl)
theorem dX1_lay_145 : decode cX1_lay 145 = .ok (.iadd, 1) := dk_96 (dk_at dksX1_lay_6 5 rfl rfl)
theorem dX1_lay_146 : decode cX1_lay 146 = .ok (.iload 4, 2) := dk_21 4 (dk_at dksX1_lay_6 6 rfl rfl)
theorem dX1_lay_148 : decode cX1_lay 148 = .ok (.isub, 1) := dk_100 (dk_at dksX1_lay_6 8 rfl rfl)
theorem dX1_lay_149 : decode cX1_lay 149 = .ok (.iconst 1, 1) := dk_4 (dk_at dksX1_lay_6 9 rfl rfl)
theorem dX1_lay_150 : decode cX1_lay 150 = .ok (.iadd, 1) := dk_96 (dk_at dksX1_lay_6 10 rfl rfl)
theorem dX1_lay_151 : decode cX1_lay 151 = .ok (.istore 8, 2) := dk_54 8 (dk_at dksX1_lay_6 11 rfl rfl)
theorem dX1_lay_153 : decode cX1_lay 153 = .ok (.aload_n 0, 1) := dk_42 (dk_at dksX1_lay_6 13 rfl rfl)
theorem dX1_lay_154 : decode cX1_lay 154 = .ok (.getfield 19, 3) := dk_180 0 19 (dk_at dksX1_lay_6 14 rfl rfl)
theorem dX1_lay_157 : decode cX1_lay 157 = .ok (.iload 8, 2) := dk_21 8 (dk_at dksX1_lay_6 17 rfl rfl)
theorem dX1_lay_159 : decode cX1_lay 159 = .ok (.iload 5, 2) := dk_21 5 (dk_at dksX1_lay_6 19 rfl rfl)
theorem dX1_lay_161 : decode cX1_lay 161 = .ok (.isub, 1) := dk_100 (dk_at dksX1_lay_6 21 rfl rfl)
theorem dX1_lay_162 : decode cX1_lay 162 = .ok (.iaload, 1) := dk_46 (dk_at dksX1_lay_6 22 rfl rfl)
theorem dX1_lay_163 : decode cX1_lay 163 = .ok (.aload_n 0, 1) := dk_42 (dk_at dksX1_lay_6 23 rfl rfl)
theorem dX1_lay_164 : decode cX1_lay 164 = .ok (.getfield 19, 3) := dk_180 0 19 (dk_at dksX1_lay_7 0 rfl rfl)
theorem dX1_lay_167 : decode cX1_lay 167 = .ok (.iload 8, 2) := dk_21 8 (dk_at dksX1_lay_7 3 rfl rfl)
theorem dX1_lay_169 : decode cX1_lay 169 = .ok (.iconst 1, 1) := dk_4 (dk_at dksX1_lay_7 5 rfl rfl)
theorem dX1_lay_170 : decode cX1_lay 170 = .ok (.isub, 1) := dk_100 (dk_at dksX1_lay_7 6 rfl rfl)
theorem dX1_lay_171 : decode cX1_lay 171 = .ok (.iaload, 1) := dk_46 (dk_at dksX1_lay_7 7 rfl rfl)
theorem dX1_lay_172 : decode cX1_lay 172 = .ok (.invokestatic 54, 3) := dk_184 0 54 (dk_at dksX1_lay_7 8 rfl rfl)
theorem dX1_lay_175 : decode cX1_lay 175 = .ok (.iconst 2, 1) := dk_5 (dk_at dksX1_lay_7 11 rfl rfl)
theorem dX1_lay_176 : decode cX1_lay 176 = .ok (.iadd, 1) := dk_96 (dk_at dksX1_lay_7 12 rfl rfl)
theorem dX1_lay_177 : decode cX1_lay 177 = .ok (.istore 9, 2) := dk_54 9 (dk_at dksX1_lay_7 13 rfl rfl)
theorem dX1_lay_179 : decode cX1_lay 179 = .ok (.aload_n 0, 1) := dk_42 (dk_at dksX1_lay_7 15 rfl rfl)
theorem dX1_lay_180 : decode cX1_lay 180 = .ok (.getfield 25, 3) := dk_180 0 25 (dk_at dksX1_lay_7 16 rfl rfl)
theorem dX1_lay_183 : decode cX1_lay 183 = .ok (.getfield 44, 3) := dk_180 0 44 (dk_at dksX1_lay_7 19 rfl rfl)
theorem dX1_lay_186 : decode cX1_lay 186 = .ok (.iload 6, 2) := dk_21 6 (dk_at dksX1_lay_7 22 rfl rfl)
theorem dX1_lay_188 : decode cX1_lay 188 = .ok (.iaload, 1) := dk_46 (dk_at dksX1_lay_8 0 rfl rfl)
theorem dX1_lay_189 : decode cX1_lay 189 = .ok (.iload_n 3, 1) := dk_29 (dk_at dksX1_lay_8 1 rfl rfl)
theorem dX1_lay_190 : decode cX1_lay 190 = .ok (.if_icmp .ne 22, 3) := dk_160 0 22 (dk_at dksX1_lay_8 2 rfl rfl)
theorem dX1_lay_193 : decode cX1_lay 193 = .ok (.aload_n 0, 1) := dk_42 (dk_at dksX1_lay_8 5 rfl rfl)
theorem dX1_lay_194 : decode cX1_lay 194 = .ok (.getfield 29, 3) := dk_180 0 29 (dk_at dksX1_lay_8 6 rfl rfl)
theorem dX1_lay_197 : decode cX1_lay 197 = .ok (.getfield 44, 3) := dk_180 0 44 (dk_at dksX1_lay_8 9 rfl rfl)
theorem dX1_lay_200 : decode cX1_lay 200 = .ok (.iload 7, 2) := dk_21 7 (dk_at dksX1_lay_8 12 rfl rfl)
theorem dX1_lay_202 : decode cX1_lay 202 = .ok (.iaload, 1) := dk_46 (dk_at dksX1_lay_8 14 rfl rfl)
theorem dX1_lay_203 : decode cX1_lay 203 = .ok (.iload 4, 2) := dk_21 4 (dk_at dksX1_lay_8 15 rfl rfl)
theorem dX1_lay_205 : decode cX1_lay 205 = .ok (.if_icmp .ne 7, 3) := dk_160 0 7 (dk_at dksX1_lay_8 17 rfl rfl)
theorem dX1_lay_208 : decode cX1_lay 208 = .ok (.iconst 1, 1) := dk_4 (dk_at dksX1_lay_8 20 rfl rfl)
theorem dX1_lay_209 : decode cX1_lay 209 = .ok (.goto 4, 3) := dk_167 0 4 (dk_at dksX1_lay_8 21 rfl rfl)
theorem dX1_lay_212 : decode cX1_lay 212 = .ok (.iconst 0, 1) := dk_3 (dk_at dksX1_lay_9 0 rfl rfl)
theorem dX1_lay_213 : decode cX1_lay 213 = .ok (.istore 10, 2) := dk_54 10 (dk_at dksX1_lay_9 1 rfl rfl)
theorem dX1_lay_215 : decode cX1_lay 215 = .ok (.iload 10, 2) := dk_21 10 (dk_at dksX1_lay_9 3 rfl rfl)
theorem dX1_lay_217 : decode cX1_lay 217 = .ok (.ifCond .eq 34, 3) := dk_153 0 34 (dk_at dksX1_lay_9 5 rfl rfl)
theorem dX1_lay_220 : decode cX1_lay 220 = .ok (.iload 9, 2) := dk_21 9 (dk_at dksX1_lay_9 8 rfl rfl)
theorem dX1_lay_222 : decode cX1_lay 222 = .ok (.aload_n 0, 1) := dk_42 (dk_at dksX1_lay_9 10 rfl rfl)
theorem dX1_lay_223 : decode cX1_lay 223 = .ok (.getfield 19, 3) := dk_180 0 19 (dk_at dksX1_lay_9 11 rfl rfl)
theorem dX1_lay_226 : decode cX1_lay 226 = .ok (.iload 8, 2) := dk_21 8 (dk_at dksX1_lay_9 14 rfl rfl)
theorem dX1_lay_228 : decode cX1_lay 228 = .ok (.iload 5, 2) := dk_21 5 (dk_at dksX1_lay_9 16 rfl rfl)
theorem dX1_lay_230 : decode cX1_lay 230 = .ok (.isub, 1) := dk_100 (dk_at dksX1_lay_9 18 rfl rfl)
theorem dX1_lay_231 : decode cX1_lay 231 = .ok (.iconst 1, 1) := dk_4 (dk_at dksX1_lay_9 19 rfl rfl)
theorem dX1_lay_232 : decode cX1_lay 232 = .ok (.isub, 1) := dk_100 (dk_at dksX1_lay_9 20 rfl rfl)
theorem dX1_lay_233 : decode cX1_lay 233 = .ok (.iaload, 1) := dk_46 (dk_at dksX1_lay_9 21 rfl rfl)
theorem dX1_lay_234 : decode cX1_lay 234 = .ok (.aload_n 0, 1) := dk_42 (dk_at dksX1_lay_9 22 rfl rfl)
theorem dX1_lay_235 : decode cX1_lay 235 = .ok (.iload 6, 2) := dk_21 6 (dk_at dksX1_lay_10 0 rfl rfl)
theorem dX1_lay_237 : decode cX1_lay 237 = .ok (.iload 7, 2) := dk_21 7 (dk_at dksX1_lay_10 2 rfl rfl)
theorem dX1_lay_239 : decode cX1_lay 239 = .ok (.invokevirtual 60, 3) := dk_182 0 60 (dk_at dksX1_lay_10 4 rfl rfl)
theorem dX1_lay_242 : decode cX1_lay 242 = .ok (.iadd, 1) := dk_96 (dk_at dksX1_lay_10 7 rfl rfl)
theorem dX1_lay_243 : decode cX1_lay 243 = .ok (.invokestatic 54, 3) := dk_184 0 54 (dk_at dksX1_lay_10 8 rfl rfl)
theorem dX1_lay_246 : decode cX1_lay 246 = .ok (.istore 9, 2) := dk_54 9 (dk_at dksX1_lay_10 11 rfl rfl)
theorem dX1_lay_248 : decode cX1_lay 248 = .ok (.goto 58, 3) := dk_167 0 58 (dk_at dksX1_lay_10 13 rfl rfl)
theorem dX1_lay_251 : decode cX1_lay 251 = .ok (.iload 9, 2) := dk_21 9 (dk_at dksX1_lay_10 16 rfl rfl)
theorem dX1_lay_253 : decode cX1_lay 253 = .ok (.aload_n 0, 1) := dk_42 (dk_at dksX1_lay_10 18 rfl rfl)
theorem dX1_lay_254 : decode cX1_lay 254 = .ok (.getfield 19, 3) := dk_180 0 19 (dk_at dksX1_lay_10 19 rfl rfl)
theorem dX1_lay_257 : decode cX1_lay 257 = .ok (.iload 5, 2) := dk_21 5 (dk_at dksX1_lay_10 22 rfl rfl)
theorem dX1_lay_259 : decode cX1_lay 259 = .ok (.aload_n 0, 1) := dk_42 (dk_at dksX1_lay_11 0 rfl rfl)
theorem dX1_lay_260 : decode cX1_lay 260 = .ok (.getfield 25, 3) := dk_180 0 25 (dk_at dksX1_lay_11 1 rfl rfl)
theorem dX1_lay_263 : decode cX1_lay 263 = .ok (.getfield 44, 3) := dk_180 0 44 (dk_at dksX1_lay_11 4 rfl rfl)
theorem dX1_lay_266 : decode cX1_lay 266 = .ok (.iload 6, 2) := dk_21 6 (dk_at dksX1_lay_11 7 rfl rfl)
theorem dX1_lay_268 : decode cX1_lay 268 = .ok (.iaload, 1) := dk_46 (dk_at dksX1_lay_11 9 rfl rfl)
theorem dX1_lay_269 : decode cX1_lay 269 = .ok (.iload_n 3, 1) := dk_29 (dk_at dksX1_lay_11 10 rfl rfl)
theorem dX1_lay_270 : decode cX1_lay 270 = .ok (.isub, 1) := dk_100 (dk_at dksX1_lay_11 11 rfl rfl)
theorem dX1_lay_271 : decode cX1_lay 271 = .ok (.imul, 1) := dk_104 (dk_at dksX1_lay_11 12 rfl rfl)
theorem dX1_lay_272 : decode cX1_lay 272 = .ok (.aload_n 0, 1) := dk_42 (dk_at dksX1_lay_11 13 rfl rfl)
theorem dX1_lay_273 : decode cX1_lay 273 = .ok (.getfield 29, 3) := dk_180 0 29 (dk_at dksX1_lay_11 14 rfl rfl)
theorem dX1_lay_276 : decode cX1_lay 276 = .ok (.getfield 44, 3) := dk_180 0 44 (dk_at dksX1_lay_11 17 rfl rfl)
theorem dX1_lay_279 : decode cX1_lay 279 = .ok (.iload 7, 2) := dk_21 7 (dk_at dksX1_lay_11 20 rfl rfl)
theorem dX1_lay_281 : decode cX1_lay 281 = .ok (.iaload, 1) := dk_46 (dk_at dksX1_lay_11 22 rfl rfl)
theorem dX1_lay_282 : decode cX1_lay 282 = .ok (.iadd, 1) := dk_96 (dk_at dksX1_lay_11 23 rfl rfl)
theorem dX1_lay_283 : decode cX1_lay 283 = .ok (.iload 4, 2) := dk_21 4 (dk_at dksX1_lay_12 0 rfl rfl)
theorem dX1_lay_285 : decode cX1_lay 285 = .ok (.isub, 1) := dk_100 (dk_at dksX1_lay_12 2 rfl rfl)
theorem dX1_lay_286 : decode cX1_lay 286 = .ok (.iaload, 1) := dk_46 (dk_at dksX1_lay_12 3 rfl rfl)
theorem dX1_lay_287 : decode cX1_lay 287 = .ok (.aload_n 0, 1) := dk_42 (dk_at dksX1_lay_12 4 rfl rfl)
theorem dX1_lay_288 : decode cX1_lay 288 = .ok (.getfield 15, 3) := dk_180 0 15 (dk_at dksX1_lay_12 5 rfl rfl)
theorem dX1_lay_291 : decode cX1_lay 291 = .ok (.bipush 15, 2) := dk_16 15 (dk_at dksX1_lay_12 8 rfl rfl)
theorem dX1_lay_293 : decode cX1_lay 293 = .ok (.iload 6, 2) := dk_21 6 (dk_at dksX1_lay_12 10 rfl rfl)
theorem dX1_lay_295 : decode cX1_lay 295 = .ok (.imul, 1) := dk_104 (dk_at dksX1_lay_12 12 rfl rfl)
theorem dX1_lay_296 : decode cX1_lay 296 = .ok (.iload 7, 2) := dk_21 7 (dk_at dksX1_lay_12 13 rfl rfl)
theorem dX1_lay_298 : decode cX1_lay 298 = .ok (.iadd, 1) := dk_96 (dk_at dksX1_lay_12 15 rfl rfl)
theorem dX1_lay_299 : decode cX1_lay 299 = .ok (.iaload, 1) := dk_46 (dk_at dksX1_lay_12 16 rfl rfl)
theorem dX1_lay_300 : decode cX1_lay 300 = .ok (.iadd, 1) := dk_96 (dk_at dksX1_lay_12 17 rfl rfl)
theorem dX1_lay_301 : decode cX1_lay 301 = .ok (.invokestatic 54, 3) := dk_184 0 54 (dk_at dksX1_lay_12 18 rfl rfl)
theorem dX1_lay_304 : decode cX1_lay 304 = .ok (.istore 9, 2) := dk_54 9 (dk_at dksX1_lay_12 21 rfl rfl)
theorem dX1_lay_306 : decode cX1_lay 306 = .ok (.aload_n 0, 1) := dk_42 (dk_at dksX1_lay_12 23 rfl rfl)
theorem dX1_lay_307 : decode cX1_lay 307 = .ok (.getfield 19, 3) := dk_180 0 19 (dk_at dksX1_lay_13 0 rfl rfl)
theorem dX1_lay_310 : decode cX1_lay 310 = .ok (.iload 8, 2) := dk_21 8 (dk_at dksX1_lay_13 3 rfl rfl)
theorem dX1_lay_312 : decode cX1_lay 312 = .ok (.iload 9, 2) := dk_21 9 (dk_at dksX1_lay_13 5 rfl rfl)
theorem dX1_lay_314 : decode cX1_lay 314 = .ok (.iastore, 1) := dk_79 (dk_at dksX1_lay_13 7 rfl rfl)
theorem dX1_lay_315 : decode cX1_lay 315 = .ok (.iload 10, 2) := dk_21 10 (dk_at dksX1_lay_13 8 rfl rfl)
theorem dX1_lay_317 : decode cX1_lay 317 = .ok (.ifCond .eq 18, 3) := dk_153 0 18 (dk_at dksX1_lay_13 10 rfl rfl)
theorem dX1_lay_320 : decode cX1_lay 320 = .ok (.aload_n 0, 1) := dk_42 (dk_at dksX1_lay_13 13 rfl rfl)
theorem dX1_lay_321 : decode cX1_lay 321 = .ok (.getfield 15, 3) := dk_180 0 15 (dk_at dksX1_lay_13 14 rfl rfl)
theorem dX1_lay_324 : decode cX1_lay 324 = .ok (.bipush 15, 2) := dk_16 15 (dk_at dksX1_lay_13 17 rfl rfl)
theorem dX1_lay_326 : decode cX1_lay 326 = .ok (.iload 6, 2) := dk_21 6 (dk_at dksX1_lay_13 19 rfl rfl)
theorem dX1_lay_328 : decode cX1_lay 328 = .ok (.imul, 1) := dk_104 (dk_at dksX1_lay_13 21 rfl rfl)
theorem dX1_lay_329 : decode cX1_lay 329 = .ok (.iload 7, 2) := dk_21 7 (dk_at dksX1_lay_13 22 rfl rfl)
theorem dX1_lay_331 : decode cX1_lay 331 = .ok (.iadd, 1) := dk_96 (dk_at dksX1_lay_14 0 rfl rfl)
theorem dX1_lay_332 : decode cX1_lay 332 = .ok (.iload 9, 2) := dk_21 9 (dk_at dksX1_lay_14 1 rfl rfl)
theorem dX1_lay_334 : decode cX1_lay 334 = .ok (.iastore, 1) := dk_79 (dk_at dksX1_lay_14 3 rfl rfl)
theorem dX1_lay_335 : decode cX1_lay 335 = .ok (.iinc 7 1, 3) := dk_132 7 1 (dk_at dksX1_lay_14 4 rfl rfl)
theorem dX1_lay_338 : decode cX1_lay 338 = .ok (.goto (-210), 3) := dk_167 255 46 (dk_at dksX1_lay_14 7 rfl rfl)
theorem dX1_lay_341 : decode cX1_lay 341 = .ok (.iinc 6 1, 3) := dk_132 6 1 (dk_at dksX1_lay_14 10 rfl rfl)
theorem dX1_lay_344 : decode cX1_lay 344 = .ok (.goto (-226), 3) := dk_167 255 30 (dk_at dksX1_lay_14 13 rfl rfl)
theorem dX1_lay_347 : decode cX1_lay 347 = .ok (.return_, 1) := dk_177 (dk_at dksX1_lay_14 16 rfl rfl)
abbrev cX1_turn : ByteArray := prog_15_method_4_code
def yX1_turn : MethodName := ⟨RX1, "turn", "(II)I"⟩
def dkwX1_turn_4 : List UInt8 := [180, 0, 29, 180, 0, 51, 28, 46, 159, 0, 7, 4, 167, 0, 4, 3, 96, 172]
abbrev dktX1_turn_4 : List UInt8 := dkwX1_turn_4 ++ []
def dkwX1_turn_3 : List UInt8 := [180, 0, 47, 28, 46, 159, 0, 7, 6, 167, 0, 4, 3, 42, 180, 0, 25, 180, 0, 51, 27, 46, 42]
abbrev dktX1_turn_3 : List UInt8 := dkwX1_turn_3 ++ dktX1_turn_4
def dkwX1_turn_2 : List UInt8 := [160, 0, 7, 3, 167, 0, 5, 18, 50, 172, 42, 180, 0, 25, 180, 0, 47, 27, 46, 42, 180, 0, 29]
abbrev dktX1_turn_2 : List UInt8 := dkwX1_turn_2 ++ dktX1_turn_3
def dkwX1_turn_1 : List UInt8 := [16, 99, 160, 0, 31, 42, 180, 0, 25, 180, 0, 47, 27, 46, 42, 180, 0, 29, 180, 0, 47, 28, 46]
abbrev dktX1_turn_1 : List UInt8 := dkwX1_turn_1 ++ dktX1_turn_2
def dkwX1_turn_0 : List UInt8 := [42, 180, 0, 25, 180, 0, 47, 27, 46, 16, 99, 159, 0, 17, 42, 180, 0, 29, 180, 0, 47, 28, 46]
abbrev dktX1_turn_0 : List UInt8 := dkwX1_turn_0 ++ dktX1_turn_1
theorem dksX1_turn_0 : cX1_turn.data.toList.drop 0 = dktX1_turn_0 := by decide +kernel
theorem dksX1_turn_1 : cX1_turn.data.toList.drop 23 = dktX1_turn_1 := dk_seg dksX1_turn_0 23 rfl rfl
theorem dksX1_turn_2 : cX1_turn.data.toList.drop 46 = dktX1_turn_2 := dk_seg dksX1_turn_1 23 rfl rfl
theorem dksX1_turn_3 : cX1_turn.data.toList.drop 69 = dktX1_turn_3 := dk_seg dksX1_turn_2 23 rfl rfl
theorem dksX1_turn_4 : cX1_turn.data.toList.drop 92 = dktX1_turn_4 := dk_seg dksX1_turn_3 23 rfl rfl
theorem dX1_turn_0 : decode cX1_turn 0 = .ok (.aload_n 0, 1) := dk_42 (dk_at dksX1_turn_0 0 rfl rfl)
theorem dX1_turn_1 : decode cX1_turn 1 = .ok (.getfield 25, 3) := dk_180 0 25 (dk_at dksX1_turn_0 1 rfl rfl)
theorem dX1_turn_4 : decode cX1_turn 4 = .ok (.getfield 47, 3) := dk_180 0 47 (dk_at dksX1_turn_0 4 rfl rfl)
theorem dX1_turn_7 : decode cX1_turn 7 = .ok (.iload_n 1, 1) := dk_27 (dk_at dksX1_turn_0 7 rfl rfl)
theorem dX1_turn_8 : decode cX1_turn 8 = .ok (.iaload, 1) := dk_46 (dk_at dksX1_turn_0 8 rfl rfl)
theorem dX1_turn_9 : decode cX1_turn 9 = .ok (.bipush 99, 2) := dk_16 99 (dk_at dksX1_turn_0 9 rfl rfl)
theorem dX1_turn_11 : decode cX1_turn 11 = .ok (.if_icmp .eq 17, 3) := dk_159 0 17 (dk_at dksX1_turn_0 11 rfl rfl)
theorem dX1_turn_14 : decode cX1_turn 14 = .ok (.aload_n 0, 1) := dk_42 (dk_at dksX1_turn_0 14 rfl rfl)
theorem dX1_turn_15 : decode cX1_turn 15 = .ok (.getfield 29, 3) := dk_180 0 29 (dk_at dksX1_turn_0 15 rfl rfl)
theorem dX1_turn_18 : decode cX1_turn 18 = .ok (.getfield 47, 3) := dk_180 0 47 (dk_at dksX1_turn_0 18 rfl rfl)
theorem dX1_turn_21 : decode cX1_turn 21 = .ok (.iload_n 2, 1) := dk_28 (dk_at dksX1_turn_0 21 rfl rfl)
theorem dX1_turn_22 : decode cX1_turn 22 = .ok (.iaload, 1) := dk_46 (dk_at dksX1_turn_0 22 rfl rfl)
theorem dX1_turn_23 : decode cX1_turn 23 = .ok (.bipush 99, 2) := dk_16 99 (dk_at dksX1_turn_1 0 rfl rfl)
theorem dX1_turn_25 : decode cX1_turn 25 = .ok (.if_icmp .ne 31, 3) := dk_160 0 31 (dk_at dksX1_turn_1 2 rfl rfl)
theorem dX1_turn_28 : decode cX1_turn 28 = .ok (.aload_n 0, 1) := dk_42 (dk_at dksX1_turn_1 5 rfl rfl)
theorem dX1_turn_29 : decode cX1_turn 29 = .ok (.getfield 25, 3) := dk_180 0 25 (dk_at dksX1_turn_1 6 rfl rfl)
theorem dX1_turn_32 : decode cX1_turn 32 = .ok (.getfield 47, 3) := dk_180 0 47 (dk_at dksX1_turn_1 9 rfl rfl)
theorem dX1_turn_35 : decode cX1_turn 35 = .ok (.iload_n 1, 1) := dk_27 (dk_at dksX1_turn_1 12 rfl rfl)
theorem dX1_turn_36 : decode cX1_turn 36 = .ok (.iaload, 1) := dk_46 (dk_at dksX1_turn_1 13 rfl rfl)
theorem dX1_turn_37 : decode cX1_turn 37 = .ok (.aload_n 0, 1) := dk_42 (dk_at dksX1_turn_1 14 rfl rfl)
theorem dX1_turn_38 : decode cX1_turn 38 = .ok (.getfield 29, 3) := dk_180 0 29 (dk_at dksX1_turn_1 15 rfl rfl)
theorem dX1_turn_41 : decode cX1_turn 41 = .ok (.getfield 47, 3) := dk_180 0 47 (dk_at dksX1_turn_1 18 rfl rfl)
theorem dX1_turn_44 : decode cX1_turn 44 = .ok (.iload_n 2, 1) := dk_28 (dk_at dksX1_turn_1 21 rfl rfl)
theorem dX1_turn_45 : decode cX1_turn 45 = .ok (.iaload, 1) := dk_46 (dk_at dksX1_turn_1 22 rfl rfl)
theorem dX1_turn_46 : decode cX1_turn 46 = .ok (.if_icmp .ne 7, 3) := dk_160 0 7 (dk_at dksX1_turn_2 0 rfl rfl)
theorem dX1_turn_49 : decode cX1_turn 49 = .ok (.iconst 0, 1) := dk_3 (dk_at dksX1_turn_2 3 rfl rfl)
theorem dX1_turn_50 : decode cX1_turn 50 = .ok (.goto 5, 3) := dk_167 0 5 (dk_at dksX1_turn_2 4 rfl rfl)
theorem dX1_turn_53 : decode cX1_turn 53 = .ok (.ldc 50, 2) := dk_18 50 (dk_at dksX1_turn_2 7 rfl rfl)
theorem dX1_turn_55 : decode cX1_turn 55 = .ok (.ireturn, 1) := dk_172 (dk_at dksX1_turn_2 9 rfl rfl)
theorem dX1_turn_56 : decode cX1_turn 56 = .ok (.aload_n 0, 1) := dk_42 (dk_at dksX1_turn_2 10 rfl rfl)
theorem dX1_turn_57 : decode cX1_turn 57 = .ok (.getfield 25, 3) := dk_180 0 25 (dk_at dksX1_turn_2 11 rfl rfl)
theorem dX1_turn_60 : decode cX1_turn 60 = .ok (.getfield 47, 3) := dk_180 0 47 (dk_at dksX1_turn_2 14 rfl rfl)
theorem dX1_turn_63 : decode cX1_turn 63 = .ok (.iload_n 1, 1) := dk_27 (dk_at dksX1_turn_2 17 rfl rfl)
theorem dX1_turn_64 : decode cX1_turn 64 = .ok (.iaload, 1) := dk_46 (dk_at dksX1_turn_2 18 rfl rfl)
theorem dX1_turn_65 : decode cX1_turn 65 = .ok (.aload_n 0, 1) := dk_42 (dk_at dksX1_turn_2 19 rfl rfl)
theorem dX1_turn_66 : decode cX1_turn 66 = .ok (.getfield 29, 3) := dk_180 0 29 (dk_at dksX1_turn_2 20 rfl rfl)
theorem dX1_turn_69 : decode cX1_turn 69 = .ok (.getfield 47, 3) := dk_180 0 47 (dk_at dksX1_turn_3 0 rfl rfl)
theorem dX1_turn_72 : decode cX1_turn 72 = .ok (.iload_n 2, 1) := dk_28 (dk_at dksX1_turn_3 3 rfl rfl)
theorem dX1_turn_73 : decode cX1_turn 73 = .ok (.iaload, 1) := dk_46 (dk_at dksX1_turn_3 4 rfl rfl)
theorem dX1_turn_74 : decode cX1_turn 74 = .ok (.if_icmp .eq 7, 3) := dk_159 0 7 (dk_at dksX1_turn_3 5 rfl rfl)
theorem dX1_turn_77 : decode cX1_turn 77 = .ok (.iconst 3, 1) := dk_6 (dk_at dksX1_turn_3 8 rfl rfl)
theorem dX1_turn_78 : decode cX1_turn 78 = .ok (.goto 4, 3) := dk_167 0 4 (dk_at dksX1_turn_3 9 rfl rfl)
theorem dX1_turn_81 : decode cX1_turn 81 = .ok (.iconst 0, 1) := dk_3 (dk_at dksX1_turn_3 12 rfl rfl)
theorem dX1_turn_82 : decode cX1_turn 82 = .ok (.aload_n 0, 1) := dk_42 (dk_at dksX1_turn_3 13 rfl rfl)
theorem dX1_turn_83 : decode cX1_turn 83 = .ok (.getfield 25, 3) := dk_180 0 25 (dk_at dksX1_turn_3 14 rfl rfl)
theorem dX1_turn_86 : decode cX1_turn 86 = .ok (.getfield 51, 3) := dk_180 0 51 (dk_at dksX1_turn_3 17 rfl rfl)
theorem dX1_turn_89 : decode cX1_turn 89 = .ok (.iload_n 1, 1) := dk_27 (dk_at dksX1_turn_3 20 rfl rfl)
theorem dX1_turn_90 : decode cX1_turn 90 = .ok (.iaload, 1) := dk_46 (dk_at dksX1_turn_3 21 rfl rfl)
theorem dX1_turn_91 : decode cX1_turn 91 = .ok (.aload_n 0, 1) := dk_42 (dk_at dksX1_turn_3 22 rfl rfl)
theorem dX1_turn_92 : decode cX1_turn 92 = .ok (.getfield 29, 3) := dk_180 0 29 (dk_at dksX1_turn_4 0 rfl rfl)
theorem dX1_turn_95 : decode cX1_turn 95 = .ok (.getfield 51, 3) := dk_180 0 51 (dk_at dksX1_turn_4 3 rfl rfl)
theorem dX1_turn_98 : decode cX1_turn 98 = .ok (.iload_n 2, 1) := dk_28 (dk_at dksX1_turn_4 6 rfl rfl)
theorem dX1_turn_99 : decode cX1_turn 99 = .ok (.iaload, 1) := dk_46 (dk_at dksX1_turn_4 7 rfl rfl)
theorem dX1_turn_100 : decode cX1_turn 100 = .ok (.if_icmp .eq 7, 3) := dk_159 0 7 (dk_at dksX1_turn_4 8 rfl rfl)
theorem dX1_turn_103 : decode cX1_turn 103 = .ok (.iconst 1, 1) := dk_4 (dk_at dksX1_turn_4 11 rfl rfl)
theorem dX1_turn_104 : decode cX1_turn 104 = .ok (.goto 4, 3) := dk_167 0 4 (dk_at dksX1_turn_4 12 rfl rfl)
theorem dX1_turn_107 : decode cX1_turn 107 = .ok (.iconst 0, 1) := dk_3 (dk_at dksX1_turn_4 15 rfl rfl)
theorem dX1_turn_108 : decode cX1_turn 108 = .ok (.iadd, 1) := dk_96 (dk_at dksX1_turn_4 16 rfl rfl)
theorem dX1_turn_109 : decode cX1_turn 109 = .ok (.ireturn, 1) := dk_172 (dk_at dksX1_turn_4 17 rfl rfl)
theorem q101 : (Jvm.Cond.initialized "PretendDesk$Ruler") ∈ lw_all := lw_g (lw_at lw_m1 2 rfl) rfl
theorem q138 : (Jvm.Cond.instantiable "PretendDesk$Ruler" (5 : Nat)) ∈ lw_all := lw_g (lw_at lw_m1 39 rfl) rfl
theorem q140 : (Jvm.Cond.instanceMethod ({ cls := "PretendDesk$Ruler", name := "<init>", desc := "(LPretendDesk;)V" } : Jvm.MethodName)) ∈ lw_all := lw_g (lw_at lw_m1 41 rfl) rfl
theorem q141 : (Jvm.Cond.code ({ cls := "PretendDesk$Ruler", name := "<init>", desc := "(LPretendDesk;)V" } : Jvm.MethodName) prog_15_method_1_code (2 : Nat) (Option.none : Option Jvm.ClassFile.FieldType)) ∈ lw_all := lw_g (lw_at lw_m1 42 rfl) rfl
theorem q142 : (Jvm.Cond.methodLink "PretendDesk$Ruler" (9 : Nat) ({ cls := "java/lang/Object", name := "<init>", desc := "()V" } : Jvm.MethodName)) ∈ lw_all := lw_g (lw_at lw_m1 43 rfl) rfl
theorem q143 : (Jvm.Cond.classLink "PretendDesk$Ruler" (22 : Nat) "PretendDesk$Tree") ∈ lw_all := lw_g (lw_at lw_m1 44 rfl) rfl
theorem q145 : (Jvm.Cond.methodLinkNest "PretendDesk$Ruler" (24 : Nat) ({ cls := "PretendDesk$Tree", name := "<init>", desc := "()V" } : Jvm.MethodName) "PretendDesk") ∈ lw_tbl := lw_at lw_m1 46 rfl
theorem q151 : (Jvm.Cond.fieldLink "PretendDesk$Ruler" (47 : Nat) "PretendDesk$Tree" "kind" "[I") ∈ lw_all := lw_g (lw_at lw_m1 52 rfl) rfl
theorem q153 : (Jvm.Cond.fieldLink "PretendDesk$Ruler" (51 : Nat) "PretendDesk$Tree" "colour" "[I") ∈ lw_all := lw_g (lw_at lw_m1 54 rfl) rfl
theorem q155 : (Jvm.Cond.fieldLink "PretendDesk$Ruler" (44 : Nat) "PretendDesk$Tree" "left" "[I") ∈ lw_all := lw_g (lw_at lw_m1 56 rfl) rfl
theorem q157 : (Jvm.Cond.fieldLink "PretendDesk$Ruler" (32 : Nat) "PretendDesk$Tree" "many" "I") ∈ lw_all := lw_g (lw_at lw_m1 58 rfl) rfl
theorem q170 : (Jvm.Cond.fieldLink "PretendDesk$Ruler" (15 : Nat) "PretendDesk$Ruler" "tree" "[I") ∈ lw_all := lw_g (lw_at lw_m1 71 rfl) rfl
theorem q171 : (Jvm.Cond.fieldLink "PretendDesk$Ruler" (19 : Nat) "PretendDesk$Ruler" "row" "[I") ∈ lw_all := lw_g (lw_at lw_m1 72 rfl) rfl
theorem q172 : (Jvm.Cond.fieldLink "PretendDesk$Ruler" (25 : Nat) "PretendDesk$Ruler" "a" "LPretendDesk$Tree;") ∈ lw_all := lw_g (lw_at lw_m1 73 rfl) rfl
theorem q175 : (Jvm.Cond.fieldLink "PretendDesk$Ruler" (29 : Nat) "PretendDesk$Ruler" "b" "LPretendDesk$Tree;") ∈ lw_all := lw_g (lw_at lw_m1 76 rfl) rfl
theorem q177 : (Jvm.Cond.fieldLink "PretendDesk$Ruler" (3 : Nat) "PretendDesk$Ruler" "this$0" "LPretendDesk;") ∈ lw_all := lw_g (lw_at lw_m1 78 rfl) rfl
theorem q178 : (Jvm.Cond.laysFinal "PretendDesk$Ruler" "PretendDesk$Ruler" "tree" "[I") ∈ lw_all := lw_g (lw_at lw_m1 79 rfl) rfl
theorem q179 : (Jvm.Cond.soleField "PretendDesk$Ruler" "tree") ∈ lw_all := lw_g (lw_at lw_m1 80 rfl) rfl
theorem q180 : (Jvm.Cond.laysFinal "PretendDesk$Ruler" "PretendDesk$Ruler" "row" "[I") ∈ lw_all := lw_g (lw_at lw_m1 81 rfl) rfl
theorem q181 : (Jvm.Cond.soleField "PretendDesk$Ruler" "row") ∈ lw_all := lw_g (lw_at lw_m1 82 rfl) rfl
theorem q182 : (Jvm.Cond.laysFinal "PretendDesk$Ruler" "PretendDesk$Ruler" "a" "LPretendDesk$Tree;") ∈ lw_all := lw_g (lw_at lw_m1 83 rfl) rfl
theorem q183 : (Jvm.Cond.soleField "PretendDesk$Ruler" "a") ∈ lw_all := lw_g (lw_at lw_m1 84 rfl) rfl
theorem q184 : (Jvm.Cond.laysFinal "PretendDesk$Ruler" "PretendDesk$Ruler" "b" "LPretendDesk$Tree;") ∈ lw_all := lw_g (lw_at lw_m1 85 rfl) rfl
theorem q185 : (Jvm.Cond.soleField "PretendDesk$Ruler" "b") ∈ lw_all := lw_g (lw_at lw_m1 86 rfl) rfl
theorem q186 : (Jvm.Cond.laysFinal "PretendDesk$Ruler" "PretendDesk$Ruler" "this$0" "LPretendDesk;") ∈ lw_all := lw_g (lw_at lw_m1 87 rfl) rfl
theorem q187 : (Jvm.Cond.soleField "PretendDesk$Ruler" "this$0") ∈ lw_all := lw_g (lw_at lw_m1 88 rfl) rfl
theorem q188 : (Jvm.Cond.superclass "PretendDesk$Ruler" "java/lang/Object") ∈ lw_all := lw_g (lw_at lw_m1 89 rfl) rfl
theorem q974 : (Jvm.Cond.instanceMethod ({ cls := "PretendDesk$Ruler", name := "far", desc := "()I" } : Jvm.MethodName)) ∈ lw_all := lw_g (lw_at lw_m4 155 rfl) rfl
theorem q975 : (Jvm.Cond.selects "PretendDesk$Ruler" ({ cls := "PretendDesk$Ruler", name := "far", desc := "()I" } : Jvm.MethodName) ({ cls := "PretendDesk$Ruler", name := "far", desc := "()I" } : Jvm.MethodName)) ∈ lw_all := lw_g (lw_at lw_m4 156 rfl) rfl
theorem q976 : (Jvm.Cond.code ({ cls := "PretendDesk$Ruler", name := "far", desc := "()I" } : Jvm.MethodName) prog_15_method_2_code (3 : Nat) (Option.some Jvm.ClassFile.FieldType.int)) ∈ lw_all := lw_g (lw_at lw_m4 157 rfl) rfl
theorem q977 : (Jvm.Cond.methodLink "PretendDesk$Ruler" (36 : Nat) ({ cls := "PretendDesk$Ruler", name := "isCorner", desc := "(LPretendDesk$Tree;I)Z" } : Jvm.MethodName)) ∈ lw_all := lw_g (lw_at lw_m4 158 rfl) rfl
theorem q978 : (Jvm.Cond.privateMethod ({ cls := "PretendDesk$Ruler", name := "isCorner", desc := "(LPretendDesk$Tree;I)Z" } : Jvm.MethodName)) ∈ lw_tbl := lw_at lw_m4 159 rfl
theorem q979 : (Jvm.Cond.instanceMethod ({ cls := "PretendDesk$Ruler", name := "isCorner", desc := "(LPretendDesk$Tree;I)Z" } : Jvm.MethodName)) ∈ lw_all := lw_g (lw_at lw_m4 160 rfl) rfl
theorem q980 : (Jvm.Cond.code ({ cls := "PretendDesk$Ruler", name := "isCorner", desc := "(LPretendDesk$Tree;I)Z" } : Jvm.MethodName) prog_15_method_3_code (4 : Nat) (Option.some Jvm.ClassFile.FieldType.boolean)) ∈ lw_all := lw_g (lw_at lw_m4 161 rfl) rfl
theorem q981 : (Jvm.Cond.methodLink "PretendDesk$Ruler" (40 : Nat) ({ cls := "PretendDesk$Ruler", name := "lay", desc := "(II)V" } : Jvm.MethodName)) ∈ lw_all := lw_g (lw_at lw_m4 162 rfl) rfl
theorem q982 : (Jvm.Cond.privateMethod ({ cls := "PretendDesk$Ruler", name := "lay", desc := "(II)V" } : Jvm.MethodName)) ∈ lw_tbl := lw_at lw_m4 163 rfl
theorem q983 : (Jvm.Cond.instanceMethod ({ cls := "PretendDesk$Ruler", name := "lay", desc := "(II)V" } : Jvm.MethodName)) ∈ lw_all := lw_g (lw_at lw_m4 164 rfl) rfl
theorem q984 : (Jvm.Cond.code ({ cls := "PretendDesk$Ruler", name := "lay", desc := "(II)V" } : Jvm.MethodName) prog_15_method_5_code (11 : Nat) (Option.none : Option Jvm.ClassFile.FieldType)) ∈ lw_all := lw_g (lw_at lw_m4 165 rfl) rfl
theorem q985 : (Jvm.Cond.methodLink "PretendDesk$Ruler" (54 : Nat) ({ cls := "java/lang/Math", name := "min", desc := "(II)I" } : Jvm.MethodName)) ∈ lw_all := lw_g (lw_at lw_m4 166 rfl) rfl
theorem q986 : (Jvm.Cond.methodLink "PretendDesk$Ruler" (60 : Nat) ({ cls := "PretendDesk$Ruler", name := "turn", desc := "(II)I" } : Jvm.MethodName)) ∈ lw_all := lw_g (lw_at lw_m4 167 rfl) rfl
theorem q987 : (Jvm.Cond.privateMethod ({ cls := "PretendDesk$Ruler", name := "turn", desc := "(II)I" } : Jvm.MethodName)) ∈ lw_tbl := lw_at lw_m4 168 rfl
theorem q988 : (Jvm.Cond.instanceMethod ({ cls := "PretendDesk$Ruler", name := "turn", desc := "(II)I" } : Jvm.MethodName)) ∈ lw_all := lw_g (lw_at lw_m4 169 rfl) rfl
theorem q989 : (Jvm.Cond.code ({ cls := "PretendDesk$Ruler", name := "turn", desc := "(II)I" } : Jvm.MethodName) prog_15_method_4_code (3 : Nat) (Option.some Jvm.ClassFile.FieldType.int)) ∈ lw_all := lw_g (lw_at lw_m4 170 rfl) rfl
theorem q990 : (Jvm.Cond.constant "PretendDesk$Ruler" (50 : Nat) (100000 : Int32)) ∈ lw_all := lw_g (lw_at lw_m4 171 rfl) rfl
theorem in_X1 : ∀ w ∈ wsX10, w ∈ lw_all := lw_in wsX10 [178, 180, 182, 184, 186] (by decide +kernel) (by decide +kernel)
/-! PretendDesk$Tree -/
set_option maxRecDepth 100000
def RX2 : String := "PretendDesk$Tree"
def TX2 : u_T := fun k => match k with
  | 0 => ("PretendDesk$Tree", "kind", "[I", true)
  | 1 => ("PretendDesk$Tree", "colour", "[I", true)
  | 2 => ("PretendDesk$Tree", "left", "[I", true)
  | _ => ("PretendDesk$Tree", "many", "I", false)
def tyX2 : Nat → FieldType := fun k => match k with
  | 0 => .array .int
  | 1 => .array .int
  | 2 => .array .int
  | _ => .int
abbrev wsX20 : List Cond := u_ws RX2 TX2 4
theorem nmX2 : ∀ a, a < 4 → ∀ b, b < 4 → a ≠ b → (TX2 a).2.1 ≠ (TX2 b).2.1 := by decide +kernel
theorem tyX2_ok : ∀ k, k < 4 → parseFieldDescriptor (TX2 k).2.2.1 = some (tyX2 k) := by decide +kernel
abbrev cX2_init : ByteArray := prog_18_method_1_code
def yX2_init : MethodName := ⟨RX2, "<init>", "()V"⟩
def dkwX2_init_1 : List UInt8 := [188, 10, 181, 0, 18, 177]
abbrev dktX2_init_1 : List UInt8 := dkwX2_init_1 ++ []
def dkwX2_init_0 : List UInt8 := [42, 183, 0, 3, 42, 16, 15, 188, 10, 181, 0, 9, 42, 16, 15, 188, 10, 181, 0, 15, 42, 16, 15]
abbrev dktX2_init_0 : List UInt8 := dkwX2_init_0 ++ dktX2_init_1
theorem dksX2_init_0 : cX2_init.data.toList.drop 0 = dktX2_init_0 := by decide +kernel
theorem dksX2_init_1 : cX2_init.data.toList.drop 23 = dktX2_init_1 := dk_seg dksX2_init_0 23 rfl rfl
theorem dX2_init_0 : decode cX2_init 0 = .ok (.aload_n 0, 1) := dk_42 (dk_at dksX2_init_0 0 rfl rfl)
theorem dX2_init_1 : decode cX2_init 1 = .ok (.invokespecial 3, 3) := dk_183 0 3 (dk_at dksX2_init_0 1 rfl rfl)
theorem dX2_init_4 : decode cX2_init 4 = .ok (.aload_n 0, 1) := dk_42 (dk_at dksX2_init_0 4 rfl rfl)
theorem dX2_init_5 : decode cX2_init 5 = .ok (.bipush 15, 2) := dk_16 15 (dk_at dksX2_init_0 5 rfl rfl)
theorem dX2_init_7 : decode cX2_init 7 = .ok (.newarray .int, 2) := dk_188_10 (dk_at dksX2_init_0 7 rfl rfl)
theorem dX2_init_9 : decode cX2_init 9 = .ok (.putfield 9, 3) := dk_181 0 9 (dk_at dksX2_init_0 9 rfl rfl)
theorem dX2_init_12 : decode cX2_init 12 = .ok (.aload_n 0, 1) := dk_42 (dk_at dksX2_init_0 12 rfl rfl)
theorem dX2_init_13 : decode cX2_init 13 = .ok (.bipush 15, 2) := dk_16 15 (dk_at dksX2_init_0 13 rfl rfl)
theorem dX2_init_15 : decode cX2_init 15 = .ok (.newarray .int, 2) := dk_188_10 (dk_at dksX2_init_0 15 rfl rfl)
theorem dX2_init_17 : decode cX2_init 17 = .ok (.putfield 15, 3) := dk_181 0 15 (dk_at dksX2_init_0 17 rfl rfl)
theorem dX2_init_20 : decode cX2_init 20 = .ok (.aload_n 0, 1) := dk_42 (dk_at dksX2_init_0 20 rfl rfl)
theorem dX2_init_21 : decode cX2_init 21 = .ok (.bipush 15, 2) := dk_16 15 (dk_at dksX2_init_0 21 rfl rfl)
theorem dX2_init_23 : decode cX2_init 23 = .ok (.newarray .int, 2) := dk_188_10 (dk_at dksX2_init_1 0 rfl rfl)
theorem dX2_init_25 : decode cX2_init 25 = .ok (.putfield 18, 3) := dk_181 0 18 (dk_at dksX2_init_1 2 rfl rfl)
theorem dX2_init_28 : decode cX2_init 28 = .ok (.return_, 1) := dk_177 (dk_at dksX2_init_1 5 rfl rfl)
abbrev cX2_open : ByteArray := prog_18_method_2_code
def yX2_open : MethodName := ⟨RX2, "open", "(LPretendDesk$Page;III[I)LPretendDesk$Tree;"⟩
def dkwX2_open_3 : List UInt8 := [42, 180, 0, 18, 42, 180, 0, 21, 3, 79, 42, 176]
abbrev dktX2_open_3 : List UInt8 := dkwX2_open_3 ++ []
def dkwX2_open_2 : List UInt8 := [167, 255, 217, 42, 180, 0, 9, 42, 180, 0, 21, 16, 99, 79, 42, 180, 0, 15, 42, 180, 0, 21, 3, 79]
abbrev dktX2_open_2 : List UInt8 := dkwX2_open_2 ++ dktX2_open_3
def dkwX2_open_1 : List UInt8 := [180, 0, 34, 2, 160, 0, 16, 42, 43, 21, 6, 28, 29, 21, 4, 25, 5, 182, 0, 39, 132, 6, 1]
abbrev dktX2_open_1 : List UInt8 := dkwX2_open_1 ++ dktX2_open_2
def dkwX2_open_0 : List UInt8 := [42, 3, 181, 0, 21, 3, 54, 6, 21, 6, 43, 180, 0, 25, 162, 0, 36, 43, 180, 0, 30, 21, 6, 50]
abbrev dktX2_open_0 : List UInt8 := dkwX2_open_0 ++ dktX2_open_1
theorem dksX2_open_0 : cX2_open.data.toList.drop 0 = dktX2_open_0 := by decide +kernel
theorem dksX2_open_1 : cX2_open.data.toList.drop 24 = dktX2_open_1 := dk_seg dksX2_open_0 24 rfl rfl
theorem dksX2_open_2 : cX2_open.data.toList.drop 47 = dktX2_open_2 := dk_seg dksX2_open_1 23 rfl rfl
theorem dksX2_open_3 : cX2_open.data.toList.drop 71 = dktX2_open_3 := dk_seg dksX2_open_2 24 rfl rfl
theorem dX2_open_0 : decode cX2_open 0 = .ok (.aload_n 0, 1) := dk_42 (dk_at dksX2_open_0 0 rfl rfl)
theorem dX2_open_1 : decode cX2_open 1 = .ok (.iconst 0, 1) := dk_3 (dk_at dksX2_open_0 1 rfl rfl)
theorem dX2_open_2 : decode cX2_open 2 = .ok (.putfield 21, 3) := dk_181 0 21 (dk_at dksX2_open_0 2 rfl rfl)
theorem dX2_open_5 : decode cX2_open 5 = .ok (.iconst 0, 1) := dk_3 (dk_at dksX2_open_0 5 rfl rfl)
theorem dX2_open_6 : decode cX2_open 6 = .ok (.istore 6, 2) := dk_54 6 (dk_at dksX2_open_0 6 rfl rfl)
theorem dX2_open_8 : decode cX2_open 8 = .ok (.iload 6, 2) := dk_21 6 (dk_at dksX2_open_0 8 rfl rfl)
theorem dX2_open_10 : decode cX2_open 10 = .ok (.aload_n 1, 1) := dk_43 (dk_at dksX2_open_0 10 rfl rfl)
theorem dX2_open_11 : decode cX2_open 11 = .ok (.getfield 25, 3) := dk_180 0 25 (dk_at dksX2_open_0 11 rfl rfl)
theorem dX2_open_14 : decode cX2_open 14 = .ok (.if_icmp .ge 36, 3) := dk_162 0 36 (dk_at dksX2_open_0 14 rfl rfl)
theorem dX2_open_17 : decode cX2_open 17 = .ok (.aload_n 1, 1) := dk_43 (dk_at dksX2_open_0 17 rfl rfl)
theorem dX2_open_18 : decode cX2_open 18 = .ok (.getfield 30, 3) := dk_180 0 30 (dk_at dksX2_open_0 18 rfl rfl)
theorem dX2_open_21 : decode cX2_open 21 = .ok (.iload 6, 2) := dk_21 6 (dk_at dksX2_open_0 21 rfl rfl)
theorem dX2_open_23 : decode cX2_open 23 = .ok (.aaload, 1) := dk_50 (dk_at dksX2_open_0 23 rfl rfl)
theorem dX2_open_24 : decode cX2_open 24 = .ok (.getfield 34, 3) := dk_180 0 34 (dk_at dksX2_open_1 0 rfl rfl)
theorem dX2_open_27 : decode cX2_open 27 = .ok (.iconst (-1), 1) := dk_2 (dk_at dksX2_open_1 3 rfl rfl)
theorem dX2_open_28 : decode cX2_open 28 = .ok (.if_icmp .ne 16, 3) := dk_160 0 16 (dk_at dksX2_open_1 4 rfl rfl)
theorem dX2_open_31 : decode cX2_open 31 = .ok (.aload_n 0, 1) := dk_42 (dk_at dksX2_open_1 7 rfl rfl)
theorem dX2_open_32 : decode cX2_open 32 = .ok (.aload_n 1, 1) := dk_43 (dk_at dksX2_open_1 8 rfl rfl)
theorem dX2_open_33 : decode cX2_open 33 = .ok (.iload 6, 2) := dk_21 6 (dk_at dksX2_open_1 9 rfl rfl)
theorem dX2_open_35 : decode cX2_open 35 = .ok (.iload_n 2, 1) := dk_28 (dk_at dksX2_open_1 11 rfl rfl)
theorem dX2_open_36 : decode cX2_open 36 = .ok (.iload_n 3, 1) := dk_29 (dk_at dksX2_open_1 12 rfl rfl)
theorem dX2_open_37 : decode cX2_open 37 = .ok (.iload 4, 2) := dk_21 4 (dk_at dksX2_open_1 13 rfl rfl)
theorem dX2_open_39 : decode cX2_open 39 = .ok (.aload 5, 2) := dk_25 5 (dk_at dksX2_open_1 15 rfl rfl)
theorem dX2_open_41 : decode cX2_open 41 = .ok (.invokevirtual 39, 3) := dk_182 0 39 (dk_at dksX2_open_1 17 rfl rfl)
theorem dX2_open_44 : decode cX2_open 44 = .ok (.iinc 6 1, 3) := dk_132 6 1 (dk_at dksX2_open_1 20 rfl rfl)
theorem dX2_open_47 : decode cX2_open 47 = .ok (.goto (-39), 3) := dk_167 255 217 (dk_at dksX2_open_2 0 rfl rfl)
theorem dX2_open_50 : decode cX2_open 50 = .ok (.aload_n 0, 1) := dk_42 (dk_at dksX2_open_2 3 rfl rfl)
theorem dX2_open_51 : decode cX2_open 51 = .ok (.getfield 9, 3) := dk_180 0 9 (dk_at dksX2_open_2 4 rfl rfl)
theorem dX2_open_54 : decode cX2_open 54 = .ok (.aload_n 0, 1) := dk_42 (dk_at dksX2_open_2 7 rfl rfl)
theorem dX2_open_55 : decode cX2_open 55 = .ok (.getfield 21, 3) := dk_180 0 21 (dk_at dksX2_open_2 8 rfl rfl)
theorem dX2_open_58 : decode cX2_open 58 = .ok (.bipush 99, 2) := dk_16 99 (dk_at dksX2_open_2 11 rfl rfl)
theorem dX2_open_60 : decode cX2_open 60 = .ok (.iastore, 1) := dk_79 (dk_at dksX2_open_2 13 rfl rfl)
theorem dX2_open_61 : decode cX2_open 61 = .ok (.aload_n 0, 1) := dk_42 (dk_at dksX2_open_2 14 rfl rfl)
theorem dX2_open_62 : decode cX2_open 62 = .ok (.getfield 15, 3) := dk_180 0 15 (dk_at dksX2_open_2 15 rfl rfl)
theorem dX2_open_65 : decode cX2_open 65 = .ok (.aload_n 0, 1) := dk_42 (dk_at dksX2_open_2 18 rfl rfl)
theorem dX2_open_66 : decode cX2_open 66 = .ok (.getfield 21, 3) := dk_180 0 21 (dk_at dksX2_open_2 19 rfl rfl)
theorem dX2_open_69 : decode cX2_open 69 = .ok (.iconst 0, 1) := dk_3 (dk_at dksX2_open_2 22 rfl rfl)
theorem dX2_open_70 : decode cX2_open 70 = .ok (.iastore, 1) := dk_79 (dk_at dksX2_open_2 23 rfl rfl)
theorem dX2_open_71 : decode cX2_open 71 = .ok (.aload_n 0, 1) := dk_42 (dk_at dksX2_open_3 0 rfl rfl)
theorem dX2_open_72 : decode cX2_open 72 = .ok (.getfield 18, 3) := dk_180 0 18 (dk_at dksX2_open_3 1 rfl rfl)
theorem dX2_open_75 : decode cX2_open 75 = .ok (.aload_n 0, 1) := dk_42 (dk_at dksX2_open_3 4 rfl rfl)
theorem dX2_open_76 : decode cX2_open 76 = .ok (.getfield 21, 3) := dk_180 0 21 (dk_at dksX2_open_3 5 rfl rfl)
theorem dX2_open_79 : decode cX2_open 79 = .ok (.iconst 0, 1) := dk_3 (dk_at dksX2_open_3 8 rfl rfl)
theorem dX2_open_80 : decode cX2_open 80 = .ok (.iastore, 1) := dk_79 (dk_at dksX2_open_3 9 rfl rfl)
theorem dX2_open_81 : decode cX2_open 81 = .ok (.aload_n 0, 1) := dk_42 (dk_at dksX2_open_3 10 rfl rfl)
theorem dX2_open_82 : decode cX2_open 82 = .ok (.areturn, 1) := dk_176 (dk_at dksX2_open_3 11 rfl rfl)
abbrev cX2_put : ByteArray := prog_18_method_3_code
def yX2_put : MethodName := ⟨RX2, "put", "(LPretendDesk$Page;IIII[I)V"⟩
def dkwX2_put_7 : List UInt8 := [180, 0, 21, 4, 96, 181, 0, 21, 177]
abbrev dktX2_put_7 : List UInt8 := dkwX2_put_7 ++ []
def dkwX2_put_6 : List UInt8 := [180, 0, 49, 167, 0, 7, 25, 6, 28, 46, 79, 42, 180, 0, 18, 42, 180, 0, 21, 21, 8, 79, 42, 89]
abbrev dktX2_put_6 : List UInt8 := dkwX2_put_6 ++ dktX2_put_7
def dkwX2_put_5 : List UInt8 := [42, 180, 0, 15, 42, 180, 0, 21, 25, 6, 28, 46, 2, 160, 0, 15, 43, 180, 0, 30, 28, 50]
abbrev dktX2_put_5 : List UInt8 := dkwX2_put_5 ++ dktX2_put_6
def dkwX2_put_4 : List UInt8 := [21, 7, 153, 0, 4, 177, 42, 180, 0, 9, 42, 180, 0, 21, 43, 180, 0, 30, 28, 50, 180, 0, 47, 79]
abbrev dktX2_put_4 : List UInt8 := dkwX2_put_4 ++ dktX2_put_5
def dkwX2_put_3 : List UInt8 := [160, 0, 17, 42, 43, 21, 9, 29, 21, 4, 21, 5, 25, 6, 182, 0, 39, 132, 9, 1, 167, 255, 216]
abbrev dktX2_put_3 : List UInt8 := dkwX2_put_3 ++ dktX2_put_4
def dkwX2_put_2 : List UInt8 := [54, 9, 21, 9, 43, 180, 0, 25, 162, 0, 37, 43, 180, 0, 30, 21, 9, 50, 180, 0, 34, 28]
abbrev dktX2_put_2 : List UInt8 := dkwX2_put_2 ++ dktX2_put_3
def dkwX2_put_1 : List UInt8 := [180, 0, 30, 28, 50, 29, 21, 4, 182, 0, 43, 154, 0, 4, 177, 42, 180, 0, 21, 54, 8, 28, 4, 96]
abbrev dktX2_put_1 : List UInt8 := dkwX2_put_1 ++ dktX2_put_2
def dkwX2_put_0 : List UInt8 := [21, 5, 28, 122, 4, 126, 153, 0, 7, 4, 167, 0, 4, 3, 54, 7, 21, 7, 154, 0, 19, 43]
abbrev dktX2_put_0 : List UInt8 := dkwX2_put_0 ++ dktX2_put_1
theorem dksX2_put_0 : cX2_put.data.toList.drop 0 = dktX2_put_0 := by decide +kernel
theorem dksX2_put_1 : cX2_put.data.toList.drop 22 = dktX2_put_1 := dk_seg dksX2_put_0 22 rfl rfl
theorem dksX2_put_2 : cX2_put.data.toList.drop 46 = dktX2_put_2 := dk_seg dksX2_put_1 24 rfl rfl
theorem dksX2_put_3 : cX2_put.data.toList.drop 68 = dktX2_put_3 := dk_seg dksX2_put_2 22 rfl rfl
theorem dksX2_put_4 : cX2_put.data.toList.drop 91 = dktX2_put_4 := dk_seg dksX2_put_3 23 rfl rfl
theorem dksX2_put_5 : cX2_put.data.toList.drop 115 = dktX2_put_5 := dk_seg dksX2_put_4 24 rfl rfl
theorem dksX2_put_6 : cX2_put.data.toList.drop 137 = dktX2_put_6 := dk_seg dksX2_put_5 22 rfl rfl
theorem dksX2_put_7 : cX2_put.data.toList.drop 161 = dktX2_put_7 := dk_seg dksX2_put_6 24 rfl rfl
theorem dX2_put_0 : decode cX2_put 0 = .ok (.iload 5, 2) := dk_21 5 (dk_at dksX2_put_0 0 rfl rfl)
theorem dX2_put_2 : decode cX2_put 2 = .ok (.iload_n 2, 1) := dk_28 (dk_at dksX2_put_0 2 rfl rfl)
theorem dX2_put_3 : decode cX2_put 3 = .ok (.ishr, 1) := dk_122 (dk_at dksX2_put_0 3 rfl rfl)
theorem dX2_put_4 : decode cX2_put 4 = .ok (.iconst 1, 1) := dk_4 (dk_at dksX2_put_0 4 rfl rfl)
theorem dX2_put_5 : decode cX2_put 5 = .ok (.iand, 1) := dk_126 (dk_at dksX2_put_0 5 rfl rfl)
theorem dX2_put_6 : decode cX2_put 6 = .ok (.ifCond .eq 7, 3) := dk_153 0 7 (dk_at dksX2_put_0 6 rfl rfl)
theorem dX2_put_9 : decode cX2_put 9 = .ok (.iconst 1, 1) := dk_4 (dk_at dksX2_put_0 9 rfl rfl)
theorem dX2_put_10 : decode cX2_put 10 = .ok (.goto 4, 3) := dk_167 0 4 (dk_at dksX2_put_0 10 rfl rfl)
theorem dX2_put_13 : decode cX2_put 13 = .ok (.iconst 0, 1) := dk_3 (dk_at dksX2_put_0 13 rfl rfl)
theorem dX2_put_14 : decode cX2_put 14 = .ok (.istore 7, 2) := dk_54 7 (dk_at dksX2_put_0 14 rfl rfl)
theorem dX2_put_16 : decode cX2_put 16 = .ok (.iload 7, 2) := dk_21 7 (dk_at dksX2_put_0 16 rfl rfl)
theorem dX2_put_18 : decode cX2_put 18 = .ok (.ifCond .ne 19, 3) := dk_154 0 19 (dk_at dksX2_put_0 18 rfl rfl)
theorem dX2_put_21 : decode cX2_put 21 = .ok (.aload_n 1, 1) := dk_43 (dk_at dksX2_put_0 21 rfl rfl)
theorem dX2_put_22 : decode cX2_put 22 = .ok (.getfield 30, 3) := dk_180 0 30 (dk_at dksX2_put_1 0 rfl rfl)
theorem dX2_put_25 : decode cX2_put 25 = .ok (.iload_n 2, 1) := dk_28 (dk_at dksX2_put_1 3 rfl rfl)
theorem dX2_put_26 : decode cX2_put 26 = .ok (.aaload, 1) := dk_50 (dk_at dksX2_put_1 4 rfl rfl)
theorem dX2_put_27 : decode cX2_put 27 = .ok (.iload_n 3, 1) := dk_29 (dk_at dksX2_put_1 5 rfl rfl)
theorem dX2_put_28 : decode cX2_put 28 = .ok (.iload 4, 2) := dk_21 4 (dk_at dksX2_put_1 6 rfl rfl)
theorem dX2_put_30 : decode cX2_put 30 = .ok (.invokevirtual 43, 3) := dk_182 0 43 (dk_at dksX2_put_1 8 rfl rfl)
theorem dX2_put_33 : decode cX2_put 33 = .ok (.ifCond .ne 4, 3) := dk_154 0 4 (dk_at dksX2_put_1 11 rfl rfl)
theorem dX2_put_36 : decode cX2_put 36 = .ok (.return_, 1) := dk_177 (dk_at dksX2_put_1 14 rfl rfl)
theorem dX2_put_37 : decode cX2_put 37 = .ok (.aload_n 0, 1) := dk_42 (dk_at dksX2_put_1 15 rfl rfl)
theorem dX2_put_38 : decode cX2_put 38 = .ok (.getfield 21, 3) := dk_180 0 21 (dk_at dksX2_put_1 16 rfl rfl)
theorem dX2_put_41 : decode cX2_put 41 = .ok (.istore 8, 2) := dk_54 8 (dk_at dksX2_put_1 19 rfl rfl)
theorem dX2_put_43 : decode cX2_put 43 = .ok (.iload_n 2, 1) := dk_28 (dk_at dksX2_put_1 21 rfl rfl)
theorem dX2_put_44 : decode cX2_put 44 = .ok (.iconst 1, 1) := dk_4 (dk_at dksX2_put_1 22 rfl rfl)
theorem dX2_put_45 : decode cX2_put 45 = .ok (.iadd, 1) := dk_96 (dk_at dksX2_put_1 23 rfl rfl)
theorem dX2_put_46 : decode cX2_put 46 = .ok (.istore 9, 2) := dk_54 9 (dk_at dksX2_put_2 0 rfl rfl)
theorem dX2_put_48 : decode cX2_put 48 = .ok (.iload 9, 2) := dk_21 9 (dk_at dksX2_put_2 2 rfl rfl)
theorem dX2_put_50 : decode cX2_put 50 = .ok (.aload_n 1, 1) := dk_43 (dk_at dksX2_put_2 4 rfl rfl)
theorem dX2_put_51 : decode cX2_put 51 = .ok (.getfield 25, 3) := dk_180 0 25 (dk_at dksX2_put_2 5 rfl rfl)
theorem dX2_put_54 : decode cX2_put 54 = .ok (.if_icmp .ge 37, 3) := dk_162 0 37 (dk_at dksX2_put_2 8 rfl rfl)
theorem dX2_put_57 : decode cX2_put 57 = .ok (.aload_n 1, 1) := dk_43 (dk_at dksX2_put_2 11 rfl rfl)
theorem dX2_put_58 : decode cX2_put 58 = .ok (.getfield 30, 3) := dk_180 0 30 (dk_at dksX2_put_2 12 rfl rfl)
theorem dX2_put_61 : decode cX2_put 61 = .ok (.iload 9, 2) := dk_21 9 (dk_at dksX2_put_2 15 rfl rfl)
theorem dX2_put_63 : decode cX2_put 63 = .ok (.aaload, 1) := dk_50 (dk_at dksX2_put_2 17 rfl rfl)
theorem dX2_put_64 : decode cX2_put 64 = .ok (.getfield 34, 3) := dk_180 0 34 (dk_at dksX2_put_2 18 rfl rfl)
theorem dX2_put_67 : decode cX2_put 67 = .ok (.iload_n 2, 1) := dk_28 (dk_at dksX2_put_2 21 rfl rfl)
theorem dX2_put_68 : decode cX2_put 68 = .ok (.if_icmp .ne 17, 3) := dk_160 0 17 (dk_at dksX2_put_3 0 rfl rfl)
theorem dX2_put_71 : decode cX2_put 71 = .ok (.aload_n 0, 1) := dk_42 (dk_at dksX2_put_3 3 rfl rfl)
theorem dX2_put_72 : decode cX2_put 72 = .ok (.aload_n 1, 1) := dk_43 (dk_at dksX2_put_3 4 rfl rfl)
theorem dX2_put_73 : decode cX2_put 73 = .ok (.iload 9, 2) := dk_21 9 (dk_at dksX2_put_3 5 rfl rfl)
theorem dX2_put_75 : decode cX2_put 75 = .ok (.iload_n 3, 1) := dk_29 (dk_at dksX2_put_3 7 rfl rfl)
theorem dX2_put_76 : decode cX2_put 76 = .ok (.iload 4, 2) := dk_21 4 (dk_at dksX2_put_3 8 rfl rfl)
theorem dX2_put_78 : decode cX2_put 78 = .ok (.iload 5, 2) := dk_21 5 (dk_at dksX2_put_3 10 rfl rfl)
theorem dX2_put_80 : decode cX2_put 80 = .ok (.aload 6, 2) := dk_25 6 (dk_at dksX2_put_3 12 rfl rfl)
theorem dX2_put_82 : decode cX2_put 82 = .ok (.invokevirtual 39, 3) := dk_182 0 39 (dk_at dksX2_put_3 14 rfl rfl)
theorem dX2_put_85 : decode cX2_put 85 = .ok (.iinc 9 1, 3) := dk_132 9 1 (dk_at dksX2_put_3 17 rfl rfl)
theorem dX2_put_88 : decode cX2_put 88 = .ok (.goto (-40), 3) := dk_167 255 216 (dk_at dksX2_put_3 20 rfl rfl)
theorem dX2_put_91 : decode cX2_put 91 = .ok (.iload 7, 2) := dk_21 7 (dk_at dksX2_put_4 0 rfl rfl)
theorem dX2_put_93 : decode cX2_put 93 = .ok (.ifCond .eq 4, 3) := dk_153 0 4 (dk_at dksX2_put_4 2 rfl rfl)
theorem dX2_put_96 : decode cX2_put 96 = .ok (.return_, 1) := dk_177 (dk_at dksX2_put_4 5 rfl rfl)
theorem dX2_put_97 : decode cX2_put 97 = .ok (.aload_n 0, 1) := dk_42 (dk_at dksX2_put_4 6 rfl rfl)
theorem dX2_put_98 : decode cX2_put 98 = .ok (.getfield 9, 3) := dk_180 0 9 (dk_at dksX2_put_4 7 rfl rfl)
theorem dX2_put_101 : decode cX2_put 101 = .ok (.aload_n 0, 1) := dk_42 (dk_at dksX2_put_4 10 rfl rfl)
theorem dX2_put_102 : decode cX2_put 102 = .ok (.getfield 21, 3) := dk_180 0 21 (dk_at dksX2_put_4 11 rfl rfl)
theorem dX2_put_105 : decode cX2_put 105 = .ok (.aload_n 1, 1) := dk_43 (dk_at dksX2_put_4 14 rfl rfl)
theorem dX2_put_106 : decode cX2_put 106 = .ok (.getfield 30, 3) := dk_180 0 30 (dk_at dksX2_put_4 15 rfl rfl)
theorem dX2_put_109 : decode cX2_put 109 = .ok (.iload_n 2, 1) := dk_28 (dk_at dksX2_put_4 18 rfl rfl)
theorem dX2_put_110 : decode cX2_put 110 = .ok (.aaload, 1) := dk_50 (dk_at dksX2_put_4 19 rfl rfl)
theorem dX2_put_111 : decode cX2_put 111 = .ok (.getfield 47, 3) := dk_180 0 47 (dk_at dksX2_put_4 20 rfl rfl)
theorem dX2_put_114 : decode cX2_put 114 = .ok (.iastore, 1) := dk_79 (dk_at dksX2_put_4 23 rfl rfl)
theorem dX2_put_115 : decode cX2_put 115 = .ok (.aload_n 0, 1) := dk_42 (dk_at dksX2_put_5 0 rfl rfl)
theorem dX2_put_116 : decode cX2_put 116 = .ok (.getfield 15, 3) := dk_180 0 15 (dk_at dksX2_put_5 1 rfl rfl)
theorem dX2_put_119 : decode cX2_put 119 = .ok (.aload_n 0, 1) := dk_42 (dk_at dksX2_put_5 4 rfl rfl)
theorem dX2_put_120 : decode cX2_put 120 = .ok (.getfield 21, 3) := dk_180 0 21 (dk_at dksX2_put_5 5 rfl rfl)
theorem dX2_put_123 : decode cX2_put 123 = .ok (.aload 6, 2) := dk_25 6 (dk_at dksX2_put_5 8 rfl rfl)
theorem dX2_put_125 : decode cX2_put 125 = .ok (.iload_n 2, 1) := dk_28 (dk_at dksX2_put_5 10 rfl rfl)
theorem dX2_put_126 : decode cX2_put 126 = .ok (.iaload, 1) := dk_46 (dk_at dksX2_put_5 11 rfl rfl)
theorem dX2_put_127 : decode cX2_put 127 = .ok (.iconst (-1), 1) := dk_2 (dk_at dksX2_put_5 12 rfl rfl)
theorem dX2_put_128 : decode cX2_put 128 = .ok (.if_icmp .ne 15, 3) := dk_160 0 15 (dk_at dksX2_put_5 13 rfl rfl)
theorem dX2_put_131 : decode cX2_put 131 = .ok (.aload_n 1, 1) := dk_43 (dk_at dksX2_put_5 16 rfl rfl)
theorem dX2_put_132 : decode cX2_put 132 = .ok (.getfield 30, 3) := dk_180 0 30 (dk_at dksX2_put_5 17 rfl rfl)
theorem dX2_put_135 : decode cX2_put 135 = .ok (.iload_n 2, 1) := dk_28 (dk_at dksX2_put_5 20 rfl rfl)
theorem dX2_put_136 : decode cX2_put 136 = .ok (.aaload, 1) := dk_50 (dk_at dksX2_put_5 21 rfl rfl)
theorem dX2_put_137 : decode cX2_put 137 = .ok (.getfield 49, 3) := dk_180 0 49 (dk_at dksX2_put_6 0 rfl rfl)
theorem dX2_put_140 : decode cX2_put 140 = .ok (.goto 7, 3) := dk_167 0 7 (dk_at dksX2_put_6 3 rfl rfl)
theorem dX2_put_143 : decode cX2_put 143 = .ok (.aload 6, 2) := dk_25 6 (dk_at dksX2_put_6 6 rfl rfl)
theorem dX2_put_145 : decode cX2_put 145 = .ok (.iload_n 2, 1) := dk_28 (dk_at dksX2_put_6 8 rfl rfl)
theorem dX2_put_146 : decode cX2_put 146 = .ok (.iaload, 1) := dk_46 (dk_at dksX2_put_6 9 rfl rfl)
theorem dX2_put_147 : decode cX2_put 147 = .ok (.iastore, 1) := dk_79 (dk_at dksX2_put_6 10 rfl rfl)
theorem dX2_put_148 : decode cX2_put 148 = .ok (.aload_n 0, 1) := dk_42 (dk_at dksX2_put_6 11 rfl rfl)
theorem dX2_put_149 : decode cX2_put 149 = .ok (.getfield 18, 3) := dk_180 0 18 (dk_at dksX2_put_6 12 rfl rfl)
theorem dX2_put_152 : decode cX2_put 152 = .ok (.aload_n 0, 1) := dk_42 (dk_at dksX2_put_6 15 rfl rfl)
theorem dX2_put_153 : decode cX2_put 153 = .ok (.getfield 21, 3) := dk_180 0 21 (dk_at dksX2_put_6 16 rfl rfl)
theorem dX2_put_156 : decode cX2_put 156 = .ok (.iload 8, 2) := dk_21 8 (dk_at dksX2_put_6 19 rfl rfl)
theorem dX2_put_158 : decode cX2_put 158 = .ok (.iastore, 1) := dk_79 (dk_at dksX2_put_6 21 rfl rfl)
theorem dX2_put_159 : decode cX2_put 159 = .ok (.aload_n 0, 1) := dk_42 (dk_at dksX2_put_6 22 rfl rfl)
theorem dX2_put_160 : decode cX2_put 160 = .ok (.dup, 1) := dk_89 (dk_at dksX2_put_6 23 rfl rfl)
theorem dX2_put_161 : decode cX2_put 161 = .ok (.getfield 21, 3) := dk_180 0 21 (dk_at dksX2_put_7 0 rfl rfl)
theorem dX2_put_164 : decode cX2_put 164 = .ok (.iconst 1, 1) := dk_4 (dk_at dksX2_put_7 3 rfl rfl)
theorem dX2_put_165 : decode cX2_put 165 = .ok (.iadd, 1) := dk_96 (dk_at dksX2_put_7 4 rfl rfl)
theorem dX2_put_166 : decode cX2_put 166 = .ok (.putfield 21, 3) := dk_181 0 21 (dk_at dksX2_put_7 5 rfl rfl)
theorem dX2_put_169 : decode cX2_put 169 = .ok (.return_, 1) := dk_177 (dk_at dksX2_put_7 8 rfl rfl)
theorem q102 : (Jvm.Cond.initialized "PretendDesk$Tree") ∈ lw_all := lw_g (lw_at lw_m1 3 rfl) rfl
theorem q144 : (Jvm.Cond.instantiable "PretendDesk$Tree" (4 : Nat)) ∈ lw_all := lw_g (lw_at lw_m1 45 rfl) rfl
theorem q146 : (Jvm.Cond.instanceMethod ({ cls := "PretendDesk$Tree", name := "<init>", desc := "()V" } : Jvm.MethodName)) ∈ lw_all := lw_g (lw_at lw_m1 47 rfl) rfl
theorem q147 : (Jvm.Cond.code ({ cls := "PretendDesk$Tree", name := "<init>", desc := "()V" } : Jvm.MethodName) prog_18_method_1_code (1 : Nat) (Option.none : Option Jvm.ClassFile.FieldType)) ∈ lw_all := lw_g (lw_at lw_m1 48 rfl) rfl
theorem q148 : (Jvm.Cond.methodLink "PretendDesk$Tree" (3 : Nat) ({ cls := "java/lang/Object", name := "<init>", desc := "()V" } : Jvm.MethodName)) ∈ lw_all := lw_g (lw_at lw_m1 49 rfl) rfl
theorem q149 : (Jvm.Cond.fieldLink "PretendDesk$Tree" (9 : Nat) "PretendDesk$Tree" "kind" "[I") ∈ lw_all := lw_g (lw_at lw_m1 50 rfl) rfl
theorem q152 : (Jvm.Cond.fieldLink "PretendDesk$Tree" (15 : Nat) "PretendDesk$Tree" "colour" "[I") ∈ lw_all := lw_g (lw_at lw_m1 53 rfl) rfl
theorem q154 : (Jvm.Cond.fieldLink "PretendDesk$Tree" (18 : Nat) "PretendDesk$Tree" "left" "[I") ∈ lw_all := lw_g (lw_at lw_m1 55 rfl) rfl
theorem q156 : (Jvm.Cond.fieldLink "PretendDesk$Tree" (21 : Nat) "PretendDesk$Tree" "many" "I") ∈ lw_all := lw_g (lw_at lw_m1 57 rfl) rfl
theorem q160 : (Jvm.Cond.laysFinal "PretendDesk$Tree" "PretendDesk$Tree" "kind" "[I") ∈ lw_all := lw_g (lw_at lw_m1 61 rfl) rfl
theorem q161 : (Jvm.Cond.soleField "PretendDesk$Tree" "kind") ∈ lw_all := lw_g (lw_at lw_m1 62 rfl) rfl
theorem q162 : (Jvm.Cond.laysFinal "PretendDesk$Tree" "PretendDesk$Tree" "colour" "[I") ∈ lw_all := lw_g (lw_at lw_m1 63 rfl) rfl
theorem q163 : (Jvm.Cond.soleField "PretendDesk$Tree" "colour") ∈ lw_all := lw_g (lw_at lw_m1 64 rfl) rfl
theorem q164 : (Jvm.Cond.laysFinal "PretendDesk$Tree" "PretendDesk$Tree" "left" "[I") ∈ lw_all := lw_g (lw_at lw_m1 65 rfl) rfl
theorem q165 : (Jvm.Cond.soleField "PretendDesk$Tree" "left") ∈ lw_all := lw_g (lw_at lw_m1 66 rfl) rfl
theorem q166 : (Jvm.Cond.lays "PretendDesk$Tree" "PretendDesk$Tree" "many" "I") ∈ lw_all := lw_g (lw_at lw_m1 67 rfl) rfl
theorem q167 : (Jvm.Cond.soleField "PretendDesk$Tree" "many") ∈ lw_all := lw_g (lw_at lw_m1 68 rfl) rfl
theorem q168 : (Jvm.Cond.superclass "PretendDesk$Tree" "java/lang/Object") ∈ lw_all := lw_g (lw_at lw_m1 69 rfl) rfl
theorem q555 : (Jvm.Cond.fieldLink "PretendDesk$Tree" (30 : Nat) "PretendDesk$Page" "box" "[LPretendDesk$Box;") ∈ lw_all := lw_g (lw_at lw_m2 216 rfl) rfl
theorem q559 : (Jvm.Cond.fieldLink "PretendDesk$Tree" (25 : Nat) "PretendDesk$Page" "boxes" "I") ∈ lw_all := lw_g (lw_at lw_m2 220 rfl) rfl
theorem q781 : (Jvm.Cond.fieldLink "PretendDesk$Tree" (47 : Nat) "PretendDesk$Box" "kind" "I") ∈ lw_all := lw_g (lw_at lw_m3 202 rfl) rfl
theorem q784 : (Jvm.Cond.fieldLink "PretendDesk$Tree" (49 : Nat) "PretendDesk$Box" "colour" "I") ∈ lw_all := lw_g (lw_at lw_m3 205 rfl) rfl
theorem q794 : (Jvm.Cond.fieldLink "PretendDesk$Tree" (34 : Nat) "PretendDesk$Box" "inside" "I") ∈ lw_all := lw_g (lw_at lw_m3 215 rfl) rfl
theorem q954 : (Jvm.Cond.instanceMethod ({ cls := "PretendDesk$Tree", name := "open", desc := "(LPretendDesk$Page;III[I)LPretendDesk$Tree;" } : Jvm.MethodName)) ∈ lw_all := lw_g (lw_at lw_m4 135 rfl) rfl
theorem q955 : (Jvm.Cond.selects "PretendDesk$Tree" ({ cls := "PretendDesk$Tree", name := "open", desc := "(LPretendDesk$Page;III[I)LPretendDesk$Tree;" } : Jvm.MethodName) ({ cls := "PretendDesk$Tree", name := "open", desc := "(LPretendDesk$Page;III[I)LPretendDesk$Tree;" } : Jvm.MethodName)) ∈ lw_all := lw_g (lw_at lw_m4 136 rfl) rfl
theorem q956 : (Jvm.Cond.code ({ cls := "PretendDesk$Tree", name := "open", desc := "(LPretendDesk$Page;III[I)LPretendDesk$Tree;" } : Jvm.MethodName) prog_18_method_2_code (7 : Nat) (Option.some (Jvm.ClassFile.FieldType.object "PretendDesk$Tree"))) ∈ lw_all := lw_g (lw_at lw_m4 137 rfl) rfl
theorem q957 : (Jvm.Cond.methodLink "PretendDesk$Tree" (39 : Nat) ({ cls := "PretendDesk$Tree", name := "put", desc := "(LPretendDesk$Page;IIII[I)V" } : Jvm.MethodName)) ∈ lw_all := lw_g (lw_at lw_m4 138 rfl) rfl
theorem q958 : (Jvm.Cond.privateMethod ({ cls := "PretendDesk$Tree", name := "put", desc := "(LPretendDesk$Page;IIII[I)V" } : Jvm.MethodName)) ∈ lw_tbl := lw_at lw_m4 139 rfl
theorem q959 : (Jvm.Cond.instanceMethod ({ cls := "PretendDesk$Tree", name := "put", desc := "(LPretendDesk$Page;IIII[I)V" } : Jvm.MethodName)) ∈ lw_all := lw_g (lw_at lw_m4 140 rfl) rfl
theorem q960 : (Jvm.Cond.code ({ cls := "PretendDesk$Tree", name := "put", desc := "(LPretendDesk$Page;IIII[I)V" } : Jvm.MethodName) prog_18_method_3_code (10 : Nat) (Option.none : Option Jvm.ClassFile.FieldType)) ∈ lw_all := lw_g (lw_at lw_m4 141 rfl) rfl
theorem q961 : (Jvm.Cond.methodLink "PretendDesk$Tree" (43 : Nat) ({ cls := "PretendDesk$Box", name := "isShown", desc := "(II)Z" } : Jvm.MethodName)) ∈ lw_all := lw_g (lw_at lw_m4 142 rfl) rfl
theorem in_X2 : ∀ w ∈ wsX20, w ∈ lw_all := lw_in wsX20 [160, 162, 164, 166] (by decide +kernel) (by decide +kernel)
/-! PretendDesk$Desk -/
set_option maxRecDepth 100000
def RX3 : String := "PretendDesk$Desk"
def TX3 : u_T := fun k => match k with
  | 0 => ("PretendDesk$Desk", "tape", "[B", true)
  | 1 => ("PretendDesk$Desk", "size", "I", false)
  | 2 => ("PretendDesk$Desk", "lastFault", "I", false)
  | 3 => ("PretendDesk$Desk", "lastPlace", "I", false)
  | 4 => ("PretendDesk$Desk", "houses", "I", false)
  | 5 => ("PretendDesk$Desk", "pages", "I", false)
  | 6 => ("PretendDesk$Desk", "cases", "I", false)
  | 7 => ("PretendDesk$Desk", "a", "I", false)
  | 8 => ("PretendDesk$Desk", "b", "I", false)
  | 9 => ("PretendDesk$Desk", "c", "I", false)
  | 10 => ("PretendDesk$Desk", "words", "I", false)
  | 11 => ("PretendDesk$Desk", "patterns", "I", false)
  | 12 => ("PretendDesk$Desk", "house", "[LPretendDesk$House;", true)
  | 13 => ("PretendDesk$Desk", "page", "[LPretendDesk$Came;", true)
  | 14 => ("PretendDesk$Desk", "kept", "[LPretendDesk$Case;", true)
  | 15 => ("PretendDesk$Desk", "worth", "[I", true)
  | 16 => ("PretendDesk$Desk", "relay", "[I", true)
  | 17 => ("PretendDesk$Desk", "owner", "[I", true)
  | 18 => ("PretendDesk$Desk", "word", "[J", true)
  | 19 => ("PretendDesk$Desk", "meaning", "[B", true)
  | 20 => ("PretendDesk$Desk", "pattern", "[LPretendDesk$Pattern;", true)
  | 21 => ("PretendDesk$Desk", "letter", "[B", false)
  | _ => ("PretendDesk$Desk", "alike", "[B", true)
def tyX3 : Nat → FieldType := fun k => match k with
  | 0 => .array .byte
  | 1 => .int
  | 2 => .int
  | 3 => .int
  | 4 => .int
  | 5 => .int
  | 6 => .int
  | 7 => .int
  | 8 => .int
  | 9 => .int
  | 10 => .int
  | 11 => .int
  | 12 => .array (.object "PretendDesk$House")
  | 13 => .array (.object "PretendDesk$Came")
  | 14 => .array (.object "PretendDesk$Case")
  | 15 => .array .int
  | 16 => .array .int
  | 17 => .array .int
  | 18 => .array .long
  | 19 => .array .byte
  | 20 => .array (.object "PretendDesk$Pattern")
  | 21 => .array .byte
  | _ => .array .byte
abbrev wsX30 : List Cond := u_ws RX3 TX3 23
set_option maxRecDepth 100000 in
theorem nmX3 : ∀ a, a < 23 → ∀ b, b < 23 → a ≠ b → (TX3 a).2.1 ≠ (TX3 b).2.1 := by decide +kernel
set_option maxRecDepth 100000 in
theorem tyX3_ok : ∀ k, k < 23 → parseFieldDescriptor (TX3 k).2.2.1 = some (tyX3 k) := by decide +kernel
abbrev cX3_init : ByteArray := prog_6_method_1_code
def yX3_init : MethodName := ⟨RX3, "<init>", "()V"⟩
def dkwX3_init_7 : List UInt8 := [180, 0, 53, 27, 2, 79, 132, 1, 1, 167, 255, 233, 177]
abbrev dktX3_init_7 : List UInt8 := dkwX3_init_7 ++ []
def dkwX3_init_6 : List UInt8 := [42, 180, 0, 46, 7, 16, 70, 79, 3, 60, 27, 16, 10, 162, 0, 23, 42, 180, 0, 50, 27, 2, 79, 42]
abbrev dktX3_init_6 : List UInt8 := dkwX3_init_6 ++ dktX3_init_7
def dkwX3_init_5 : List UInt8 := [17, 5, 16, 188, 8, 181, 0, 72, 42, 180, 0, 46, 5, 16, 50, 79, 42, 180, 0, 46, 6, 16, 60, 79]
abbrev dktX3_init_5 : List UInt8 := dkwX3_init_5 ++ dktX3_init_6
def dkwX3_init_4 : List UInt8 := [16, 20, 188, 8, 181, 0, 60, 42, 16, 8, 189, 0, 63, 181, 0, 65, 42, 3, 188, 8, 181, 0, 69, 42]
abbrev dktX3_init_4 : List UInt8 := dkwX3_init_4 ++ dktX3_init_5
def dkwX3_init_3 : List UInt8 := [16, 10, 188, 10, 181, 0, 50, 42, 16, 10, 188, 10, 181, 0, 53, 42, 16, 20, 188, 11, 181, 0, 56, 42]
abbrev dktX3_init_3 : List UInt8 := dkwX3_init_3 ++ dktX3_init_4
def dkwX3_init_2 : List UInt8 := [189, 0, 34, 181, 0, 36, 42, 16, 16, 189, 0, 40, 181, 0, 42, 42, 16, 8, 188, 10, 181, 0, 46, 42]
abbrev dktX3_init_2 : List UInt8 := dkwX3_init_2 ++ dktX3_init_3
def dkwX3_init_1 : List UInt8 := [42, 16, 40, 181, 0, 22, 42, 16, 30, 181, 0, 25, 42, 8, 189, 0, 28, 181, 0, 30, 42, 16, 10]
abbrev dktX3_init_1 : List UInt8 := dkwX3_init_1 ++ dktX3_init_2
def dkwX3_init_0 : List UInt8 := [42, 183, 0, 3, 42, 17, 1, 244, 188, 8, 181, 0, 9, 42, 2, 181, 0, 15, 42, 16, 10, 181, 0, 19]
abbrev dktX3_init_0 : List UInt8 := dkwX3_init_0 ++ dktX3_init_1
theorem dksX3_init_0 : cX3_init.data.toList.drop 0 = dktX3_init_0 := by decide +kernel
theorem dksX3_init_1 : cX3_init.data.toList.drop 24 = dktX3_init_1 := dk_seg dksX3_init_0 24 rfl rfl
theorem dksX3_init_2 : cX3_init.data.toList.drop 47 = dktX3_init_2 := dk_seg dksX3_init_1 23 rfl rfl
theorem dksX3_init_3 : cX3_init.data.toList.drop 71 = dktX3_init_3 := dk_seg dksX3_init_2 24 rfl rfl
theorem dksX3_init_4 : cX3_init.data.toList.drop 95 = dktX3_init_4 := dk_seg dksX3_init_3 24 rfl rfl
theorem dksX3_init_5 : cX3_init.data.toList.drop 119 = dktX3_init_5 := dk_seg dksX3_init_4 24 rfl rfl
theorem dksX3_init_6 : cX3_init.data.toList.drop 143 = dktX3_init_6 := dk_seg dksX3_init_5 24 rfl rfl
theorem dksX3_init_7 : cX3_init.data.toList.drop 167 = dktX3_init_7 := dk_seg dksX3_init_6 24 rfl rfl
theorem dX3_init_0 : decode cX3_init 0 = .ok (.aload_n 0, 1) := dk_42 (dk_at dksX3_init_0 0 rfl rfl)
theorem dX3_init_1 : decode cX3_init 1 = .ok (.invokespecial 3, 3) := dk_183 0 3 (dk_at dksX3_init_0 1 rfl rfl)
theorem dX3_init_4 : decode cX3_init 4 = .ok (.aload_n 0, 1) := dk_42 (dk_at dksX3_init_0 4 rfl rfl)
theorem dX3_init_5 : decode cX3_init 5 = .ok (.sipush 500, 3) := dk_17 1 244 (dk_at dksX3_init_0 5 rfl rfl)
theorem dX3_init_8 : decode cX3_init 8 = .ok (.newarray .byte, 2) := dk_188_8 (dk_at dksX3_init_0 8 rfl rfl)
theorem dX3_init_10 : decode cX3_init 10 = .ok (.putfield 9, 3) := dk_181 0 9 (dk_at dksX3_init_0 10 rfl rfl)
theorem dX3_init_13 : decode cX3_init 13 = .ok (.aload_n 0, 1) := dk_42 (dk_at dksX3_init_0 13 rfl rfl)
theorem dX3_init_14 : decode cX3_init 14 = .ok (.iconst (-1), 1) := dk_2 (dk_at dksX3_init_0 14 rfl rfl)
theorem dX3_init_15 : decode cX3_init 15 = .ok (.putfield 15, 3) := dk_181 0 15 (dk_at dksX3_init_0 15 rfl rfl)
theorem dX3_init_18 : decode cX3_init 18 = .ok (.aload_n 0, 1) := dk_42 (dk_at dksX3_init_0 18 rfl rfl)
theorem dX3_init_19 : decode cX3_init 19 = .ok (.bipush 10, 2) := dk_16 10 (dk_at dksX3_init_0 19 rfl rfl)
theorem dX3_init_21 : decode cX3_init 21 = .ok (.putfield 19, 3) := dk_181 0 19 (dk_at dksX3_init_0 21 rfl rfl)
theorem dX3_init_24 : decode cX3_init 24 = .ok (.aload_n 0, 1) := dk_42 (dk_at dksX3_init_1 0 rfl rfl)
theorem dX3_init_25 : decode cX3_init 25 = .ok (.bipush 40, 2) := dk_16 40 (dk_at dksX3_init_1 1 rfl rfl)
theorem dX3_init_27 : decode cX3_init 27 = .ok (.putfield 22, 3) := dk_181 0 22 (dk_at dksX3_init_1 3 rfl rfl)
theorem dX3_init_30 : decode cX3_init 30 = .ok (.aload_n 0, 1) := dk_42 (dk_at dksX3_init_1 6 rfl rfl)
theorem dX3_init_31 : decode cX3_init 31 = .ok (.bipush 30, 2) := dk_16 30 (dk_at dksX3_init_1 7 rfl rfl)
theorem dX3_init_33 : decode cX3_init 33 = .ok (.putfield 25, 3) := dk_181 0 25 (dk_at dksX3_init_1 9 rfl rfl)
theorem dX3_init_36 : decode cX3_init 36 = .ok (.aload_n 0, 1) := dk_42 (dk_at dksX3_init_1 12 rfl rfl)
theorem dX3_init_37 : decode cX3_init 37 = .ok (.iconst 5, 1) := dk_8 (dk_at dksX3_init_1 13 rfl rfl)
theorem dX3_init_38 : decode cX3_init 38 = .ok (.anewarray 28, 3) := dk_189 0 28 (dk_at dksX3_init_1 14 rfl rfl)
theorem dX3_init_41 : decode cX3_init 41 = .ok (.putfield 30, 3) := dk_181 0 30 (dk_at dksX3_init_1 17 rfl rfl)
theorem dX3_init_44 : decode cX3_init 44 = .ok (.aload_n 0, 1) := dk_42 (dk_at dksX3_init_1 20 rfl rfl)
theorem dX3_init_45 : decode cX3_init 45 = .ok (.bipush 10, 2) := dk_16 10 (dk_at dksX3_init_1 21 rfl rfl)
theorem dX3_init_47 : decode cX3_init 47 = .ok (.anewarray 34, 3) := dk_189 0 34 (dk_at dksX3_init_2 0 rfl rfl)
theorem dX3_init_50 : decode cX3_init 50 = .ok (.putfield 36, 3) := dk_181 0 36 (dk_at dksX3_init_2 3 rfl rfl)
theorem dX3_init_53 : decode cX3_init 53 = .ok (.aload_n 0, 1) := dk_42 (dk_at dksX3_init_2 6 rfl rfl)
theorem dX3_init_54 : decode cX3_init 54 = .ok (.bipush 16, 2) := dk_16 16 (dk_at dksX3_init_2 7 rfl rfl)
theorem dX3_init_56 : decode cX3_init 56 = .ok (.anewarray 40, 3) := dk_189 0 40 (dk_at dksX3_init_2 9 rfl rfl)
theorem dX3_init_59 : decode cX3_init 59 = .ok (.putfield 42, 3) := dk_181 0 42 (dk_at dksX3_init_2 12 rfl rfl)
theorem dX3_init_62 : decode cX3_init 62 = .ok (.aload_n 0, 1) := dk_42 (dk_at dksX3_init_2 15 rfl rfl)
theorem dX3_init_63 : decode cX3_init 63 = .ok (.bipush 8, 2) := dk_16 8 (dk_at dksX3_init_2 16 rfl rfl)
theorem dX3_init_65 : decode cX3_init 65 = .ok (.newarray .int, 2) := dk_188_10 (dk_at dksX3_init_2 18 rfl rfl)
theorem dX3_init_67 : decode cX3_init 67 = .ok (.putfield 46, 3) := dk_181 0 46 (dk_at dksX3_init_2 20 rfl rfl)
theorem dX3_init_70 : decode cX3_init 70 = .ok (.aload_n 0, 1) := dk_42 (dk_at dksX3_init_2 23 rfl rfl)
theorem dX3_init_71 : decode cX3_init 71 = .ok (.bipush 10, 2) := dk_16 10 (dk_at dksX3_init_3 0 rfl rfl)
theorem dX3_init_73 : decode cX3_init 73 = .ok (.newarray .int, 2) := dk_188_10 (dk_at dksX3_init_3 2 rfl rfl)
theorem dX3_init_75 : decode cX3_init 75 = .ok (.putfield 50, 3) := dk_181 0 50 (dk_at dksX3_init_3 4 rfl rfl)
theorem dX3_init_78 : decode cX3_init 78 = .ok (.aload_n 0, 1) := dk_42 (dk_at dksX3_init_3 7 rfl rfl)
theorem dX3_init_79 : decode cX3_init 79 = .ok (.bipush 10, 2) := dk_16 10 (dk_at dksX3_init_3 8 rfl rfl)
theorem dX3_init_81 : decode cX3_init 81 = .ok (.newarray .int, 2) := dk_188_10 (dk_at dksX3_init_3 10 rfl rfl)
theorem dX3_init_83 : decode cX3_init 83 = .ok (.putfield 53, 3) := dk_181 0 53 (dk_at dksX3_init_3 12 rfl rfl)
theorem dX3_init_86 : decode cX3_init 86 = .ok (.aload_n 0, 1) := dk_42 (dk_at dksX3_init_3 15 rfl rfl)
theorem dX3_init_87 : decode cX3_init 87 = .ok (.bipush 20, 2) := dk_16 20 (dk_at dksX3_init_3 16 rfl rfl)
theorem dX3_init_89 : decode cX3_init 89 = .ok (.newarray .long, 2) := dk_188_11 (dk_at dksX3_init_3 18 rfl rfl)
theorem dX3_init_91 : decode cX3_init 91 = .ok (.putfield 56, 3) := dk_181 0 56 (dk_at dksX3_init_3 20 rfl rfl)
theorem dX3_init_94 : decode cX3_init 94 = .ok (.aload_n 0, 1) := dk_42 (dk_at dksX3_init_3 23 rfl rfl)
theorem dX3_init_95 : decode cX3_init 95 = .ok (.bipush 20, 2) := dk_16 20 (dk_at dksX3_init_4 0 rfl rfl)
theorem dX3_init_97 : decode cX3_init 97 = .ok (.newarray .byte, 2) := dk_188_8 (dk_at dksX3_init_4 2 rfl rfl)
theorem dX3_init_99 : decode cX3_init 99 = .ok (.putfield 60, 3) := dk_181 0 60 (dk_at dksX3_init_4 4 rfl rfl)
theorem dX3_init_102 : decode cX3_init 102 = .ok (.aload_n 0, 1) := dk_42 (dk_at dksX3_init_4 7 rfl rfl)
theorem dX3_init_103 : decode cX3_init 103 = .ok (.bipush 8, 2) := dk_16 8 (dk_at dksX3_init_4 8 rfl rfl)
theorem dX3_init_105 : decode cX3_init 105 = .ok (.anewarray 63, 3) := dk_189 0 63 (dk_at dksX3_init_4 10 rfl rfl)
theorem dX3_init_108 : decode cX3_init 108 = .ok (.putfield 65, 3) := dk_181 0 65 (dk_at dksX3_init_4 13 rfl rfl)
theorem dX3_init_111 : decode cX3_init 111 = .ok (.aload_n 0, 1) := dk_42 (dk_at dksX3_init_4 16 rfl rfl)
theorem dX3_init_112 : decode cX3_init 112 = .ok (.iconst 0, 1) := dk_3 (dk_at dksX3_init_4 17 rfl rfl)
theorem dX3_init_113 : decode cX3_init 113 = .ok (.newarray .byte, 2) := dk_188_8 (dk_at dksX3_init_4 18 rfl rfl)
theorem dX3_init_115 : decode cX3_init 115 = .ok (.putfield 69, 3) := dk_181 0 69 (dk_at dksX3_init_4 20 rfl rfl)
theorem dX3_init_118 : decode cX3_init 118 = .ok (.aload_n 0, 1) := dk_42 (dk_at dksX3_init_4 23 rfl rfl)
theorem dX3_init_119 : decode cX3_init 119 = .ok (.sipush 1296, 3) := dk_17 5 16 (dk_at dksX3_init_5 0 rfl rfl)
theorem dX3_init_122 : decode cX3_init 122 = .ok (.newarray .byte, 2) := dk_188_8 (dk_at dksX3_init_5 3 rfl rfl)
theorem dX3_init_124 : decode cX3_init 124 = .ok (.putfield 72, 3) := dk_181 0 72 (dk_at dksX3_init_5 5 rfl rfl)
theorem dX3_init_127 : decode cX3_init 127 = .ok (.aload_n 0, 1) := dk_42 (dk_at dksX3_init_5 8 rfl rfl)
theorem dX3_init_128 : decode cX3_init 128 = .ok (.getfield 46, 3) := dk_180 0 46 (dk_at dksX3_init_5 9 rfl rfl)
theorem dX3_init_131 : decode cX3_init 131 = .ok (.iconst 2, 1) := dk_5 (dk_at dksX3_init_5 12 rfl rfl)
theorem dX3_init_132 : decode cX3_init 132 = .ok (.bipush 50, 2) := dk_16 50 (dk_at dksX3_init_5 13 rfl rfl)
theorem dX3_init_134 : decode cX3_init 134 = .ok (.iastore, 1) := dk_79 (dk_at dksX3_init_5 15 rfl rfl)
theorem dX3_init_135 : decode cX3_init 135 = .ok (.aload_n 0, 1) := dk_42 (dk_at dksX3_init_5 16 rfl rfl)
theorem dX3_init_136 : decode cX3_init 136 = .ok (.getfield 46, 3) := dk_180 0 46 (dk_at dksX3_init_5 17 rfl rfl)
theorem dX3_init_139 : decode cX3_init 139 = .ok (.iconst 3, 1) := dk_6 (dk_at dksX3_init_5 20 rfl rfl)
theorem dX3_init_140 : decode cX3_init 140 = .ok (.bipush 60, 2) := dk_16 60 (dk_at dksX3_init_5 21 rfl rfl)
theorem dX3_init_142 : decode cX3_init 142 = .ok (.iastore, 1) := dk_79 (dk_at dksX3_init_5 23 rfl rfl)
theorem dX3_init_143 : decode cX3_init 143 = .ok (.aload_n 0, 1) := dk_42 (dk_at dksX3_init_6 0 rfl rfl)
theorem dX3_init_144 : decode cX3_init 144 = .ok (.getfield 46, 3) := dk_180 0 46 (dk_at dksX3_init_6 1 rfl rfl)
theorem dX3_init_147 : decode cX3_init 147 = .ok (.iconst 4, 1) := dk_7 (dk_at dksX3_init_6 4 rfl rfl)
theorem dX3_init_148 : decode cX3_init 148 = .ok (.bipush 70, 2) := dk_16 70 (dk_at dksX3_init_6 5 rfl rfl)
theorem dX3_init_150 : decode cX3_init 150 = .ok (.iastore, 1) := dk_79 (dk_at dksX3_init_6 7 rfl rfl)
theorem dX3_init_151 : decode cX3_init 151 = .ok (.iconst 0, 1) := dk_3 (dk_at dksX3_init_6 8 rfl rfl)
theorem dX3_init_152 : decode cX3_init 152 = .ok (.istore_n 1, 1) := dk_60 (dk_at dksX3_init_6 9 rfl rfl)
theorem dX3_init_153 : decode cX3_init 153 = .ok (.iload_n 1, 1) := dk_27 (dk_at dksX3_init_6 10 rfl rfl)
theorem dX3_init_154 : decode cX3_init 154 = .ok (.bipush 10, 2) := dk_16 10 (dk_at dksX3_init_6 11 rfl rfl)
theorem dX3_init_156 : decode cX3_init 156 = .ok (.if_icmp .ge 23, 3) := dk_162 0 23 (dk_at dksX3_init_6 13 rfl rfl)
theorem dX3_init_159 : decode cX3_init 159 = .ok (.aload_n 0, 1) := dk_42 (dk_at dksX3_init_6 16 rfl rfl)
theorem dX3_init_160 : decode cX3_init 160 = .ok (.getfield 50, 3) := dk_180 0 50 (dk_at dksX3_init_6 17 rfl rfl)
theorem dX3_init_163 : decode cX3_init 163 = .ok (.iload_n 1, 1) := dk_27 (dk_at dksX3_init_6 20 rfl rfl)
theorem dX3_init_164 : decode cX3_init 164 = .ok (.iconst (-1), 1) := dk_2 (dk_at dksX3_init_6 21 rfl rfl)
theorem dX3_init_165 : decode cX3_init 165 = .ok (.iastore, 1) := dk_79 (dk_at dksX3_init_6 22 rfl rfl)
theorem dX3_init_166 : decode cX3_init 166 = .ok (.aload_n 0, 1) := dk_42 (dk_at dksX3_init_6 23 rfl rfl)
theorem dX3_init_167 : decode cX3_init 167 = .ok (.getfield 53, 3) := dk_180 0 53 (dk_at dksX3_init_7 0 rfl rfl)
theorem dX3_init_170 : decode cX3_init 170 = .ok (.iload_n 1, 1) := dk_27 (dk_at dksX3_init_7 3 rfl rfl)
theorem dX3_init_171 : decode cX3_init 171 = .ok (.iconst (-1), 1) := dk_2 (dk_at dksX3_init_7 4 rfl rfl)
theorem dX3_init_172 : decode cX3_init 172 = .ok (.iastore, 1) := dk_79 (dk_at dksX3_init_7 5 rfl rfl)
theorem dX3_init_173 : decode cX3_init 173 = .ok (.iinc 1 1, 3) := dk_132 1 1 (dk_at dksX3_init_7 6 rfl rfl)
theorem dX3_init_176 : decode cX3_init 176 = .ok (.goto (-23), 3) := dk_167 255 233 (dk_at dksX3_init_7 9 rfl rfl)
theorem dX3_init_179 : decode cX3_init 179 = .ok (.return_, 1) := dk_177 (dk_at dksX3_init_7 12 rfl rfl)
abbrev cX3_init_2 : ByteArray := prog_6_method_2_code
def yX3_init_2 : MethodName := ⟨RX3, "<init>", "(LPretendDesk$Desk;)V"⟩
def dkwX3_init_2_18 : List UInt8 := [180, 0, 72, 3, 42, 180, 0, 72, 3, 17, 5, 16, 184, 0, 78, 177]
abbrev dktX3_init_2_18 : List UInt8 := dkwX3_init_2_18 ++ []
def dkwX3_init_2_17 : List UInt8 := [180, 0, 93, 184, 0, 78, 43, 180, 0, 46, 3, 42, 180, 0, 46, 3, 16, 8, 184, 0, 78, 43]
abbrev dktX3_init_2_17 : List UInt8 := dkwX3_init_2_17 ++ dktX3_init_2_18
def dkwX3_init_2_16 : List UInt8 := [50, 183, 0, 105, 83, 132, 2, 1, 167, 255, 226, 43, 180, 0, 42, 3, 42, 180, 0, 42, 3, 42]
abbrev dktX3_init_2_16 : List UInt8 := dkwX3_init_2_16 ++ dktX3_init_2_17
def dkwX3_init_2_15 : List UInt8 := [3, 61, 28, 42, 180, 0, 90, 162, 0, 28, 42, 180, 0, 36, 28, 187, 0, 34, 89, 43, 180, 0, 36, 28]
abbrev dktX3_init_2_15 : List UInt8 := dkwX3_init_2_15 ++ dktX3_init_2_16
def dkwX3_init_2_14 : List UInt8 := [180, 0, 30, 28, 187, 0, 28, 89, 43, 180, 0, 30, 28, 50, 183, 0, 102, 83, 132, 2, 1, 167, 255, 226]
abbrev dktX3_init_2_14 : List UInt8 := dkwX3_init_2_14 ++ dktX3_init_2_15
def dkwX3_init_2_13 : List UInt8 := [3, 42, 180, 0, 65, 3, 42, 180, 0, 99, 184, 0, 78, 3, 61, 28, 42, 180, 0, 87, 162, 0, 28, 42]
abbrev dktX3_init_2_13 : List UInt8 := dkwX3_init_2_13 ++ dktX3_init_2_14
def dkwX3_init_2_12 : List UInt8 := [184, 0, 78, 43, 180, 0, 60, 3, 42, 180, 0, 60, 3, 42, 180, 0, 96, 184, 0, 78, 43, 180, 0, 65]
abbrev dktX3_init_2_12 : List UInt8 := dkwX3_init_2_12 ++ dktX3_init_2_13
def dkwX3_init_2_11 : List UInt8 := [180, 0, 53, 3, 16, 10, 184, 0, 78, 43, 180, 0, 56, 3, 42, 180, 0, 56, 3, 42, 180, 0, 96]
abbrev dktX3_init_2_11 : List UInt8 := dkwX3_init_2_11 ++ dktX3_init_2_12
def dkwX3_init_2_10 : List UInt8 := [181, 0, 69, 43, 180, 0, 50, 3, 42, 180, 0, 50, 3, 16, 10, 184, 0, 78, 43, 180, 0, 53, 3, 42]
abbrev dktX3_init_2_10 : List UInt8 := dkwX3_init_2_10 ++ dktX3_init_2_11
def dkwX3_init_2_9 : List UInt8 := [181, 0, 25, 42, 43, 180, 0, 96, 181, 0, 96, 42, 43, 180, 0, 99, 181, 0, 99, 42, 43, 180, 0, 69]
abbrev dktX3_init_2_9 : List UInt8 := dkwX3_init_2_9 ++ dktX3_init_2_10
def dkwX3_init_2_8 : List UInt8 := [181, 0, 93, 42, 43, 180, 0, 19, 181, 0, 19, 42, 43, 180, 0, 22, 181, 0, 22, 42, 43, 180, 0, 25]
abbrev dktX3_init_2_8 : List UInt8 := dkwX3_init_2_8 ++ dktX3_init_2_9
def dkwX3_init_2_7 : List UInt8 := [181, 0, 15, 42, 43, 180, 0, 87, 181, 0, 87, 42, 43, 180, 0, 90, 181, 0, 90, 42, 43, 180, 0, 93]
abbrev dktX3_init_2_7 : List UInt8 := dkwX3_init_2_7 ++ dktX3_init_2_8
def dkwX3_init_2_6 : List UInt8 := [184, 0, 78, 42, 43, 180, 0, 75, 181, 0, 75, 42, 43, 180, 0, 84, 181, 0, 84, 42, 43, 180, 0, 15]
abbrev dktX3_init_2_6 : List UInt8 := dkwX3_init_2_6 ++ dktX3_init_2_7
def dkwX3_init_2_5 : List UInt8 := [17, 5, 16, 188, 8, 181, 0, 72, 43, 180, 0, 9, 3, 42, 180, 0, 9, 3, 43, 180, 0, 75]
abbrev dktX3_init_2_5 : List UInt8 := dkwX3_init_2_5 ++ dktX3_init_2_6
def dkwX3_init_2_4 : List UInt8 := [16, 20, 188, 8, 181, 0, 60, 42, 16, 8, 189, 0, 63, 181, 0, 65, 42, 3, 188, 8, 181, 0, 69, 42]
abbrev dktX3_init_2_4 : List UInt8 := dkwX3_init_2_4 ++ dktX3_init_2_5
def dkwX3_init_2_3 : List UInt8 := [16, 10, 188, 10, 181, 0, 50, 42, 16, 10, 188, 10, 181, 0, 53, 42, 16, 20, 188, 11, 181, 0, 56, 42]
abbrev dktX3_init_2_3 : List UInt8 := dkwX3_init_2_3 ++ dktX3_init_2_4
def dkwX3_init_2_2 : List UInt8 := [189, 0, 34, 181, 0, 36, 42, 16, 16, 189, 0, 40, 181, 0, 42, 42, 16, 8, 188, 10, 181, 0, 46, 42]
abbrev dktX3_init_2_2 : List UInt8 := dkwX3_init_2_2 ++ dktX3_init_2_3
def dkwX3_init_2_1 : List UInt8 := [42, 16, 40, 181, 0, 22, 42, 16, 30, 181, 0, 25, 42, 8, 189, 0, 28, 181, 0, 30, 42, 16, 10]
abbrev dktX3_init_2_1 : List UInt8 := dkwX3_init_2_1 ++ dktX3_init_2_2
def dkwX3_init_2_0 : List UInt8 := [42, 183, 0, 3, 42, 17, 1, 244, 188, 8, 181, 0, 9, 42, 2, 181, 0, 15, 42, 16, 10, 181, 0, 19]
abbrev dktX3_init_2_0 : List UInt8 := dkwX3_init_2_0 ++ dktX3_init_2_1
theorem dksX3_init_2_0 : cX3_init_2.data.toList.drop 0 = dktX3_init_2_0 := by decide +kernel
theorem dksX3_init_2_1 : cX3_init_2.data.toList.drop 24 = dktX3_init_2_1 := dk_seg dksX3_init_2_0 24 rfl rfl
theorem dksX3_init_2_2 : cX3_init_2.data.toList.drop 47 = dktX3_init_2_2 := dk_seg dksX3_init_2_1 23 rfl rfl
theorem dksX3_init_2_3 : cX3_init_2.data.toList.drop 71 = dktX3_init_2_3 := dk_seg dksX3_init_2_2 24 rfl rfl
theorem dksX3_init_2_4 : cX3_init_2.data.toList.drop 95 = dktX3_init_2_4 := dk_seg dksX3_init_2_3 24 rfl rfl
theorem dksX3_init_2_5 : cX3_init_2.data.toList.drop 119 = dktX3_init_2_5 := dk_seg dksX3_init_2_4 24 rfl rfl
theorem dksX3_init_2_6 : cX3_init_2.data.toList.drop 141 = dktX3_init_2_6 := dk_seg dksX3_init_2_5 22 rfl rfl
theorem dksX3_init_2_7 : cX3_init_2.data.toList.drop 165 = dktX3_init_2_7 := dk_seg dksX3_init_2_6 24 rfl rfl
theorem dksX3_init_2_8 : cX3_init_2.data.toList.drop 189 = dktX3_init_2_8 := dk_seg dksX3_init_2_7 24 rfl rfl
theorem dksX3_init_2_9 : cX3_init_2.data.toList.drop 213 = dktX3_init_2_9 := dk_seg dksX3_init_2_8 24 rfl rfl
theorem dksX3_init_2_10 : cX3_init_2.data.toList.drop 237 = dktX3_init_2_10 := dk_seg dksX3_init_2_9 24 rfl rfl
theorem dksX3_init_2_11 : cX3_init_2.data.toList.drop 261 = dktX3_init_2_11 := dk_seg dksX3_init_2_10 24 rfl rfl
theorem dksX3_init_2_12 : cX3_init_2.data.toList.drop 284 = dktX3_init_2_12 := dk_seg dksX3_init_2_11 23 rfl rfl
theorem dksX3_init_2_13 : cX3_init_2.data.toList.drop 308 = dktX3_init_2_13 := dk_seg dksX3_init_2_12 24 rfl rfl
theorem dksX3_init_2_14 : cX3_init_2.data.toList.drop 332 = dktX3_init_2_14 := dk_seg dksX3_init_2_13 24 rfl rfl
theorem dksX3_init_2_15 : cX3_init_2.data.toList.drop 356 = dktX3_init_2_15 := dk_seg dksX3_init_2_14 24 rfl rfl
theorem dksX3_init_2_16 : cX3_init_2.data.toList.drop 380 = dktX3_init_2_16 := dk_seg dksX3_init_2_15 24 rfl rfl
theorem dksX3_init_2_17 : cX3_init_2.data.toList.drop 402 = dktX3_init_2_17 := dk_seg dksX3_init_2_16 22 rfl rfl
theorem dksX3_init_2_18 : cX3_init_2.data.toList.drop 424 = dktX3_init_2_18 := dk_seg dksX3_init_2_17 22 rfl rfl
theorem dX3_init_2_0 : decode cX3_init_2 0 = .ok (.aload_n 0, 1) := dk_42 (dk_at dksX3_init_2_0 0 rfl rfl)
theorem dX3_init_2_1 : decode cX3_init_2 1 = .ok (.invokespecial 3, 3) := dk_183 0 3 (dk_at dksX3_init_2_0 1 rfl rfl)
theorem dX3_init_2_4 : decode cX3_init_2 4 = .ok (.aload_n 0, 1) := dk_42 (dk_at dksX3_init_2_0 4 rfl rfl)
theorem dX3_init_2_5 : decode cX3_init_2 5 = .ok (.sipush 500, 3) := dk_17 1 244 (dk_at dksX3_init_2_0 5 rfl rfl)
theorem dX3_init_2_8 : decode cX3_init_2 8 = .ok (.newarray .byte, 2) := dk_188_8 (dk_at dksX3_init_2_0 8 rfl rfl)
theorem dX3_init_2_10 : decode cX3_init_2 10 = .ok (.putfield 9, 3) := dk_181 0 9 (dk_at dksX3_init_2_0 10 rfl rfl)
theorem dX3_init_2_13 : decode cX3_init_2 13 = .ok (.aload_n 0, 1) := dk_42 (dk_at dksX3_init_2_0 13 rfl rfl)
theorem dX3_init_2_14 : decode cX3_init_2 14 = .ok (.iconst (-1), 1) := dk_2 (dk_at dksX3_init_2_0 14 rfl rfl)
theorem dX3_init_2_15 : decode cX3_init_2 15 = .ok (.putfield 15, 3) := dk_181 0 15 (dk_at dksX3_init_2_0 15 rfl rfl)
theorem dX3_init_2_18 : decode cX3_init_2 18 = .ok (.aload_n 0, 1) := dk_42 (dk_at dksX3_init_2_0 18 rfl rfl)
theorem dX3_init_2_19 : decode cX3_init_2 19 = .ok (.bipush 10, 2) := dk_16 10 (dk_at dksX3_init_2_0 19 rfl rfl)
theorem dX3_init_2_21 : decode cX3_init_2 21 = .ok (.putfield 19, 3) := dk_181 0 19 (dk_at dksX3_init_2_0 21 rfl rfl)
theorem dX3_init_2_24 : decode cX3_init_2 24 = .ok (.aload_n 0, 1) := dk_42 (dk_at dksX3_init_2_1 0 rfl rfl)
theorem dX3_init_2_25 : decode cX3_init_2 25 = .ok (.bipush 40, 2) := dk_16 40 (dk_at dksX3_init_2_1 1 rfl rfl)
theorem dX3_init_2_27 : decode cX3_init_2 27 = .ok (.putfield 22, 3) := dk_181 0 22 (dk_at dksX3_init_2_1 3 rfl rfl)
theorem dX3_init_2_30 : decode cX3_init_2 30 = .ok (.aload_n 0, 1) := dk_42 (dk_at dksX3_init_2_1 6 rfl rfl)
theorem dX3_init_2_31 : decode cX3_init_2 31 = .ok (.bipush 30, 2) := dk_16 30 (dk_at dksX3_init_2_1 7 rfl rfl)
theorem dX3_init_2_33 : decode cX3_init_2 33 = .ok (.putfield 25, 3) := dk_181 0 25 (dk_at dksX3_init_2_1 9 rfl rfl)
theorem dX3_init_2_36 : decode cX3_init_2 36 = .ok (.aload_n 0, 1) := dk_42 (dk_at dksX3_init_2_1 12 rfl rfl)
theorem dX3_init_2_37 : decode cX3_init_2 37 = .ok (.iconst 5, 1) := dk_8 (dk_at dksX3_init_2_1 13 rfl rfl)
theorem dX3_init_2_38 : decode cX3_init_2 38 = .ok (.anewarray 28, 3) := dk_189 0 28 (dk_at dksX3_init_2_1 14 rfl rfl)
theorem dX3_init_2_41 : decode cX3_init_2 41 = .ok (.putfield 30, 3) := dk_181 0 30 (dk_at dksX3_init_2_1 17 rfl rfl)
theorem dX3_init_2_44 : decode cX3_init_2 44 = .ok (.aload_n 0, 1) := dk_42 (dk_at dksX3_init_2_1 20 rfl rfl)
theorem dX3_init_2_45 : decode cX3_init_2 45 = .ok (.bipush 10, 2) := dk_16 10 (dk_at dksX3_init_2_1 21 rfl rfl)
theorem dX3_init_2_47 : decode cX3_init_2 47 = .ok (.anewarray 34, 3) := dk_189 0 34 (dk_at dksX3_init_2_2 0 rfl rfl)
theorem dX3_init_2_50 : decode cX3_init_2 50 = .ok (.putfield 36, 3) := dk_181 0 36 (dk_at dksX3_init_2_2 3 rfl rfl)
theorem dX3_init_2_53 : decode cX3_init_2 53 = .ok (.aload_n 0, 1) := dk_42 (dk_at dksX3_init_2_2 6 rfl rfl)
theorem dX3_init_2_54 : decode cX3_init_2 54 = .ok (.bipush 16, 2) := dk_16 16 (dk_at dksX3_init_2_2 7 rfl rfl)
theorem dX3_init_2_56 : decode cX3_init_2 56 = .ok (.anewarray 40, 3) := dk_189 0 40 (dk_at dksX3_init_2_2 9 rfl rfl)
theorem dX3_init_2_59 : decode cX3_init_2 59 = .ok (.putfield 42, 3) := dk_181 0 42 (dk_at dksX3_init_2_2 12 rfl rfl)
theorem dX3_init_2_62 : decode cX3_init_2 62 = .ok (.aload_n 0, 1) := dk_42 (dk_at dksX3_init_2_2 15 rfl rfl)
theorem dX3_init_2_63 : decode cX3_init_2 63 = .ok (.bipush 8, 2) := dk_16 8 (dk_at dksX3_init_2_2 16 rfl rfl)
theorem dX3_init_2_65 : decode cX3_init_2 65 = .ok (.newarray .int, 2) := dk_188_10 (dk_at dksX3_init_2_2 18 rfl rfl)
theorem dX3_init_2_67 : decode cX3_init_2 67 = .ok (.putfield 46, 3) := dk_181 0 46 (dk_at dksX3_init_2_2 20 rfl rfl)
theorem dX3_init_2_70 : decode cX3_init_2 70 = .ok (.aload_n 0, 1) := dk_42 (dk_at dksX3_init_2_2 23 rfl rfl)
theorem dX3_init_2_71 : decode cX3_init_2 71 = .ok (.bipush 10, 2) := dk_16 10 (dk_at dksX3_init_2_3 0 rfl rfl)
theorem dX3_init_2_73 : decode cX3_init_2 73 = .ok (.newarray .int, 2) := dk_188_10 (dk_at dksX3_init_2_3 2 rfl rfl)
theorem dX3_init_2_75 : decode cX3_init_2 75 = .ok (.putfield 50, 3) := dk_181 0 50 (dk_at dksX3_init_2_3 4 rfl rfl)
theorem dX3_init_2_78 : decode cX3_init_2 78 = .ok (.aload_n 0, 1) := dk_42 (dk_at dksX3_init_2_3 7 rfl rfl)
theorem dX3_init_2_79 : decode cX3_init_2 79 = .ok (.bipush 10, 2) := dk_16 10 (dk_at dksX3_init_2_3 8 rfl rfl)
theorem dX3_init_2_81 : decode cX3_init_2 81 = .ok (.newarray .int, 2) := dk_188_10 (dk_at dksX3_init_2_3 10 rfl rfl)
theorem dX3_init_2_83 : decode cX3_init_2 83 = .ok (.putfield 53, 3) := dk_181 0 53 (dk_at dksX3_init_2_3 12 rfl rfl)
theorem dX3_init_2_86 : decode cX3_init_2 86 = .ok (.aload_n 0, 1) := dk_42 (dk_at dksX3_init_2_3 15 rfl rfl)
theorem dX3_init_2_87 : decode cX3_init_2 87 = .ok (.bipush 20, 2) := dk_16 20 (dk_at dksX3_init_2_3 16 rfl rfl)
theorem dX3_init_2_89 : decode cX3_init_2 89 = .ok (.newarray .long, 2) := dk_188_11 (dk_at dksX3_init_2_3 18 rfl rfl)
theorem dX3_init_2_91 : decode cX3_init_2 91 = .ok (.putfield 56, 3) := dk_181 0 56 (dk_at dksX3_init_2_3 20 rfl rfl)
theorem dX3_init_2_94 : decode cX3_init_2 94 = .ok (.aload_n 0, 1) := dk_42 (dk_at dksX3_init_2_3 23 rfl rfl)
theorem dX3_init_2_95 : decode cX3_init_2 95 = .ok (.bipush 20, 2) := dk_16 20 (dk_at dksX3_init_2_4 0 rfl rfl)
theorem dX3_init_2_97 : decode cX3_init_2 97 = .ok (.newarray .byte, 2) := dk_188_8 (dk_at dksX3_init_2_4 2 rfl rfl)
theorem dX3_init_2_99 : decode cX3_init_2 99 = .ok (.putfield 60, 3) := dk_181 0 60 (dk_at dksX3_init_2_4 4 rfl rfl)
theorem dX3_init_2_102 : decode cX3_init_2 102 = .ok (.aload_n 0, 1) := dk_42 (dk_at dksX3_init_2_4 7 rfl rfl)
theorem dX3_init_2_103 : decode cX3_init_2 103 = .ok (.bipush 8, 2) := dk_16 8 (dk_at dksX3_init_2_4 8 rfl rfl)
theorem dX3_init_2_105 : decode cX3_init_2 105 = .ok (.anewarray 63, 3) := dk_189 0 63 (dk_at dksX3_init_2_4 10 rfl rfl)
theorem dX3_init_2_108 : decode cX3_init_2 108 = .ok (.putfield 65, 3) := dk_181 0 65 (dk_at dksX3_init_2_4 13 rfl rfl)
theorem dX3_init_2_111 : decode cX3_init_2 111 = .ok (.aload_n 0, 1) := dk_42 (dk_at dksX3_init_2_4 16 rfl rfl)
theorem dX3_init_2_112 : decode cX3_init_2 112 = .ok (.iconst 0, 1) := dk_3 (dk_at dksX3_init_2_4 17 rfl rfl)
theorem dX3_init_2_113 : decode cX3_init_2 113 = .ok (.newarray .byte, 2) := dk_188_8 (dk_at dksX3_init_2_4 18 rfl rfl)
theorem dX3_init_2_115 : decode cX3_init_2 115 = .ok (.putfield 69, 3) := dk_181 0 69 (dk_at dksX3_init_2_4 20 rfl rfl)
theorem dX3_init_2_118 : decode cX3_init_2 118 = .ok (.aload_n 0, 1) := dk_42 (dk_at dksX3_init_2_4 23 rfl rfl)
theorem dX3_init_2_119 : decode cX3_init_2 119 = .ok (.sipush 1296, 3) := dk_17 5 16 (dk_at dksX3_init_2_5 0 rfl rfl)
theorem dX3_init_2_122 : decode cX3_init_2 122 = .ok (.newarray .byte, 2) := dk_188_8 (dk_at dksX3_init_2_5 3 rfl rfl)
theorem dX3_init_2_124 : decode cX3_init_2 124 = .ok (.putfield 72, 3) := dk_181 0 72 (dk_at dksX3_init_2_5 5 rfl rfl)
theorem dX3_init_2_127 : decode cX3_init_2 127 = .ok (.aload_n 1, 1) := dk_43 (dk_at dksX3_init_2_5 8 rfl rfl)
theorem dX3_init_2_128 : decode cX3_init_2 128 = .ok (.getfield 9, 3) := dk_180 0 9 (dk_at dksX3_init_2_5 9 rfl rfl)
theorem dX3_init_2_131 : decode cX3_init_2 131 = .ok (.iconst 0, 1) := dk_3 (dk_at dksX3_init_2_5 12 rfl rfl)
theorem dX3_init_2_132 : decode cX3_init_2 132 = .ok (.aload_n 0, 1) := dk_42 (dk_at dksX3_init_2_5 13 rfl rfl)
theorem dX3_init_2_133 : decode cX3_init_2 133 = .ok (.getfield 9, 3) := dk_180 0 9 (dk_at dksX3_init_2_5 14 rfl rfl)
theorem dX3_init_2_136 : decode cX3_init_2 136 = .ok (.iconst 0, 1) := dk_3 (dk_at dksX3_init_2_5 17 rfl rfl)
theorem dX3_init_2_137 : decode cX3_init_2 137 = .ok (.aload_n 1, 1) := dk_43 (dk_at dksX3_init_2_5 18 rfl rfl)
theorem dX3_init_2_138 : decode cX3_init_2 138 = .ok (.getfield 75, 3) := dk_180 0 75 (dk_at dksX3_init_2_5 19 rfl rfl)
theorem dX3_init_2_141 : decode cX3_init_2 141 = .ok (.invokestatic 78, 3) := dk_184 0 78 (dk_at dksX3_init_2_6 0 rfl rfl)
theorem dX3_init_2_144 : decode cX3_init_2 144 = .ok (.aload_n 0, 1) := dk_42 (dk_at dksX3_init_2_6 3 rfl rfl)
theorem dX3_init_2_145 : decode cX3_init_2 145 = .ok (.aload_n 1, 1) := dk_43 (dk_at dksX3_init_2_6 4 rfl rfl)
theorem dX3_init_2_146 : decode cX3_init_2 146 = .ok (.getfield 75, 3) := dk_180 0 75 (dk_at dksX3_init_2_6 5 rfl rfl)
theorem dX3_init_2_149 : decode cX3_init_2 149 = .ok (.putfield 75, 3) := dk_181 0 75 (dk_at dksX3_init_2_6 8 rfl rfl)
theorem dX3_init_2_152 : decode cX3_init_2 152 = .ok (.aload_n 0, 1) := dk_42 (dk_at dksX3_init_2_6 11 rfl rfl)
theorem dX3_init_2_153 : decode cX3_init_2 153 = .ok (.aload_n 1, 1) := dk_43 (dk_at dksX3_init_2_6 12 rfl rfl)
theorem dX3_init_2_154 : decode cX3_init_2 154 = .ok (.getfield 84, 3) := dk_180 0 84 (dk_at dksX3_init_2_6 13 rfl rfl)
theorem dX3_init_2_157 : decode cX3_init_2 157 = .ok (.putfield 84, 3) := dk_181 0 84 (dk_at dksX3_init_2_6 16 rfl rfl)
theorem dX3_init_2_160 : decode cX3_init_2 160 = .ok (.aload_n 0, 1) := dk_42 (dk_at dksX3_init_2_6 19 rfl rfl)
theorem dX3_init_2_161 : decode cX3_init_2 161 = .ok (.aload_n 1, 1) := dk_43 (dk_at dksX3_init_2_6 20 rfl rfl)
theorem dX3_init_2_162 : decode cX3_init_2 162 = .ok (.getfield 15, 3) := dk_180 0 15 (dk_at dksX3_init_2_6 21 rfl rfl)
theorem dX3_init_2_165 : decode cX3_init_2 165 = .ok (.putfield 15, 3) := dk_181 0 15 (dk_at dksX3_init_2_7 0 rfl rfl)
theorem dX3_init_2_168 : decode cX3_init_2 168 = .ok (.aload_n 0, 1) := dk_42 (dk_at dksX3_init_2_7 3 rfl rfl)
theorem dX3_init_2_169 : decode cX3_init_2 169 = .ok (.aload_n 1, 1) := dk_43 (dk_at dksX3_init_2_7 4 rfl rfl)
theorem dX3_init_2_170 : decode cX3_init_2 170 = .ok (.getfield 87, 3) := dk_180 0 87 (dk_at dksX3_init_2_7 5 rfl rfl)
theorem dX3_init_2_173 : decode cX3_init_2 173 = .ok (.putfield 87, 3) := dk_181 0 87 (dk_at dksX3_init_2_7 8 rfl rfl)
theorem dX3_init_2_176 : decode cX3_init_2 176 = .ok (.aload_n 0, 1) := dk_42 (dk_at dksX3_init_2_7 11 rfl rfl)
theorem dX3_init_2_177 : decode cX3_init_2 177 = .ok (.aload_n 1, 1) := dk_43 (dk_at dksX3_init_2_7 12 rfl rfl)
theorem dX3_init_2_178 : decode cX3_init_2 178 = .ok (.getfield 90, 3) := dk_180 0 90 (dk_at dksX3_init_2_7 13 rfl rfl)
theorem dX3_init_2_181 : decode cX3_init_2 181 = .ok (.putfield 90, 3) := dk_181 0 90 (dk_at dksX3_init_2_7 16 rfl rfl)
theorem dX3_init_2_184 : decode cX3_init_2 184 = .ok (.aload_n 0, 1) := dk_42 (dk_at dksX3_init_2_7 19 rfl rfl)
theorem dX3_init_2_185 : decode cX3_init_2 185 = .ok (.aload_n 1, 1) := dk_43 (dk_at dksX3_init_2_7 20 rfl rfl)
theorem dX3_init_2_186 : decode cX3_init_2 186 = .ok (.getfield 93, 3) := dk_180 0 93 (dk_at dksX3_init_2_7 21 rfl rfl)
theorem dX3_init_2_189 : decode cX3_init_2 189 = .ok (.putfield 93, 3) := dk_181 0 93 (dk_at dksX3_init_2_8 0 rfl rfl)
theorem dX3_init_2_192 : decode cX3_init_2 192 = .ok (.aload_n 0, 1) := dk_42 (dk_at dksX3_init_2_8 3 rfl rfl)
theorem dX3_init_2_193 : decode cX3_init_2 193 = .ok (.aload_n 1, 1) := dk_43 (dk_at dksX3_init_2_8 4 rfl rfl)
theorem dX3_init_2_194 : decode cX3_init_2 194 = .ok (.getfield 19, 3) := dk_180 0 19 (dk_at dksX3_init_2_8 5 rfl rfl)
theorem dX3_init_2_197 : decode cX3_init_2 197 = .ok (.putfield 19, 3) := dk_181 0 19 (dk_at dksX3_init_2_8 8 rfl rfl)
theorem dX3_init_2_200 : decode cX3_init_2 200 = .ok (.aload_n 0, 1) := dk_42 (dk_at dksX3_init_2_8 11 rfl rfl)
theorem dX3_init_2_201 : decode cX3_init_2 201 = .ok (.aload_n 1, 1) := dk_43 (dk_at dksX3_init_2_8 12 rfl rfl)
theorem dX3_init_2_202 : decode cX3_init_2 202 = .ok (.getfield 22, 3) := dk_180 0 22 (dk_at dksX3_init_2_8 13 rfl rfl)
theorem dX3_init_2_205 : decode cX3_init_2 205 = .ok (.putfield 22, 3) := dk_181 0 22 (dk_at dksX3_init_2_8 16 rfl rfl)
theorem dX3_init_2_208 : decode cX3_init_2 208 = .ok (.aload_n 0, 1) := dk_42 (dk_at dksX3_init_2_8 19 rfl rfl)
theorem dX3_init_2_209 : decode cX3_init_2 209 = .ok (.aload_n 1, 1) := dk_43 (dk_at dksX3_init_2_8 20 rfl rfl)
theorem dX3_init_2_210 : decode cX3_init_2 210 = .ok (.getfield 25, 3) := dk_180 0 25 (dk_at dksX3_init_2_8 21 rfl rfl)
theorem dX3_init_2_213 : decode cX3_init_2 213 = .ok (.putfield 25, 3) := dk_181 0 25 (dk_at dksX3_init_2_9 0 rfl rfl)
theorem dX3_init_2_216 : decode cX3_init_2 216 = .ok (.aload_n 0, 1) := dk_42 (dk_at dksX3_init_2_9 3 rfl rfl)
theorem dX3_init_2_217 : decode cX3_init_2 217 = .ok (.aload_n 1, 1) := dk_43 (dk_at dksX3_init_2_9 4 rfl rfl)
theorem dX3_init_2_218 : decode cX3_init_2 218 = .ok (.getfield 96, 3) := dk_180 0 96 (dk_at dksX3_init_2_9 5 rfl rfl)
theorem dX3_init_2_221 : decode cX3_init_2 221 = .ok (.putfield 96, 3) := dk_181 0 96 (dk_at dksX3_init_2_9 8 rfl rfl)
theorem dX3_init_2_224 : decode cX3_init_2 224 = .ok (.aload_n 0, 1) := dk_42 (dk_at dksX3_init_2_9 11 rfl rfl)
theorem dX3_init_2_225 : decode cX3_init_2 225 = .ok (.aload_n 1, 1) := dk_43 (dk_at dksX3_init_2_9 12 rfl rfl)
theorem dX3_init_2_226 : decode cX3_init_2 226 = .ok (.getfield 99, 3) := dk_180 0 99 (dk_at dksX3_init_2_9 13 rfl rfl)
theorem dX3_init_2_229 : decode cX3_init_2 229 = .ok (.putfield 99, 3) := dk_181 0 99 (dk_at dksX3_init_2_9 16 rfl rfl)
theorem dX3_init_2_232 : decode cX3_init_2 232 = .ok (.aload_n 0, 1) := dk_42 (dk_at dksX3_init_2_9 19 rfl rfl)
theorem dX3_init_2_233 : decode cX3_init_2 233 = .ok (.aload_n 1, 1) := dk_43 (dk_at dksX3_init_2_9 20 rfl rfl)
theorem dX3_init_2_234 : decode cX3_init_2 234 = .ok (.getfield 69, 3) := dk_180 0 69 (dk_at dksX3_init_2_9 21 rfl rfl)
theorem dX3_init_2_237 : decode cX3_init_2 237 = .ok (.putfield 69, 3) := dk_181 0 69 (dk_at dksX3_init_2_10 0 rfl rfl)
theorem dX3_init_2_240 : decode cX3_init_2 240 = .ok (.aload_n 1, 1) := dk_43 (dk_at dksX3_init_2_10 3 rfl rfl)
theorem dX3_init_2_241 : decode cX3_init_2 241 = .ok (.getfield 50, 3) := dk_180 0 50 (dk_at dksX3_init_2_10 4 rfl rfl)
theorem dX3_init_2_244 : decode cX3_init_2 244 = .ok (.iconst 0, 1) := dk_3 (dk_at dksX3_init_2_10 7 rfl rfl)
theorem dX3_init_2_245 : decode cX3_init_2 245 = .ok (.aload_n 0, 1) := dk_42 (dk_at dksX3_init_2_10 8 rfl rfl)
theorem dX3_init_2_246 : decode cX3_init_2 246 = .ok (.getfield 50, 3) := dk_180 0 50 (dk_at dksX3_init_2_10 9 rfl rfl)
theorem dX3_init_2_249 : decode cX3_init_2 249 = .ok (.iconst 0, 1) := dk_3 (dk_at dksX3_init_2_10 12 rfl rfl)
theorem dX3_init_2_250 : decode cX3_init_2 250 = .ok (.bipush 10, 2) := dk_16 10 (dk_at dksX3_init_2_10 13 rfl rfl)
theorem dX3_init_2_252 : decode cX3_init_2 252 = .ok (.invokestatic 78, 3) := dk_184 0 78 (dk_at dksX3_init_2_10 15 rfl rfl)
theorem dX3_init_2_255 : decode cX3_init_2 255 = .ok (.aload_n 1, 1) := dk_43 (dk_at dksX3_init_2_10 18 rfl rfl)
theorem dX3_init_2_256 : decode cX3_init_2 256 = .ok (.getfield 53, 3) := dk_180 0 53 (dk_at dksX3_init_2_10 19 rfl rfl)
theorem dX3_init_2_259 : decode cX3_init_2 259 = .ok (.iconst 0, 1) := dk_3 (dk_at dksX3_init_2_10 22 rfl rfl)
theorem dX3_init_2_260 : decode cX3_init_2 260 = .ok (.aload_n 0, 1) := dk_42 (dk_at dksX3_init_2_10 23 rfl rfl)
theorem dX3_init_2_261 : decode cX3_init_2 261 = .ok (.getfield 53, 3) := dk_180 0 53 (dk_at dksX3_init_2_11 0 rfl rfl)
theorem dX3_init_2_264 : decode cX3_init_2 264 = .ok (.iconst 0, 1) := dk_3 (dk_at dksX3_init_2_11 3 rfl rfl)
theorem dX3_init_2_265 : decode cX3_init_2 265 = .ok (.bipush 10, 2) := dk_16 10 (dk_at dksX3_init_2_11 4 rfl rfl)
theorem dX3_init_2_267 : decode cX3_init_2 267 = .ok (.invokestatic 78, 3) := dk_184 0 78 (dk_at dksX3_init_2_11 6 rfl rfl)
theorem dX3_init_2_270 : decode cX3_init_2 270 = .ok (.aload_n 1, 1) := dk_43 (dk_at dksX3_init_2_11 9 rfl rfl)
theorem dX3_init_2_271 : decode cX3_init_2 271 = .ok (.getfield 56, 3) := dk_180 0 56 (dk_at dksX3_init_2_11 10 rfl rfl)
theorem dX3_init_2_274 : decode cX3_init_2 274 = .ok (.iconst 0, 1) := dk_3 (dk_at dksX3_init_2_11 13 rfl rfl)
theorem dX3_init_2_275 : decode cX3_init_2 275 = .ok (.aload_n 0, 1) := dk_42 (dk_at dksX3_init_2_11 14 rfl rfl)
theorem dX3_init_2_276 : decode cX3_init_2 276 = .ok (.getfield 56, 3) := dk_180 0 56 (dk_at dksX3_init_2_11 15 rfl rfl)
theorem dX3_init_2_279 : decode cX3_init_2 279 = .ok (.iconst 0, 1) := dk_3 (dk_at dksX3_init_2_11 18 rfl rfl)
theorem dX3_init_2_280 : decode cX3_init_2 280 = .ok (.aload_n 0, 1) := dk_42 (dk_at dksX3_init_2_11 19 rfl rfl)
theorem dX3_init_2_281 : decode cX3_init_2 281 = .ok (.getfield 96, 3) := dk_180 0 96 (dk_at dksX3_init_2_11 20 rfl rfl)
theorem dX3_init_2_284 : decode cX3_init_2 284 = .ok (.invokestatic 78, 3) := dk_184 0 78 (dk_at dksX3_init_2_12 0 rfl rfl)
theorem dX3_init_2_287 : decode cX3_init_2 287 = .ok (.aload_n 1, 1) := dk_43 (dk_at dksX3_init_2_12 3 rfl rfl)
theorem dX3_init_2_288 : decode cX3_init_2 288 = .ok (.getfield 60, 3) := dk_180 0 60 (dk_at dksX3_init_2_12 4 rfl rfl)
theorem dX3_init_2_291 : decode cX3_init_2 291 = .ok (.iconst 0, 1) := dk_3 (dk_at dksX3_init_2_12 7 rfl rfl)
theorem dX3_init_2_292 : decode cX3_init_2 292 = .ok (.aload_n 0, 1) := dk_42 (dk_at dksX3_init_2_12 8 rfl rfl)
theorem dX3_init_2_293 : decode cX3_init_2 293 = .ok (.getfield 60, 3) := dk_180 0 60 (dk_at dksX3_init_2_12 9 rfl rfl)
theorem dX3_init_2_296 : decode cX3_init_2 296 = .ok (.iconst 0, 1) := dk_3 (dk_at dksX3_init_2_12 12 rfl rfl)
theorem dX3_init_2_297 : decode cX3_init_2 297 = .ok (.aload_n 0, 1) := dk_42 (dk_at dksX3_init_2_12 13 rfl rfl)
theorem dX3_init_2_298 : decode cX3_init_2 298 = .ok (.getfield 96, 3) := dk_180 0 96 (dk_at dksX3_init_2_12 14 rfl rfl)
theorem dX3_init_2_301 : decode cX3_init_2 301 = .ok (.invokestatic 78, 3) := dk_184 0 78 (dk_at dksX3_init_2_12 17 rfl rfl)
theorem dX3_init_2_304 : decode cX3_init_2 304 = .ok (.aload_n 1, 1) := dk_43 (dk_at dksX3_init_2_12 20 rfl rfl)
theorem dX3_init_2_305 : decode cX3_init_2 305 = .ok (.getfield 65, 3) := dk_180 0 65 (dk_at dksX3_init_2_12 21 rfl rfl)
theorem dX3_init_2_308 : decode cX3_init_2 308 = .ok (.iconst 0, 1) := dk_3 (dk_at dksX3_init_2_13 0 rfl rfl)
theorem dX3_init_2_309 : decode cX3_init_2 309 = .ok (.aload_n 0, 1) := dk_42 (dk_at dksX3_init_2_13 1 rfl rfl)
theorem dX3_init_2_310 : decode cX3_init_2 310 = .ok (.getfield 65, 3) := dk_180 0 65 (dk_at dksX3_init_2_13 2 rfl rfl)
theorem dX3_init_2_313 : decode cX3_init_2 313 = .ok (.iconst 0, 1) := dk_3 (dk_at dksX3_init_2_13 5 rfl rfl)
theorem dX3_init_2_314 : decode cX3_init_2 314 = .ok (.aload_n 0, 1) := dk_42 (dk_at dksX3_init_2_13 6 rfl rfl)
theorem dX3_init_2_315 : decode cX3_init_2 315 = .ok (.getfield 99, 3) := dk_180 0 99 (dk_at dksX3_init_2_13 7 rfl rfl)
theorem dX3_init_2_318 : decode cX3_init_2 318 = .ok (.invokestatic 78, 3) := dk_184 0 78 (dk_at dksX3_init_2_13 10 rfl rfl)
theorem dX3_init_2_321 : decode cX3_init_2 321 = .ok (.iconst 0, 1) := dk_3 (dk_at dksX3_init_2_13 13 rfl rfl)
theorem dX3_init_2_322 : decode cX3_init_2 322 = .ok (.istore_n 2, 1) := dk_61 (dk_at dksX3_init_2_13 14 rfl rfl)
theorem dX3_init_2_323 : decode cX3_init_2 323 = .ok (.iload_n 2, 1) := dk_28 (dk_at dksX3_init_2_13 15 rfl rfl)
theorem dX3_init_2_324 : decode cX3_init_2 324 = .ok (.aload_n 0, 1) := dk_42 (dk_at dksX3_init_2_13 16 rfl rfl)
theorem dX3_init_2_325 : decode cX3_init_2 325 = .ok (.getfield 87, 3) := dk_180 0 87 (dk_at dksX3_init_2_13 17 rfl rfl)
theorem dX3_init_2_328 : decode cX3_init_2 328 = .ok (.if_icmp .ge 28, 3) := dk_162 0 28 (dk_at dksX3_init_2_13 20 rfl rfl)
theorem dX3_init_2_331 : decode cX3_init_2 331 = .ok (.aload_n 0, 1) := dk_42 (dk_at dksX3_init_2_13 23 rfl rfl)
theorem dX3_init_2_332 : decode cX3_init_2 332 = .ok (.getfield 30, 3) := dk_180 0 30 (dk_at dksX3_init_2_14 0 rfl rfl)
theorem dX3_init_2_335 : decode cX3_init_2 335 = .ok (.iload_n 2, 1) := dk_28 (dk_at dksX3_init_2_14 3 rfl rfl)
theorem dX3_init_2_336 : decode cX3_init_2 336 = .ok (.new 28, 3) := dk_187 0 28 (dk_at dksX3_init_2_14 4 rfl rfl)
theorem dX3_init_2_339 : decode cX3_init_2 339 = .ok (.dup, 1) := dk_89 (dk_at dksX3_init_2_14 7 rfl rfl)
theorem dX3_init_2_340 : decode cX3_init_2 340 = .ok (.aload_n 1, 1) := dk_43 (dk_at dksX3_init_2_14 8 rfl rfl)
theorem dX3_init_2_341 : decode cX3_init_2 341 = .ok (.getfield 30, 3) := dk_180 0 30 (dk_at dksX3_init_2_14 9 rfl rfl)
theorem dX3_init_2_344 : decode cX3_init_2 344 = .ok (.iload_n 2, 1) := dk_28 (dk_at dksX3_init_2_14 12 rfl rfl)
theorem dX3_init_2_345 : decode cX3_init_2 345 = .ok (.aaload, 1) := dk_50 (dk_at dksX3_init_2_14 13 rfl rfl)
theorem dX3_init_2_346 : decode cX3_init_2 346 = .ok (.invokespecial 102, 3) := dk_183 0 102 (dk_at dksX3_init_2_14 14 rfl rfl)
theorem dX3_init_2_349 : decode cX3_init_2 349 = .ok (.aastore, 1) := dk_83 (dk_at dksX3_init_2_14 17 rfl rfl)
theorem dX3_init_2_350 : decode cX3_init_2 350 = .ok (.iinc 2 1, 3) := dk_132 2 1 (dk_at dksX3_init_2_14 18 rfl rfl)
theorem dX3_init_2_353 : decode cX3_init_2 353 = .ok (.goto (-30), 3) := dk_167 255 226 (dk_at dksX3_init_2_14 21 rfl rfl)
theorem dX3_init_2_356 : decode cX3_init_2 356 = .ok (.iconst 0, 1) := dk_3 (dk_at dksX3_init_2_15 0 rfl rfl)
theorem dX3_init_2_357 : decode cX3_init_2 357 = .ok (.istore_n 2, 1) := dk_61 (dk_at dksX3_init_2_15 1 rfl rfl)
theorem dX3_init_2_358 : decode cX3_init_2 358 = .ok (.iload_n 2, 1) := dk_28 (dk_at dksX3_init_2_15 2 rfl rfl)
theorem dX3_init_2_359 : decode cX3_init_2 359 = .ok (.aload_n 0, 1) := dk_42 (dk_at dksX3_init_2_15 3 rfl rfl)
theorem dX3_init_2_360 : decode cX3_init_2 360 = .ok (.getfield 90, 3) := dk_180 0 90 (dk_at dksX3_init_2_15 4 rfl rfl)
theorem dX3_init_2_363 : decode cX3_init_2 363 = .ok (.if_icmp .ge 28, 3) := dk_162 0 28 (dk_at dksX3_init_2_15 7 rfl rfl)
theorem dX3_init_2_366 : decode cX3_init_2 366 = .ok (.aload_n 0, 1) := dk_42 (dk_at dksX3_init_2_15 10 rfl rfl)
theorem dX3_init_2_367 : decode cX3_init_2 367 = .ok (.getfield 36, 3) := dk_180 0 36 (dk_at dksX3_init_2_15 11 rfl rfl)
theorem dX3_init_2_370 : decode cX3_init_2 370 = .ok (.iload_n 2, 1) := dk_28 (dk_at dksX3_init_2_15 14 rfl rfl)
theorem dX3_init_2_371 : decode cX3_init_2 371 = .ok (.new 34, 3) := dk_187 0 34 (dk_at dksX3_init_2_15 15 rfl rfl)
theorem dX3_init_2_374 : decode cX3_init_2 374 = .ok (.dup, 1) := dk_89 (dk_at dksX3_init_2_15 18 rfl rfl)
theorem dX3_init_2_375 : decode cX3_init_2 375 = .ok (.aload_n 1, 1) := dk_43 (dk_at dksX3_init_2_15 19 rfl rfl)
theorem dX3_init_2_376 : decode cX3_init_2 376 = .ok (.getfield 36, 3) := dk_180 0 36 (dk_at dksX3_init_2_15 20 rfl rfl)
theorem dX3_init_2_379 : decode cX3_init_2 379 = .ok (.iload_n 2, 1) := dk_28 (dk_at dksX3_init_2_15 23 rfl rfl)
theorem dX3_init_2_380 : decode cX3_init_2 380 = .ok (.aaload, 1) := dk_50 (dk_at dksX3_init_2_16 0 rfl rfl)
theorem dX3_init_2_381 : decode cX3_init_2 381 = .ok (.invokespecial 105, 3) := dk_183 0 105 (dk_at dksX3_init_2_16 1 rfl rfl)
theorem dX3_init_2_384 : decode cX3_init_2 384 = .ok (.aastore, 1) := dk_83 (dk_at dksX3_init_2_16 4 rfl rfl)
theorem dX3_init_2_385 : decode cX3_init_2 385 = .ok (.iinc 2 1, 3) := dk_132 2 1 (dk_at dksX3_init_2_16 5 rfl rfl)
theorem dX3_init_2_388 : decode cX3_init_2 388 = .ok (.goto (-30), 3) := dk_167 255 226 (dk_at dksX3_init_2_16 8 rfl rfl)
theorem dX3_init_2_391 : decode cX3_init_2 391 = .ok (.aload_n 1, 1) := dk_43 (dk_at dksX3_init_2_16 11 rfl rfl)
theorem dX3_init_2_392 : decode cX3_init_2 392 = .ok (.getfield 42, 3) := dk_180 0 42 (dk_at dksX3_init_2_16 12 rfl rfl)
theorem dX3_init_2_395 : decode cX3_init_2 395 = .ok (.iconst 0, 1) := dk_3 (dk_at dksX3_init_2_16 15 rfl rfl)
theorem dX3_init_2_396 : decode cX3_init_2 396 = .ok (.aload_n 0, 1) := dk_42 (dk_at dksX3_init_2_16 16 rfl rfl)
theorem dX3_init_2_397 : decode cX3_init_2 397 = .ok (.getfield 42, 3) := dk_180 0 42 (dk_at dksX3_init_2_16 17 rfl rfl)
theorem dX3_init_2_400 : decode cX3_init_2 400 = .ok (.iconst 0, 1) := dk_3 (dk_at dksX3_init_2_16 20 rfl rfl)
theorem dX3_init_2_401 : decode cX3_init_2 401 = .ok (.aload_n 0, 1) := dk_42 (dk_at dksX3_init_2_16 21 rfl rfl)
theorem dX3_init_2_402 : decode cX3_init_2 402 = .ok (.getfield 93, 3) := dk_180 0 93 (dk_at dksX3_init_2_17 0 rfl rfl)
theorem dX3_init_2_405 : decode cX3_init_2 405 = .ok (.invokestatic 78, 3) := dk_184 0 78 (dk_at dksX3_init_2_17 3 rfl rfl)
theorem dX3_init_2_408 : decode cX3_init_2 408 = .ok (.aload_n 1, 1) := dk_43 (dk_at dksX3_init_2_17 6 rfl rfl)
theorem dX3_init_2_409 : decode cX3_init_2 409 = .ok (.getfield 46, 3) := dk_180 0 46 (dk_at dksX3_init_2_17 7 rfl rfl)
theorem dX3_init_2_412 : decode cX3_init_2 412 = .ok (.iconst 0, 1) := dk_3 (dk_at dksX3_init_2_17 10 rfl rfl)
theorem dX3_init_2_413 : decode cX3_init_2 413 = .ok (.aload_n 0, 1) := dk_42 (dk_at dksX3_init_2_17 11 rfl rfl)
theorem dX3_init_2_414 : decode cX3_init_2 414 = .ok (.getfield 46, 3) := dk_180 0 46 (dk_at dksX3_init_2_17 12 rfl rfl)
theorem dX3_init_2_417 : decode cX3_init_2 417 = .ok (.iconst 0, 1) := dk_3 (dk_at dksX3_init_2_17 15 rfl rfl)
theorem dX3_init_2_418 : decode cX3_init_2 418 = .ok (.bipush 8, 2) := dk_16 8 (dk_at dksX3_init_2_17 16 rfl rfl)
theorem dX3_init_2_420 : decode cX3_init_2 420 = .ok (.invokestatic 78, 3) := dk_184 0 78 (dk_at dksX3_init_2_17 18 rfl rfl)
theorem dX3_init_2_423 : decode cX3_init_2 423 = .ok (.aload_n 1, 1) := dk_43 (dk_at dksX3_init_2_17 21 rfl rfl)
theorem dX3_init_2_424 : decode cX3_init_2 424 = .ok (.getfield 72, 3) := dk_180 0 72 (dk_at dksX3_init_2_18 0 rfl rfl)
theorem dX3_init_2_427 : decode cX3_init_2 427 = .ok (.iconst 0, 1) := dk_3 (dk_at dksX3_init_2_18 3 rfl rfl)
theorem dX3_init_2_428 : decode cX3_init_2 428 = .ok (.aload_n 0, 1) := dk_42 (dk_at dksX3_init_2_18 4 rfl rfl)
theorem dX3_init_2_429 : decode cX3_init_2 429 = .ok (.getfield 72, 3) := dk_180 0 72 (dk_at dksX3_init_2_18 5 rfl rfl)
theorem dX3_init_2_432 : decode cX3_init_2 432 = .ok (.iconst 0, 1) := dk_3 (dk_at dksX3_init_2_18 8 rfl rfl)
theorem dX3_init_2_433 : decode cX3_init_2 433 = .ok (.sipush 1296, 3) := dk_17 5 16 (dk_at dksX3_init_2_18 9 rfl rfl)
theorem dX3_init_2_436 : decode cX3_init_2 436 = .ok (.invokestatic 78, 3) := dk_184 0 78 (dk_at dksX3_init_2_18 12 rfl rfl)
theorem dX3_init_2_439 : decode cX3_init_2 439 = .ok (.return_, 1) := dk_177 (dk_at dksX3_init_2_18 15 rfl rfl)
theorem q103 : (Jvm.Cond.initialized "PretendDesk$Desk") ∈ lw_all := lw_g (lw_at lw_m1 4 rfl) rfl
theorem q207 : (Jvm.Cond.instantiable "PretendDesk$Desk" (23 : Nat)) ∈ lw_all := lw_g (lw_at lw_m1 108 rfl) rfl
theorem q209 : (Jvm.Cond.instanceMethod ({ cls := "PretendDesk$Desk", name := "<init>", desc := "()V" } : Jvm.MethodName)) ∈ lw_all := lw_g (lw_at lw_m1 110 rfl) rfl
theorem q210 : (Jvm.Cond.code ({ cls := "PretendDesk$Desk", name := "<init>", desc := "()V" } : Jvm.MethodName) prog_6_method_1_code (2 : Nat) (Option.none : Option Jvm.ClassFile.FieldType)) ∈ lw_all := lw_g (lw_at lw_m1 111 rfl) rfl
theorem q211 : (Jvm.Cond.methodLink "PretendDesk$Desk" (3 : Nat) ({ cls := "java/lang/Object", name := "<init>", desc := "()V" } : Jvm.MethodName)) ∈ lw_all := lw_g (lw_at lw_m1 112 rfl) rfl
theorem q212 : (Jvm.Cond.classLink "PretendDesk$Desk" (28 : Nat) "PretendDesk$House") ∈ lw_all := lw_g (lw_at lw_m1 113 rfl) rfl
theorem q214 : (Jvm.Cond.classLink "PretendDesk$Desk" (34 : Nat) "PretendDesk$Came") ∈ lw_all := lw_g (lw_at lw_m1 115 rfl) rfl
theorem q216 : (Jvm.Cond.classLink "PretendDesk$Desk" (40 : Nat) "PretendDesk$Case") ∈ lw_all := lw_g (lw_at lw_m1 117 rfl) rfl
theorem q218 : (Jvm.Cond.classLink "PretendDesk$Desk" (63 : Nat) "PretendDesk$Pattern") ∈ lw_all := lw_g (lw_at lw_m1 119 rfl) rfl
theorem q220 : (Jvm.Cond.fieldLink "PretendDesk$Desk" (9 : Nat) "PretendDesk$Desk" "tape" "[B") ∈ lw_all := lw_g (lw_at lw_m1 121 rfl) rfl
theorem q223 : (Jvm.Cond.fieldLink "PretendDesk$Desk" (75 : Nat) "PretendDesk$Desk" "size" "I") ∈ lw_all := lw_g (lw_at lw_m1 124 rfl) rfl
theorem q225 : (Jvm.Cond.fieldLink "PretendDesk$Desk" (84 : Nat) "PretendDesk$Desk" "lastFault" "I") ∈ lw_all := lw_g (lw_at lw_m1 126 rfl) rfl
theorem q227 : (Jvm.Cond.fieldLink "PretendDesk$Desk" (15 : Nat) "PretendDesk$Desk" "lastPlace" "I") ∈ lw_all := lw_g (lw_at lw_m1 128 rfl) rfl
theorem q230 : (Jvm.Cond.fieldLink "PretendDesk$Desk" (87 : Nat) "PretendDesk$Desk" "houses" "I") ∈ lw_all := lw_g (lw_at lw_m1 131 rfl) rfl
theorem q232 : (Jvm.Cond.fieldLink "PretendDesk$Desk" (90 : Nat) "PretendDesk$Desk" "pages" "I") ∈ lw_all := lw_g (lw_at lw_m1 133 rfl) rfl
theorem q234 : (Jvm.Cond.fieldLink "PretendDesk$Desk" (93 : Nat) "PretendDesk$Desk" "cases" "I") ∈ lw_all := lw_g (lw_at lw_m1 135 rfl) rfl
theorem q236 : (Jvm.Cond.fieldLink "PretendDesk$Desk" (19 : Nat) "PretendDesk$Desk" "a" "I") ∈ lw_all := lw_g (lw_at lw_m1 137 rfl) rfl
theorem q238 : (Jvm.Cond.fieldLink "PretendDesk$Desk" (22 : Nat) "PretendDesk$Desk" "b" "I") ∈ lw_all := lw_g (lw_at lw_m1 139 rfl) rfl
theorem q241 : (Jvm.Cond.fieldLink "PretendDesk$Desk" (25 : Nat) "PretendDesk$Desk" "c" "I") ∈ lw_all := lw_g (lw_at lw_m1 142 rfl) rfl
theorem q244 : (Jvm.Cond.fieldLink "PretendDesk$Desk" (96 : Nat) "PretendDesk$Desk" "words" "I") ∈ lw_all := lw_g (lw_at lw_m1 145 rfl) rfl
theorem q246 : (Jvm.Cond.fieldLink "PretendDesk$Desk" (99 : Nat) "PretendDesk$Desk" "patterns" "I") ∈ lw_all := lw_g (lw_at lw_m1 147 rfl) rfl
theorem q248 : (Jvm.Cond.fieldLink "PretendDesk$Desk" (30 : Nat) "PretendDesk$Desk" "house" "[LPretendDesk$House;") ∈ lw_all := lw_g (lw_at lw_m1 149 rfl) rfl
theorem q251 : (Jvm.Cond.fieldLink "PretendDesk$Desk" (36 : Nat) "PretendDesk$Desk" "page" "[LPretendDesk$Came;") ∈ lw_all := lw_g (lw_at lw_m1 152 rfl) rfl
theorem q253 : (Jvm.Cond.fieldLink "PretendDesk$Desk" (42 : Nat) "PretendDesk$Desk" "kept" "[LPretendDesk$Case;") ∈ lw_all := lw_g (lw_at lw_m1 154 rfl) rfl
theorem q255 : (Jvm.Cond.fieldLink "PretendDesk$Desk" (46 : Nat) "PretendDesk$Desk" "worth" "[I") ∈ lw_all := lw_g (lw_at lw_m1 156 rfl) rfl
theorem q258 : (Jvm.Cond.fieldLink "PretendDesk$Desk" (50 : Nat) "PretendDesk$Desk" "relay" "[I") ∈ lw_all := lw_g (lw_at lw_m1 159 rfl) rfl
theorem q260 : (Jvm.Cond.fieldLink "PretendDesk$Desk" (53 : Nat) "PretendDesk$Desk" "owner" "[I") ∈ lw_all := lw_g (lw_at lw_m1 161 rfl) rfl
theorem q262 : (Jvm.Cond.fieldLink "PretendDesk$Desk" (56 : Nat) "PretendDesk$Desk" "word" "[J") ∈ lw_all := lw_g (lw_at lw_m1 163 rfl) rfl
theorem q264 : (Jvm.Cond.fieldLink "PretendDesk$Desk" (60 : Nat) "PretendDesk$Desk" "meaning" "[B") ∈ lw_all := lw_g (lw_at lw_m1 165 rfl) rfl
theorem q266 : (Jvm.Cond.fieldLink "PretendDesk$Desk" (65 : Nat) "PretendDesk$Desk" "pattern" "[LPretendDesk$Pattern;") ∈ lw_all := lw_g (lw_at lw_m1 167 rfl) rfl
theorem q268 : (Jvm.Cond.fieldLink "PretendDesk$Desk" (69 : Nat) "PretendDesk$Desk" "letter" "[B") ∈ lw_all := lw_g (lw_at lw_m1 169 rfl) rfl
theorem q270 : (Jvm.Cond.fieldLink "PretendDesk$Desk" (72 : Nat) "PretendDesk$Desk" "alike" "[B") ∈ lw_all := lw_g (lw_at lw_m1 171 rfl) rfl
theorem q272 : (Jvm.Cond.laysFinal "PretendDesk$Desk" "PretendDesk$Desk" "tape" "[B") ∈ lw_all := lw_g (lw_at lw_m1 173 rfl) rfl
theorem q273 : (Jvm.Cond.soleField "PretendDesk$Desk" "tape") ∈ lw_all := lw_g (lw_at lw_m1 174 rfl) rfl
theorem q274 : (Jvm.Cond.lays "PretendDesk$Desk" "PretendDesk$Desk" "size" "I") ∈ lw_all := lw_g (lw_at lw_m1 175 rfl) rfl
theorem q275 : (Jvm.Cond.soleField "PretendDesk$Desk" "size") ∈ lw_all := lw_g (lw_at lw_m1 176 rfl) rfl
theorem q276 : (Jvm.Cond.lays "PretendDesk$Desk" "PretendDesk$Desk" "lastFault" "I") ∈ lw_all := lw_g (lw_at lw_m1 177 rfl) rfl
theorem q277 : (Jvm.Cond.soleField "PretendDesk$Desk" "lastFault") ∈ lw_all := lw_g (lw_at lw_m1 178 rfl) rfl
theorem q278 : (Jvm.Cond.lays "PretendDesk$Desk" "PretendDesk$Desk" "lastPlace" "I") ∈ lw_all := lw_g (lw_at lw_m1 179 rfl) rfl
theorem q279 : (Jvm.Cond.soleField "PretendDesk$Desk" "lastPlace") ∈ lw_all := lw_g (lw_at lw_m1 180 rfl) rfl
theorem q280 : (Jvm.Cond.lays "PretendDesk$Desk" "PretendDesk$Desk" "houses" "I") ∈ lw_all := lw_g (lw_at lw_m1 181 rfl) rfl
theorem q281 : (Jvm.Cond.soleField "PretendDesk$Desk" "houses") ∈ lw_all := lw_g (lw_at lw_m1 182 rfl) rfl
theorem q282 : (Jvm.Cond.lays "PretendDesk$Desk" "PretendDesk$Desk" "pages" "I") ∈ lw_all := lw_g (lw_at lw_m1 183 rfl) rfl
theorem q283 : (Jvm.Cond.soleField "PretendDesk$Desk" "pages") ∈ lw_all := lw_g (lw_at lw_m1 184 rfl) rfl
theorem q284 : (Jvm.Cond.lays "PretendDesk$Desk" "PretendDesk$Desk" "cases" "I") ∈ lw_all := lw_g (lw_at lw_m1 185 rfl) rfl
theorem q285 : (Jvm.Cond.soleField "PretendDesk$Desk" "cases") ∈ lw_all := lw_g (lw_at lw_m1 186 rfl) rfl
theorem q286 : (Jvm.Cond.lays "PretendDesk$Desk" "PretendDesk$Desk" "a" "I") ∈ lw_all := lw_g (lw_at lw_m1 187 rfl) rfl
theorem q287 : (Jvm.Cond.soleField "PretendDesk$Desk" "a") ∈ lw_all := lw_g (lw_at lw_m1 188 rfl) rfl
theorem q288 : (Jvm.Cond.lays "PretendDesk$Desk" "PretendDesk$Desk" "b" "I") ∈ lw_all := lw_g (lw_at lw_m1 189 rfl) rfl
theorem q289 : (Jvm.Cond.soleField "PretendDesk$Desk" "b") ∈ lw_all := lw_g (lw_at lw_m1 190 rfl) rfl
theorem q290 : (Jvm.Cond.lays "PretendDesk$Desk" "PretendDesk$Desk" "c" "I") ∈ lw_all := lw_g (lw_at lw_m1 191 rfl) rfl
theorem q291 : (Jvm.Cond.soleField "PretendDesk$Desk" "c") ∈ lw_all := lw_g (lw_at lw_m1 192 rfl) rfl
theorem q292 : (Jvm.Cond.lays "PretendDesk$Desk" "PretendDesk$Desk" "words" "I") ∈ lw_all := lw_g (lw_at lw_m1 193 rfl) rfl
theorem q293 : (Jvm.Cond.soleField "PretendDesk$Desk" "words") ∈ lw_all := lw_g (lw_at lw_m1 194 rfl) rfl
theorem q294 : (Jvm.Cond.lays "PretendDesk$Desk" "PretendDesk$Desk" "patterns" "I") ∈ lw_all := lw_g (lw_at lw_m1 195 rfl) rfl
theorem q295 : (Jvm.Cond.soleField "PretendDesk$Desk" "patterns") ∈ lw_all := lw_g (lw_at lw_m1 196 rfl) rfl
theorem q296 : (Jvm.Cond.laysFinal "PretendDesk$Desk" "PretendDesk$Desk" "house" "[LPretendDesk$House;") ∈ lw_all := lw_g (lw_at lw_m1 197 rfl) rfl
theorem q297 : (Jvm.Cond.soleField "PretendDesk$Desk" "house") ∈ lw_all := lw_g (lw_at lw_m1 198 rfl) rfl
theorem q298 : (Jvm.Cond.laysFinal "PretendDesk$Desk" "PretendDesk$Desk" "page" "[LPretendDesk$Came;") ∈ lw_all := lw_g (lw_at lw_m1 199 rfl) rfl
theorem q299 : (Jvm.Cond.soleField "PretendDesk$Desk" "page") ∈ lw_all := lw_g (lw_at lw_m1 200 rfl) rfl
theorem q300 : (Jvm.Cond.laysFinal "PretendDesk$Desk" "PretendDesk$Desk" "kept" "[LPretendDesk$Case;") ∈ lw_all := lw_g (lw_at lw_m1 201 rfl) rfl
theorem q301 : (Jvm.Cond.soleField "PretendDesk$Desk" "kept") ∈ lw_all := lw_g (lw_at lw_m1 202 rfl) rfl
theorem q302 : (Jvm.Cond.laysFinal "PretendDesk$Desk" "PretendDesk$Desk" "worth" "[I") ∈ lw_all := lw_g (lw_at lw_m1 203 rfl) rfl
theorem q303 : (Jvm.Cond.soleField "PretendDesk$Desk" "worth") ∈ lw_all := lw_g (lw_at lw_m1 204 rfl) rfl
theorem q304 : (Jvm.Cond.laysFinal "PretendDesk$Desk" "PretendDesk$Desk" "relay" "[I") ∈ lw_all := lw_g (lw_at lw_m1 205 rfl) rfl
theorem q305 : (Jvm.Cond.soleField "PretendDesk$Desk" "relay") ∈ lw_all := lw_g (lw_at lw_m1 206 rfl) rfl
theorem q306 : (Jvm.Cond.laysFinal "PretendDesk$Desk" "PretendDesk$Desk" "owner" "[I") ∈ lw_all := lw_g (lw_at lw_m1 207 rfl) rfl
theorem q307 : (Jvm.Cond.soleField "PretendDesk$Desk" "owner") ∈ lw_all := lw_g (lw_at lw_m1 208 rfl) rfl
theorem q308 : (Jvm.Cond.laysFinal "PretendDesk$Desk" "PretendDesk$Desk" "word" "[J") ∈ lw_all := lw_g (lw_at lw_m1 209 rfl) rfl
theorem q309 : (Jvm.Cond.soleField "PretendDesk$Desk" "word") ∈ lw_all := lw_g (lw_at lw_m1 210 rfl) rfl
theorem q310 : (Jvm.Cond.laysFinal "PretendDesk$Desk" "PretendDesk$Desk" "meaning" "[B") ∈ lw_all := lw_g (lw_at lw_m1 211 rfl) rfl
theorem q311 : (Jvm.Cond.soleField "PretendDesk$Desk" "meaning") ∈ lw_all := lw_g (lw_at lw_m1 212 rfl) rfl
theorem q312 : (Jvm.Cond.laysFinal "PretendDesk$Desk" "PretendDesk$Desk" "pattern" "[LPretendDesk$Pattern;") ∈ lw_all := lw_g (lw_at lw_m1 213 rfl) rfl
theorem q313 : (Jvm.Cond.soleField "PretendDesk$Desk" "pattern") ∈ lw_all := lw_g (lw_at lw_m1 214 rfl) rfl
theorem q314 : (Jvm.Cond.lays "PretendDesk$Desk" "PretendDesk$Desk" "letter" "[B") ∈ lw_all := lw_g (lw_at lw_m1 215 rfl) rfl
theorem q315 : (Jvm.Cond.soleField "PretendDesk$Desk" "letter") ∈ lw_all := lw_g (lw_at lw_m1 216 rfl) rfl
theorem q316 : (Jvm.Cond.laysFinal "PretendDesk$Desk" "PretendDesk$Desk" "alike" "[B") ∈ lw_all := lw_g (lw_at lw_m1 217 rfl) rfl
theorem q317 : (Jvm.Cond.soleField "PretendDesk$Desk" "alike") ∈ lw_all := lw_g (lw_at lw_m1 218 rfl) rfl
theorem q318 : (Jvm.Cond.superclass "PretendDesk$Desk" "java/lang/Object") ∈ lw_all := lw_g (lw_at lw_m1 219 rfl) rfl
theorem q1422 : (Jvm.Cond.instanceMethod ({ cls := "PretendDesk$Desk", name := "<init>", desc := "(LPretendDesk$Desk;)V" } : Jvm.MethodName)) ∈ lw_all := lw_g (lw_at lw_m6 123 rfl) rfl
theorem q1423 : (Jvm.Cond.code ({ cls := "PretendDesk$Desk", name := "<init>", desc := "(LPretendDesk$Desk;)V" } : Jvm.MethodName) prog_6_method_2_code (3 : Nat) (Option.none : Option Jvm.ClassFile.FieldType)) ∈ lw_all := lw_g (lw_at lw_m6 124 rfl) rfl
theorem q1424 : (Jvm.Cond.methodLink "PretendDesk$Desk" (78 : Nat) ({ cls := "java/lang/System", name := "arraycopy", desc := "(Ljava/lang/Object;ILjava/lang/Object;II)V" } : Jvm.MethodName)) ∈ lw_all := lw_g (lw_at lw_m6 125 rfl) rfl
theorem q1425 : (Jvm.Cond.methodLink "PretendDesk$Desk" (102 : Nat) ({ cls := "PretendDesk$House", name := "<init>", desc := "(LPretendDesk$House;)V" } : Jvm.MethodName)) ∈ lw_all := lw_g (lw_at lw_m6 126 rfl) rfl
theorem q1429 : (Jvm.Cond.methodLink "PretendDesk$Desk" (105 : Nat) ({ cls := "PretendDesk$Came", name := "<init>", desc := "(LPretendDesk$Came;)V" } : Jvm.MethodName)) ∈ lw_all := lw_g (lw_at lw_m6 130 rfl) rfl
theorem in_X3 : ∀ w ∈ wsX30, w ∈ lw_all := lw_in wsX30 [272, 274, 276, 278, 280, 282, 284, 286, 288, 290, 292, 294, 296, 298, 300, 302, 304, 306, 308, 310, 312, 314, 316] (by decide +kernel) (by decide +kernel)
/-! PretendDesk$Look -/
set_option maxRecDepth 100000
def RX4 : String := "PretendDesk$Look"
def TX4 : u_T := fun k => match k with
  | 0 => ("PretendDesk$Look", "like", "I", false)
  | 1 => ("PretendDesk$Look", "look", "I", false)
  | 2 => ("PretendDesk$Look", "ask", "I", false)
  | _ => ("PretendDesk$Look", "this$0", "LPretendDesk;", true)
def tyX4 : Nat → FieldType := fun k => match k with
  | 0 => .int
  | 1 => .int
  | 2 => .int
  | _ => .object "PretendDesk"
abbrev wsX40 : List Cond := u_ws RX4 TX4 4
theorem nmX4 : ∀ a, a < 4 → ∀ b, b < 4 → a ≠ b → (TX4 a).2.1 ≠ (TX4 b).2.1 := by decide +kernel
theorem tyX4_ok : ∀ k, k < 4 → parseFieldDescriptor (TX4 k).2.2.1 = some (tyX4 k) := by decide +kernel
abbrev cX4_init : ByteArray := prog_9_method_1_code
def yX4_init : MethodName := ⟨RX4, "<init>", "(LPretendDesk;)V"⟩
def dkwX4_init_0 : List UInt8 := [42, 43, 181, 0, 3, 42, 183, 0, 9, 177]
abbrev dktX4_init_0 : List UInt8 := dkwX4_init_0 ++ []
theorem dksX4_init_0 : cX4_init.data.toList.drop 0 = dktX4_init_0 := by decide +kernel
theorem dX4_init_0 : decode cX4_init 0 = .ok (.aload_n 0, 1) := dk_42 (dk_at dksX4_init_0 0 rfl rfl)
theorem dX4_init_1 : decode cX4_init 1 = .ok (.aload_n 1, 1) := dk_43 (dk_at dksX4_init_0 1 rfl rfl)
theorem dX4_init_2 : decode cX4_init 2 = .ok (.putfield 3, 3) := dk_181 0 3 (dk_at dksX4_init_0 2 rfl rfl)
theorem dX4_init_5 : decode cX4_init 5 = .ok (.aload_n 0, 1) := dk_42 (dk_at dksX4_init_0 5 rfl rfl)
theorem dX4_init_6 : decode cX4_init 6 = .ok (.invokespecial 9, 3) := dk_183 0 9 (dk_at dksX4_init_0 6 rfl rfl)
theorem dX4_init_9 : decode cX4_init 9 = .ok (.return_, 1) := dk_177 (dk_at dksX4_init_0 9 rfl rfl)
abbrev cX4_at : ByteArray := prog_9_method_2_code
def yX4_at : MethodName := ⟨RX4, "at", "(LPretendDesk$Page;III[I)LPretendDesk$Look;"⟩
def dkwX4_at_6 : List UInt8 := [21, 7, 181, 0, 15, 42, 21, 8, 181, 0, 19, 132, 7, 1, 167, 255, 193, 42, 176]
abbrev dktX4_at_6 : List UInt8 := dkwX4_at_6 ++ []
def dkwX4_at_5 : List UInt8 := [54, 8, 42, 180, 0, 15, 2, 159, 0, 15, 21, 8, 42, 180, 0, 19, 161, 0, 6, 167, 0, 15, 42]
abbrev dktX4_at_5 : List UInt8 := dkwX4_at_5 ++ dktX4_at_6
def dkwX4_at_4 : List UInt8 := [180, 0, 3, 180, 0, 44, 180, 0, 57, 162, 0, 54, 42, 180, 0, 3, 21, 7, 28, 29, 182, 0, 60]
abbrev dktX4_at_4 : List UInt8 := dkwX4_at_4 ++ dktX4_at_5
def dkwX4_at_3 : List UInt8 := [180, 0, 54, 21, 7, 46, 46, 96, 181, 0, 22, 132, 7, 1, 167, 255, 215, 3, 54, 7, 21, 7, 42]
abbrev dktX4_at_3 : List UInt8 := dkwX4_at_3 ++ dktX4_at_4
def dkwX4_at_2 : List UInt8 := [180, 0, 41, 162, 0, 37, 42, 89, 180, 0, 22, 42, 180, 0, 3, 180, 0, 44, 180, 0, 48, 25, 6]
abbrev dktX4_at_2 : List UInt8 := dkwX4_at_2 ++ dktX4_at_3
def dkwX4_at_1 : List UInt8 := [180, 0, 29, 43, 28, 29, 21, 4, 25, 5, 182, 0, 35, 58, 6, 3, 54, 7, 21, 7, 25, 6]
abbrev dktX4_at_1 : List UInt8 := dkwX4_at_1 ++ dktX4_at_2
def dkwX4_at_0 : List UInt8 := [42, 2, 181, 0, 15, 42, 17, 3, 231, 181, 0, 19, 42, 3, 181, 0, 22, 42, 180, 0, 3, 180, 0, 25]
abbrev dktX4_at_0 : List UInt8 := dkwX4_at_0 ++ dktX4_at_1
theorem dksX4_at_0 : cX4_at.data.toList.drop 0 = dktX4_at_0 := by decide +kernel
theorem dksX4_at_1 : cX4_at.data.toList.drop 24 = dktX4_at_1 := dk_seg dksX4_at_0 24 rfl rfl
theorem dksX4_at_2 : cX4_at.data.toList.drop 46 = dktX4_at_2 := dk_seg dksX4_at_1 22 rfl rfl
theorem dksX4_at_3 : cX4_at.data.toList.drop 69 = dktX4_at_3 := dk_seg dksX4_at_2 23 rfl rfl
theorem dksX4_at_4 : cX4_at.data.toList.drop 92 = dktX4_at_4 := dk_seg dksX4_at_3 23 rfl rfl
theorem dksX4_at_5 : cX4_at.data.toList.drop 115 = dktX4_at_5 := dk_seg dksX4_at_4 23 rfl rfl
theorem dksX4_at_6 : cX4_at.data.toList.drop 138 = dktX4_at_6 := dk_seg dksX4_at_5 23 rfl rfl
theorem dX4_at_0 : decode cX4_at 0 = .ok (.aload_n 0, 1) := dk_42 (dk_at dksX4_at_0 0 rfl rfl)
theorem dX4_at_1 : decode cX4_at 1 = .ok (.iconst (-1), 1) := dk_2 (dk_at dksX4_at_0 1 rfl rfl)
theorem dX4_at_2 : decode cX4_at 2 = .ok (.putfield 15, 3) := dk_181 0 15 (dk_at dksX4_at_0 2 rfl rfl)
theorem dX4_at_5 : decode cX4_at 5 = .ok (.aload_n 0, 1) := dk_42 (dk_at dksX4_at_0 5 rfl rfl)
theorem dX4_at_6 : decode cX4_at 6 = .ok (.sipush 999, 3) := dk_17 3 231 (dk_at dksX4_at_0 6 rfl rfl)
theorem dX4_at_9 : decode cX4_at 9 = .ok (.putfield 19, 3) := dk_181 0 19 (dk_at dksX4_at_0 9 rfl rfl)
theorem dX4_at_12 : decode cX4_at 12 = .ok (.aload_n 0, 1) := dk_42 (dk_at dksX4_at_0 12 rfl rfl)
theorem dX4_at_13 : decode cX4_at 13 = .ok (.iconst 0, 1) := dk_3 (dk_at dksX4_at_0 13 rfl rfl)
theorem dX4_at_14 : decode cX4_at 14 = .ok (.putfield 22, 3) := dk_181 0 22 (dk_at dksX4_at_0 14 rfl rfl)
theorem dX4_at_17 : decode cX4_at 17 = .ok (.aload_n 0, 1) := dk_42 (dk_at dksX4_at_0 17 rfl rfl)
theorem dX4_at_18 : decode cX4_at 18 = .ok (.getfield 3, 3) := dk_180 0 3 (dk_at dksX4_at_0 18 rfl rfl)
theorem dX4_at_21 : decode cX4_at 21 = .ok (.getfield 25, 3) := dk_180 0 25 (dk_at dksX4_at_0 21 rfl rfl)
theorem dX4_at_24 : decode cX4_at 24 = .ok (.getfield 29, 3) := dk_180 0 29 (dk_at dksX4_at_1 0 rfl rfl)
theorem dX4_at_27 : decode cX4_at 27 = .ok (.aload_n 1, 1) := dk_43 (dk_at dksX4_at_1 3 rfl rfl)
theorem dX4_at_28 : decode cX4_at 28 = .ok (.iload_n 2, 1) := dk_28 (dk_at dksX4_at_1 4 rfl rfl)
theorem dX4_at_29 : decode cX4_at 29 = .ok (.iload_n 3, 1) := dk_29 (dk_at dksX4_at_1 5 rfl rfl)
theorem dX4_at_30 : decode cX4_at 30 = .ok (.iload 4, 2) := dk_21 4 (dk_at dksX4_at_1 6 rfl rfl)
theorem dX4_at_32 : decode cX4_at 32 = .ok (.aload 5, 2) := dk_25 5 (dk_at dksX4_at_1 8 rfl rfl)
theorem dX4_at_34 : decode cX4_at 34 = .ok (.invokevirtual 35, 3) := dk_182 0 35 (dk_at dksX4_at_1 10 rfl rfl)
theorem dX4_at_37 : decode cX4_at 37 = .ok (.astore 6, 2) := dk_58 6 (dk_at dksX4_at_1 13 rfl rfl)
theorem dX4_at_39 : decode cX4_at 39 = .ok (.iconst 0, 1) := dk_3 (dk_at dksX4_at_1 15 rfl rfl)
theorem dX4_at_40 : decode cX4_at 40 = .ok (.istore 7, 2) := dk_54 7 (dk_at dksX4_at_1 16 rfl rfl)
theorem dX4_at_42 : decode cX4_at 42 = .ok (.iload 7, 2) := dk_21 7 (dk_at dksX4_at_1 18 rfl rfl)
theorem dX4_at_44 : decode cX4_at 44 = .ok (.aload 6, 2) := dk_25 6 (dk_at dksX4_at_1 20 rfl rfl)
theorem dX4_at_46 : decode cX4_at 46 = .ok (.getfield 41, 3) := dk_180 0 41 (dk_at dksX4_at_2 0 rfl rfl)
theorem dX4_at_49 : decode cX4_at 49 = .ok (.if_icmp .ge 37, 3) := dk_162 0 37 (dk_at dksX4_at_2 3 rfl rfl)
theorem dX4_at_52 : decode cX4_at 52 = .ok (.aload_n 0, 1) := dk_42 (dk_at dksX4_at_2 6 rfl rfl)
theorem dX4_at_53 : decode cX4_at 53 = .ok (.dup, 1) := dk_89 (dk_at dksX4_at_2 7 rfl rfl)
theorem dX4_at_54 : decode cX4_at 54 = .ok (.getfield 22, 3) := dk_180 0 22 (dk_at dksX4_at_2 8 rfl rfl)
theorem dX4_at_57 : decode cX4_at 57 = .ok (.aload_n 0, 1) := dk_42 (dk_at dksX4_at_2 11 rfl rfl)
theorem dX4_at_58 : decode cX4_at 58 = .ok (.getfield 3, 3) := dk_180 0 3 (dk_at dksX4_at_2 12 rfl rfl)
theorem dX4_at_61 : decode cX4_at 61 = .ok (.getfield 44, 3) := dk_180 0 44 (dk_at dksX4_at_2 15 rfl rfl)
theorem dX4_at_64 : decode cX4_at 64 = .ok (.getfield 48, 3) := dk_180 0 48 (dk_at dksX4_at_2 18 rfl rfl)
theorem dX4_at_67 : decode cX4_at 67 = .ok (.aload 6, 2) := dk_25 6 (dk_at dksX4_at_2 21 rfl rfl)
theorem dX4_at_69 : decode cX4_at 69 = .ok (.getfield 54, 3) := dk_180 0 54 (dk_at dksX4_at_3 0 rfl rfl)
theorem dX4_at_72 : decode cX4_at 72 = .ok (.iload 7, 2) := dk_21 7 (dk_at dksX4_at_3 3 rfl rfl)
theorem dX4_at_74 : decode cX4_at 74 = .ok (.iaload, 1) := dk_46 (dk_at dksX4_at_3 5 rfl rfl)
theorem dX4_at_75 : decode cX4_at 75 = .ok (.iaload, 1) := dk_46 (dk_at dksX4_at_3 6 rfl rfl)
theorem dX4_at_76 : decode cX4_at 76 = .ok (.iadd, 1) := dk_96 (dk_at dksX4_at_3 7 rfl rfl)
theorem dX4_at_77 : decode cX4_at 77 = .ok (.putfield 22, 3) := dk_181 0 22 (dk_at dksX4_at_3 8 rfl rfl)
theorem dX4_at_80 : decode cX4_at 80 = .ok (.iinc 7 1, 3) := dk_132 7 1 (dk_at dksX4_at_3 11 rfl rfl)
theorem dX4_at_83 : decode cX4_at 83 = .ok (.goto (-41), 3) := dk_167 255 215 (dk_at dksX4_at_3 14 rfl rfl)
theorem dX4_at_86 : decode cX4_at 86 = .ok (.iconst 0, 1) := dk_3 (dk_at dksX4_at_3 17 rfl rfl)
theorem dX4_at_87 : decode cX4_at 87 = .ok (.istore 7, 2) := dk_54 7 (dk_at dksX4_at_3 18 rfl rfl)
theorem dX4_at_89 : decode cX4_at 89 = .ok (.iload 7, 2) := dk_21 7 (dk_at dksX4_at_3 20 rfl rfl)
theorem dX4_at_91 : decode cX4_at 91 = .ok (.aload_n 0, 1) := dk_42 (dk_at dksX4_at_3 22 rfl rfl)
theorem dX4_at_92 : decode cX4_at 92 = .ok (.getfield 3, 3) := dk_180 0 3 (dk_at dksX4_at_4 0 rfl rfl)
theorem dX4_at_95 : decode cX4_at 95 = .ok (.getfield 44, 3) := dk_180 0 44 (dk_at dksX4_at_4 3 rfl rfl)
theorem dX4_at_98 : decode cX4_at 98 = .ok (.getfield 57, 3) := dk_180 0 57 (dk_at dksX4_at_4 6 rfl rfl)
theorem dX4_at_101 : decode cX4_at 101 = .ok (.if_icmp .ge 54, 3) := dk_162 0 54 (dk_at dksX4_at_4 9 rfl rfl)
theorem dX4_at_104 : decode cX4_at 104 = .ok (.aload_n 0, 1) := dk_42 (dk_at dksX4_at_4 12 rfl rfl)
theorem dX4_at_105 : decode cX4_at 105 = .ok (.getfield 3, 3) := dk_180 0 3 (dk_at dksX4_at_4 13 rfl rfl)
theorem dX4_at_108 : decode cX4_at 108 = .ok (.iload 7, 2) := dk_21 7 (dk_at dksX4_at_4 16 rfl rfl)
theorem dX4_at_110 : decode cX4_at 110 = .ok (.iload_n 2, 1) := dk_28 (dk_at dksX4_at_4 18 rfl rfl)
theorem dX4_at_111 : decode cX4_at 111 = .ok (.iload_n 3, 1) := dk_29 (dk_at dksX4_at_4 19 rfl rfl)
theorem dX4_at_112 : decode cX4_at 112 = .ok (.invokevirtual 60, 3) := dk_182 0 60 (dk_at dksX4_at_4 20 rfl rfl)
theorem dX4_at_115 : decode cX4_at 115 = .ok (.istore 8, 2) := dk_54 8 (dk_at dksX4_at_5 0 rfl rfl)
theorem dX4_at_117 : decode cX4_at 117 = .ok (.aload_n 0, 1) := dk_42 (dk_at dksX4_at_5 2 rfl rfl)
theorem dX4_at_118 : decode cX4_at 118 = .ok (.getfield 15, 3) := dk_180 0 15 (dk_at dksX4_at_5 3 rfl rfl)
theorem dX4_at_121 : decode cX4_at 121 = .ok (.iconst (-1), 1) := dk_2 (dk_at dksX4_at_5 6 rfl rfl)
theorem dX4_at_122 : decode cX4_at 122 = .ok (.if_icmp .eq 15, 3) := dk_159 0 15 (dk_at dksX4_at_5 7 rfl rfl)
theorem dX4_at_125 : decode cX4_at 125 = .ok (.iload 8, 2) := dk_21 8 (dk_at dksX4_at_5 10 rfl rfl)
theorem dX4_at_127 : decode cX4_at 127 = .ok (.aload_n 0, 1) := dk_42 (dk_at dksX4_at_5 12 rfl rfl)
theorem dX4_at_128 : decode cX4_at 128 = .ok (.getfield 19, 3) := dk_180 0 19 (dk_at dksX4_at_5 13 rfl rfl)
theorem dX4_at_131 : decode cX4_at 131 = .ok (.if_icmp .lt 6, 3) := dk_161 0 6 (dk_at dksX4_at_5 16 rfl rfl)
theorem dX4_at_134 : decode cX4_at 134 = .ok (.goto 15, 3) := dk_167 0 15 (dk_at dksX4_at_5 19 rfl rfl)
theorem dX4_at_137 : decode cX4_at 137 = .ok (.aload_n 0, 1) := dk_42 (dk_at dksX4_at_5 22 rfl rfl)
theorem dX4_at_138 : decode cX4_at 138 = .ok (.iload 7, 2) := dk_21 7 (dk_at dksX4_at_6 0 rfl rfl)
theorem dX4_at_140 : decode cX4_at 140 = .ok (.putfield 15, 3) := dk_181 0 15 (dk_at dksX4_at_6 2 rfl rfl)
theorem dX4_at_143 : decode cX4_at 143 = .ok (.aload_n 0, 1) := dk_42 (dk_at dksX4_at_6 5 rfl rfl)
theorem dX4_at_144 : decode cX4_at 144 = .ok (.iload 8, 2) := dk_21 8 (dk_at dksX4_at_6 6 rfl rfl)
theorem dX4_at_146 : decode cX4_at 146 = .ok (.putfield 19, 3) := dk_181 0 19 (dk_at dksX4_at_6 8 rfl rfl)
theorem dX4_at_149 : decode cX4_at 149 = .ok (.iinc 7 1, 3) := dk_132 7 1 (dk_at dksX4_at_6 11 rfl rfl)
theorem dX4_at_152 : decode cX4_at 152 = .ok (.goto (-63), 3) := dk_167 255 193 (dk_at dksX4_at_6 14 rfl rfl)
theorem dX4_at_155 : decode cX4_at 155 = .ok (.aload_n 0, 1) := dk_42 (dk_at dksX4_at_6 17 rfl rfl)
theorem dX4_at_156 : decode cX4_at 156 = .ok (.areturn, 1) := dk_176 (dk_at dksX4_at_6 18 rfl rfl)
abbrev cX4_signs : ByteArray := prog_9_method_3_code
def yX4_signs : MethodName := ⟨RX4, "signs", "(LPretendDesk$Came;IIII)I"⟩
def dkwX4_signs_4 : List UInt8 := [128, 172]
abbrev dktX4_signs_4 : List UInt8 := dkwX4_signs_4 ++ []
def dkwX4_signs_3 : List UInt8 := [180, 0, 15, 50, 180, 0, 74, 184, 0, 77, 154, 0, 13, 28, 21, 5, 163, 0, 7, 7, 167, 0, 4, 3]
abbrev dktX4_signs_3 : List UInt8 := dkwX4_signs_3 ++ dktX4_signs_4
def dkwX4_signs_2 : List UInt8 := [180, 0, 15, 2, 159, 0, 41, 43, 180, 0, 64, 42, 180, 0, 3, 180, 0, 44, 180, 0, 70, 42]
abbrev dktX4_signs_2 : List UInt8 := dkwX4_signs_2 ++ dktX4_signs_3
def dkwX4_signs_1 : List UInt8 := [21, 6, 42, 180, 0, 22, 21, 4, 161, 0, 7, 5, 167, 0, 4, 3, 128, 54, 6, 21, 6, 42]
abbrev dktX4_signs_1 : List UInt8 := dkwX4_signs_1 ++ dktX4_signs_2
def dkwX4_signs_0 : List UInt8 := [42, 180, 0, 15, 2, 159, 0, 15, 42, 180, 0, 19, 29, 163, 0, 7, 4, 167, 0, 4, 3, 54, 6]
abbrev dktX4_signs_0 : List UInt8 := dkwX4_signs_0 ++ dktX4_signs_1
theorem dksX4_signs_0 : cX4_signs.data.toList.drop 0 = dktX4_signs_0 := by decide +kernel
theorem dksX4_signs_1 : cX4_signs.data.toList.drop 23 = dktX4_signs_1 := dk_seg dksX4_signs_0 23 rfl rfl
theorem dksX4_signs_2 : cX4_signs.data.toList.drop 45 = dktX4_signs_2 := dk_seg dksX4_signs_1 22 rfl rfl
theorem dksX4_signs_3 : cX4_signs.data.toList.drop 67 = dktX4_signs_3 := dk_seg dksX4_signs_2 22 rfl rfl
theorem dksX4_signs_4 : cX4_signs.data.toList.drop 91 = dktX4_signs_4 := dk_seg dksX4_signs_3 24 rfl rfl
theorem dX4_signs_0 : decode cX4_signs 0 = .ok (.aload_n 0, 1) := dk_42 (dk_at dksX4_signs_0 0 rfl rfl)
theorem dX4_signs_1 : decode cX4_signs 1 = .ok (.getfield 15, 3) := dk_180 0 15 (dk_at dksX4_signs_0 1 rfl rfl)
theorem dX4_signs_4 : decode cX4_signs 4 = .ok (.iconst (-1), 1) := dk_2 (dk_at dksX4_signs_0 4 rfl rfl)
theorem dX4_signs_5 : decode cX4_signs 5 = .ok (.if_icmp .eq 15, 3) := dk_159 0 15 (dk_at dksX4_signs_0 5 rfl rfl)
theorem dX4_signs_8 : decode cX4_signs 8 = .ok (.aload_n 0, 1) := dk_42 (dk_at dksX4_signs_0 8 rfl rfl)
theorem dX4_signs_9 : decode cX4_signs 9 = .ok (.getfield 19, 3) := dk_180 0 19 (dk_at dksX4_signs_0 9 rfl rfl)
theorem dX4_signs_12 : decode cX4_signs 12 = .ok (.iload_n 3, 1) := dk_29 (dk_at dksX4_signs_0 12 rfl rfl)
theorem dX4_signs_13 : decode cX4_signs 13 = .ok (.if_icmp .gt 7, 3) := dk_163 0 7 (dk_at dksX4_signs_0 13 rfl rfl)
theorem dX4_signs_16 : decode cX4_signs 16 = .ok (.iconst 1, 1) := dk_4 (dk_at dksX4_signs_0 16 rfl rfl)
theorem dX4_signs_17 : decode cX4_signs 17 = .ok (.goto 4, 3) := dk_167 0 4 (dk_at dksX4_signs_0 17 rfl rfl)
theorem dX4_signs_20 : decode cX4_signs 20 = .ok (.iconst 0, 1) := dk_3 (dk_at dksX4_signs_0 20 rfl rfl)
theorem dX4_signs_21 : decode cX4_signs 21 = .ok (.istore 6, 2) := dk_54 6 (dk_at dksX4_signs_0 21 rfl rfl)
theorem dX4_signs_23 : decode cX4_signs 23 = .ok (.iload 6, 2) := dk_21 6 (dk_at dksX4_signs_1 0 rfl rfl)
theorem dX4_signs_25 : decode cX4_signs 25 = .ok (.aload_n 0, 1) := dk_42 (dk_at dksX4_signs_1 2 rfl rfl)
theorem dX4_signs_26 : decode cX4_signs 26 = .ok (.getfield 22, 3) := dk_180 0 22 (dk_at dksX4_signs_1 3 rfl rfl)
theorem dX4_signs_29 : decode cX4_signs 29 = .ok (.iload 4, 2) := dk_21 4 (dk_at dksX4_signs_1 6 rfl rfl)
theorem dX4_signs_31 : decode cX4_signs 31 = .ok (.if_icmp .lt 7, 3) := dk_161 0 7 (dk_at dksX4_signs_1 8 rfl rfl)
theorem dX4_signs_34 : decode cX4_signs 34 = .ok (.iconst 2, 1) := dk_5 (dk_at dksX4_signs_1 11 rfl rfl)
theorem dX4_signs_35 : decode cX4_signs 35 = .ok (.goto 4, 3) := dk_167 0 4 (dk_at dksX4_signs_1 12 rfl rfl)
theorem dX4_signs_38 : decode cX4_signs 38 = .ok (.iconst 0, 1) := dk_3 (dk_at dksX4_signs_1 15 rfl rfl)
theorem dX4_signs_39 : decode cX4_signs 39 = .ok (.ior, 1) := dk_128 (dk_at dksX4_signs_1 16 rfl rfl)
theorem dX4_signs_40 : decode cX4_signs 40 = .ok (.istore 6, 2) := dk_54 6 (dk_at dksX4_signs_1 17 rfl rfl)
theorem dX4_signs_42 : decode cX4_signs 42 = .ok (.iload 6, 2) := dk_21 6 (dk_at dksX4_signs_1 19 rfl rfl)
theorem dX4_signs_44 : decode cX4_signs 44 = .ok (.aload_n 0, 1) := dk_42 (dk_at dksX4_signs_1 21 rfl rfl)
theorem dX4_signs_45 : decode cX4_signs 45 = .ok (.getfield 15, 3) := dk_180 0 15 (dk_at dksX4_signs_2 0 rfl rfl)
theorem dX4_signs_48 : decode cX4_signs 48 = .ok (.iconst (-1), 1) := dk_2 (dk_at dksX4_signs_2 3 rfl rfl)
theorem dX4_signs_49 : decode cX4_signs 49 = .ok (.if_icmp .eq 41, 3) := dk_159 0 41 (dk_at dksX4_signs_2 4 rfl rfl)
theorem dX4_signs_52 : decode cX4_signs 52 = .ok (.aload_n 1, 1) := dk_43 (dk_at dksX4_signs_2 7 rfl rfl)
theorem dX4_signs_53 : decode cX4_signs 53 = .ok (.getfield 64, 3) := dk_180 0 64 (dk_at dksX4_signs_2 8 rfl rfl)
theorem dX4_signs_56 : decode cX4_signs 56 = .ok (.aload_n 0, 1) := dk_42 (dk_at dksX4_signs_2 11 rfl rfl)
theorem dX4_signs_57 : decode cX4_signs 57 = .ok (.getfield 3, 3) := dk_180 0 3 (dk_at dksX4_signs_2 12 rfl rfl)
theorem dX4_signs_60 : decode cX4_signs 60 = .ok (.getfield 44, 3) := dk_180 0 44 (dk_at dksX4_signs_2 15 rfl rfl)
theorem dX4_signs_63 : decode cX4_signs 63 = .ok (.getfield 70, 3) := dk_180 0 70 (dk_at dksX4_signs_2 18 rfl rfl)
theorem dX4_signs_66 : decode cX4_signs 66 = .ok (.aload_n 0, 1) := dk_42 (dk_at dksX4_signs_2 21 rfl rfl)
theorem dX4_signs_67 : decode cX4_signs 67 = .ok (.getfield 15, 3) := dk_180 0 15 (dk_at dksX4_signs_3 0 rfl rfl)
theorem dX4_signs_70 : decode cX4_signs 70 = .ok (.aaload, 1) := dk_50 (dk_at dksX4_signs_3 3 rfl rfl)
theorem dX4_signs_71 : decode cX4_signs 71 = .ok (.getfield 74, 3) := dk_180 0 74 (dk_at dksX4_signs_3 4 rfl rfl)
theorem dX4_signs_74 : decode cX4_signs 74 = .ok (.invokestatic 77, 3) := dk_184 0 77 (dk_at dksX4_signs_3 7 rfl rfl)
theorem dX4_signs_77 : decode cX4_signs 77 = .ok (.ifCond .ne 13, 3) := dk_154 0 13 (dk_at dksX4_signs_3 10 rfl rfl)
theorem dX4_signs_80 : decode cX4_signs 80 = .ok (.iload_n 2, 1) := dk_28 (dk_at dksX4_signs_3 13 rfl rfl)
theorem dX4_signs_81 : decode cX4_signs 81 = .ok (.iload 5, 2) := dk_21 5 (dk_at dksX4_signs_3 14 rfl rfl)
theorem dX4_signs_83 : decode cX4_signs 83 = .ok (.if_icmp .gt 7, 3) := dk_163 0 7 (dk_at dksX4_signs_3 16 rfl rfl)
theorem dX4_signs_86 : decode cX4_signs 86 = .ok (.iconst 4, 1) := dk_7 (dk_at dksX4_signs_3 19 rfl rfl)
theorem dX4_signs_87 : decode cX4_signs 87 = .ok (.goto 4, 3) := dk_167 0 4 (dk_at dksX4_signs_3 20 rfl rfl)
theorem dX4_signs_90 : decode cX4_signs 90 = .ok (.iconst 0, 1) := dk_3 (dk_at dksX4_signs_3 23 rfl rfl)
theorem dX4_signs_91 : decode cX4_signs 91 = .ok (.ior, 1) := dk_128 (dk_at dksX4_signs_4 0 rfl rfl)
theorem dX4_signs_92 : decode cX4_signs 92 = .ok (.ireturn, 1) := dk_172 (dk_at dksX4_signs_4 1 rfl rfl)
theorem q104 : (Jvm.Cond.initialized "PretendDesk$Look") ∈ lw_all := lw_g (lw_at lw_m1 5 rfl) rfl
theorem q150 : (Jvm.Cond.fieldLink "PretendDesk$Look" (54 : Nat) "PretendDesk$Tree" "kind" "[I") ∈ lw_all := lw_g (lw_at lw_m1 51 rfl) rfl
theorem q158 : (Jvm.Cond.fieldLink "PretendDesk$Look" (41 : Nat) "PretendDesk$Tree" "many" "I") ∈ lw_all := lw_g (lw_at lw_m1 59 rfl) rfl
theorem q173 : (Jvm.Cond.fieldLink "PretendDesk$Look" (29 : Nat) "PretendDesk$Ruler" "a" "LPretendDesk$Tree;") ∈ lw_all := lw_g (lw_at lw_m1 74 rfl) rfl
theorem q229 : (Jvm.Cond.fieldLink "PretendDesk$Look" (57 : Nat) "PretendDesk$Desk" "houses" "I") ∈ lw_all := lw_g (lw_at lw_m1 130 rfl) rfl
theorem q249 : (Jvm.Cond.fieldLink "PretendDesk$Look" (70 : Nat) "PretendDesk$Desk" "house" "[LPretendDesk$House;") ∈ lw_all := lw_g (lw_at lw_m1 150 rfl) rfl
theorem q256 : (Jvm.Cond.fieldLink "PretendDesk$Look" (48 : Nat) "PretendDesk$Desk" "worth" "[I") ∈ lw_all := lw_g (lw_at lw_m1 157 rfl) rfl
theorem q323 : (Jvm.Cond.instantiable "PretendDesk$Look" (4 : Nat)) ∈ lw_all := lw_g (lw_at lw_m1 224 rfl) rfl
theorem q325 : (Jvm.Cond.instanceMethod ({ cls := "PretendDesk$Look", name := "<init>", desc := "(LPretendDesk;)V" } : Jvm.MethodName)) ∈ lw_all := lw_g (lw_at lw_m1 226 rfl) rfl
theorem q326 : (Jvm.Cond.code ({ cls := "PretendDesk$Look", name := "<init>", desc := "(LPretendDesk;)V" } : Jvm.MethodName) prog_9_method_1_code (2 : Nat) (Option.none : Option Jvm.ClassFile.FieldType)) ∈ lw_all := lw_g (lw_at lw_m1 227 rfl) rfl
theorem q327 : (Jvm.Cond.methodLink "PretendDesk$Look" (9 : Nat) ({ cls := "java/lang/Object", name := "<init>", desc := "()V" } : Jvm.MethodName)) ∈ lw_all := lw_g (lw_at lw_m1 228 rfl) rfl
theorem q328 : (Jvm.Cond.fieldLink "PretendDesk$Look" (15 : Nat) "PretendDesk$Look" "like" "I") ∈ lw_all := lw_g (lw_at lw_m1 229 rfl) rfl
theorem q331 : (Jvm.Cond.fieldLink "PretendDesk$Look" (19 : Nat) "PretendDesk$Look" "look" "I") ∈ lw_all := lw_g (lw_at lw_m1 232 rfl) rfl
theorem q334 : (Jvm.Cond.fieldLink "PretendDesk$Look" (22 : Nat) "PretendDesk$Look" "ask" "I") ∈ lw_all := lw_g (lw_at lw_m1 235 rfl) rfl
theorem q337 : (Jvm.Cond.fieldLink "PretendDesk$Look" (3 : Nat) "PretendDesk$Look" "this$0" "LPretendDesk;") ∈ lw_all := lw_g (lw_at lw_m1 238 rfl) rfl
theorem q338 : (Jvm.Cond.lays "PretendDesk$Look" "PretendDesk$Look" "like" "I") ∈ lw_all := lw_g (lw_at lw_m1 239 rfl) rfl
theorem q339 : (Jvm.Cond.soleField "PretendDesk$Look" "like") ∈ lw_all := lw_g (lw_at lw_m2 0 rfl) rfl
theorem q340 : (Jvm.Cond.lays "PretendDesk$Look" "PretendDesk$Look" "look" "I") ∈ lw_all := lw_g (lw_at lw_m2 1 rfl) rfl
theorem q341 : (Jvm.Cond.soleField "PretendDesk$Look" "look") ∈ lw_all := lw_g (lw_at lw_m2 2 rfl) rfl
theorem q342 : (Jvm.Cond.lays "PretendDesk$Look" "PretendDesk$Look" "ask" "I") ∈ lw_all := lw_g (lw_at lw_m2 3 rfl) rfl
theorem q343 : (Jvm.Cond.soleField "PretendDesk$Look" "ask") ∈ lw_all := lw_g (lw_at lw_m2 4 rfl) rfl
theorem q344 : (Jvm.Cond.laysFinal "PretendDesk$Look" "PretendDesk$Look" "this$0" "LPretendDesk;") ∈ lw_all := lw_g (lw_at lw_m2 5 rfl) rfl
theorem q345 : (Jvm.Cond.soleField "PretendDesk$Look" "this$0") ∈ lw_all := lw_g (lw_at lw_m2 6 rfl) rfl
theorem q346 : (Jvm.Cond.superclass "PretendDesk$Look" "java/lang/Object") ∈ lw_all := lw_g (lw_at lw_m2 7 rfl) rfl
theorem q393 : (Jvm.Cond.fieldLinkNest "PretendDesk$Look" (25 : Nat) "PretendDesk" "ruler" "LPretendDesk$Ruler;" "PretendDesk") ∈ lw_tbl := lw_at lw_m2 54 rfl
theorem q402 : (Jvm.Cond.fieldLinkNest "PretendDesk$Look" (44 : Nat) "PretendDesk" "desk" "LPretendDesk$Desk;" "PretendDesk") ∈ lw_tbl := lw_at lw_m2 63 rfl
theorem q499 : (Jvm.Cond.fieldLink "PretendDesk$Look" (74 : Nat) "PretendDesk$House" "name" "[B") ∈ lw_all := lw_g (lw_at lw_m2 160 rfl) rfl
theorem q873 : (Jvm.Cond.fieldLink "PretendDesk$Look" (64 : Nat) "PretendDesk$Came" "name" "[B") ∈ lw_all := lw_g (lw_at lw_m4 54 rfl) rfl
theorem q1008 : (Jvm.Cond.instanceMethod ({ cls := "PretendDesk$Look", name := "at", desc := "(LPretendDesk$Page;III[I)LPretendDesk$Look;" } : Jvm.MethodName)) ∈ lw_all := lw_g (lw_at lw_m4 189 rfl) rfl
theorem q1009 : (Jvm.Cond.selects "PretendDesk$Look" ({ cls := "PretendDesk$Look", name := "at", desc := "(LPretendDesk$Page;III[I)LPretendDesk$Look;" } : Jvm.MethodName) ({ cls := "PretendDesk$Look", name := "at", desc := "(LPretendDesk$Page;III[I)LPretendDesk$Look;" } : Jvm.MethodName)) ∈ lw_all := lw_g (lw_at lw_m4 190 rfl) rfl
theorem q1010 : (Jvm.Cond.code ({ cls := "PretendDesk$Look", name := "at", desc := "(LPretendDesk$Page;III[I)LPretendDesk$Look;" } : Jvm.MethodName) prog_9_method_2_code (9 : Nat) (Option.some (Jvm.ClassFile.FieldType.object "PretendDesk$Look"))) ∈ lw_all := lw_g (lw_at lw_m4 191 rfl) rfl
theorem q1011 : (Jvm.Cond.methodLink "PretendDesk$Look" (35 : Nat) ({ cls := "PretendDesk$Tree", name := "open", desc := "(LPretendDesk$Page;III[I)LPretendDesk$Tree;" } : Jvm.MethodName)) ∈ lw_all := lw_g (lw_at lw_m4 192 rfl) rfl
theorem q1012 : (Jvm.Cond.methodLinkNest "PretendDesk$Look" (60 : Nat) ({ cls := "PretendDesk", name := "lookAt", desc := "(III)I" } : Jvm.MethodName) "PretendDesk") ∈ lw_tbl := lw_at lw_m4 193 rfl
theorem q1041 : (Jvm.Cond.privateMethod ({ cls := "PretendDesk$Look", name := "signs", desc := "(LPretendDesk$Came;IIII)I" } : Jvm.MethodName)) ∈ lw_tbl := lw_at lw_m4 222 rfl
theorem q1042 : (Jvm.Cond.instanceMethod ({ cls := "PretendDesk$Look", name := "signs", desc := "(LPretendDesk$Came;IIII)I" } : Jvm.MethodName)) ∈ lw_all := lw_g (lw_at lw_m4 223 rfl) rfl
theorem q1043 : (Jvm.Cond.code ({ cls := "PretendDesk$Look", name := "signs", desc := "(LPretendDesk$Came;IIII)I" } : Jvm.MethodName) prog_9_method_3_code (7 : Nat) (Option.some Jvm.ClassFile.FieldType.int)) ∈ lw_all := lw_g (lw_at lw_m4 224 rfl) rfl
theorem q1044 : (Jvm.Cond.methodLinkNest "PretendDesk$Look" (77 : Nat) ({ cls := "PretendDesk", name := "isName", desc := "([B[B)Z" } : Jvm.MethodName) "PretendDesk") ∈ lw_tbl := lw_at lw_m4 225 rfl
theorem in_X4 : ∀ w ∈ wsX40, w ∈ lw_all := lw_in wsX40 [338, 340, 342, 344] (by decide +kernel) (by decide +kernel)
/-! PretendDesk$Forger -/
set_option maxRecDepth 100000
def RX5 : String := "PretendDesk$Forger"
def TX5 : u_T := fun k => match k with
  | 0 => ("PretendDesk$Forger", "colours", "[I", true)
  | 1 => ("PretendDesk$Forger", "set", "I", false)
  | 2 => ("PretendDesk$Forger", "price", "I", false)
  | 3 => ("PretendDesk$Forger", "said", "I", false)
  | _ => ("PretendDesk$Forger", "this$0", "LPretendDesk;", true)
def tyX5 : Nat → FieldType := fun k => match k with
  | 0 => .array .int
  | 1 => .int
  | 2 => .int
  | 3 => .int
  | _ => .object "PretendDesk"
abbrev wsX50 : List Cond := u_ws RX5 TX5 5
theorem nmX5 : ∀ a, a < 5 → ∀ b, b < 5 → a ≠ b → (TX5 a).2.1 ≠ (TX5 b).2.1 := by decide +kernel
theorem tyX5_ok : ∀ k, k < 5 → parseFieldDescriptor (TX5 k).2.2.1 = some (tyX5 k) := by decide +kernel
abbrev cX5_init : ByteArray := prog_7_method_1_code
def yX5_init : MethodName := ⟨RX5, "<init>", "(LPretendDesk;)V"⟩
def dkwX5_init_0 : List UInt8 := [42, 43, 181, 0, 3, 42, 183, 0, 9, 42, 16, 14, 188, 10, 181, 0, 15, 177]
abbrev dktX5_init_0 : List UInt8 := dkwX5_init_0 ++ []
theorem dksX5_init_0 : cX5_init.data.toList.drop 0 = dktX5_init_0 := by decide +kernel
theorem dX5_init_0 : decode cX5_init 0 = .ok (.aload_n 0, 1) := dk_42 (dk_at dksX5_init_0 0 rfl rfl)
theorem dX5_init_1 : decode cX5_init 1 = .ok (.aload_n 1, 1) := dk_43 (dk_at dksX5_init_0 1 rfl rfl)
theorem dX5_init_2 : decode cX5_init 2 = .ok (.putfield 3, 3) := dk_181 0 3 (dk_at dksX5_init_0 2 rfl rfl)
theorem dX5_init_5 : decode cX5_init 5 = .ok (.aload_n 0, 1) := dk_42 (dk_at dksX5_init_0 5 rfl rfl)
theorem dX5_init_6 : decode cX5_init 6 = .ok (.invokespecial 9, 3) := dk_183 0 9 (dk_at dksX5_init_0 6 rfl rfl)
theorem dX5_init_9 : decode cX5_init 9 = .ok (.aload_n 0, 1) := dk_42 (dk_at dksX5_init_0 9 rfl rfl)
theorem dX5_init_10 : decode cX5_init 10 = .ok (.bipush 14, 2) := dk_16 14 (dk_at dksX5_init_0 10 rfl rfl)
theorem dX5_init_12 : decode cX5_init 12 = .ok (.newarray .int, 2) := dk_188_10 (dk_at dksX5_init_0 12 rfl rfl)
theorem dX5_init_14 : decode cX5_init 14 = .ok (.putfield 15, 3) := dk_181 0 15 (dk_at dksX5_init_0 14 rfl rfl)
theorem dX5_init_17 : decode cX5_init 17 = .ok (.return_, 1) := dk_177 (dk_at dksX5_init_0 17 rfl rfl)
abbrev cX5_passes : ByteArray := prog_7_method_3_code
def yX5_passes : MethodName := ⟨RX5, "passes", "(LPretendDesk$Came;IIII)Z"⟩
def dkwX5_passes_5 : List UInt8 := [42, 21, 7, 181, 0, 112, 42, 21, 8, 181, 0, 89, 21, 6, 2, 159, 0, 7, 4, 167, 0, 4, 3, 172]
abbrev dktX5_passes_5 : List UInt8 := dkwX5_passes_5 ++ []
def dkwX5_passes_4 : List UInt8 := [54, 6, 21, 10, 54, 7, 42, 180, 0, 89, 54, 8, 132, 9, 1, 167, 255, 159, 42, 21, 6, 181, 0, 109]
abbrev dktX5_passes_4 : List UInt8 := dkwX5_passes_4 ++ dktX5_passes_5
def dkwX5_passes_3 : List UInt8 := [184, 0, 104, 162, 0, 7, 4, 167, 0, 4, 3, 54, 11, 21, 11, 154, 0, 6, 167, 0, 17, 21, 9]
abbrev dktX5_passes_3 : List UInt8 := dkwX5_passes_3 ++ dktX5_passes_4
def dkwX5_passes_2 : List UInt8 := [159, 0, 30, 21, 10, 21, 7, 161, 0, 23, 21, 10, 21, 7, 160, 0, 20, 21, 9, 184, 0, 104, 21, 6]
abbrev dktX5_passes_2 : List UInt8 := dkwX5_passes_2 ++ dktX5_passes_3
def dkwX5_passes_1 : List UInt8 := [43, 28, 29, 21, 4, 21, 5, 21, 9, 182, 0, 100, 54, 10, 21, 10, 2, 159, 0, 40, 21, 6, 2]
abbrev dktX5_passes_1 : List UInt8 := dkwX5_passes_1 ++ dktX5_passes_2
def dkwX5_passes_0 : List UInt8 := [2, 54, 6, 3, 54, 7, 3, 54, 8, 3, 54, 9, 21, 9, 4, 43, 180, 0, 34, 120, 162, 0, 92, 42]
abbrev dktX5_passes_0 : List UInt8 := dkwX5_passes_0 ++ dktX5_passes_1
theorem dksX5_passes_0 : cX5_passes.data.toList.drop 0 = dktX5_passes_0 := by decide +kernel
theorem dksX5_passes_1 : cX5_passes.data.toList.drop 24 = dktX5_passes_1 := dk_seg dksX5_passes_0 24 rfl rfl
theorem dksX5_passes_2 : cX5_passes.data.toList.drop 47 = dktX5_passes_2 := dk_seg dksX5_passes_1 23 rfl rfl
theorem dksX5_passes_3 : cX5_passes.data.toList.drop 71 = dktX5_passes_3 := dk_seg dksX5_passes_2 24 rfl rfl
theorem dksX5_passes_4 : cX5_passes.data.toList.drop 94 = dktX5_passes_4 := dk_seg dksX5_passes_3 23 rfl rfl
theorem dksX5_passes_5 : cX5_passes.data.toList.drop 118 = dktX5_passes_5 := dk_seg dksX5_passes_4 24 rfl rfl
theorem dX5_passes_0 : decode cX5_passes 0 = .ok (.iconst (-1), 1) := dk_2 (dk_at dksX5_passes_0 0 rfl rfl)
theorem dX5_passes_1 : decode cX5_passes 1 = .ok (.istore 6, 2) := dk_54 6 (dk_at dksX5_passes_0 1 rfl rfl)
theorem dX5_passes_3 : decode cX5_passes 3 = .ok (.iconst 0, 1) := dk_3 (dk_at dksX5_passes_0 3 rfl rfl)
theorem dX5_passes_4 : decode cX5_passes 4 = .ok (.istore 7, 2) := dk_54 7 (dk_at dksX5_passes_0 4 rfl rfl)
theorem dX5_passes_6 : decode cX5_passes 6 = .ok (.iconst 0, 1) := dk_3 (dk_at dksX5_passes_0 6 rfl rfl)
theorem dX5_passes_7 : decode cX5_passes 7 = .ok (.istore 8, 2) := dk_54 8 (dk_at dksX5_passes_0 7 rfl rfl)
theorem dX5_passes_9 : decode cX5_passes 9 = .ok (.iconst 0, 1) := dk_3 (dk_at dksX5_passes_0 9 rfl rfl)
theorem dX5_passes_10 : decode cX5_passes 10 = .ok (.istore 9, 2) := dk_54 9 (dk_at dksX5_passes_0 10 rfl rfl)
theorem dX5_passes_12 : decode cX5_passes 12 = .ok (.iload 9, 2) := dk_21 9 (dk_at dksX5_passes_0 12 rfl rfl)
theorem dX5_passes_14 : decode cX5_passes 14 = .ok (.iconst 1, 1) := dk_4 (dk_at dksX5_passes_0 14 rfl rfl)
theorem dX5_passes_15 : decode cX5_passes 15 = .ok (.aload_n 1, 1) := dk_43 (dk_at dksX5_passes_0 15 rfl rfl)
theorem dX5_passes_16 : decode cX5_passes 16 = .ok (.getfield 34, 3) := dk_180 0 34 (dk_at dksX5_passes_0 16 rfl rfl)
theorem dX5_passes_19 : decode cX5_passes 19 = .ok (.ishl, 1) := dk_120 (dk_at dksX5_passes_0 19 rfl rfl)
theorem dX5_passes_20 : decode cX5_passes 20 = .ok (.if_icmp .ge 92, 3) := dk_162 0 92 (dk_at dksX5_passes_0 20 rfl rfl)
theorem dX5_passes_23 : decode cX5_passes 23 = .ok (.aload_n 0, 1) := dk_42 (dk_at dksX5_passes_0 23 rfl rfl)
theorem dX5_passes_24 : decode cX5_passes 24 = .ok (.aload_n 1, 1) := dk_43 (dk_at dksX5_passes_1 0 rfl rfl)
theorem dX5_passes_25 : decode cX5_passes 25 = .ok (.iload_n 2, 1) := dk_28 (dk_at dksX5_passes_1 1 rfl rfl)
theorem dX5_passes_26 : decode cX5_passes 26 = .ok (.iload_n 3, 1) := dk_29 (dk_at dksX5_passes_1 2 rfl rfl)
theorem dX5_passes_27 : decode cX5_passes 27 = .ok (.iload 4, 2) := dk_21 4 (dk_at dksX5_passes_1 3 rfl rfl)
theorem dX5_passes_29 : decode cX5_passes 29 = .ok (.iload 5, 2) := dk_21 5 (dk_at dksX5_passes_1 5 rfl rfl)
theorem dX5_passes_31 : decode cX5_passes 31 = .ok (.iload 9, 2) := dk_21 9 (dk_at dksX5_passes_1 7 rfl rfl)
theorem dX5_passes_33 : decode cX5_passes 33 = .ok (.invokevirtual 100, 3) := dk_182 0 100 (dk_at dksX5_passes_1 9 rfl rfl)
theorem dX5_passes_36 : decode cX5_passes 36 = .ok (.istore 10, 2) := dk_54 10 (dk_at dksX5_passes_1 12 rfl rfl)
theorem dX5_passes_38 : decode cX5_passes 38 = .ok (.iload 10, 2) := dk_21 10 (dk_at dksX5_passes_1 14 rfl rfl)
theorem dX5_passes_40 : decode cX5_passes 40 = .ok (.iconst (-1), 1) := dk_2 (dk_at dksX5_passes_1 16 rfl rfl)
theorem dX5_passes_41 : decode cX5_passes 41 = .ok (.if_icmp .eq 40, 3) := dk_159 0 40 (dk_at dksX5_passes_1 17 rfl rfl)
theorem dX5_passes_44 : decode cX5_passes 44 = .ok (.iload 6, 2) := dk_21 6 (dk_at dksX5_passes_1 20 rfl rfl)
theorem dX5_passes_46 : decode cX5_passes 46 = .ok (.iconst (-1), 1) := dk_2 (dk_at dksX5_passes_1 22 rfl rfl)
theorem dX5_passes_47 : decode cX5_passes 47 = .ok (.if_icmp .eq 30, 3) := dk_159 0 30 (dk_at dksX5_passes_2 0 rfl rfl)
theorem dX5_passes_50 : decode cX5_passes 50 = .ok (.iload 10, 2) := dk_21 10 (dk_at dksX5_passes_2 3 rfl rfl)
theorem dX5_passes_52 : decode cX5_passes 52 = .ok (.iload 7, 2) := dk_21 7 (dk_at dksX5_passes_2 5 rfl rfl)
theorem dX5_passes_54 : decode cX5_passes 54 = .ok (.if_icmp .lt 23, 3) := dk_161 0 23 (dk_at dksX5_passes_2 7 rfl rfl)
theorem dX5_passes_57 : decode cX5_passes 57 = .ok (.iload 10, 2) := dk_21 10 (dk_at dksX5_passes_2 10 rfl rfl)
theorem dX5_passes_59 : decode cX5_passes 59 = .ok (.iload 7, 2) := dk_21 7 (dk_at dksX5_passes_2 12 rfl rfl)
theorem dX5_passes_61 : decode cX5_passes 61 = .ok (.if_icmp .ne 20, 3) := dk_160 0 20 (dk_at dksX5_passes_2 14 rfl rfl)
theorem dX5_passes_64 : decode cX5_passes 64 = .ok (.iload 9, 2) := dk_21 9 (dk_at dksX5_passes_2 17 rfl rfl)
theorem dX5_passes_66 : decode cX5_passes 66 = .ok (.invokestatic 104, 3) := dk_184 0 104 (dk_at dksX5_passes_2 19 rfl rfl)
theorem dX5_passes_69 : decode cX5_passes 69 = .ok (.iload 6, 2) := dk_21 6 (dk_at dksX5_passes_2 22 rfl rfl)
theorem dX5_passes_71 : decode cX5_passes 71 = .ok (.invokestatic 104, 3) := dk_184 0 104 (dk_at dksX5_passes_3 0 rfl rfl)
theorem dX5_passes_74 : decode cX5_passes 74 = .ok (.if_icmp .ge 7, 3) := dk_162 0 7 (dk_at dksX5_passes_3 3 rfl rfl)
theorem dX5_passes_77 : decode cX5_passes 77 = .ok (.iconst 1, 1) := dk_4 (dk_at dksX5_passes_3 6 rfl rfl)
theorem dX5_passes_78 : decode cX5_passes 78 = .ok (.goto 4, 3) := dk_167 0 4 (dk_at dksX5_passes_3 7 rfl rfl)
theorem dX5_passes_81 : decode cX5_passes 81 = .ok (.iconst 0, 1) := dk_3 (dk_at dksX5_passes_3 10 rfl rfl)
theorem dX5_passes_82 : decode cX5_passes 82 = .ok (.istore 11, 2) := dk_54 11 (dk_at dksX5_passes_3 11 rfl rfl)
theorem dX5_passes_84 : decode cX5_passes 84 = .ok (.iload 11, 2) := dk_21 11 (dk_at dksX5_passes_3 13 rfl rfl)
theorem dX5_passes_86 : decode cX5_passes 86 = .ok (.ifCond .ne 6, 3) := dk_154 0 6 (dk_at dksX5_passes_3 15 rfl rfl)
theorem dX5_passes_89 : decode cX5_passes 89 = .ok (.goto 17, 3) := dk_167 0 17 (dk_at dksX5_passes_3 18 rfl rfl)
theorem dX5_passes_92 : decode cX5_passes 92 = .ok (.iload 9, 2) := dk_21 9 (dk_at dksX5_passes_3 21 rfl rfl)
theorem dX5_passes_94 : decode cX5_passes 94 = .ok (.istore 6, 2) := dk_54 6 (dk_at dksX5_passes_4 0 rfl rfl)
theorem dX5_passes_96 : decode cX5_passes 96 = .ok (.iload 10, 2) := dk_21 10 (dk_at dksX5_passes_4 2 rfl rfl)
theorem dX5_passes_98 : decode cX5_passes 98 = .ok (.istore 7, 2) := dk_54 7 (dk_at dksX5_passes_4 4 rfl rfl)
theorem dX5_passes_100 : decode cX5_passes 100 = .ok (.aload_n 0, 1) := dk_42 (dk_at dksX5_passes_4 6 rfl rfl)
theorem dX5_passes_101 : decode cX5_passes 101 = .ok (.getfield 89, 3) := dk_180 0 89 (dk_at dksX5_passes_4 7 rfl rfl)
theorem dX5_passes_104 : decode cX5_passes 104 = .ok (.istore 8, 2) := dk_54 8 (dk_at dksX5_passes_4 10 rfl rfl)
theorem dX5_passes_106 : decode cX5_passes 106 = .ok (.iinc 9 1, 3) := dk_132 9 1 (dk_at dksX5_passes_4 12 rfl rfl)
theorem dX5_passes_109 : decode cX5_passes 109 = .ok (.goto (-97), 3) := dk_167 255 159 (dk_at dksX5_passes_4 15 rfl rfl)
theorem dX5_passes_112 : decode cX5_passes 112 = .ok (.aload_n 0, 1) := dk_42 (dk_at dksX5_passes_4 18 rfl rfl)
theorem dX5_passes_113 : decode cX5_passes 113 = .ok (.iload 6, 2) := dk_21 6 (dk_at dksX5_passes_4 19 rfl rfl)
theorem dX5_passes_115 : decode cX5_passes 115 = .ok (.putfield 109, 3) := dk_181 0 109 (dk_at dksX5_passes_4 21 rfl rfl)
theorem dX5_passes_118 : decode cX5_passes 118 = .ok (.aload_n 0, 1) := dk_42 (dk_at dksX5_passes_5 0 rfl rfl)
theorem dX5_passes_119 : decode cX5_passes 119 = .ok (.iload 7, 2) := dk_21 7 (dk_at dksX5_passes_5 1 rfl rfl)
theorem dX5_passes_121 : decode cX5_passes 121 = .ok (.putfield 112, 3) := dk_181 0 112 (dk_at dksX5_passes_5 3 rfl rfl)
theorem dX5_passes_124 : decode cX5_passes 124 = .ok (.aload_n 0, 1) := dk_42 (dk_at dksX5_passes_5 6 rfl rfl)
theorem dX5_passes_125 : decode cX5_passes 125 = .ok (.iload 8, 2) := dk_21 8 (dk_at dksX5_passes_5 7 rfl rfl)
theorem dX5_passes_127 : decode cX5_passes 127 = .ok (.putfield 89, 3) := dk_181 0 89 (dk_at dksX5_passes_5 9 rfl rfl)
theorem dX5_passes_130 : decode cX5_passes 130 = .ok (.iload 6, 2) := dk_21 6 (dk_at dksX5_passes_5 12 rfl rfl)
theorem dX5_passes_132 : decode cX5_passes 132 = .ok (.iconst (-1), 1) := dk_2 (dk_at dksX5_passes_5 14 rfl rfl)
theorem dX5_passes_133 : decode cX5_passes 133 = .ok (.if_icmp .eq 7, 3) := dk_159 0 7 (dk_at dksX5_passes_5 15 rfl rfl)
theorem dX5_passes_136 : decode cX5_passes 136 = .ok (.iconst 1, 1) := dk_4 (dk_at dksX5_passes_5 18 rfl rfl)
theorem dX5_passes_137 : decode cX5_passes 137 = .ok (.goto 4, 3) := dk_167 0 4 (dk_at dksX5_passes_5 19 rfl rfl)
theorem dX5_passes_140 : decode cX5_passes 140 = .ok (.iconst 0, 1) := dk_3 (dk_at dksX5_passes_5 22 rfl rfl)
theorem dX5_passes_141 : decode cX5_passes 141 = .ok (.ireturn, 1) := dk_172 (dk_at dksX5_passes_5 23 rfl rfl)
abbrev cX5_priceOf : ByteArray := prog_7_method_2_code
def yX5_priceOf : MethodName := ⟨RX5, "priceOf", "(LPretendDesk$Came;IIIII)I"⟩
def dkwX5_priceOf_11 : List UInt8 := [160, 0, 7, 2, 167, 0, 5, 21, 7, 172]
abbrev dktX5_priceOf_11 : List UInt8 := dkwX5_priceOf_11 ++ []
def dkwX5_priceOf_10 : List UInt8 := [163, 0, 26, 42, 180, 0, 3, 180, 0, 56, 180, 0, 97, 21, 4, 161, 0, 11, 42, 180, 0, 89, 5]
abbrev dktX5_priceOf_10 : List UInt8 := dkwX5_priceOf_10 ++ dktX5_priceOf_11
def dkwX5_priceOf_9 : List UInt8 := [180, 0, 3, 180, 0, 56, 180, 0, 92, 2, 159, 0, 40, 42, 180, 0, 3, 180, 0, 56, 180, 0, 95, 29]
abbrev dktX5_priceOf_9 : List UInt8 := dkwX5_priceOf_9 ++ dktX5_priceOf_10
def dkwX5_priceOf_8 : List UInt8 := [180, 0, 74, 42, 180, 0, 3, 180, 0, 70, 180, 0, 79, 182, 0, 82, 184, 0, 86, 181, 0, 89, 42]
abbrev dktX5_priceOf_8 : List UInt8 := dkwX5_priceOf_8 ++ dktX5_priceOf_9
def dkwX5_priceOf_7 : List UInt8 := [182, 0, 64, 87, 42, 42, 180, 0, 3, 180, 0, 56, 43, 21, 9, 21, 5, 42, 180, 0, 3, 180, 0, 70]
abbrev dktX5_priceOf_7 : List UInt8 := dkwX5_priceOf_7 ++ dktX5_priceOf_8
def dkwX5_priceOf_6 : List UInt8 := [167, 255, 152, 42, 180, 0, 3, 180, 0, 56, 43, 180, 0, 60, 3, 28, 21, 8, 42, 180, 0, 15]
abbrev dktX5_priceOf_6 : List UInt8 := dkwX5_priceOf_6 ++ dktX5_priceOf_7
def dkwX5_priceOf_5 : List UInt8 := [25, 11, 180, 0, 53, 79, 167, 0, 13, 21, 9, 25, 11, 180, 0, 53, 96, 54, 9, 132, 10, 1]
abbrev dktX5_priceOf_5 : List UInt8 := dkwX5_priceOf_5 ++ dktX5_priceOf_6
def dkwX5_priceOf_4 : List UInt8 := [54, 8, 167, 0, 40, 25, 11, 180, 0, 47, 4, 160, 0, 21, 42, 180, 0, 15, 25, 11, 180, 0, 50]
abbrev dktX5_priceOf_4 : List UInt8 := dkwX5_priceOf_4 ++ dktX5_priceOf_5
def dkwX5_priceOf_3 : List UInt8 := [180, 0, 42, 96, 54, 7, 25, 11, 180, 0, 47, 154, 0, 18, 21, 8, 4, 25, 11, 180, 0, 50, 120, 128]
abbrev dktX5_priceOf_3 : List UInt8 := dkwX5_priceOf_3 ++ dktX5_priceOf_4
def dkwX5_priceOf_2 : List UInt8 := [21, 10, 122, 4, 126, 154, 0, 6, 167, 0, 82, 43, 180, 0, 38, 21, 10, 50, 58, 11, 21, 7, 25, 11]
abbrev dktX5_priceOf_2 : List UInt8 := dkwX5_priceOf_2 ++ dktX5_priceOf_3
def dkwX5_priceOf_1 : List UInt8 := [180, 0, 15, 3, 16, 14, 184, 0, 28, 3, 54, 10, 21, 10, 43, 180, 0, 34, 162, 0, 101, 21, 6]
abbrev dktX5_priceOf_1 : List UInt8 := dkwX5_priceOf_1 ++ dktX5_priceOf_2
def dkwX5_priceOf_0 : List UInt8 := [3, 54, 7, 3, 54, 8, 43, 28, 182, 0, 19, 54, 9, 42, 180, 0, 3, 180, 0, 25, 3, 42]
abbrev dktX5_priceOf_0 : List UInt8 := dkwX5_priceOf_0 ++ dktX5_priceOf_1
theorem dksX5_priceOf_0 : cX5_priceOf.data.toList.drop 0 = dktX5_priceOf_0 := by decide +kernel
theorem dksX5_priceOf_1 : cX5_priceOf.data.toList.drop 22 = dktX5_priceOf_1 := dk_seg dksX5_priceOf_0 22 rfl rfl
theorem dksX5_priceOf_2 : cX5_priceOf.data.toList.drop 45 = dktX5_priceOf_2 := dk_seg dksX5_priceOf_1 23 rfl rfl
theorem dksX5_priceOf_3 : cX5_priceOf.data.toList.drop 69 = dktX5_priceOf_3 := dk_seg dksX5_priceOf_2 24 rfl rfl
theorem dksX5_priceOf_4 : cX5_priceOf.data.toList.drop 93 = dktX5_priceOf_4 := dk_seg dksX5_priceOf_3 24 rfl rfl
theorem dksX5_priceOf_5 : cX5_priceOf.data.toList.drop 116 = dktX5_priceOf_5 := dk_seg dksX5_priceOf_4 23 rfl rfl
theorem dksX5_priceOf_6 : cX5_priceOf.data.toList.drop 138 = dktX5_priceOf_6 := dk_seg dksX5_priceOf_5 22 rfl rfl
theorem dksX5_priceOf_7 : cX5_priceOf.data.toList.drop 160 = dktX5_priceOf_7 := dk_seg dksX5_priceOf_6 22 rfl rfl
theorem dksX5_priceOf_8 : cX5_priceOf.data.toList.drop 184 = dktX5_priceOf_8 := dk_seg dksX5_priceOf_7 24 rfl rfl
theorem dksX5_priceOf_9 : cX5_priceOf.data.toList.drop 207 = dktX5_priceOf_9 := dk_seg dksX5_priceOf_8 23 rfl rfl
theorem dksX5_priceOf_10 : cX5_priceOf.data.toList.drop 231 = dktX5_priceOf_10 := dk_seg dksX5_priceOf_9 24 rfl rfl
theorem dksX5_priceOf_11 : cX5_priceOf.data.toList.drop 254 = dktX5_priceOf_11 := dk_seg dksX5_priceOf_10 23 rfl rfl
theorem dX5_priceOf_0 : decode cX5_priceOf 0 = .ok (.iconst 0, 1) := dk_3 (dk_at dksX5_priceOf_0 0 rfl rfl)
theorem dX5_priceOf_1 : decode cX5_priceOf 1 = .ok (.istore 7, 2) := dk_54 7 (dk_at dksX5_priceOf_0 1 rfl rfl)
theorem dX5_priceOf_3 : decode cX5_priceOf 3 = .ok (.iconst 0, 1) := dk_3 (dk_at dksX5_priceOf_0 3 rfl rfl)
theorem dX5_priceOf_4 : decode cX5_priceOf 4 = .ok (.istore 8, 2) := dk_54 8 (dk_at dksX5_priceOf_0 4 rfl rfl)
theorem dX5_priceOf_6 : decode cX5_priceOf 6 = .ok (.aload_n 1, 1) := dk_43 (dk_at dksX5_priceOf_0 6 rfl rfl)
theorem dX5_priceOf_7 : decode cX5_priceOf 7 = .ok (.iload_n 2, 1) := dk_28 (dk_at dksX5_priceOf_0 7 rfl rfl)
theorem dX5_priceOf_8 : decode cX5_priceOf 8 = .ok (.invokevirtual 19, 3) := dk_182 0 19 (dk_at dksX5_priceOf_0 8 rfl rfl)
theorem dX5_priceOf_11 : decode cX5_priceOf 11 = .ok (.istore 9, 2) := dk_54 9 (dk_at dksX5_priceOf_0 11 rfl rfl)
theorem dX5_priceOf_13 : decode cX5_priceOf 13 = .ok (.aload_n 0, 1) := dk_42 (dk_at dksX5_priceOf_0 13 rfl rfl)
theorem dX5_priceOf_14 : decode cX5_priceOf 14 = .ok (.getfield 3, 3) := dk_180 0 3 (dk_at dksX5_priceOf_0 14 rfl rfl)
theorem dX5_priceOf_17 : decode cX5_priceOf 17 = .ok (.getfield 25, 3) := dk_180 0 25 (dk_at dksX5_priceOf_0 17 rfl rfl)
theorem dX5_priceOf_20 : decode cX5_priceOf 20 = .ok (.iconst 0, 1) := dk_3 (dk_at dksX5_priceOf_0 20 rfl rfl)
theorem dX5_priceOf_21 : decode cX5_priceOf 21 = .ok (.aload_n 0, 1) := dk_42 (dk_at dksX5_priceOf_0 21 rfl rfl)
theorem dX5_priceOf_22 : decode cX5_priceOf 22 = .ok (.getfield 15, 3) := dk_180 0 15 (dk_at dksX5_priceOf_1 0 rfl rfl)
theorem dX5_priceOf_25 : decode cX5_priceOf 25 = .ok (.iconst 0, 1) := dk_3 (dk_at dksX5_priceOf_1 3 rfl rfl)
theorem dX5_priceOf_26 : decode cX5_priceOf 26 = .ok (.bipush 14, 2) := dk_16 14 (dk_at dksX5_priceOf_1 4 rfl rfl)
theorem dX5_priceOf_28 : decode cX5_priceOf 28 = .ok (.invokestatic 28, 3) := dk_184 0 28 (dk_at dksX5_priceOf_1 6 rfl rfl)
theorem dX5_priceOf_31 : decode cX5_priceOf 31 = .ok (.iconst 0, 1) := dk_3 (dk_at dksX5_priceOf_1 9 rfl rfl)
theorem dX5_priceOf_32 : decode cX5_priceOf 32 = .ok (.istore 10, 2) := dk_54 10 (dk_at dksX5_priceOf_1 10 rfl rfl)
theorem dX5_priceOf_34 : decode cX5_priceOf 34 = .ok (.iload 10, 2) := dk_21 10 (dk_at dksX5_priceOf_1 12 rfl rfl)
theorem dX5_priceOf_36 : decode cX5_priceOf 36 = .ok (.aload_n 1, 1) := dk_43 (dk_at dksX5_priceOf_1 14 rfl rfl)
theorem dX5_priceOf_37 : decode cX5_priceOf 37 = .ok (.getfield 34, 3) := dk_180 0 34 (dk_at dksX5_priceOf_1 15 rfl rfl)
theorem dX5_priceOf_40 : decode cX5_priceOf 40 = .ok (.if_icmp .ge 101, 3) := dk_162 0 101 (dk_at dksX5_priceOf_1 18 rfl rfl)
theorem dX5_priceOf_43 : decode cX5_priceOf 43 = .ok (.iload 6, 2) := dk_21 6 (dk_at dksX5_priceOf_1 21 rfl rfl)
theorem dX5_priceOf_45 : decode cX5_priceOf 45 = .ok (.iload 10, 2) := dk_21 10 (dk_at dksX5_priceOf_2 0 rfl rfl)
theorem dX5_priceOf_47 : decode cX5_priceOf 47 = .ok (.ishr, 1) := dk_122 (dk_at dksX5_priceOf_2 2 rfl rfl)
theorem dX5_priceOf_48 : decode cX5_priceOf 48 = .ok (.iconst 1, 1) := dk_4 (dk_at dksX5_priceOf_2 3 rfl rfl)
theorem dX5_priceOf_49 : decode cX5_priceOf 49 = .ok (.iand, 1) := dk_126 (dk_at dksX5_priceOf_2 4 rfl rfl)
theorem dX5_priceOf_50 : decode cX5_priceOf 50 = .ok (.ifCond .ne 6, 3) := dk_154 0 6 (dk_at dksX5_priceOf_2 5 rfl rfl)
theorem dX5_priceOf_53 : decode cX5_priceOf 53 = .ok (.goto 82, 3) := dk_167 0 82 (dk_at dksX5_priceOf_2 8 rfl rfl)
theorem dX5_priceOf_56 : decode cX5_priceOf 56 = .ok (.aload_n 1, 1) := dk_43 (dk_at dksX5_priceOf_2 11 rfl rfl)
theorem dX5_priceOf_57 : decode cX5_priceOf 57 = .ok (.getfield 38, 3) := dk_180 0 38 (dk_at dksX5_priceOf_2 12 rfl rfl)
theorem dX5_priceOf_60 : decode cX5_priceOf 60 = .ok (.iload 10, 2) := dk_21 10 (dk_at dksX5_priceOf_2 15 rfl rfl)
theorem dX5_priceOf_62 : decode cX5_priceOf 62 = .ok (.aaload, 1) := dk_50 (dk_at dksX5_priceOf_2 17 rfl rfl)
theorem dX5_priceOf_63 : decode cX5_priceOf 63 = .ok (.astore 11, 2) := dk_58 11 (dk_at dksX5_priceOf_2 18 rfl rfl)
theorem dX5_priceOf_65 : decode cX5_priceOf 65 = .ok (.iload 7, 2) := dk_21 7 (dk_at dksX5_priceOf_2 20 rfl rfl)
theorem dX5_priceOf_67 : decode cX5_priceOf 67 = .ok (.aload 11, 2) := dk_25 11 (dk_at dksX5_priceOf_2 22 rfl rfl)
theorem dX5_priceOf_69 : decode cX5_priceOf 69 = .ok (.getfield 42, 3) := dk_180 0 42 (dk_at dksX5_priceOf_3 0 rfl rfl)
theorem dX5_priceOf_72 : decode cX5_priceOf 72 = .ok (.iadd, 1) := dk_96 (dk_at dksX5_priceOf_3 3 rfl rfl)
theorem dX5_priceOf_73 : decode cX5_priceOf 73 = .ok (.istore 7, 2) := dk_54 7 (dk_at dksX5_priceOf_3 4 rfl rfl)
theorem dX5_priceOf_75 : decode cX5_priceOf 75 = .ok (.aload 11, 2) := dk_25 11 (dk_at dksX5_priceOf_3 6 rfl rfl)
theorem dX5_priceOf_77 : decode cX5_priceOf 77 = .ok (.getfield 47, 3) := dk_180 0 47 (dk_at dksX5_priceOf_3 8 rfl rfl)
theorem dX5_priceOf_80 : decode cX5_priceOf 80 = .ok (.ifCond .ne 18, 3) := dk_154 0 18 (dk_at dksX5_priceOf_3 11 rfl rfl)
theorem dX5_priceOf_83 : decode cX5_priceOf 83 = .ok (.iload 8, 2) := dk_21 8 (dk_at dksX5_priceOf_3 14 rfl rfl)
theorem dX5_priceOf_85 : decode cX5_priceOf 85 = .ok (.iconst 1, 1) := dk_4 (dk_at dksX5_priceOf_3 16 rfl rfl)
theorem dX5_priceOf_86 : decode cX5_priceOf 86 = .ok (.aload 11, 2) := dk_25 11 (dk_at dksX5_priceOf_3 17 rfl rfl)
theorem dX5_priceOf_88 : decode cX5_priceOf 88 = .ok (.getfield 50, 3) := dk_180 0 50 (dk_at dksX5_priceOf_3 19 rfl rfl)
theorem dX5_priceOf_91 : decode cX5_priceOf 91 = .ok (.ishl, 1) := dk_120 (dk_at dksX5_priceOf_3 22 rfl rfl)
theorem dX5_priceOf_92 : decode cX5_priceOf 92 = .ok (.ior, 1) := dk_128 (dk_at dksX5_priceOf_3 23 rfl rfl)
theorem dX5_priceOf_93 : decode cX5_priceOf 93 = .ok (.istore 8, 2) := dk_54 8 (dk_at dksX5_priceOf_4 0 rfl rfl)
theorem dX5_priceOf_95 : decode cX5_priceOf 95 = .ok (.goto 40, 3) := dk_167 0 40 (dk_at dksX5_priceOf_4 2 rfl rfl)
theorem dX5_priceOf_98 : decode cX5_priceOf 98 = .ok (.aload 11, 2) := dk_25 11 (dk_at dksX5_priceOf_4 5 rfl rfl)
theorem dX5_priceOf_100 : decode cX5_priceOf 100 = .ok (.getfield 47, 3) := dk_180 0 47 (dk_at dksX5_priceOf_4 7 rfl rfl)
theorem dX5_priceOf_103 : decode cX5_priceOf 103 = .ok (.iconst 1, 1) := dk_4 (dk_at dksX5_priceOf_4 10 rfl rfl)
theorem dX5_priceOf_104 : decode cX5_priceOf 104 = .ok (.if_icmp .ne 21, 3) := dk_160 0 21 (dk_at dksX5_priceOf_4 11 rfl rfl)
theorem dX5_priceOf_107 : decode cX5_priceOf 107 = .ok (.aload_n 0, 1) := dk_42 (dk_at dksX5_priceOf_4 14 rfl rfl)
theorem dX5_priceOf_108 : decode cX5_priceOf 108 = .ok (.getfield 15, 3) := dk_180 0 15 (dk_at dksX5_priceOf_4 15 rfl rfl)
theorem dX5_priceOf_111 : decode cX5_priceOf 111 = .ok (.aload 11, 2) := dk_25 11 (dk_at dksX5_priceOf_4 18 rfl rfl)
theorem dX5_priceOf_113 : decode cX5_priceOf 113 = .ok (.getfield 50, 3) := dk_180 0 50 (dk_at dksX5_priceOf_4 20 rfl rfl)
theorem dX5_priceOf_116 : decode cX5_priceOf 116 = .ok (.aload 11, 2) := dk_25 11 (dk_at dksX5_priceOf_5 0 rfl rfl)
theorem dX5_priceOf_118 : decode cX5_priceOf 118 = .ok (.getfield 53, 3) := dk_180 0 53 (dk_at dksX5_priceOf_5 2 rfl rfl)
theorem dX5_priceOf_121 : decode cX5_priceOf 121 = .ok (.iastore, 1) := dk_79 (dk_at dksX5_priceOf_5 5 rfl rfl)
theorem dX5_priceOf_122 : decode cX5_priceOf 122 = .ok (.goto 13, 3) := dk_167 0 13 (dk_at dksX5_priceOf_5 6 rfl rfl)
theorem dX5_priceOf_125 : decode cX5_priceOf 125 = .ok (.iload 9, 2) := dk_21 9 (dk_at dksX5_priceOf_5 9 rfl rfl)
theorem dX5_priceOf_127 : decode cX5_priceOf 127 = .ok (.aload 11, 2) := dk_25 11 (dk_at dksX5_priceOf_5 11 rfl rfl)
theorem dX5_priceOf_129 : decode cX5_priceOf 129 = .ok (.getfield 53, 3) := dk_180 0 53 (dk_at dksX5_priceOf_5 13 rfl rfl)
theorem dX5_priceOf_132 : decode cX5_priceOf 132 = .ok (.iadd, 1) := dk_96 (dk_at dksX5_priceOf_5 16 rfl rfl)
theorem dX5_priceOf_133 : decode cX5_priceOf 133 = .ok (.istore 9, 2) := dk_54 9 (dk_at dksX5_priceOf_5 17 rfl rfl)
theorem dX5_priceOf_135 : decode cX5_priceOf 135 = .ok (.iinc 10 1, 3) := dk_132 10 1 (dk_at dksX5_priceOf_5 19 rfl rfl)
theorem dX5_priceOf_138 : decode cX5_priceOf 138 = .ok (.goto (-104), 3) := dk_167 255 152 (dk_at dksX5_priceOf_6 0 rfl rfl)
theorem dX5_priceOf_141 : decode cX5_priceOf 141 = .ok (.aload_n 0, 1) := dk_42 (dk_at dksX5_priceOf_6 3 rfl rfl)
theorem dX5_priceOf_142 : decode cX5_priceOf 142 = .ok (.getfield 3, 3) := dk_180 0 3 (dk_at dksX5_priceOf_6 4 rfl rfl)
theorem dX5_priceOf_145 : decode cX5_priceOf 145 = .ok (.getfield 56, 3) := dk_180 0 56 (dk_at dksX5_priceOf_6 7 rfl rfl)
theorem dX5_priceOf_148 : decode cX5_priceOf 148 = .ok (.aload_n 1, 1) := dk_43 (dk_at dksX5_priceOf_6 10 rfl rfl)
theorem dX5_priceOf_149 : decode cX5_priceOf 149 = .ok (.getfield 60, 3) := dk_180 0 60 (dk_at dksX5_priceOf_6 11 rfl rfl)
theorem dX5_priceOf_152 : decode cX5_priceOf 152 = .ok (.iconst 0, 1) := dk_3 (dk_at dksX5_priceOf_6 14 rfl rfl)
theorem dX5_priceOf_153 : decode cX5_priceOf 153 = .ok (.iload_n 2, 1) := dk_28 (dk_at dksX5_priceOf_6 15 rfl rfl)
theorem dX5_priceOf_154 : decode cX5_priceOf 154 = .ok (.iload 8, 2) := dk_21 8 (dk_at dksX5_priceOf_6 16 rfl rfl)
theorem dX5_priceOf_156 : decode cX5_priceOf 156 = .ok (.aload_n 0, 1) := dk_42 (dk_at dksX5_priceOf_6 18 rfl rfl)
theorem dX5_priceOf_157 : decode cX5_priceOf 157 = .ok (.getfield 15, 3) := dk_180 0 15 (dk_at dksX5_priceOf_6 19 rfl rfl)
theorem dX5_priceOf_160 : decode cX5_priceOf 160 = .ok (.invokevirtual 64, 3) := dk_182 0 64 (dk_at dksX5_priceOf_7 0 rfl rfl)
theorem dX5_priceOf_163 : decode cX5_priceOf 163 = .ok (.pop, 1) := dk_87 (dk_at dksX5_priceOf_7 3 rfl rfl)
theorem dX5_priceOf_164 : decode cX5_priceOf 164 = .ok (.aload_n 0, 1) := dk_42 (dk_at dksX5_priceOf_7 4 rfl rfl)
theorem dX5_priceOf_165 : decode cX5_priceOf 165 = .ok (.aload_n 0, 1) := dk_42 (dk_at dksX5_priceOf_7 5 rfl rfl)
theorem dX5_priceOf_166 : decode cX5_priceOf 166 = .ok (.getfield 3, 3) := dk_180 0 3 (dk_at dksX5_priceOf_7 6 rfl rfl)
theorem dX5_priceOf_169 : decode cX5_priceOf 169 = .ok (.getfield 56, 3) := dk_180 0 56 (dk_at dksX5_priceOf_7 9 rfl rfl)
theorem dX5_priceOf_172 : decode cX5_priceOf 172 = .ok (.aload_n 1, 1) := dk_43 (dk_at dksX5_priceOf_7 12 rfl rfl)
theorem dX5_priceOf_173 : decode cX5_priceOf 173 = .ok (.iload 9, 2) := dk_21 9 (dk_at dksX5_priceOf_7 13 rfl rfl)
theorem dX5_priceOf_175 : decode cX5_priceOf 175 = .ok (.iload 5, 2) := dk_21 5 (dk_at dksX5_priceOf_7 15 rfl rfl)
theorem dX5_priceOf_177 : decode cX5_priceOf 177 = .ok (.aload_n 0, 1) := dk_42 (dk_at dksX5_priceOf_7 17 rfl rfl)
theorem dX5_priceOf_178 : decode cX5_priceOf 178 = .ok (.getfield 3, 3) := dk_180 0 3 (dk_at dksX5_priceOf_7 18 rfl rfl)
theorem dX5_priceOf_181 : decode cX5_priceOf 181 = .ok (.getfield 70, 3) := dk_180 0 70 (dk_at dksX5_priceOf_7 21 rfl rfl)
theorem dX5_priceOf_184 : decode cX5_priceOf 184 = .ok (.getfield 74, 3) := dk_180 0 74 (dk_at dksX5_priceOf_8 0 rfl rfl)
theorem dX5_priceOf_187 : decode cX5_priceOf 187 = .ok (.aload_n 0, 1) := dk_42 (dk_at dksX5_priceOf_8 3 rfl rfl)
theorem dX5_priceOf_188 : decode cX5_priceOf 188 = .ok (.getfield 3, 3) := dk_180 0 3 (dk_at dksX5_priceOf_8 4 rfl rfl)
theorem dX5_priceOf_191 : decode cX5_priceOf 191 = .ok (.getfield 70, 3) := dk_180 0 70 (dk_at dksX5_priceOf_8 7 rfl rfl)
theorem dX5_priceOf_194 : decode cX5_priceOf 194 = .ok (.getfield 79, 3) := dk_180 0 79 (dk_at dksX5_priceOf_8 10 rfl rfl)
theorem dX5_priceOf_197 : decode cX5_priceOf 197 = .ok (.invokevirtual 82, 3) := dk_182 0 82 (dk_at dksX5_priceOf_8 13 rfl rfl)
theorem dX5_priceOf_200 : decode cX5_priceOf 200 = .ok (.invokestatic 86, 3) := dk_184 0 86 (dk_at dksX5_priceOf_8 16 rfl rfl)
theorem dX5_priceOf_203 : decode cX5_priceOf 203 = .ok (.putfield 89, 3) := dk_181 0 89 (dk_at dksX5_priceOf_8 19 rfl rfl)
theorem dX5_priceOf_206 : decode cX5_priceOf 206 = .ok (.aload_n 0, 1) := dk_42 (dk_at dksX5_priceOf_8 22 rfl rfl)
theorem dX5_priceOf_207 : decode cX5_priceOf 207 = .ok (.getfield 3, 3) := dk_180 0 3 (dk_at dksX5_priceOf_9 0 rfl rfl)
theorem dX5_priceOf_210 : decode cX5_priceOf 210 = .ok (.getfield 56, 3) := dk_180 0 56 (dk_at dksX5_priceOf_9 3 rfl rfl)
theorem dX5_priceOf_213 : decode cX5_priceOf 213 = .ok (.getfield 92, 3) := dk_180 0 92 (dk_at dksX5_priceOf_9 6 rfl rfl)
theorem dX5_priceOf_216 : decode cX5_priceOf 216 = .ok (.iconst (-1), 1) := dk_2 (dk_at dksX5_priceOf_9 9 rfl rfl)
theorem dX5_priceOf_217 : decode cX5_priceOf 217 = .ok (.if_icmp .eq 40, 3) := dk_159 0 40 (dk_at dksX5_priceOf_9 10 rfl rfl)
theorem dX5_priceOf_220 : decode cX5_priceOf 220 = .ok (.aload_n 0, 1) := dk_42 (dk_at dksX5_priceOf_9 13 rfl rfl)
theorem dX5_priceOf_221 : decode cX5_priceOf 221 = .ok (.getfield 3, 3) := dk_180 0 3 (dk_at dksX5_priceOf_9 14 rfl rfl)
theorem dX5_priceOf_224 : decode cX5_priceOf 224 = .ok (.getfield 56, 3) := dk_180 0 56 (dk_at dksX5_priceOf_9 17 rfl rfl)
theorem dX5_priceOf_227 : decode cX5_priceOf 227 = .ok (.getfield 95, 3) := dk_180 0 95 (dk_at dksX5_priceOf_9 20 rfl rfl)
theorem dX5_priceOf_230 : decode cX5_priceOf 230 = .ok (.iload_n 3, 1) := dk_29 (dk_at dksX5_priceOf_9 23 rfl rfl)
theorem dX5_priceOf_231 : decode cX5_priceOf 231 = .ok (.if_icmp .gt 26, 3) := dk_163 0 26 (dk_at dksX5_priceOf_10 0 rfl rfl)
theorem dX5_priceOf_234 : decode cX5_priceOf 234 = .ok (.aload_n 0, 1) := dk_42 (dk_at dksX5_priceOf_10 3 rfl rfl)
theorem dX5_priceOf_235 : decode cX5_priceOf 235 = .ok (.getfield 3, 3) := dk_180 0 3 (dk_at dksX5_priceOf_10 4 rfl rfl)
theorem dX5_priceOf_238 : decode cX5_priceOf 238 = .ok (.getfield 56, 3) := dk_180 0 56 (dk_at dksX5_priceOf_10 7 rfl rfl)
theorem dX5_priceOf_241 : decode cX5_priceOf 241 = .ok (.getfield 97, 3) := dk_180 0 97 (dk_at dksX5_priceOf_10 10 rfl rfl)
theorem dX5_priceOf_244 : decode cX5_priceOf 244 = .ok (.iload 4, 2) := dk_21 4 (dk_at dksX5_priceOf_10 13 rfl rfl)
theorem dX5_priceOf_246 : decode cX5_priceOf 246 = .ok (.if_icmp .lt 11, 3) := dk_161 0 11 (dk_at dksX5_priceOf_10 15 rfl rfl)
theorem dX5_priceOf_249 : decode cX5_priceOf 249 = .ok (.aload_n 0, 1) := dk_42 (dk_at dksX5_priceOf_10 18 rfl rfl)
theorem dX5_priceOf_250 : decode cX5_priceOf 250 = .ok (.getfield 89, 3) := dk_180 0 89 (dk_at dksX5_priceOf_10 19 rfl rfl)
theorem dX5_priceOf_253 : decode cX5_priceOf 253 = .ok (.iconst 2, 1) := dk_5 (dk_at dksX5_priceOf_10 22 rfl rfl)
theorem dX5_priceOf_254 : decode cX5_priceOf 254 = .ok (.if_icmp .ne 7, 3) := dk_160 0 7 (dk_at dksX5_priceOf_11 0 rfl rfl)
theorem dX5_priceOf_257 : decode cX5_priceOf 257 = .ok (.iconst (-1), 1) := dk_2 (dk_at dksX5_priceOf_11 3 rfl rfl)
theorem dX5_priceOf_258 : decode cX5_priceOf 258 = .ok (.goto 5, 3) := dk_167 0 5 (dk_at dksX5_priceOf_11 4 rfl rfl)
theorem dX5_priceOf_261 : decode cX5_priceOf 261 = .ok (.iload 7, 2) := dk_21 7 (dk_at dksX5_priceOf_11 7 rfl rfl)
theorem dX5_priceOf_263 : decode cX5_priceOf 263 = .ok (.ireturn, 1) := dk_172 (dk_at dksX5_priceOf_11 9 rfl rfl)
theorem q105 : (Jvm.Cond.initialized "PretendDesk$Forger") ∈ lw_all := lw_g (lw_at lw_m1 6 rfl) rfl
theorem q239 : (Jvm.Cond.fieldLink "PretendDesk$Forger" (74 : Nat) "PretendDesk$Desk" "b" "I") ∈ lw_all := lw_g (lw_at lw_m1 140 rfl) rfl
theorem q242 : (Jvm.Cond.fieldLink "PretendDesk$Forger" (79 : Nat) "PretendDesk$Desk" "c" "I") ∈ lw_all := lw_g (lw_at lw_m1 143 rfl) rfl
theorem q329 : (Jvm.Cond.fieldLink "PretendDesk$Forger" (92 : Nat) "PretendDesk$Look" "like" "I") ∈ lw_all := lw_g (lw_at lw_m1 230 rfl) rfl
theorem q332 : (Jvm.Cond.fieldLink "PretendDesk$Forger" (95 : Nat) "PretendDesk$Look" "look" "I") ∈ lw_all := lw_g (lw_at lw_m1 233 rfl) rfl
theorem q335 : (Jvm.Cond.fieldLink "PretendDesk$Forger" (97 : Nat) "PretendDesk$Look" "ask" "I") ∈ lw_all := lw_g (lw_at lw_m1 236 rfl) rfl
theorem q348 : (Jvm.Cond.instantiable "PretendDesk$Forger" (5 : Nat)) ∈ lw_all := lw_g (lw_at lw_m2 9 rfl) rfl
theorem q350 : (Jvm.Cond.instanceMethod ({ cls := "PretendDesk$Forger", name := "<init>", desc := "(LPretendDesk;)V" } : Jvm.MethodName)) ∈ lw_all := lw_g (lw_at lw_m2 11 rfl) rfl
theorem q351 : (Jvm.Cond.code ({ cls := "PretendDesk$Forger", name := "<init>", desc := "(LPretendDesk;)V" } : Jvm.MethodName) prog_7_method_1_code (2 : Nat) (Option.none : Option Jvm.ClassFile.FieldType)) ∈ lw_all := lw_g (lw_at lw_m2 12 rfl) rfl
theorem q352 : (Jvm.Cond.methodLink "PretendDesk$Forger" (9 : Nat) ({ cls := "java/lang/Object", name := "<init>", desc := "()V" } : Jvm.MethodName)) ∈ lw_all := lw_g (lw_at lw_m2 13 rfl) rfl
theorem q353 : (Jvm.Cond.fieldLink "PretendDesk$Forger" (15 : Nat) "PretendDesk$Forger" "colours" "[I") ∈ lw_all := lw_g (lw_at lw_m2 14 rfl) rfl
theorem q354 : (Jvm.Cond.fieldLink "PretendDesk$Forger" (109 : Nat) "PretendDesk$Forger" "set" "I") ∈ lw_all := lw_g (lw_at lw_m2 15 rfl) rfl
theorem q356 : (Jvm.Cond.fieldLink "PretendDesk$Forger" (112 : Nat) "PretendDesk$Forger" "price" "I") ∈ lw_all := lw_g (lw_at lw_m2 17 rfl) rfl
theorem q358 : (Jvm.Cond.fieldLink "PretendDesk$Forger" (89 : Nat) "PretendDesk$Forger" "said" "I") ∈ lw_all := lw_g (lw_at lw_m2 19 rfl) rfl
theorem q360 : (Jvm.Cond.fieldLink "PretendDesk$Forger" (3 : Nat) "PretendDesk$Forger" "this$0" "LPretendDesk;") ∈ lw_all := lw_g (lw_at lw_m2 21 rfl) rfl
theorem q361 : (Jvm.Cond.laysFinal "PretendDesk$Forger" "PretendDesk$Forger" "colours" "[I") ∈ lw_all := lw_g (lw_at lw_m2 22 rfl) rfl
theorem q362 : (Jvm.Cond.soleField "PretendDesk$Forger" "colours") ∈ lw_all := lw_g (lw_at lw_m2 23 rfl) rfl
theorem q363 : (Jvm.Cond.lays "PretendDesk$Forger" "PretendDesk$Forger" "set" "I") ∈ lw_all := lw_g (lw_at lw_m2 24 rfl) rfl
theorem q364 : (Jvm.Cond.soleField "PretendDesk$Forger" "set") ∈ lw_all := lw_g (lw_at lw_m2 25 rfl) rfl
theorem q365 : (Jvm.Cond.lays "PretendDesk$Forger" "PretendDesk$Forger" "price" "I") ∈ lw_all := lw_g (lw_at lw_m2 26 rfl) rfl
theorem q366 : (Jvm.Cond.soleField "PretendDesk$Forger" "price") ∈ lw_all := lw_g (lw_at lw_m2 27 rfl) rfl
theorem q367 : (Jvm.Cond.lays "PretendDesk$Forger" "PretendDesk$Forger" "said" "I") ∈ lw_all := lw_g (lw_at lw_m2 28 rfl) rfl
theorem q368 : (Jvm.Cond.soleField "PretendDesk$Forger" "said") ∈ lw_all := lw_g (lw_at lw_m2 29 rfl) rfl
theorem q369 : (Jvm.Cond.laysFinal "PretendDesk$Forger" "PretendDesk$Forger" "this$0" "LPretendDesk;") ∈ lw_all := lw_g (lw_at lw_m2 30 rfl) rfl
theorem q370 : (Jvm.Cond.soleField "PretendDesk$Forger" "this$0") ∈ lw_all := lw_g (lw_at lw_m2 31 rfl) rfl
theorem q371 : (Jvm.Cond.superclass "PretendDesk$Forger" "java/lang/Object") ∈ lw_all := lw_g (lw_at lw_m2 32 rfl) rfl
theorem q395 : (Jvm.Cond.fieldLinkNest "PretendDesk$Forger" (25 : Nat) "PretendDesk" "asIs" "[I" "PretendDesk") ∈ lw_tbl := lw_at lw_m2 56 rfl
theorem q403 : (Jvm.Cond.fieldLinkNest "PretendDesk$Forger" (70 : Nat) "PretendDesk" "desk" "LPretendDesk$Desk;" "PretendDesk") ∈ lw_tbl := lw_at lw_m2 64 rfl
theorem q407 : (Jvm.Cond.fieldLinkNest "PretendDesk$Forger" (56 : Nat) "PretendDesk" "look" "LPretendDesk$Look;" "PretendDesk") ∈ lw_tbl := lw_at lw_m2 68 rfl
theorem q870 : (Jvm.Cond.fieldLink "PretendDesk$Forger" (60 : Nat) "PretendDesk$Came" "page" "LPretendDesk$Page;") ∈ lw_all := lw_g (lw_at lw_m4 51 rfl) rfl
theorem q881 : (Jvm.Cond.fieldLink "PretendDesk$Forger" (34 : Nat) "PretendDesk$Came" "changes" "I") ∈ lw_all := lw_g (lw_at lw_m4 62 rfl) rfl
theorem q887 : (Jvm.Cond.fieldLink "PretendDesk$Forger" (38 : Nat) "PretendDesk$Came" "change" "[LPretendDesk$Change;") ∈ lw_all := lw_g (lw_at lw_m4 68 rfl) rfl
theorem q1136 : (Jvm.Cond.fieldLink "PretendDesk$Forger" (47 : Nat) "PretendDesk$Change" "sort" "I") ∈ lw_all := lw_g (lw_at lw_m5 77 rfl) rfl
theorem q1138 : (Jvm.Cond.fieldLink "PretendDesk$Forger" (50 : Nat) "PretendDesk$Change" "box" "I") ∈ lw_all := lw_g (lw_at lw_m5 79 rfl) rfl
theorem q1140 : (Jvm.Cond.fieldLink "PretendDesk$Forger" (53 : Nat) "PretendDesk$Change" "n" "I") ∈ lw_all := lw_g (lw_at lw_m5 81 rfl) rfl
theorem q1142 : (Jvm.Cond.fieldLink "PretendDesk$Forger" (42 : Nat) "PretendDesk$Change" "price" "I") ∈ lw_all := lw_g (lw_at lw_m5 83 rfl) rfl
theorem q1161 : (Jvm.Cond.instanceMethod ({ cls := "PretendDesk$Forger", name := "passes", desc := "(LPretendDesk$Came;IIII)Z" } : Jvm.MethodName)) ∈ lw_all := lw_g (lw_at lw_m5 102 rfl) rfl
theorem q1162 : (Jvm.Cond.selects "PretendDesk$Forger" ({ cls := "PretendDesk$Forger", name := "passes", desc := "(LPretendDesk$Came;IIII)Z" } : Jvm.MethodName) ({ cls := "PretendDesk$Forger", name := "passes", desc := "(LPretendDesk$Came;IIII)Z" } : Jvm.MethodName)) ∈ lw_all := lw_g (lw_at lw_m5 103 rfl) rfl
theorem q1163 : (Jvm.Cond.code ({ cls := "PretendDesk$Forger", name := "passes", desc := "(LPretendDesk$Came;IIII)Z" } : Jvm.MethodName) prog_7_method_3_code (12 : Nat) (Option.some Jvm.ClassFile.FieldType.boolean)) ∈ lw_all := lw_g (lw_at lw_m5 104 rfl) rfl
theorem q1164 : (Jvm.Cond.methodLink "PretendDesk$Forger" (100 : Nat) ({ cls := "PretendDesk$Forger", name := "priceOf", desc := "(LPretendDesk$Came;IIIII)I" } : Jvm.MethodName)) ∈ lw_all := lw_g (lw_at lw_m5 105 rfl) rfl
theorem q1165 : (Jvm.Cond.privateMethod ({ cls := "PretendDesk$Forger", name := "priceOf", desc := "(LPretendDesk$Came;IIIII)I" } : Jvm.MethodName)) ∈ lw_tbl := lw_at lw_m5 106 rfl
theorem q1166 : (Jvm.Cond.instanceMethod ({ cls := "PretendDesk$Forger", name := "priceOf", desc := "(LPretendDesk$Came;IIIII)I" } : Jvm.MethodName)) ∈ lw_all := lw_g (lw_at lw_m5 107 rfl) rfl
theorem q1167 : (Jvm.Cond.code ({ cls := "PretendDesk$Forger", name := "priceOf", desc := "(LPretendDesk$Came;IIIII)I" } : Jvm.MethodName) prog_7_method_2_code (12 : Nat) (Option.some Jvm.ClassFile.FieldType.int)) ∈ lw_all := lw_g (lw_at lw_m5 108 rfl) rfl
theorem q1168 : (Jvm.Cond.methodLink "PretendDesk$Forger" (19 : Nat) ({ cls := "PretendDesk$Came", name := "age", desc := "(I)I" } : Jvm.MethodName)) ∈ lw_all := lw_g (lw_at lw_m5 109 rfl) rfl
theorem q1169 : (Jvm.Cond.methodLink "PretendDesk$Forger" (28 : Nat) ({ cls := "java/lang/System", name := "arraycopy", desc := "(Ljava/lang/Object;ILjava/lang/Object;II)V" } : Jvm.MethodName)) ∈ lw_all := lw_g (lw_at lw_m5 110 rfl) rfl
theorem q1170 : (Jvm.Cond.methodLink "PretendDesk$Forger" (64 : Nat) ({ cls := "PretendDesk$Look", name := "at", desc := "(LPretendDesk$Page;III[I)LPretendDesk$Look;" } : Jvm.MethodName)) ∈ lw_all := lw_g (lw_at lw_m5 111 rfl) rfl
theorem q1171 : (Jvm.Cond.methodLinkNest "PretendDesk$Forger" (82 : Nat) ({ cls := "PretendDesk$Look", name := "signs", desc := "(LPretendDesk$Came;IIII)I" } : Jvm.MethodName) "PretendDesk") ∈ lw_tbl := lw_at lw_m5 112 rfl
theorem q1172 : (Jvm.Cond.methodLinkNest "PretendDesk$Forger" (86 : Nat) ({ cls := "PretendDesk", name := "say", desc := "(I)I" } : Jvm.MethodName) "PretendDesk") ∈ lw_tbl := lw_at lw_m5 113 rfl
theorem q1173 : (Jvm.Cond.methodLink "PretendDesk$Forger" (104 : Nat) ({ cls := "java/lang/Integer", name := "bitCount", desc := "(I)I" } : Jvm.MethodName)) ∈ lw_all := lw_g (lw_at lw_m5 114 rfl) rfl
theorem in_X5 : ∀ w ∈ wsX50, w ∈ lw_all := lw_in wsX50 [361, 363, 365, 367, 369] (by decide +kernel) (by decide +kernel)
/-! PretendDesk$Stepper -/
set_option maxRecDepth 100000
def RX6 : String := "PretendDesk$Stepper"
def TX6 : u_T := fun k => match k with
  | 0 => ("PretendDesk$Stepper", "number", "[I", true)
  | 1 => ("PretendDesk$Stepper", "traces", "[I", true)
  | 2 => ("PretendDesk$Stepper", "sent", "[I", true)
  | _ => ("PretendDesk$Stepper", "done", "I", false)
def tyX6 : Nat → FieldType := fun k => match k with
  | 0 => .array .int
  | 1 => .array .int
  | 2 => .array .int
  | _ => .int
abbrev wsX60 : List Cond := u_ws RX6 TX6 4
theorem nmX6 : ∀ a, a < 4 → ∀ b, b < 4 → a ≠ b → (TX6 a).2.1 ≠ (TX6 b).2.1 := by decide +kernel
theorem tyX6_ok : ∀ k, k < 4 → parseFieldDescriptor (TX6 k).2.2.1 = some (tyX6 k) := by decide +kernel
abbrev cX6_init : ByteArray := prog_16_method_1_code
def yX6_init : MethodName := ⟨RX6, "<init>", "()V"⟩
def dkwX6_init_1 : List UInt8 := [188, 10, 181, 0, 18, 177]
abbrev dktX6_init_1 : List UInt8 := dkwX6_init_1 ++ []
def dkwX6_init_0 : List UInt8 := [42, 183, 0, 3, 42, 16, 6, 188, 10, 181, 0, 9, 42, 16, 6, 188, 10, 181, 0, 15, 42, 16, 10]
abbrev dktX6_init_0 : List UInt8 := dkwX6_init_0 ++ dktX6_init_1
theorem dksX6_init_0 : cX6_init.data.toList.drop 0 = dktX6_init_0 := by decide +kernel
theorem dksX6_init_1 : cX6_init.data.toList.drop 23 = dktX6_init_1 := dk_seg dksX6_init_0 23 rfl rfl
theorem dX6_init_0 : decode cX6_init 0 = .ok (.aload_n 0, 1) := dk_42 (dk_at dksX6_init_0 0 rfl rfl)
theorem dX6_init_1 : decode cX6_init 1 = .ok (.invokespecial 3, 3) := dk_183 0 3 (dk_at dksX6_init_0 1 rfl rfl)
theorem dX6_init_4 : decode cX6_init 4 = .ok (.aload_n 0, 1) := dk_42 (dk_at dksX6_init_0 4 rfl rfl)
theorem dX6_init_5 : decode cX6_init 5 = .ok (.bipush 6, 2) := dk_16 6 (dk_at dksX6_init_0 5 rfl rfl)
theorem dX6_init_7 : decode cX6_init 7 = .ok (.newarray .int, 2) := dk_188_10 (dk_at dksX6_init_0 7 rfl rfl)
theorem dX6_init_9 : decode cX6_init 9 = .ok (.putfield 9, 3) := dk_181 0 9 (dk_at dksX6_init_0 9 rfl rfl)
theorem dX6_init_12 : decode cX6_init 12 = .ok (.aload_n 0, 1) := dk_42 (dk_at dksX6_init_0 12 rfl rfl)
theorem dX6_init_13 : decode cX6_init 13 = .ok (.bipush 6, 2) := dk_16 6 (dk_at dksX6_init_0 13 rfl rfl)
theorem dX6_init_15 : decode cX6_init 15 = .ok (.newarray .int, 2) := dk_188_10 (dk_at dksX6_init_0 15 rfl rfl)
theorem dX6_init_17 : decode cX6_init 17 = .ok (.putfield 15, 3) := dk_181 0 15 (dk_at dksX6_init_0 17 rfl rfl)
theorem dX6_init_20 : decode cX6_init 20 = .ok (.aload_n 0, 1) := dk_42 (dk_at dksX6_init_0 20 rfl rfl)
theorem dX6_init_21 : decode cX6_init 21 = .ok (.bipush 10, 2) := dk_16 10 (dk_at dksX6_init_0 21 rfl rfl)
theorem dX6_init_23 : decode cX6_init 23 = .ok (.newarray .int, 2) := dk_188_10 (dk_at dksX6_init_1 0 rfl rfl)
theorem dX6_init_25 : decode cX6_init 25 = .ok (.putfield 18, 3) := dk_181 0 18 (dk_at dksX6_init_1 2 rfl rfl)
theorem dX6_init_28 : decode cX6_init 28 = .ok (.return_, 1) := dk_177 (dk_at dksX6_init_1 5 rfl rfl)
abbrev cX6_run : ByteArray := prog_16_method_2_code
def yX6_run : MethodName := ⟨RX6, "run", "(LPretendDesk$Program;I)LPretendDesk$Stepper;"⟩
def dkwX6_run_11 : List UInt8 := [180, 0, 18, 21, 5, 92, 46, 42, 180, 0, 15, 21, 4, 46, 128, 79, 167, 255, 27, 42, 176]
abbrev dktX6_run_11 : List UInt8 := dkwX6_run_11 ++ []
def dkwX6_run_10 : List UInt8 := [5, 160, 0, 15, 42, 21, 5, 21, 4, 3, 182, 0, 21, 167, 0, 26, 21, 6, 6, 160, 0, 20, 42]
abbrev dktX6_run_10 : List UInt8 := dkwX6_run_10 ++ dktX6_run_11
def dkwX6_run_9 : List UInt8 := [112, 42, 180, 0, 15, 21, 4, 46, 42, 180, 0, 15, 21, 5, 46, 128, 182, 0, 21, 167, 0, 44, 21, 6]
abbrev dktX6_run_9 : List UInt8 := dkwX6_run_9 ++ dktX6_run_10
def dkwX6_run_8 : List UInt8 := [4, 160, 0, 45, 42, 21, 5, 42, 180, 0, 9, 21, 4, 46, 42, 180, 0, 9, 21, 5, 46, 96, 16, 100]
abbrev dktX6_run_8 : List UInt8 := dkwX6_run_8 ++ dktX6_run_9
def dkwX6_run_7 : List UInt8 := [28, 21, 4, 4, 96, 104, 16, 7, 96, 16, 100, 112, 4, 21, 4, 120, 182, 0, 21, 167, 0, 92, 21, 6]
abbrev dktX6_run_7 : List UInt8 := dkwX6_run_7 ++ dktX6_run_8
def dkwX6_run_6 : List UInt8 := [167, 0, 6, 29, 4, 96, 62, 21, 6, 16, 6, 160, 0, 5, 42, 176, 21, 6, 154, 0, 28, 42, 21, 5]
abbrev dktX6_run_6 : List UInt8 := dkwX6_run_6 ++ dktX6_run_7
def dkwX6_run_5 : List UInt8 := [21, 5, 162, 0, 7, 4, 167, 0, 4, 3, 54, 7, 21, 7, 153, 0, 12, 43, 180, 0, 44, 29, 51]
abbrev dktX6_run_5 : List UInt8 := dkwX6_run_5 ++ dktX6_run_6
def dkwX6_run_4 : List UInt8 := [4, 96, 181, 0, 25, 21, 6, 8, 159, 0, 21, 21, 6, 7, 160, 0, 19, 42, 180, 0, 9, 21, 4, 46]
abbrev dktX6_run_4 : List UInt8 := dkwX6_run_4 ++ dktX6_run_5
def dkwX6_run_3 : List UInt8 := [51, 54, 4, 43, 180, 0, 38, 29, 51, 54, 5, 43, 180, 0, 41, 29, 51, 54, 6, 42, 89, 180, 0, 25]
abbrev dktX6_run_3 : List UInt8 := dkwX6_run_3 ++ dktX6_run_4
def dkwX6_run_2 : List UInt8 := [62, 29, 43, 180, 0, 29, 162, 0, 227, 42, 180, 0, 25, 17, 0, 200, 162, 0, 217, 43, 180, 0, 34, 29]
abbrev dktX6_run_2 : List UInt8 := dkwX6_run_2 ++ dktX6_run_3
def dkwX6_run_1 : List UInt8 := [16, 10, 162, 0, 16, 42, 180, 0, 18, 29, 3, 79, 132, 3, 1, 167, 255, 240, 42, 3, 181, 0, 25, 3]
abbrev dktX6_run_1 : List UInt8 := dkwX6_run_1 ++ dktX6_run_2
def dkwX6_run_0 : List UInt8 := [3, 62, 29, 16, 6, 162, 0, 16, 42, 29, 3, 3, 182, 0, 21, 132, 3, 1, 167, 255, 240, 3, 62, 29]
abbrev dktX6_run_0 : List UInt8 := dkwX6_run_0 ++ dktX6_run_1
theorem dksX6_run_0 : cX6_run.data.toList.drop 0 = dktX6_run_0 := by decide +kernel
theorem dksX6_run_1 : cX6_run.data.toList.drop 24 = dktX6_run_1 := dk_seg dksX6_run_0 24 rfl rfl
theorem dksX6_run_2 : cX6_run.data.toList.drop 48 = dktX6_run_2 := dk_seg dksX6_run_1 24 rfl rfl
theorem dksX6_run_3 : cX6_run.data.toList.drop 72 = dktX6_run_3 := dk_seg dksX6_run_2 24 rfl rfl
theorem dksX6_run_4 : cX6_run.data.toList.drop 96 = dktX6_run_4 := dk_seg dksX6_run_3 24 rfl rfl
theorem dksX6_run_5 : cX6_run.data.toList.drop 120 = dktX6_run_5 := dk_seg dksX6_run_4 24 rfl rfl
theorem dksX6_run_6 : cX6_run.data.toList.drop 143 = dktX6_run_6 := dk_seg dksX6_run_5 23 rfl rfl
theorem dksX6_run_7 : cX6_run.data.toList.drop 167 = dktX6_run_7 := dk_seg dksX6_run_6 24 rfl rfl
theorem dksX6_run_8 : cX6_run.data.toList.drop 191 = dktX6_run_8 := dk_seg dksX6_run_7 24 rfl rfl
theorem dksX6_run_9 : cX6_run.data.toList.drop 215 = dktX6_run_9 := dk_seg dksX6_run_8 24 rfl rfl
theorem dksX6_run_10 : cX6_run.data.toList.drop 239 = dktX6_run_10 := dk_seg dksX6_run_9 24 rfl rfl
theorem dksX6_run_11 : cX6_run.data.toList.drop 262 = dktX6_run_11 := dk_seg dksX6_run_10 23 rfl rfl
theorem dX6_run_0 : decode cX6_run 0 = .ok (.iconst 0, 1) := dk_3 (dk_at dksX6_run_0 0 rfl rfl)
theorem dX6_run_1 : decode cX6_run 1 = .ok (.istore_n 3, 1) := dk_62 (dk_at dksX6_run_0 1 rfl rfl)
theorem dX6_run_2 : decode cX6_run 2 = .ok (.iload_n 3, 1) := dk_29 (dk_at dksX6_run_0 2 rfl rfl)
theorem dX6_run_3 : decode cX6_run 3 = .ok (.bipush 6, 2) := dk_16 6 (dk_at dksX6_run_0 3 rfl rfl)
theorem dX6_run_5 : decode cX6_run 5 = .ok (.if_icmp .ge 16, 3) := dk_162 0 16 (dk_at dksX6_run_0 5 rfl rfl)
theorem dX6_run_8 : decode cX6_run 8 = .ok (.aload_n 0, 1) := dk_42 (dk_at dksX6_run_0 8 rfl rfl)
theorem dX6_run_9 : decode cX6_run 9 = .ok (.iload_n 3, 1) := dk_29 (dk_at dksX6_run_0 9 rfl rfl)
theorem dX6_run_10 : decode cX6_run 10 = .ok (.iconst 0, 1) := dk_3 (dk_at dksX6_run_0 10 rfl rfl)
theorem dX6_run_11 : decode cX6_run 11 = .ok (.iconst 0, 1) := dk_3 (dk_at dksX6_run_0 11 rfl rfl)
theorem dX6_run_12 : decode cX6_run 12 = .ok (.invokevirtual 21, 3) := dk_182 0 21 (dk_at dksX6_run_0 12 rfl rfl)
theorem dX6_run_15 : decode cX6_run 15 = .ok (.iinc 3 1, 3) := dk_132 3 1 (dk_at dksX6_run_0 15 rfl rfl)
theorem dX6_run_18 : decode cX6_run 18 = .ok (.goto (-16), 3) := dk_167 255 240 (dk_at dksX6_run_0 18 rfl rfl)
theorem dX6_run_21 : decode cX6_run 21 = .ok (.iconst 0, 1) := dk_3 (dk_at dksX6_run_0 21 rfl rfl)
theorem dX6_run_22 : decode cX6_run 22 = .ok (.istore_n 3, 1) := dk_62 (dk_at dksX6_run_0 22 rfl rfl)
theorem dX6_run_23 : decode cX6_run 23 = .ok (.iload_n 3, 1) := dk_29 (dk_at dksX6_run_0 23 rfl rfl)
theorem dX6_run_24 : decode cX6_run 24 = .ok (.bipush 10, 2) := dk_16 10 (dk_at dksX6_run_1 0 rfl rfl)
theorem dX6_run_26 : decode cX6_run 26 = .ok (.if_icmp .ge 16, 3) := dk_162 0 16 (dk_at dksX6_run_1 2 rfl rfl)
theorem dX6_run_29 : decode cX6_run 29 = .ok (.aload_n 0, 1) := dk_42 (dk_at dksX6_run_1 5 rfl rfl)
theorem dX6_run_30 : decode cX6_run 30 = .ok (.getfield 18, 3) := dk_180 0 18 (dk_at dksX6_run_1 6 rfl rfl)
theorem dX6_run_33 : decode cX6_run 33 = .ok (.iload_n 3, 1) := dk_29 (dk_at dksX6_run_1 9 rfl rfl)
theorem dX6_run_34 : decode cX6_run 34 = .ok (.iconst 0, 1) := dk_3 (dk_at dksX6_run_1 10 rfl rfl)
theorem dX6_run_35 : decode cX6_run 35 = .ok (.iastore, 1) := dk_79 (dk_at dksX6_run_1 11 rfl rfl)
theorem dX6_run_36 : decode cX6_run 36 = .ok (.iinc 3 1, 3) := dk_132 3 1 (dk_at dksX6_run_1 12 rfl rfl)
theorem dX6_run_39 : decode cX6_run 39 = .ok (.goto (-16), 3) := dk_167 255 240 (dk_at dksX6_run_1 15 rfl rfl)
theorem dX6_run_42 : decode cX6_run 42 = .ok (.aload_n 0, 1) := dk_42 (dk_at dksX6_run_1 18 rfl rfl)
theorem dX6_run_43 : decode cX6_run 43 = .ok (.iconst 0, 1) := dk_3 (dk_at dksX6_run_1 19 rfl rfl)
theorem dX6_run_44 : decode cX6_run 44 = .ok (.putfield 25, 3) := dk_181 0 25 (dk_at dksX6_run_1 20 rfl rfl)
theorem dX6_run_47 : decode cX6_run 47 = .ok (.iconst 0, 1) := dk_3 (dk_at dksX6_run_1 23 rfl rfl)
theorem dX6_run_48 : decode cX6_run 48 = .ok (.istore_n 3, 1) := dk_62 (dk_at dksX6_run_2 0 rfl rfl)
theorem dX6_run_49 : decode cX6_run 49 = .ok (.iload_n 3, 1) := dk_29 (dk_at dksX6_run_2 1 rfl rfl)
theorem dX6_run_50 : decode cX6_run 50 = .ok (.aload_n 1, 1) := dk_43 (dk_at dksX6_run_2 2 rfl rfl)
theorem dX6_run_51 : decode cX6_run 51 = .ok (.getfield 29, 3) := dk_180 0 29 (dk_at dksX6_run_2 3 rfl rfl)
theorem dX6_run_54 : decode cX6_run 54 = .ok (.if_icmp .ge 227, 3) := dk_162 0 227 (dk_at dksX6_run_2 6 rfl rfl)
theorem dX6_run_57 : decode cX6_run 57 = .ok (.aload_n 0, 1) := dk_42 (dk_at dksX6_run_2 9 rfl rfl)
theorem dX6_run_58 : decode cX6_run 58 = .ok (.getfield 25, 3) := dk_180 0 25 (dk_at dksX6_run_2 10 rfl rfl)
theorem dX6_run_61 : decode cX6_run 61 = .ok (.sipush 200, 3) := dk_17 0 200 (dk_at dksX6_run_2 13 rfl rfl)
theorem dX6_run_64 : decode cX6_run 64 = .ok (.if_icmp .ge 217, 3) := dk_162 0 217 (dk_at dksX6_run_2 16 rfl rfl)
theorem dX6_run_67 : decode cX6_run 67 = .ok (.aload_n 1, 1) := dk_43 (dk_at dksX6_run_2 19 rfl rfl)
theorem dX6_run_68 : decode cX6_run 68 = .ok (.getfield 34, 3) := dk_180 0 34 (dk_at dksX6_run_2 20 rfl rfl)
theorem dX6_run_71 : decode cX6_run 71 = .ok (.iload_n 3, 1) := dk_29 (dk_at dksX6_run_2 23 rfl rfl)
theorem dX6_run_72 : decode cX6_run 72 = .ok (.baload, 1) := dk_51 (dk_at dksX6_run_3 0 rfl rfl)
theorem dX6_run_73 : decode cX6_run 73 = .ok (.istore 4, 2) := dk_54 4 (dk_at dksX6_run_3 1 rfl rfl)
theorem dX6_run_75 : decode cX6_run 75 = .ok (.aload_n 1, 1) := dk_43 (dk_at dksX6_run_3 3 rfl rfl)
theorem dX6_run_76 : decode cX6_run 76 = .ok (.getfield 38, 3) := dk_180 0 38 (dk_at dksX6_run_3 4 rfl rfl)
theorem dX6_run_79 : decode cX6_run 79 = .ok (.iload_n 3, 1) := dk_29 (dk_at dksX6_run_3 7 rfl rfl)
theorem dX6_run_80 : decode cX6_run 80 = .ok (.baload, 1) := dk_51 (dk_at dksX6_run_3 8 rfl rfl)
theorem dX6_run_81 : decode cX6_run 81 = .ok (.istore 5, 2) := dk_54 5 (dk_at dksX6_run_3 9 rfl rfl)
theorem dX6_run_83 : decode cX6_run 83 = .ok (.aload_n 1, 1) := dk_43 (dk_at dksX6_run_3 11 rfl rfl)
theorem dX6_run_84 : decode cX6_run 84 = .ok (.getfield 41, 3) := dk_180 0 41 (dk_at dksX6_run_3 12 rfl rfl)
theorem dX6_run_87 : decode cX6_run 87 = .ok (.iload_n 3, 1) := dk_29 (dk_at dksX6_run_3 15 rfl rfl)
theorem dX6_run_88 : decode cX6_run 88 = .ok (.baload, 1) := dk_51 (dk_at dksX6_run_3 16 rfl rfl)
theorem dX6_run_89 : decode cX6_run 89 = .ok (.istore 6, 2) := dk_54 6 (dk_at dksX6_run_3 17 rfl rfl)
theorem dX6_run_91 : decode cX6_run 91 = .ok (.aload_n 0, 1) := dk_42 (dk_at dksX6_run_3 19 rfl rfl)
theorem dX6_run_92 : decode cX6_run 92 = .ok (.dup, 1) := dk_89 (dk_at dksX6_run_3 20 rfl rfl)
theorem dX6_run_93 : decode cX6_run 93 = .ok (.getfield 25, 3) := dk_180 0 25 (dk_at dksX6_run_3 21 rfl rfl)
theorem dX6_run_96 : decode cX6_run 96 = .ok (.iconst 1, 1) := dk_4 (dk_at dksX6_run_4 0 rfl rfl)
theorem dX6_run_97 : decode cX6_run 97 = .ok (.iadd, 1) := dk_96 (dk_at dksX6_run_4 1 rfl rfl)
theorem dX6_run_98 : decode cX6_run 98 = .ok (.putfield 25, 3) := dk_181 0 25 (dk_at dksX6_run_4 2 rfl rfl)
theorem dX6_run_101 : decode cX6_run 101 = .ok (.iload 6, 2) := dk_21 6 (dk_at dksX6_run_4 5 rfl rfl)
theorem dX6_run_103 : decode cX6_run 103 = .ok (.iconst 5, 1) := dk_8 (dk_at dksX6_run_4 7 rfl rfl)
theorem dX6_run_104 : decode cX6_run 104 = .ok (.if_icmp .eq 21, 3) := dk_159 0 21 (dk_at dksX6_run_4 8 rfl rfl)
theorem dX6_run_107 : decode cX6_run 107 = .ok (.iload 6, 2) := dk_21 6 (dk_at dksX6_run_4 11 rfl rfl)
theorem dX6_run_109 : decode cX6_run 109 = .ok (.iconst 4, 1) := dk_7 (dk_at dksX6_run_4 13 rfl rfl)
theorem dX6_run_110 : decode cX6_run 110 = .ok (.if_icmp .ne 19, 3) := dk_160 0 19 (dk_at dksX6_run_4 14 rfl rfl)
theorem dX6_run_113 : decode cX6_run 113 = .ok (.aload_n 0, 1) := dk_42 (dk_at dksX6_run_4 17 rfl rfl)
theorem dX6_run_114 : decode cX6_run 114 = .ok (.getfield 9, 3) := dk_180 0 9 (dk_at dksX6_run_4 18 rfl rfl)
theorem dX6_run_117 : decode cX6_run 117 = .ok (.iload 4, 2) := dk_21 4 (dk_at dksX6_run_4 21 rfl rfl)
theorem dX6_run_119 : decode cX6_run 119 = .ok (.iaload, 1) := dk_46 (dk_at dksX6_run_4 23 rfl rfl)
theorem dX6_run_120 : decode cX6_run 120 = .ok (.iload 5, 2) := dk_21 5 (dk_at dksX6_run_5 0 rfl rfl)
theorem dX6_run_122 : decode cX6_run 122 = .ok (.if_icmp .ge 7, 3) := dk_162 0 7 (dk_at dksX6_run_5 2 rfl rfl)
theorem dX6_run_125 : decode cX6_run 125 = .ok (.iconst 1, 1) := dk_4 (dk_at dksX6_run_5 5 rfl rfl)
theorem dX6_run_126 : decode cX6_run 126 = .ok (.goto 4, 3) := dk_167 0 4 (dk_at dksX6_run_5 6 rfl rfl)
theorem dX6_run_129 : decode cX6_run 129 = .ok (.iconst 0, 1) := dk_3 (dk_at dksX6_run_5 9 rfl rfl)
theorem dX6_run_130 : decode cX6_run 130 = .ok (.istore 7, 2) := dk_54 7 (dk_at dksX6_run_5 10 rfl rfl)
theorem dX6_run_132 : decode cX6_run 132 = .ok (.iload 7, 2) := dk_21 7 (dk_at dksX6_run_5 12 rfl rfl)
theorem dX6_run_134 : decode cX6_run 134 = .ok (.ifCond .eq 12, 3) := dk_153 0 12 (dk_at dksX6_run_5 14 rfl rfl)
theorem dX6_run_137 : decode cX6_run 137 = .ok (.aload_n 1, 1) := dk_43 (dk_at dksX6_run_5 17 rfl rfl)
theorem dX6_run_138 : decode cX6_run 138 = .ok (.getfield 44, 3) := dk_180 0 44 (dk_at dksX6_run_5 18 rfl rfl)
theorem dX6_run_141 : decode cX6_run 141 = .ok (.iload_n 3, 1) := dk_29 (dk_at dksX6_run_5 21 rfl rfl)
theorem dX6_run_142 : decode cX6_run 142 = .ok (.baload, 1) := dk_51 (dk_at dksX6_run_5 22 rfl rfl)
theorem dX6_run_143 : decode cX6_run 143 = .ok (.goto 6, 3) := dk_167 0 6 (dk_at dksX6_run_6 0 rfl rfl)
theorem dX6_run_146 : decode cX6_run 146 = .ok (.iload_n 3, 1) := dk_29 (dk_at dksX6_run_6 3 rfl rfl)
theorem dX6_run_147 : decode cX6_run 147 = .ok (.iconst 1, 1) := dk_4 (dk_at dksX6_run_6 4 rfl rfl)
theorem dX6_run_148 : decode cX6_run 148 = .ok (.iadd, 1) := dk_96 (dk_at dksX6_run_6 5 rfl rfl)
theorem dX6_run_149 : decode cX6_run 149 = .ok (.istore_n 3, 1) := dk_62 (dk_at dksX6_run_6 6 rfl rfl)
theorem dX6_run_150 : decode cX6_run 150 = .ok (.iload 6, 2) := dk_21 6 (dk_at dksX6_run_6 7 rfl rfl)
theorem dX6_run_152 : decode cX6_run 152 = .ok (.bipush 6, 2) := dk_16 6 (dk_at dksX6_run_6 9 rfl rfl)
theorem dX6_run_154 : decode cX6_run 154 = .ok (.if_icmp .ne 5, 3) := dk_160 0 5 (dk_at dksX6_run_6 11 rfl rfl)
theorem dX6_run_157 : decode cX6_run 157 = .ok (.aload_n 0, 1) := dk_42 (dk_at dksX6_run_6 14 rfl rfl)
theorem dX6_run_158 : decode cX6_run 158 = .ok (.areturn, 1) := dk_176 (dk_at dksX6_run_6 15 rfl rfl)
theorem dX6_run_159 : decode cX6_run 159 = .ok (.iload 6, 2) := dk_21 6 (dk_at dksX6_run_6 16 rfl rfl)
theorem dX6_run_161 : decode cX6_run 161 = .ok (.ifCond .ne 28, 3) := dk_154 0 28 (dk_at dksX6_run_6 18 rfl rfl)
theorem dX6_run_164 : decode cX6_run 164 = .ok (.aload_n 0, 1) := dk_42 (dk_at dksX6_run_6 21 rfl rfl)
theorem dX6_run_165 : decode cX6_run 165 = .ok (.iload 5, 2) := dk_21 5 (dk_at dksX6_run_6 22 rfl rfl)
theorem dX6_run_167 : decode cX6_run 167 = .ok (.iload_n 2, 1) := dk_28 (dk_at dksX6_run_7 0 rfl rfl)
theorem dX6_run_168 : decode cX6_run 168 = .ok (.iload 4, 2) := dk_21 4 (dk_at dksX6_run_7 1 rfl rfl)
theorem dX6_run_170 : decode cX6_run 170 = .ok (.iconst 1, 1) := dk_4 (dk_at dksX6_run_7 3 rfl rfl)
theorem dX6_run_171 : decode cX6_run 171 = .ok (.iadd, 1) := dk_96 (dk_at dksX6_run_7 4 rfl rfl)
theorem dX6_run_172 : decode cX6_run 172 = .ok (.imul, 1) := dk_104 (dk_at dksX6_run_7 5 rfl rfl)
theorem dX6_run_173 : decode cX6_run 173 = .ok (.bipush 7, 2) := dk_16 7 (dk_at dksX6_run_7 6 rfl rfl)
theorem dX6_run_175 : decode cX6_run 175 = .ok (.iadd, 1) := dk_96 (dk_at dksX6_run_7 8 rfl rfl)
theorem dX6_run_176 : decode cX6_run 176 = .ok (.bipush 100, 2) := dk_16 100 (dk_at dksX6_run_7 9 rfl rfl)
theorem dX6_run_178 : decode cX6_run 178 = .ok (.irem, 1) := dk_112 (dk_at dksX6_run_7 11 rfl rfl)
theorem dX6_run_179 : decode cX6_run 179 = .ok (.iconst 1, 1) := dk_4 (dk_at dksX6_run_7 12 rfl rfl)
theorem dX6_run_180 : decode cX6_run 180 = .ok (.iload 4, 2) := dk_21 4 (dk_at dksX6_run_7 13 rfl rfl)
theorem dX6_run_182 : decode cX6_run 182 = .ok (.ishl, 1) := dk_120 (dk_at dksX6_run_7 15 rfl rfl)
theorem dX6_run_183 : decode cX6_run 183 = .ok (.invokevirtual 21, 3) := dk_182 0 21 (dk_at dksX6_run_7 16 rfl rfl)
theorem dX6_run_186 : decode cX6_run 186 = .ok (.goto 92, 3) := dk_167 0 92 (dk_at dksX6_run_7 19 rfl rfl)
theorem dX6_run_189 : decode cX6_run 189 = .ok (.iload 6, 2) := dk_21 6 (dk_at dksX6_run_7 22 rfl rfl)
theorem dX6_run_191 : decode cX6_run 191 = .ok (.iconst 1, 1) := dk_4 (dk_at dksX6_run_8 0 rfl rfl)
theorem dX6_run_192 : decode cX6_run 192 = .ok (.if_icmp .ne 45, 3) := dk_160 0 45 (dk_at dksX6_run_8 1 rfl rfl)
theorem dX6_run_195 : decode cX6_run 195 = .ok (.aload_n 0, 1) := dk_42 (dk_at dksX6_run_8 4 rfl rfl)
theorem dX6_run_196 : decode cX6_run 196 = .ok (.iload 5, 2) := dk_21 5 (dk_at dksX6_run_8 5 rfl rfl)
theorem dX6_run_198 : decode cX6_run 198 = .ok (.aload_n 0, 1) := dk_42 (dk_at dksX6_run_8 7 rfl rfl)
theorem dX6_run_199 : decode cX6_run 199 = .ok (.getfield 9, 3) := dk_180 0 9 (dk_at dksX6_run_8 8 rfl rfl)
theorem dX6_run_202 : decode cX6_run 202 = .ok (.iload 4, 2) := dk_21 4 (dk_at dksX6_run_8 11 rfl rfl)
theorem dX6_run_204 : decode cX6_run 204 = .ok (.iaload, 1) := dk_46 (dk_at dksX6_run_8 13 rfl rfl)
theorem dX6_run_205 : decode cX6_run 205 = .ok (.aload_n 0, 1) := dk_42 (dk_at dksX6_run_8 14 rfl rfl)
theorem dX6_run_206 : decode cX6_run 206 = .ok (.getfield 9, 3) := dk_180 0 9 (dk_at dksX6_run_8 15 rfl rfl)
theorem dX6_run_209 : decode cX6_run 209 = .ok (.iload 5, 2) := dk_21 5 (dk_at dksX6_run_8 18 rfl rfl)
theorem dX6_run_211 : decode cX6_run 211 = .ok (.iaload, 1) := dk_46 (dk_at dksX6_run_8 20 rfl rfl)
theorem dX6_run_212 : decode cX6_run 212 = .ok (.iadd, 1) := dk_96 (dk_at dksX6_run_8 21 rfl rfl)
theorem dX6_run_213 : decode cX6_run 213 = .ok (.bipush 100, 2) := dk_16 100 (dk_at dksX6_run_8 22 rfl rfl)
theorem dX6_run_215 : decode cX6_run 215 = .ok (.irem, 1) := dk_112 (dk_at dksX6_run_9 0 rfl rfl)
theorem dX6_run_216 : decode cX6_run 216 = .ok (.aload_n 0, 1) := dk_42 (dk_at dksX6_run_9 1 rfl rfl)
theorem dX6_run_217 : decode cX6_run 217 = .ok (.getfield 15, 3) := dk_180 0 15 (dk_at dksX6_run_9 2 rfl rfl)
theorem dX6_run_220 : decode cX6_run 220 = .ok (.iload 4, 2) := dk_21 4 (dk_at dksX6_run_9 5 rfl rfl)
theorem dX6_run_222 : decode cX6_run 222 = .ok (.iaload, 1) := dk_46 (dk_at dksX6_run_9 7 rfl rfl)
theorem dX6_run_223 : decode cX6_run 223 = .ok (.aload_n 0, 1) := dk_42 (dk_at dksX6_run_9 8 rfl rfl)
theorem dX6_run_224 : decode cX6_run 224 = .ok (.getfield 15, 3) := dk_180 0 15 (dk_at dksX6_run_9 9 rfl rfl)
theorem dX6_run_227 : decode cX6_run 227 = .ok (.iload 5, 2) := dk_21 5 (dk_at dksX6_run_9 12 rfl rfl)
theorem dX6_run_229 : decode cX6_run 229 = .ok (.iaload, 1) := dk_46 (dk_at dksX6_run_9 14 rfl rfl)
theorem dX6_run_230 : decode cX6_run 230 = .ok (.ior, 1) := dk_128 (dk_at dksX6_run_9 15 rfl rfl)
theorem dX6_run_231 : decode cX6_run 231 = .ok (.invokevirtual 21, 3) := dk_182 0 21 (dk_at dksX6_run_9 16 rfl rfl)
theorem dX6_run_234 : decode cX6_run 234 = .ok (.goto 44, 3) := dk_167 0 44 (dk_at dksX6_run_9 19 rfl rfl)
theorem dX6_run_237 : decode cX6_run 237 = .ok (.iload 6, 2) := dk_21 6 (dk_at dksX6_run_9 22 rfl rfl)
theorem dX6_run_239 : decode cX6_run 239 = .ok (.iconst 2, 1) := dk_5 (dk_at dksX6_run_10 0 rfl rfl)
theorem dX6_run_240 : decode cX6_run 240 = .ok (.if_icmp .ne 15, 3) := dk_160 0 15 (dk_at dksX6_run_10 1 rfl rfl)
theorem dX6_run_243 : decode cX6_run 243 = .ok (.aload_n 0, 1) := dk_42 (dk_at dksX6_run_10 4 rfl rfl)
theorem dX6_run_244 : decode cX6_run 244 = .ok (.iload 5, 2) := dk_21 5 (dk_at dksX6_run_10 5 rfl rfl)
theorem dX6_run_246 : decode cX6_run 246 = .ok (.iload 4, 2) := dk_21 4 (dk_at dksX6_run_10 7 rfl rfl)
theorem dX6_run_248 : decode cX6_run 248 = .ok (.iconst 0, 1) := dk_3 (dk_at dksX6_run_10 9 rfl rfl)
theorem dX6_run_249 : decode cX6_run 249 = .ok (.invokevirtual 21, 3) := dk_182 0 21 (dk_at dksX6_run_10 10 rfl rfl)
theorem dX6_run_252 : decode cX6_run 252 = .ok (.goto 26, 3) := dk_167 0 26 (dk_at dksX6_run_10 13 rfl rfl)
theorem dX6_run_255 : decode cX6_run 255 = .ok (.iload 6, 2) := dk_21 6 (dk_at dksX6_run_10 16 rfl rfl)
theorem dX6_run_257 : decode cX6_run 257 = .ok (.iconst 3, 1) := dk_6 (dk_at dksX6_run_10 18 rfl rfl)
theorem dX6_run_258 : decode cX6_run 258 = .ok (.if_icmp .ne 20, 3) := dk_160 0 20 (dk_at dksX6_run_10 19 rfl rfl)
theorem dX6_run_261 : decode cX6_run 261 = .ok (.aload_n 0, 1) := dk_42 (dk_at dksX6_run_10 22 rfl rfl)
theorem dX6_run_262 : decode cX6_run 262 = .ok (.getfield 18, 3) := dk_180 0 18 (dk_at dksX6_run_11 0 rfl rfl)
theorem dX6_run_265 : decode cX6_run 265 = .ok (.iload 5, 2) := dk_21 5 (dk_at dksX6_run_11 3 rfl rfl)
theorem dX6_run_267 : decode cX6_run 267 = .ok (.dup2, 1) := dk_92 (dk_at dksX6_run_11 5 rfl rfl)
theorem dX6_run_268 : decode cX6_run 268 = .ok (.iaload, 1) := dk_46 (dk_at dksX6_run_11 6 rfl rfl)
theorem dX6_run_269 : decode cX6_run 269 = .ok (.aload_n 0, 1) := dk_42 (dk_at dksX6_run_11 7 rfl rfl)
theorem dX6_run_270 : decode cX6_run 270 = .ok (.getfield 15, 3) := dk_180 0 15 (dk_at dksX6_run_11 8 rfl rfl)
theorem dX6_run_273 : decode cX6_run 273 = .ok (.iload 4, 2) := dk_21 4 (dk_at dksX6_run_11 11 rfl rfl)
theorem dX6_run_275 : decode cX6_run 275 = .ok (.iaload, 1) := dk_46 (dk_at dksX6_run_11 13 rfl rfl)
theorem dX6_run_276 : decode cX6_run 276 = .ok (.ior, 1) := dk_128 (dk_at dksX6_run_11 14 rfl rfl)
theorem dX6_run_277 : decode cX6_run 277 = .ok (.iastore, 1) := dk_79 (dk_at dksX6_run_11 15 rfl rfl)
theorem dX6_run_278 : decode cX6_run 278 = .ok (.goto (-229), 3) := dk_167 255 27 (dk_at dksX6_run_11 16 rfl rfl)
theorem dX6_run_281 : decode cX6_run 281 = .ok (.aload_n 0, 1) := dk_42 (dk_at dksX6_run_11 19 rfl rfl)
theorem dX6_run_282 : decode cX6_run 282 = .ok (.areturn, 1) := dk_176 (dk_at dksX6_run_11 20 rfl rfl)
abbrev cX6_set : ByteArray := prog_16_method_3_code
def yX6_set : MethodName := ⟨RX6, "set", "(III)V"⟩
def dkwX6_set_0 : List UInt8 := [42, 180, 0, 9, 27, 28, 79, 42, 180, 0, 15, 27, 29, 79, 177]
abbrev dktX6_set_0 : List UInt8 := dkwX6_set_0 ++ []
theorem dksX6_set_0 : cX6_set.data.toList.drop 0 = dktX6_set_0 := by decide +kernel
theorem dX6_set_0 : decode cX6_set 0 = .ok (.aload_n 0, 1) := dk_42 (dk_at dksX6_set_0 0 rfl rfl)
theorem dX6_set_1 : decode cX6_set 1 = .ok (.getfield 9, 3) := dk_180 0 9 (dk_at dksX6_set_0 1 rfl rfl)
theorem dX6_set_4 : decode cX6_set 4 = .ok (.iload_n 1, 1) := dk_27 (dk_at dksX6_set_0 4 rfl rfl)
theorem dX6_set_5 : decode cX6_set 5 = .ok (.iload_n 2, 1) := dk_28 (dk_at dksX6_set_0 5 rfl rfl)
theorem dX6_set_6 : decode cX6_set 6 = .ok (.iastore, 1) := dk_79 (dk_at dksX6_set_0 6 rfl rfl)
theorem dX6_set_7 : decode cX6_set 7 = .ok (.aload_n 0, 1) := dk_42 (dk_at dksX6_set_0 7 rfl rfl)
theorem dX6_set_8 : decode cX6_set 8 = .ok (.getfield 15, 3) := dk_180 0 15 (dk_at dksX6_set_0 8 rfl rfl)
theorem dX6_set_11 : decode cX6_set 11 = .ok (.iload_n 1, 1) := dk_27 (dk_at dksX6_set_0 11 rfl rfl)
theorem dX6_set_12 : decode cX6_set 12 = .ok (.iload_n 3, 1) := dk_29 (dk_at dksX6_set_0 12 rfl rfl)
theorem dX6_set_13 : decode cX6_set 13 = .ok (.iastore, 1) := dk_79 (dk_at dksX6_set_0 13 rfl rfl)
theorem dX6_set_14 : decode cX6_set 14 = .ok (.return_, 1) := dk_177 (dk_at dksX6_set_0 14 rfl rfl)
theorem q106 : (Jvm.Cond.initialized "PretendDesk$Stepper") ∈ lw_all := lw_g (lw_at lw_m1 7 rfl) rfl
theorem q373 : (Jvm.Cond.instantiable "PretendDesk$Stepper" (4 : Nat)) ∈ lw_all := lw_g (lw_at lw_m2 34 rfl) rfl
theorem q375 : (Jvm.Cond.instanceMethod ({ cls := "PretendDesk$Stepper", name := "<init>", desc := "()V" } : Jvm.MethodName)) ∈ lw_all := lw_g (lw_at lw_m2 36 rfl) rfl
theorem q376 : (Jvm.Cond.code ({ cls := "PretendDesk$Stepper", name := "<init>", desc := "()V" } : Jvm.MethodName) prog_16_method_1_code (1 : Nat) (Option.none : Option Jvm.ClassFile.FieldType)) ∈ lw_all := lw_g (lw_at lw_m2 37 rfl) rfl
theorem q377 : (Jvm.Cond.methodLink "PretendDesk$Stepper" (3 : Nat) ({ cls := "java/lang/Object", name := "<init>", desc := "()V" } : Jvm.MethodName)) ∈ lw_all := lw_g (lw_at lw_m2 38 rfl) rfl
theorem q378 : (Jvm.Cond.fieldLink "PretendDesk$Stepper" (9 : Nat) "PretendDesk$Stepper" "number" "[I") ∈ lw_all := lw_g (lw_at lw_m2 39 rfl) rfl
theorem q379 : (Jvm.Cond.fieldLink "PretendDesk$Stepper" (15 : Nat) "PretendDesk$Stepper" "traces" "[I") ∈ lw_all := lw_g (lw_at lw_m2 40 rfl) rfl
theorem q380 : (Jvm.Cond.fieldLink "PretendDesk$Stepper" (18 : Nat) "PretendDesk$Stepper" "sent" "[I") ∈ lw_all := lw_g (lw_at lw_m2 41 rfl) rfl
theorem q382 : (Jvm.Cond.fieldLink "PretendDesk$Stepper" (25 : Nat) "PretendDesk$Stepper" "done" "I") ∈ lw_all := lw_g (lw_at lw_m2 43 rfl) rfl
theorem q384 : (Jvm.Cond.laysFinal "PretendDesk$Stepper" "PretendDesk$Stepper" "number" "[I") ∈ lw_all := lw_g (lw_at lw_m2 45 rfl) rfl
theorem q385 : (Jvm.Cond.soleField "PretendDesk$Stepper" "number") ∈ lw_all := lw_g (lw_at lw_m2 46 rfl) rfl
theorem q386 : (Jvm.Cond.laysFinal "PretendDesk$Stepper" "PretendDesk$Stepper" "traces" "[I") ∈ lw_all := lw_g (lw_at lw_m2 47 rfl) rfl
theorem q387 : (Jvm.Cond.soleField "PretendDesk$Stepper" "traces") ∈ lw_all := lw_g (lw_at lw_m2 48 rfl) rfl
theorem q388 : (Jvm.Cond.laysFinal "PretendDesk$Stepper" "PretendDesk$Stepper" "sent" "[I") ∈ lw_all := lw_g (lw_at lw_m2 49 rfl) rfl
theorem q389 : (Jvm.Cond.soleField "PretendDesk$Stepper" "sent") ∈ lw_all := lw_g (lw_at lw_m2 50 rfl) rfl
theorem q390 : (Jvm.Cond.lays "PretendDesk$Stepper" "PretendDesk$Stepper" "done" "I") ∈ lw_all := lw_g (lw_at lw_m2 51 rfl) rfl
theorem q391 : (Jvm.Cond.soleField "PretendDesk$Stepper" "done") ∈ lw_all := lw_g (lw_at lw_m2 52 rfl) rfl
theorem q392 : (Jvm.Cond.superclass "PretendDesk$Stepper" "java/lang/Object") ∈ lw_all := lw_g (lw_at lw_m2 53 rfl) rfl
theorem q845 : (Jvm.Cond.fieldLink "PretendDesk$Stepper" (41 : Nat) "PretendDesk$Program" "act" "[B") ∈ lw_all := lw_g (lw_at lw_m4 26 rfl) rfl
theorem q847 : (Jvm.Cond.fieldLink "PretendDesk$Stepper" (34 : Nat) "PretendDesk$Program" "one" "[B") ∈ lw_all := lw_g (lw_at lw_m4 28 rfl) rfl
theorem q849 : (Jvm.Cond.fieldLink "PretendDesk$Stepper" (38 : Nat) "PretendDesk$Program" "two" "[B") ∈ lw_all := lw_g (lw_at lw_m4 30 rfl) rfl
theorem q851 : (Jvm.Cond.fieldLink "PretendDesk$Stepper" (44 : Nat) "PretendDesk$Program" "three" "[B") ∈ lw_all := lw_g (lw_at lw_m4 32 rfl) rfl
theorem q853 : (Jvm.Cond.fieldLink "PretendDesk$Stepper" (29 : Nat) "PretendDesk$Program" "lines" "I") ∈ lw_all := lw_g (lw_at lw_m4 34 rfl) rfl
theorem q1320 : (Jvm.Cond.instanceMethod ({ cls := "PretendDesk$Stepper", name := "run", desc := "(LPretendDesk$Program;I)LPretendDesk$Stepper;" } : Jvm.MethodName)) ∈ lw_all := lw_g (lw_at lw_m6 21 rfl) rfl
theorem q1321 : (Jvm.Cond.selects "PretendDesk$Stepper" ({ cls := "PretendDesk$Stepper", name := "run", desc := "(LPretendDesk$Program;I)LPretendDesk$Stepper;" } : Jvm.MethodName) ({ cls := "PretendDesk$Stepper", name := "run", desc := "(LPretendDesk$Program;I)LPretendDesk$Stepper;" } : Jvm.MethodName)) ∈ lw_all := lw_g (lw_at lw_m6 22 rfl) rfl
theorem q1322 : (Jvm.Cond.code ({ cls := "PretendDesk$Stepper", name := "run", desc := "(LPretendDesk$Program;I)LPretendDesk$Stepper;" } : Jvm.MethodName) prog_16_method_2_code (8 : Nat) (Option.some (Jvm.ClassFile.FieldType.object "PretendDesk$Stepper"))) ∈ lw_all := lw_g (lw_at lw_m6 23 rfl) rfl
theorem q1323 : (Jvm.Cond.methodLink "PretendDesk$Stepper" (21 : Nat) ({ cls := "PretendDesk$Stepper", name := "set", desc := "(III)V" } : Jvm.MethodName)) ∈ lw_all := lw_g (lw_at lw_m6 24 rfl) rfl
theorem q1324 : (Jvm.Cond.privateMethod ({ cls := "PretendDesk$Stepper", name := "set", desc := "(III)V" } : Jvm.MethodName)) ∈ lw_tbl := lw_at lw_m6 25 rfl
theorem q1325 : (Jvm.Cond.instanceMethod ({ cls := "PretendDesk$Stepper", name := "set", desc := "(III)V" } : Jvm.MethodName)) ∈ lw_all := lw_g (lw_at lw_m6 26 rfl) rfl
theorem q1326 : (Jvm.Cond.code ({ cls := "PretendDesk$Stepper", name := "set", desc := "(III)V" } : Jvm.MethodName) prog_16_method_3_code (4 : Nat) (Option.none : Option Jvm.ClassFile.FieldType)) ∈ lw_all := lw_g (lw_at lw_m6 27 rfl) rfl
theorem in_X6 : ∀ w ∈ wsX60, w ∈ lw_all := lw_in wsX60 [384, 386, 388, 390] (by decide +kernel) (by decide +kernel)
/-! PretendDesk$House -/
set_option maxRecDepth 100000
def RX8 : String := "PretendDesk$House"
def TX8 : u_T := fun k => match k with
  | 0 => ("PretendDesk$House", "name", "[B", true)
  | 1 => ("PretendDesk$House", "own", "[LPretendDesk$Page;", true)
  | 2 => ("PretendDesk$House", "pages", "I", false)
  | _ => ("PretendDesk$House", "picture", "I", false)
def tyX8 : Nat → FieldType := fun k => match k with
  | 0 => .array .byte
  | 1 => .array (.object "PretendDesk$Page")
  | 2 => .int
  | _ => .int
abbrev wsX80 : List Cond := u_ws RX8 TX8 4
theorem nmX8 : ∀ a, a < 4 → ∀ b, b < 4 → a ≠ b → (TX8 a).2.1 ≠ (TX8 b).2.1 := by decide +kernel
theorem tyX8_ok : ∀ k, k < 4 → parseFieldDescriptor (TX8 k).2.2.1 = some (tyX8 k) := by decide +kernel
abbrev cX8_init : ByteArray := prog_8_method_1_code
def yX8_init : MethodName := ⟨RX8, "<init>", "([B)V"⟩
def dkwX8_init_0 : List UInt8 := [42, 183, 0, 3, 42, 5, 189, 0, 9, 181, 0, 11, 42, 43, 181, 0, 17, 177]
abbrev dktX8_init_0 : List UInt8 := dkwX8_init_0 ++ []
theorem dksX8_init_0 : cX8_init.data.toList.drop 0 = dktX8_init_0 := by decide +kernel
theorem dX8_init_0 : decode cX8_init 0 = .ok (.aload_n 0, 1) := dk_42 (dk_at dksX8_init_0 0 rfl rfl)
theorem dX8_init_1 : decode cX8_init 1 = .ok (.invokespecial 3, 3) := dk_183 0 3 (dk_at dksX8_init_0 1 rfl rfl)
theorem dX8_init_4 : decode cX8_init 4 = .ok (.aload_n 0, 1) := dk_42 (dk_at dksX8_init_0 4 rfl rfl)
theorem dX8_init_5 : decode cX8_init 5 = .ok (.iconst 2, 1) := dk_5 (dk_at dksX8_init_0 5 rfl rfl)
theorem dX8_init_6 : decode cX8_init 6 = .ok (.anewarray 9, 3) := dk_189 0 9 (dk_at dksX8_init_0 6 rfl rfl)
theorem dX8_init_9 : decode cX8_init 9 = .ok (.putfield 11, 3) := dk_181 0 11 (dk_at dksX8_init_0 9 rfl rfl)
theorem dX8_init_12 : decode cX8_init 12 = .ok (.aload_n 0, 1) := dk_42 (dk_at dksX8_init_0 12 rfl rfl)
theorem dX8_init_13 : decode cX8_init 13 = .ok (.aload_n 1, 1) := dk_43 (dk_at dksX8_init_0 13 rfl rfl)
theorem dX8_init_14 : decode cX8_init 14 = .ok (.putfield 17, 3) := dk_181 0 17 (dk_at dksX8_init_0 14 rfl rfl)
theorem dX8_init_17 : decode cX8_init 17 = .ok (.return_, 1) := dk_177 (dk_at dksX8_init_0 17 rfl rfl)
abbrev cX8_init_2 : ByteArray := prog_8_method_2_code
def yX8_init_2 : MethodName := ⟨RX8, "<init>", "(LPretendDesk$House;)V"⟩
def dkwX8_init_2_2 : List UInt8 := [42, 180, 0, 25, 184, 0, 28, 177]
abbrev dktX8_init_2_2 : List UInt8 := dkwX8_init_2_2 ++ []
def dkwX8_init_2_1 : List UInt8 := [180, 0, 21, 181, 0, 21, 42, 43, 180, 0, 25, 181, 0, 25, 43, 180, 0, 11, 3, 42, 180, 0, 11, 3]
abbrev dktX8_init_2_1 : List UInt8 := dkwX8_init_2_1 ++ dktX8_init_2_2
def dkwX8_init_2_0 : List UInt8 := [42, 183, 0, 3, 42, 5, 189, 0, 9, 181, 0, 11, 42, 43, 180, 0, 17, 181, 0, 17, 42, 43]
abbrev dktX8_init_2_0 : List UInt8 := dkwX8_init_2_0 ++ dktX8_init_2_1
theorem dksX8_init_2_0 : cX8_init_2.data.toList.drop 0 = dktX8_init_2_0 := by decide +kernel
theorem dksX8_init_2_1 : cX8_init_2.data.toList.drop 22 = dktX8_init_2_1 := dk_seg dksX8_init_2_0 22 rfl rfl
theorem dksX8_init_2_2 : cX8_init_2.data.toList.drop 46 = dktX8_init_2_2 := dk_seg dksX8_init_2_1 24 rfl rfl
theorem dX8_init_2_0 : decode cX8_init_2 0 = .ok (.aload_n 0, 1) := dk_42 (dk_at dksX8_init_2_0 0 rfl rfl)
theorem dX8_init_2_1 : decode cX8_init_2 1 = .ok (.invokespecial 3, 3) := dk_183 0 3 (dk_at dksX8_init_2_0 1 rfl rfl)
theorem dX8_init_2_4 : decode cX8_init_2 4 = .ok (.aload_n 0, 1) := dk_42 (dk_at dksX8_init_2_0 4 rfl rfl)
theorem dX8_init_2_5 : decode cX8_init_2 5 = .ok (.iconst 2, 1) := dk_5 (dk_at dksX8_init_2_0 5 rfl rfl)
theorem dX8_init_2_6 : decode cX8_init_2 6 = .ok (.anewarray 9, 3) := dk_189 0 9 (dk_at dksX8_init_2_0 6 rfl rfl)
theorem dX8_init_2_9 : decode cX8_init_2 9 = .ok (.putfield 11, 3) := dk_181 0 11 (dk_at dksX8_init_2_0 9 rfl rfl)
theorem dX8_init_2_12 : decode cX8_init_2 12 = .ok (.aload_n 0, 1) := dk_42 (dk_at dksX8_init_2_0 12 rfl rfl)
theorem dX8_init_2_13 : decode cX8_init_2 13 = .ok (.aload_n 1, 1) := dk_43 (dk_at dksX8_init_2_0 13 rfl rfl)
theorem dX8_init_2_14 : decode cX8_init_2 14 = .ok (.getfield 17, 3) := dk_180 0 17 (dk_at dksX8_init_2_0 14 rfl rfl)
theorem dX8_init_2_17 : decode cX8_init_2 17 = .ok (.putfield 17, 3) := dk_181 0 17 (dk_at dksX8_init_2_0 17 rfl rfl)
theorem dX8_init_2_20 : decode cX8_init_2 20 = .ok (.aload_n 0, 1) := dk_42 (dk_at dksX8_init_2_0 20 rfl rfl)
theorem dX8_init_2_21 : decode cX8_init_2 21 = .ok (.aload_n 1, 1) := dk_43 (dk_at dksX8_init_2_0 21 rfl rfl)
theorem dX8_init_2_22 : decode cX8_init_2 22 = .ok (.getfield 21, 3) := dk_180 0 21 (dk_at dksX8_init_2_1 0 rfl rfl)
theorem dX8_init_2_25 : decode cX8_init_2 25 = .ok (.putfield 21, 3) := dk_181 0 21 (dk_at dksX8_init_2_1 3 rfl rfl)
theorem dX8_init_2_28 : decode cX8_init_2 28 = .ok (.aload_n 0, 1) := dk_42 (dk_at dksX8_init_2_1 6 rfl rfl)
theorem dX8_init_2_29 : decode cX8_init_2 29 = .ok (.aload_n 1, 1) := dk_43 (dk_at dksX8_init_2_1 7 rfl rfl)
theorem dX8_init_2_30 : decode cX8_init_2 30 = .ok (.getfield 25, 3) := dk_180 0 25 (dk_at dksX8_init_2_1 8 rfl rfl)
theorem dX8_init_2_33 : decode cX8_init_2 33 = .ok (.putfield 25, 3) := dk_181 0 25 (dk_at dksX8_init_2_1 11 rfl rfl)
theorem dX8_init_2_36 : decode cX8_init_2 36 = .ok (.aload_n 1, 1) := dk_43 (dk_at dksX8_init_2_1 14 rfl rfl)
theorem dX8_init_2_37 : decode cX8_init_2 37 = .ok (.getfield 11, 3) := dk_180 0 11 (dk_at dksX8_init_2_1 15 rfl rfl)
theorem dX8_init_2_40 : decode cX8_init_2 40 = .ok (.iconst 0, 1) := dk_3 (dk_at dksX8_init_2_1 18 rfl rfl)
theorem dX8_init_2_41 : decode cX8_init_2 41 = .ok (.aload_n 0, 1) := dk_42 (dk_at dksX8_init_2_1 19 rfl rfl)
theorem dX8_init_2_42 : decode cX8_init_2 42 = .ok (.getfield 11, 3) := dk_180 0 11 (dk_at dksX8_init_2_1 20 rfl rfl)
theorem dX8_init_2_45 : decode cX8_init_2 45 = .ok (.iconst 0, 1) := dk_3 (dk_at dksX8_init_2_1 23 rfl rfl)
theorem dX8_init_2_46 : decode cX8_init_2 46 = .ok (.aload_n 0, 1) := dk_42 (dk_at dksX8_init_2_2 0 rfl rfl)
theorem dX8_init_2_47 : decode cX8_init_2 47 = .ok (.getfield 25, 3) := dk_180 0 25 (dk_at dksX8_init_2_2 1 rfl rfl)
theorem dX8_init_2_50 : decode cX8_init_2 50 = .ok (.invokestatic 28, 3) := dk_184 0 28 (dk_at dksX8_init_2_2 4 rfl rfl)
theorem dX8_init_2_53 : decode cX8_init_2 53 = .ok (.return_, 1) := dk_177 (dk_at dksX8_init_2_2 7 rfl rfl)
theorem q109 : (Jvm.Cond.initialized "PretendDesk$House") ∈ lw_all := lw_g (lw_at lw_m1 10 rfl) rfl
theorem q491 : (Jvm.Cond.instantiable "PretendDesk$House" (4 : Nat)) ∈ lw_all := lw_g (lw_at lw_m2 152 rfl) rfl
theorem q493 : (Jvm.Cond.instanceMethod ({ cls := "PretendDesk$House", name := "<init>", desc := "([B)V" } : Jvm.MethodName)) ∈ lw_all := lw_g (lw_at lw_m2 154 rfl) rfl
theorem q494 : (Jvm.Cond.code ({ cls := "PretendDesk$House", name := "<init>", desc := "([B)V" } : Jvm.MethodName) prog_8_method_1_code (2 : Nat) (Option.none : Option Jvm.ClassFile.FieldType)) ∈ lw_all := lw_g (lw_at lw_m2 155 rfl) rfl
theorem q495 : (Jvm.Cond.methodLink "PretendDesk$House" (3 : Nat) ({ cls := "java/lang/Object", name := "<init>", desc := "()V" } : Jvm.MethodName)) ∈ lw_all := lw_g (lw_at lw_m2 156 rfl) rfl
theorem q496 : (Jvm.Cond.classLink "PretendDesk$House" (9 : Nat) "PretendDesk$Page") ∈ lw_all := lw_g (lw_at lw_m2 157 rfl) rfl
theorem q498 : (Jvm.Cond.fieldLink "PretendDesk$House" (17 : Nat) "PretendDesk$House" "name" "[B") ∈ lw_all := lw_g (lw_at lw_m2 159 rfl) rfl
theorem q501 : (Jvm.Cond.fieldLink "PretendDesk$House" (11 : Nat) "PretendDesk$House" "own" "[LPretendDesk$Page;") ∈ lw_all := lw_g (lw_at lw_m2 162 rfl) rfl
theorem q503 : (Jvm.Cond.fieldLink "PretendDesk$House" (25 : Nat) "PretendDesk$House" "pages" "I") ∈ lw_all := lw_g (lw_at lw_m2 164 rfl) rfl
theorem q505 : (Jvm.Cond.fieldLink "PretendDesk$House" (21 : Nat) "PretendDesk$House" "picture" "I") ∈ lw_all := lw_g (lw_at lw_m2 166 rfl) rfl
theorem q507 : (Jvm.Cond.laysFinal "PretendDesk$House" "PretendDesk$House" "name" "[B") ∈ lw_all := lw_g (lw_at lw_m2 168 rfl) rfl
theorem q508 : (Jvm.Cond.soleField "PretendDesk$House" "name") ∈ lw_all := lw_g (lw_at lw_m2 169 rfl) rfl
theorem q509 : (Jvm.Cond.laysFinal "PretendDesk$House" "PretendDesk$House" "own" "[LPretendDesk$Page;") ∈ lw_all := lw_g (lw_at lw_m2 170 rfl) rfl
theorem q510 : (Jvm.Cond.soleField "PretendDesk$House" "own") ∈ lw_all := lw_g (lw_at lw_m2 171 rfl) rfl
theorem q511 : (Jvm.Cond.lays "PretendDesk$House" "PretendDesk$House" "pages" "I") ∈ lw_all := lw_g (lw_at lw_m2 172 rfl) rfl
theorem q512 : (Jvm.Cond.soleField "PretendDesk$House" "pages") ∈ lw_all := lw_g (lw_at lw_m2 173 rfl) rfl
theorem q513 : (Jvm.Cond.lays "PretendDesk$House" "PretendDesk$House" "picture" "I") ∈ lw_all := lw_g (lw_at lw_m2 174 rfl) rfl
theorem q514 : (Jvm.Cond.soleField "PretendDesk$House" "picture") ∈ lw_all := lw_g (lw_at lw_m2 175 rfl) rfl
theorem q515 : (Jvm.Cond.superclass "PretendDesk$House" "java/lang/Object") ∈ lw_all := lw_g (lw_at lw_m2 176 rfl) rfl
theorem q1426 : (Jvm.Cond.instanceMethod ({ cls := "PretendDesk$House", name := "<init>", desc := "(LPretendDesk$House;)V" } : Jvm.MethodName)) ∈ lw_all := lw_g (lw_at lw_m6 127 rfl) rfl
theorem q1427 : (Jvm.Cond.code ({ cls := "PretendDesk$House", name := "<init>", desc := "(LPretendDesk$House;)V" } : Jvm.MethodName) prog_8_method_2_code (2 : Nat) (Option.none : Option Jvm.ClassFile.FieldType)) ∈ lw_all := lw_g (lw_at lw_m6 128 rfl) rfl
theorem q1428 : (Jvm.Cond.methodLink "PretendDesk$House" (28 : Nat) ({ cls := "java/lang/System", name := "arraycopy", desc := "(Ljava/lang/Object;ILjava/lang/Object;II)V" } : Jvm.MethodName)) ∈ lw_all := lw_g (lw_at lw_m6 129 rfl) rfl
theorem in_X8 : ∀ w ∈ wsX80, w ∈ lw_all := lw_in wsX80 [507, 509, 511, 513] (by decide +kernel) (by decide +kernel)
/-! PretendDesk$Tokens -/
set_option maxRecDepth 100000
def RX9 : String := "PretendDesk$Tokens"
abbrev cX9_init : ByteArray := prog_17_method_1_code
def yX9_init : MethodName := ⟨RX9, "<init>", "(LPretendDesk;I)V"⟩
def dkwX9_init_0 : List UInt8 := [42, 43, 181, 0, 3, 42, 183, 0, 9, 42, 28, 181, 0, 15, 177]
abbrev dktX9_init_0 : List UInt8 := dkwX9_init_0 ++ []
theorem dksX9_init_0 : cX9_init.data.toList.drop 0 = dktX9_init_0 := by decide +kernel
theorem dX9_init_0 : decode cX9_init 0 = .ok (.aload_n 0, 1) := dk_42 (dk_at dksX9_init_0 0 rfl rfl)
theorem dX9_init_1 : decode cX9_init 1 = .ok (.aload_n 1, 1) := dk_43 (dk_at dksX9_init_0 1 rfl rfl)
theorem dX9_init_2 : decode cX9_init 2 = .ok (.putfield 3, 3) := dk_181 0 3 (dk_at dksX9_init_0 2 rfl rfl)
theorem dX9_init_5 : decode cX9_init 5 = .ok (.aload_n 0, 1) := dk_42 (dk_at dksX9_init_0 5 rfl rfl)
theorem dX9_init_6 : decode cX9_init 6 = .ok (.invokespecial 9, 3) := dk_183 0 9 (dk_at dksX9_init_0 6 rfl rfl)
theorem dX9_init_9 : decode cX9_init 9 = .ok (.aload_n 0, 1) := dk_42 (dk_at dksX9_init_0 9 rfl rfl)
theorem dX9_init_10 : decode cX9_init 10 = .ok (.iload_n 2, 1) := dk_28 (dk_at dksX9_init_0 10 rfl rfl)
theorem dX9_init_11 : decode cX9_init 11 = .ok (.putfield 15, 3) := dk_181 0 15 (dk_at dksX9_init_0 11 rfl rfl)
theorem dX9_init_14 : decode cX9_init 14 = .ok (.return_, 1) := dk_177 (dk_at dksX9_init_0 14 rfl rfl)
abbrev cX9_next : ByteArray := prog_17_method_3_code
def yX9_next : MethodName := ⟨RX9, "next", "()V"⟩
def dkwX9_next_12 : List UInt8 := [167, 0, 4, 4, 181, 0, 53, 42, 89, 180, 0, 19, 4, 96, 181, 0, 19, 177]
abbrev dktX9_next_12 : List UInt8 := dkwX9_next_12 ++ []
def dkwX9_next_11 : List UInt8 := [16, 40, 159, 0, 21, 42, 180, 0, 39, 16, 41, 159, 0, 12, 42, 180, 0, 39, 16, 60, 160, 0, 7, 7]
abbrev dktX9_next_11 : List UInt8 := dkwX9_next_11 ++ dktX9_next_12
def dkwX9_next_10 : List UInt8 := [180, 0, 39, 2, 160, 0, 7, 3, 167, 0, 44, 42, 180, 0, 39, 16, 59, 159, 0, 30, 42, 180, 0, 39]
abbrev dktX9_next_10 : List UInt8 := dkwX9_next_10 ++ dktX9_next_11
def dkwX9_next_9 : List UInt8 := [167, 255, 198, 42, 27, 7, 164, 0, 7, 4, 167, 0, 4, 6, 181, 0, 53, 167, 0, 70, 42, 42]
abbrev dktX9_next_9 : List UInt8 := dkwX9_next_9 ++ dktX9_next_10
def dkwX9_next_8 : List UInt8 := [167, 0, 7, 42, 180, 0, 39, 181, 0, 39, 132, 1, 1, 42, 89, 180, 0, 19, 4, 96, 181, 0, 19]
abbrev dktX9_next_8 : List UInt8 := dkwX9_next_8 ++ dktX9_next_9
def dkwX9_next_7 : List UInt8 := [153, 0, 50, 42, 27, 7, 162, 0, 21, 16, 10, 42, 180, 0, 39, 104, 42, 182, 0, 32, 96, 16, 48, 100]
abbrev dktX9_next_7 : List UInt8 := dkwX9_next_7 ++ dktX9_next_8
def dkwX9_next_6 : List UInt8 := [184, 0, 42, 153, 0, 88, 3, 60, 42, 3, 181, 0, 39, 42, 182, 0, 32, 16, 48, 16, 57, 184, 0, 42]
abbrev dktX9_next_6 : List UInt8 := dkwX9_next_6 ++ dktX9_next_7
def dkwX9_next_5 : List UInt8 := [96, 181, 0, 19, 167, 255, 205, 42, 5, 181, 0, 53, 167, 0, 169, 42, 180, 0, 39, 16, 48, 16, 57]
abbrev dktX9_next_5 : List UInt8 := dkwX9_next_5 ++ dktX9_next_6
def dkwX9_next_4 : List UInt8 := [182, 0, 32, 133, 129, 181, 0, 46, 42, 89, 180, 0, 50, 4, 96, 181, 0, 50, 42, 89, 180, 0, 19, 4]
abbrev dktX9_next_4 : List UInt8 := dkwX9_next_4 ++ dktX9_next_5
def dkwX9_next_3 : List UInt8 := [182, 0, 32, 16, 97, 16, 122, 184, 0, 42, 153, 0, 43, 42, 42, 180, 0, 46, 16, 8, 121, 42]
abbrev dktX9_next_3 : List UInt8 := dkwX9_next_3 ++ dktX9_next_4
def dkwX9_next_2 : List UInt8 := [180, 0, 39, 16, 97, 16, 122, 184, 0, 42, 153, 0, 75, 42, 9, 181, 0, 46, 42, 3, 181, 0, 50, 42]
abbrev dktX9_next_2 : List UInt8 := dkwX9_next_2 ++ dktX9_next_3
def dkwX9_next_1 : List UInt8 := [96, 181, 0, 19, 167, 255, 228, 42, 42, 180, 0, 19, 181, 0, 36, 42, 42, 182, 0, 32, 181, 0, 39, 42]
abbrev dktX9_next_1 : List UInt8 := dkwX9_next_1 ++ dktX9_next_2
def dkwX9_next_0 : List UInt8 := [42, 182, 0, 32, 16, 10, 159, 0, 12, 42, 182, 0, 32, 16, 32, 160, 0, 16, 42, 89, 180, 0, 19, 4]
abbrev dktX9_next_0 : List UInt8 := dkwX9_next_0 ++ dktX9_next_1
theorem dksX9_next_0 : cX9_next.data.toList.drop 0 = dktX9_next_0 := by decide +kernel
theorem dksX9_next_1 : cX9_next.data.toList.drop 24 = dktX9_next_1 := dk_seg dksX9_next_0 24 rfl rfl
theorem dksX9_next_2 : cX9_next.data.toList.drop 48 = dktX9_next_2 := dk_seg dksX9_next_1 24 rfl rfl
theorem dksX9_next_3 : cX9_next.data.toList.drop 72 = dktX9_next_3 := dk_seg dksX9_next_2 24 rfl rfl
theorem dksX9_next_4 : cX9_next.data.toList.drop 94 = dktX9_next_4 := dk_seg dksX9_next_3 22 rfl rfl
theorem dksX9_next_5 : cX9_next.data.toList.drop 118 = dktX9_next_5 := dk_seg dksX9_next_4 24 rfl rfl
theorem dksX9_next_6 : cX9_next.data.toList.drop 141 = dktX9_next_6 := dk_seg dksX9_next_5 23 rfl rfl
theorem dksX9_next_7 : cX9_next.data.toList.drop 165 = dktX9_next_7 := dk_seg dksX9_next_6 24 rfl rfl
theorem dksX9_next_8 : cX9_next.data.toList.drop 189 = dktX9_next_8 := dk_seg dksX9_next_7 24 rfl rfl
theorem dksX9_next_9 : cX9_next.data.toList.drop 212 = dktX9_next_9 := dk_seg dksX9_next_8 23 rfl rfl
theorem dksX9_next_10 : cX9_next.data.toList.drop 234 = dktX9_next_10 := dk_seg dksX9_next_9 22 rfl rfl
theorem dksX9_next_11 : cX9_next.data.toList.drop 258 = dktX9_next_11 := dk_seg dksX9_next_10 24 rfl rfl
theorem dksX9_next_12 : cX9_next.data.toList.drop 282 = dktX9_next_12 := dk_seg dksX9_next_11 24 rfl rfl
theorem dX9_next_0 : decode cX9_next 0 = .ok (.aload_n 0, 1) := dk_42 (dk_at dksX9_next_0 0 rfl rfl)
theorem dX9_next_1 : decode cX9_next 1 = .ok (.invokevirtual 32, 3) := dk_182 0 32 (dk_at dksX9_next_0 1 rfl rfl)
theorem dX9_next_4 : decode cX9_next 4 = .ok (.bipush 10, 2) := dk_16 10 (dk_at dksX9_next_0 4 rfl rfl)
theorem dX9_next_6 : decode cX9_next 6 = .ok (.if_icmp .eq 12, 3) := dk_159 0 12 (dk_at dksX9_next_0 6 rfl rfl)
theorem dX9_next_9 : decode cX9_next 9 = .ok (.aload_n 0, 1) := dk_42 (dk_at dksX9_next_0 9 rfl rfl)
theorem dX9_next_10 : decode cX9_next 10 = .ok (.invokevirtual 32, 3) := dk_182 0 32 (dk_at dksX9_next_0 10 rfl rfl)
theorem dX9_next_13 : decode cX9_next 13 = .ok (.bipush 32, 2) := dk_16 32 (dk_at dksX9_next_0 13 rfl rfl)
theorem dX9_next_15 : decode cX9_next 15 = .ok (.if_icmp .ne 16, 3) := dk_160 0 16 (dk_at dksX9_next_0 15 rfl rfl)
theorem dX9_next_18 : decode cX9_next 18 = .ok (.aload_n 0, 1) := dk_42 (dk_at dksX9_next_0 18 rfl rfl)
theorem dX9_next_19 : decode cX9_next 19 = .ok (.dup, 1) := dk_89 (dk_at dksX9_next_0 19 rfl rfl)
theorem dX9_next_20 : decode cX9_next 20 = .ok (.getfield 19, 3) := dk_180 0 19 (dk_at dksX9_next_0 20 rfl rfl)
theorem dX9_next_23 : decode cX9_next 23 = .ok (.iconst 1, 1) := dk_4 (dk_at dksX9_next_0 23 rfl rfl)
theorem dX9_next_24 : decode cX9_next 24 = .ok (.iadd, 1) := dk_96 (dk_at dksX9_next_1 0 rfl rfl)
theorem dX9_next_25 : decode cX9_next 25 = .ok (.putfield 19, 3) := dk_181 0 19 (dk_at dksX9_next_1 1 rfl rfl)
theorem dX9_next_28 : decode cX9_next 28 = .ok (.goto (-28), 3) := dk_167 255 228 (dk_at dksX9_next_1 4 rfl rfl)
theorem dX9_next_31 : decode cX9_next 31 = .ok (.aload_n 0, 1) := dk_42 (dk_at dksX9_next_1 7 rfl rfl)
theorem dX9_next_32 : decode cX9_next 32 = .ok (.aload_n 0, 1) := dk_42 (dk_at dksX9_next_1 8 rfl rfl)
theorem dX9_next_33 : decode cX9_next 33 = .ok (.getfield 19, 3) := dk_180 0 19 (dk_at dksX9_next_1 9 rfl rfl)
theorem dX9_next_36 : decode cX9_next 36 = .ok (.putfield 36, 3) := dk_181 0 36 (dk_at dksX9_next_1 12 rfl rfl)
theorem dX9_next_39 : decode cX9_next 39 = .ok (.aload_n 0, 1) := dk_42 (dk_at dksX9_next_1 15 rfl rfl)
theorem dX9_next_40 : decode cX9_next 40 = .ok (.aload_n 0, 1) := dk_42 (dk_at dksX9_next_1 16 rfl rfl)
theorem dX9_next_41 : decode cX9_next 41 = .ok (.invokevirtual 32, 3) := dk_182 0 32 (dk_at dksX9_next_1 17 rfl rfl)
theorem dX9_next_44 : decode cX9_next 44 = .ok (.putfield 39, 3) := dk_181 0 39 (dk_at dksX9_next_1 20 rfl rfl)
theorem dX9_next_47 : decode cX9_next 47 = .ok (.aload_n 0, 1) := dk_42 (dk_at dksX9_next_1 23 rfl rfl)
theorem dX9_next_48 : decode cX9_next 48 = .ok (.getfield 39, 3) := dk_180 0 39 (dk_at dksX9_next_2 0 rfl rfl)
theorem dX9_next_51 : decode cX9_next 51 = .ok (.bipush 97, 2) := dk_16 97 (dk_at dksX9_next_2 3 rfl rfl)
theorem dX9_next_53 : decode cX9_next 53 = .ok (.bipush 122, 2) := dk_16 122 (dk_at dksX9_next_2 5 rfl rfl)
theorem dX9_next_55 : decode cX9_next 55 = .ok (.invokestatic 42, 3) := dk_184 0 42 (dk_at dksX9_next_2 7 rfl rfl)
theorem dX9_next_58 : decode cX9_next 58 = .ok (.ifCond .eq 75, 3) := dk_153 0 75 (dk_at dksX9_next_2 10 rfl rfl)
theorem dX9_next_61 : decode cX9_next 61 = .ok (.aload_n 0, 1) := dk_42 (dk_at dksX9_next_2 13 rfl rfl)
theorem dX9_next_62 : decode cX9_next 62 = .ok (.lconst 0, 1) := dk_9 (dk_at dksX9_next_2 14 rfl rfl)
theorem dX9_next_63 : decode cX9_next 63 = .ok (.putfield 46, 3) := dk_181 0 46 (dk_at dksX9_next_2 15 rfl rfl)
theorem dX9_next_66 : decode cX9_next 66 = .ok (.aload_n 0, 1) := dk_42 (dk_at dksX9_next_2 18 rfl rfl)
theorem dX9_next_67 : decode cX9_next 67 = .ok (.iconst 0, 1) := dk_3 (dk_at dksX9_next_2 19 rfl rfl)
theorem dX9_next_68 : decode cX9_next 68 = .ok (.putfield 50, 3) := dk_181 0 50 (dk_at dksX9_next_2 20 rfl rfl)
theorem dX9_next_71 : decode cX9_next 71 = .ok (.aload_n 0, 1) := dk_42 (dk_at dksX9_next_2 23 rfl rfl)
theorem dX9_next_72 : decode cX9_next 72 = .ok (.invokevirtual 32, 3) := dk_182 0 32 (dk_at dksX9_next_3 0 rfl rfl)
theorem dX9_next_75 : decode cX9_next 75 = .ok (.bipush 97, 2) := dk_16 97 (dk_at dksX9_next_3 3 rfl rfl)
theorem dX9_next_77 : decode cX9_next 77 = .ok (.bipush 122, 2) := dk_16 122 (dk_at dksX9_next_3 5 rfl rfl)
theorem dX9_next_79 : decode cX9_next 79 = .ok (.invokestatic 42, 3) := dk_184 0 42 (dk_at dksX9_next_3 7 rfl rfl)
theorem dX9_next_82 : decode cX9_next 82 = .ok (.ifCond .eq 43, 3) := dk_153 0 43 (dk_at dksX9_next_3 10 rfl rfl)
theorem dX9_next_85 : decode cX9_next 85 = .ok (.aload_n 0, 1) := dk_42 (dk_at dksX9_next_3 13 rfl rfl)
theorem dX9_next_86 : decode cX9_next 86 = .ok (.aload_n 0, 1) := dk_42 (dk_at dksX9_next_3 14 rfl rfl)
theorem dX9_next_87 : decode cX9_next 87 = .ok (.getfield 46, 3) := dk_180 0 46 (dk_at dksX9_next_3 15 rfl rfl)
theorem dX9_next_90 : decode cX9_next 90 = .ok (.bipush 8, 2) := dk_16 8 (dk_at dksX9_next_3 18 rfl rfl)
theorem dX9_next_92 : decode cX9_next 92 = .ok (.lshl, 1) := dk_121 (dk_at dksX9_next_3 20 rfl rfl)
theorem dX9_next_93 : decode cX9_next 93 = .ok (.aload_n 0, 1) := dk_42 (dk_at dksX9_next_3 21 rfl rfl)
theorem dX9_next_94 : decode cX9_next 94 = .ok (.invokevirtual 32, 3) := dk_182 0 32 (dk_at dksX9_next_4 0 rfl rfl)
theorem dX9_next_97 : decode cX9_next 97 = .ok (.i2l, 1) := dk_133 (dk_at dksX9_next_4 3 rfl rfl)
theorem dX9_next_98 : decode cX9_next 98 = .ok (.lor, 1) := dk_129 (dk_at dksX9_next_4 4 rfl rfl)
theorem dX9_next_99 : decode cX9_next 99 = .ok (.putfield 46, 3) := dk_181 0 46 (dk_at dksX9_next_4 5 rfl rfl)
theorem dX9_next_102 : decode cX9_next 102 = .ok (.aload_n 0, 1) := dk_42 (dk_at dksX9_next_4 8 rfl rfl)
theorem dX9_next_103 : decode cX9_next 103 = .ok (.dup, 1) := dk_89 (dk_at dksX9_next_4 9 rfl rfl)
theorem dX9_next_104 : decode cX9_next 104 = .ok (.getfield 50, 3) := dk_180 0 50 (dk_at dksX9_next_4 10 rfl rfl)
theorem dX9_next_107 : decode cX9_next 107 = .ok (.iconst 1, 1) := dk_4 (dk_at dksX9_next_4 13 rfl rfl)
theorem dX9_next_108 : decode cX9_next 108 = .ok (.iadd, 1) := dk_96 (dk_at dksX9_next_4 14 rfl rfl)
theorem dX9_next_109 : decode cX9_next 109 = .ok (.putfield 50, 3) := dk_181 0 50 (dk_at dksX9_next_4 15 rfl rfl)
theorem dX9_next_112 : decode cX9_next 112 = .ok (.aload_n 0, 1) := dk_42 (dk_at dksX9_next_4 18 rfl rfl)
theorem dX9_next_113 : decode cX9_next 113 = .ok (.dup, 1) := dk_89 (dk_at dksX9_next_4 19 rfl rfl)
theorem dX9_next_114 : decode cX9_next 114 = .ok (.getfield 19, 3) := dk_180 0 19 (dk_at dksX9_next_4 20 rfl rfl)
theorem dX9_next_117 : decode cX9_next 117 = .ok (.iconst 1, 1) := dk_4 (dk_at dksX9_next_4 23 rfl rfl)
theorem dX9_next_118 : decode cX9_next 118 = .ok (.iadd, 1) := dk_96 (dk_at dksX9_next_5 0 rfl rfl)
theorem dX9_next_119 : decode cX9_next 119 = .ok (.putfield 19, 3) := dk_181 0 19 (dk_at dksX9_next_5 1 rfl rfl)
theorem dX9_next_122 : decode cX9_next 122 = .ok (.goto (-51), 3) := dk_167 255 205 (dk_at dksX9_next_5 4 rfl rfl)
theorem dX9_next_125 : decode cX9_next 125 = .ok (.aload_n 0, 1) := dk_42 (dk_at dksX9_next_5 7 rfl rfl)
theorem dX9_next_126 : decode cX9_next 126 = .ok (.iconst 2, 1) := dk_5 (dk_at dksX9_next_5 8 rfl rfl)
theorem dX9_next_127 : decode cX9_next 127 = .ok (.putfield 53, 3) := dk_181 0 53 (dk_at dksX9_next_5 9 rfl rfl)
theorem dX9_next_130 : decode cX9_next 130 = .ok (.goto 169, 3) := dk_167 0 169 (dk_at dksX9_next_5 12 rfl rfl)
theorem dX9_next_133 : decode cX9_next 133 = .ok (.aload_n 0, 1) := dk_42 (dk_at dksX9_next_5 15 rfl rfl)
theorem dX9_next_134 : decode cX9_next 134 = .ok (.getfield 39, 3) := dk_180 0 39 (dk_at dksX9_next_5 16 rfl rfl)
theorem dX9_next_137 : decode cX9_next 137 = .ok (.bipush 48, 2) := dk_16 48 (dk_at dksX9_next_5 19 rfl rfl)
theorem dX9_next_139 : decode cX9_next 139 = .ok (.bipush 57, 2) := dk_16 57 (dk_at dksX9_next_5 21 rfl rfl)
theorem dX9_next_141 : decode cX9_next 141 = .ok (.invokestatic 42, 3) := dk_184 0 42 (dk_at dksX9_next_6 0 rfl rfl)
theorem dX9_next_144 : decode cX9_next 144 = .ok (.ifCond .eq 88, 3) := dk_153 0 88 (dk_at dksX9_next_6 3 rfl rfl)
theorem dX9_next_147 : decode cX9_next 147 = .ok (.iconst 0, 1) := dk_3 (dk_at dksX9_next_6 6 rfl rfl)
theorem dX9_next_148 : decode cX9_next 148 = .ok (.istore_n 1, 1) := dk_60 (dk_at dksX9_next_6 7 rfl rfl)
theorem dX9_next_149 : decode cX9_next 149 = .ok (.aload_n 0, 1) := dk_42 (dk_at dksX9_next_6 8 rfl rfl)
theorem dX9_next_150 : decode cX9_next 150 = .ok (.iconst 0, 1) := dk_3 (dk_at dksX9_next_6 9 rfl rfl)
theorem dX9_next_151 : decode cX9_next 151 = .ok (.putfield 39, 3) := dk_181 0 39 (dk_at dksX9_next_6 10 rfl rfl)
theorem dX9_next_154 : decode cX9_next 154 = .ok (.aload_n 0, 1) := dk_42 (dk_at dksX9_next_6 13 rfl rfl)
theorem dX9_next_155 : decode cX9_next 155 = .ok (.invokevirtual 32, 3) := dk_182 0 32 (dk_at dksX9_next_6 14 rfl rfl)
theorem dX9_next_158 : decode cX9_next 158 = .ok (.bipush 48, 2) := dk_16 48 (dk_at dksX9_next_6 17 rfl rfl)
theorem dX9_next_160 : decode cX9_next 160 = .ok (.bipush 57, 2) := dk_16 57 (dk_at dksX9_next_6 19 rfl rfl)
theorem dX9_next_162 : decode cX9_next 162 = .ok (.invokestatic 42, 3) := dk_184 0 42 (dk_at dksX9_next_6 21 rfl rfl)
theorem dX9_next_165 : decode cX9_next 165 = .ok (.ifCond .eq 50, 3) := dk_153 0 50 (dk_at dksX9_next_7 0 rfl rfl)
theorem dX9_next_168 : decode cX9_next 168 = .ok (.aload_n 0, 1) := dk_42 (dk_at dksX9_next_7 3 rfl rfl)
theorem dX9_next_169 : decode cX9_next 169 = .ok (.iload_n 1, 1) := dk_27 (dk_at dksX9_next_7 4 rfl rfl)
theorem dX9_next_170 : decode cX9_next 170 = .ok (.iconst 4, 1) := dk_7 (dk_at dksX9_next_7 5 rfl rfl)
theorem dX9_next_171 : decode cX9_next 171 = .ok (.if_icmp .ge 21, 3) := dk_162 0 21 (dk_at dksX9_next_7 6 rfl rfl)
theorem dX9_next_174 : decode cX9_next 174 = .ok (.bipush 10, 2) := dk_16 10 (dk_at dksX9_next_7 9 rfl rfl)
theorem dX9_next_176 : decode cX9_next 176 = .ok (.aload_n 0, 1) := dk_42 (dk_at dksX9_next_7 11 rfl rfl)
theorem dX9_next_177 : decode cX9_next 177 = .ok (.getfield 39, 3) := dk_180 0 39 (dk_at dksX9_next_7 12 rfl rfl)
theorem dX9_next_180 : decode cX9_next 180 = .ok (.imul, 1) := dk_104 (dk_at dksX9_next_7 15 rfl rfl)
theorem dX9_next_181 : decode cX9_next 181 = .ok (.aload_n 0, 1) := dk_42 (dk_at dksX9_next_7 16 rfl rfl)
theorem dX9_next_182 : decode cX9_next 182 = .ok (.invokevirtual 32, 3) := dk_182 0 32 (dk_at dksX9_next_7 17 rfl rfl)
theorem dX9_next_185 : decode cX9_next 185 = .ok (.iadd, 1) := dk_96 (dk_at dksX9_next_7 20 rfl rfl)
theorem dX9_next_186 : decode cX9_next 186 = .ok (.bipush 48, 2) := dk_16 48 (dk_at dksX9_next_7 21 rfl rfl)
theorem dX9_next_188 : decode cX9_next 188 = .ok (.isub, 1) := dk_100 (dk_at dksX9_next_7 23 rfl rfl)
theorem dX9_next_189 : decode cX9_next 189 = .ok (.goto 7, 3) := dk_167 0 7 (dk_at dksX9_next_8 0 rfl rfl)
theorem dX9_next_192 : decode cX9_next 192 = .ok (.aload_n 0, 1) := dk_42 (dk_at dksX9_next_8 3 rfl rfl)
theorem dX9_next_193 : decode cX9_next 193 = .ok (.getfield 39, 3) := dk_180 0 39 (dk_at dksX9_next_8 4 rfl rfl)
theorem dX9_next_196 : decode cX9_next 196 = .ok (.putfield 39, 3) := dk_181 0 39 (dk_at dksX9_next_8 7 rfl rfl)
theorem dX9_next_199 : decode cX9_next 199 = .ok (.iinc 1 1, 3) := dk_132 1 1 (dk_at dksX9_next_8 10 rfl rfl)
theorem dX9_next_202 : decode cX9_next 202 = .ok (.aload_n 0, 1) := dk_42 (dk_at dksX9_next_8 13 rfl rfl)
theorem dX9_next_203 : decode cX9_next 203 = .ok (.dup, 1) := dk_89 (dk_at dksX9_next_8 14 rfl rfl)
theorem dX9_next_204 : decode cX9_next 204 = .ok (.getfield 19, 3) := dk_180 0 19 (dk_at dksX9_next_8 15 rfl rfl)
theorem dX9_next_207 : decode cX9_next 207 = .ok (.iconst 1, 1) := dk_4 (dk_at dksX9_next_8 18 rfl rfl)
theorem dX9_next_208 : decode cX9_next 208 = .ok (.iadd, 1) := dk_96 (dk_at dksX9_next_8 19 rfl rfl)
theorem dX9_next_209 : decode cX9_next 209 = .ok (.putfield 19, 3) := dk_181 0 19 (dk_at dksX9_next_8 20 rfl rfl)
theorem dX9_next_212 : decode cX9_next 212 = .ok (.goto (-58), 3) := dk_167 255 198 (dk_at dksX9_next_9 0 rfl rfl)
theorem dX9_next_215 : decode cX9_next 215 = .ok (.aload_n 0, 1) := dk_42 (dk_at dksX9_next_9 3 rfl rfl)
theorem dX9_next_216 : decode cX9_next 216 = .ok (.iload_n 1, 1) := dk_27 (dk_at dksX9_next_9 4 rfl rfl)
theorem dX9_next_217 : decode cX9_next 217 = .ok (.iconst 4, 1) := dk_7 (dk_at dksX9_next_9 5 rfl rfl)
theorem dX9_next_218 : decode cX9_next 218 = .ok (.if_icmp .le 7, 3) := dk_164 0 7 (dk_at dksX9_next_9 6 rfl rfl)
theorem dX9_next_221 : decode cX9_next 221 = .ok (.iconst 1, 1) := dk_4 (dk_at dksX9_next_9 9 rfl rfl)
theorem dX9_next_222 : decode cX9_next 222 = .ok (.goto 4, 3) := dk_167 0 4 (dk_at dksX9_next_9 10 rfl rfl)
theorem dX9_next_225 : decode cX9_next 225 = .ok (.iconst 3, 1) := dk_6 (dk_at dksX9_next_9 13 rfl rfl)
theorem dX9_next_226 : decode cX9_next 226 = .ok (.putfield 53, 3) := dk_181 0 53 (dk_at dksX9_next_9 14 rfl rfl)
theorem dX9_next_229 : decode cX9_next 229 = .ok (.goto 70, 3) := dk_167 0 70 (dk_at dksX9_next_9 17 rfl rfl)
theorem dX9_next_232 : decode cX9_next 232 = .ok (.aload_n 0, 1) := dk_42 (dk_at dksX9_next_9 20 rfl rfl)
theorem dX9_next_233 : decode cX9_next 233 = .ok (.aload_n 0, 1) := dk_42 (dk_at dksX9_next_9 21 rfl rfl)
theorem dX9_next_234 : decode cX9_next 234 = .ok (.getfield 39, 3) := dk_180 0 39 (dk_at dksX9_next_10 0 rfl rfl)
theorem dX9_next_237 : decode cX9_next 237 = .ok (.iconst (-1), 1) := dk_2 (dk_at dksX9_next_10 3 rfl rfl)
theorem dX9_next_238 : decode cX9_next 238 = .ok (.if_icmp .ne 7, 3) := dk_160 0 7 (dk_at dksX9_next_10 4 rfl rfl)
theorem dX9_next_241 : decode cX9_next 241 = .ok (.iconst 0, 1) := dk_3 (dk_at dksX9_next_10 7 rfl rfl)
theorem dX9_next_242 : decode cX9_next 242 = .ok (.goto 44, 3) := dk_167 0 44 (dk_at dksX9_next_10 8 rfl rfl)
theorem dX9_next_245 : decode cX9_next 245 = .ok (.aload_n 0, 1) := dk_42 (dk_at dksX9_next_10 11 rfl rfl)
theorem dX9_next_246 : decode cX9_next 246 = .ok (.getfield 39, 3) := dk_180 0 39 (dk_at dksX9_next_10 12 rfl rfl)
theorem dX9_next_249 : decode cX9_next 249 = .ok (.bipush 59, 2) := dk_16 59 (dk_at dksX9_next_10 15 rfl rfl)
theorem dX9_next_251 : decode cX9_next 251 = .ok (.if_icmp .eq 30, 3) := dk_159 0 30 (dk_at dksX9_next_10 17 rfl rfl)
theorem dX9_next_254 : decode cX9_next 254 = .ok (.aload_n 0, 1) := dk_42 (dk_at dksX9_next_10 20 rfl rfl)
theorem dX9_next_255 : decode cX9_next 255 = .ok (.getfield 39, 3) := dk_180 0 39 (dk_at dksX9_next_10 21 rfl rfl)
theorem dX9_next_258 : decode cX9_next 258 = .ok (.bipush 40, 2) := dk_16 40 (dk_at dksX9_next_11 0 rfl rfl)
theorem dX9_next_260 : decode cX9_next 260 = .ok (.if_icmp .eq 21, 3) := dk_159 0 21 (dk_at dksX9_next_11 2 rfl rfl)
theorem dX9_next_263 : decode cX9_next 263 = .ok (.aload_n 0, 1) := dk_42 (dk_at dksX9_next_11 5 rfl rfl)
theorem dX9_next_264 : decode cX9_next 264 = .ok (.getfield 39, 3) := dk_180 0 39 (dk_at dksX9_next_11 6 rfl rfl)
theorem dX9_next_267 : decode cX9_next 267 = .ok (.bipush 41, 2) := dk_16 41 (dk_at dksX9_next_11 9 rfl rfl)
theorem dX9_next_269 : decode cX9_next 269 = .ok (.if_icmp .eq 12, 3) := dk_159 0 12 (dk_at dksX9_next_11 11 rfl rfl)
theorem dX9_next_272 : decode cX9_next 272 = .ok (.aload_n 0, 1) := dk_42 (dk_at dksX9_next_11 14 rfl rfl)
theorem dX9_next_273 : decode cX9_next 273 = .ok (.getfield 39, 3) := dk_180 0 39 (dk_at dksX9_next_11 15 rfl rfl)
theorem dX9_next_276 : decode cX9_next 276 = .ok (.bipush 60, 2) := dk_16 60 (dk_at dksX9_next_11 18 rfl rfl)
theorem dX9_next_278 : decode cX9_next 278 = .ok (.if_icmp .ne 7, 3) := dk_160 0 7 (dk_at dksX9_next_11 20 rfl rfl)
theorem dX9_next_281 : decode cX9_next 281 = .ok (.iconst 4, 1) := dk_7 (dk_at dksX9_next_11 23 rfl rfl)
theorem dX9_next_282 : decode cX9_next 282 = .ok (.goto 4, 3) := dk_167 0 4 (dk_at dksX9_next_12 0 rfl rfl)
theorem dX9_next_285 : decode cX9_next 285 = .ok (.iconst 1, 1) := dk_4 (dk_at dksX9_next_12 3 rfl rfl)
theorem dX9_next_286 : decode cX9_next 286 = .ok (.putfield 53, 3) := dk_181 0 53 (dk_at dksX9_next_12 4 rfl rfl)
theorem dX9_next_289 : decode cX9_next 289 = .ok (.aload_n 0, 1) := dk_42 (dk_at dksX9_next_12 7 rfl rfl)
theorem dX9_next_290 : decode cX9_next 290 = .ok (.dup, 1) := dk_89 (dk_at dksX9_next_12 8 rfl rfl)
theorem dX9_next_291 : decode cX9_next 291 = .ok (.getfield 19, 3) := dk_180 0 19 (dk_at dksX9_next_12 9 rfl rfl)
theorem dX9_next_294 : decode cX9_next 294 = .ok (.iconst 1, 1) := dk_4 (dk_at dksX9_next_12 12 rfl rfl)
theorem dX9_next_295 : decode cX9_next 295 = .ok (.iadd, 1) := dk_96 (dk_at dksX9_next_12 13 rfl rfl)
theorem dX9_next_296 : decode cX9_next 296 = .ok (.putfield 19, 3) := dk_181 0 19 (dk_at dksX9_next_12 14 rfl rfl)
theorem dX9_next_299 : decode cX9_next 299 = .ok (.return_, 1) := dk_177 (dk_at dksX9_next_12 17 rfl rfl)
abbrev cX9_see : ByteArray := prog_17_method_2_code
def yX9_see : MethodName := ⟨RX9, "see", "()I"⟩
def dkwX9_see_1 : List UInt8 := [180, 0, 19, 51, 17, 0, 255, 126, 167, 0, 4, 2, 172]
abbrev dktX9_see_1 : List UInt8 := dkwX9_see_1 ++ []
def dkwX9_see_0 : List UInt8 := [42, 180, 0, 19, 42, 180, 0, 15, 162, 0, 25, 42, 180, 0, 3, 180, 0, 22, 180, 0, 26, 42]
abbrev dktX9_see_0 : List UInt8 := dkwX9_see_0 ++ dktX9_see_1
theorem dksX9_see_0 : cX9_see.data.toList.drop 0 = dktX9_see_0 := by decide +kernel
theorem dksX9_see_1 : cX9_see.data.toList.drop 22 = dktX9_see_1 := dk_seg dksX9_see_0 22 rfl rfl
theorem dX9_see_0 : decode cX9_see 0 = .ok (.aload_n 0, 1) := dk_42 (dk_at dksX9_see_0 0 rfl rfl)
theorem dX9_see_1 : decode cX9_see 1 = .ok (.getfield 19, 3) := dk_180 0 19 (dk_at dksX9_see_0 1 rfl rfl)
theorem dX9_see_4 : decode cX9_see 4 = .ok (.aload_n 0, 1) := dk_42 (dk_at dksX9_see_0 4 rfl rfl)
theorem dX9_see_5 : decode cX9_see 5 = .ok (.getfield 15, 3) := dk_180 0 15 (dk_at dksX9_see_0 5 rfl rfl)
theorem dX9_see_8 : decode cX9_see 8 = .ok (.if_icmp .ge 25, 3) := dk_162 0 25 (dk_at dksX9_see_0 8 rfl rfl)
theorem dX9_see_11 : decode cX9_see 11 = .ok (.aload_n 0, 1) := dk_42 (dk_at dksX9_see_0 11 rfl rfl)
theorem dX9_see_12 : decode cX9_see 12 = .ok (.getfield 3, 3) := dk_180 0 3 (dk_at dksX9_see_0 12 rfl rfl)
theorem dX9_see_15 : decode cX9_see 15 = .ok (.getfield 22, 3) := dk_180 0 22 (dk_at dksX9_see_0 15 rfl rfl)
theorem dX9_see_18 : decode cX9_see 18 = .ok (.getfield 26, 3) := dk_180 0 26 (dk_at dksX9_see_0 18 rfl rfl)
theorem dX9_see_21 : decode cX9_see 21 = .ok (.aload_n 0, 1) := dk_42 (dk_at dksX9_see_0 21 rfl rfl)
theorem dX9_see_22 : decode cX9_see 22 = .ok (.getfield 19, 3) := dk_180 0 19 (dk_at dksX9_see_1 0 rfl rfl)
theorem dX9_see_25 : decode cX9_see 25 = .ok (.baload, 1) := dk_51 (dk_at dksX9_see_1 3 rfl rfl)
theorem dX9_see_26 : decode cX9_see 26 = .ok (.sipush 255, 3) := dk_17 0 255 (dk_at dksX9_see_1 4 rfl rfl)
theorem dX9_see_29 : decode cX9_see 29 = .ok (.iand, 1) := dk_126 (dk_at dksX9_see_1 7 rfl rfl)
theorem dX9_see_30 : decode cX9_see 30 = .ok (.goto 4, 3) := dk_167 0 4 (dk_at dksX9_see_1 8 rfl rfl)
theorem dX9_see_33 : decode cX9_see 33 = .ok (.iconst (-1), 1) := dk_2 (dk_at dksX9_see_1 11 rfl rfl)
theorem dX9_see_34 : decode cX9_see 34 = .ok (.ireturn, 1) := dk_172 (dk_at dksX9_see_1 12 rfl rfl)
abbrev cX9_kind : ByteArray := prog_17_method_9_code
def yX9_kind : MethodName := ⟨RX9, "kind", "()I"⟩
def dkwX9_kind_1 : List UInt8 := [27, 172, 132, 1, 1, 167, 255, 229, 2, 172]
abbrev dktX9_kind_1 : List UInt8 := dkwX9_kind_1 ++ []
def dkwX9_kind_0 : List UInt8 := [3, 60, 27, 16, 8, 162, 0, 27, 42, 42, 180, 0, 3, 180, 0, 86, 27, 50, 182, 0, 90, 153, 0, 5]
abbrev dktX9_kind_0 : List UInt8 := dkwX9_kind_0 ++ dktX9_kind_1
theorem dksX9_kind_0 : cX9_kind.data.toList.drop 0 = dktX9_kind_0 := by decide +kernel
theorem dksX9_kind_1 : cX9_kind.data.toList.drop 24 = dktX9_kind_1 := dk_seg dksX9_kind_0 24 rfl rfl
theorem dX9_kind_0 : decode cX9_kind 0 = .ok (.iconst 0, 1) := dk_3 (dk_at dksX9_kind_0 0 rfl rfl)
theorem dX9_kind_1 : decode cX9_kind 1 = .ok (.istore_n 1, 1) := dk_60 (dk_at dksX9_kind_0 1 rfl rfl)
theorem dX9_kind_2 : decode cX9_kind 2 = .ok (.iload_n 1, 1) := dk_27 (dk_at dksX9_kind_0 2 rfl rfl)
theorem dX9_kind_3 : decode cX9_kind 3 = .ok (.bipush 8, 2) := dk_16 8 (dk_at dksX9_kind_0 3 rfl rfl)
theorem dX9_kind_5 : decode cX9_kind 5 = .ok (.if_icmp .ge 27, 3) := dk_162 0 27 (dk_at dksX9_kind_0 5 rfl rfl)
theorem dX9_kind_8 : decode cX9_kind 8 = .ok (.aload_n 0, 1) := dk_42 (dk_at dksX9_kind_0 8 rfl rfl)
theorem dX9_kind_9 : decode cX9_kind 9 = .ok (.aload_n 0, 1) := dk_42 (dk_at dksX9_kind_0 9 rfl rfl)
theorem dX9_kind_10 : decode cX9_kind 10 = .ok (.getfield 3, 3) := dk_180 0 3 (dk_at dksX9_kind_0 10 rfl rfl)
theorem dX9_kind_13 : decode cX9_kind 13 = .ok (.getfield 86, 3) := dk_180 0 86 (dk_at dksX9_kind_0 13 rfl rfl)
theorem dX9_kind_16 : decode cX9_kind 16 = .ok (.iload_n 1, 1) := dk_27 (dk_at dksX9_kind_0 16 rfl rfl)
theorem dX9_kind_17 : decode cX9_kind 17 = .ok (.aaload, 1) := dk_50 (dk_at dksX9_kind_0 17 rfl rfl)
theorem dX9_kind_18 : decode cX9_kind 18 = .ok (.invokevirtual 90, 3) := dk_182 0 90 (dk_at dksX9_kind_0 18 rfl rfl)
theorem dX9_kind_21 : decode cX9_kind 21 = .ok (.ifCond .eq 5, 3) := dk_153 0 5 (dk_at dksX9_kind_0 21 rfl rfl)
theorem dX9_kind_24 : decode cX9_kind 24 = .ok (.iload_n 1, 1) := dk_27 (dk_at dksX9_kind_1 0 rfl rfl)
theorem dX9_kind_25 : decode cX9_kind 25 = .ok (.ireturn, 1) := dk_172 (dk_at dksX9_kind_1 1 rfl rfl)
theorem dX9_kind_26 : decode cX9_kind 26 = .ok (.iinc 1 1, 3) := dk_132 1 1 (dk_at dksX9_kind_1 2 rfl rfl)
theorem dX9_kind_29 : decode cX9_kind 29 = .ok (.goto (-27), 3) := dk_167 255 229 (dk_at dksX9_kind_1 5 rfl rfl)
theorem dX9_kind_32 : decode cX9_kind 32 = .ok (.iconst (-1), 1) := dk_2 (dk_at dksX9_kind_1 8 rfl rfl)
theorem dX9_kind_33 : decode cX9_kind 33 = .ok (.ireturn, 1) := dk_172 (dk_at dksX9_kind_1 9 rfl rfl)
abbrev cX9_isWord : ByteArray := prog_17_method_4_code
def yX9_isWord : MethodName := ⟨RX9, "isWord", "(Ljava/lang/String;)Z"⟩
def dkwX9_isWord_2 : List UInt8 := [132, 4, 1, 167, 255, 231, 32, 42, 180, 0, 46, 148, 154, 0, 7, 4, 167, 0, 4, 3, 172]
abbrev dktX9_isWord_2 : List UInt8 := dkwX9_isWord_2 ++ []
def dkwX9_isWord_1 : List UInt8 := [54, 4, 21, 4, 43, 182, 0, 56, 162, 0, 22, 32, 16, 8, 121, 43, 21, 4, 182, 0, 60, 133, 129, 65]
abbrev dktX9_isWord_1 : List UInt8 := dkwX9_isWord_1 ++ dktX9_isWord_2
def dkwX9_isWord_0 : List UInt8 := [42, 180, 0, 53, 5, 160, 0, 14, 42, 180, 0, 50, 43, 182, 0, 56, 159, 0, 5, 3, 172, 9, 65, 3]
abbrev dktX9_isWord_0 : List UInt8 := dkwX9_isWord_0 ++ dktX9_isWord_1
theorem dksX9_isWord_0 : cX9_isWord.data.toList.drop 0 = dktX9_isWord_0 := by decide +kernel
theorem dksX9_isWord_1 : cX9_isWord.data.toList.drop 24 = dktX9_isWord_1 := dk_seg dksX9_isWord_0 24 rfl rfl
theorem dksX9_isWord_2 : cX9_isWord.data.toList.drop 48 = dktX9_isWord_2 := dk_seg dksX9_isWord_1 24 rfl rfl
theorem dX9_isWord_0 : decode cX9_isWord 0 = .ok (.aload_n 0, 1) := dk_42 (dk_at dksX9_isWord_0 0 rfl rfl)
theorem dX9_isWord_1 : decode cX9_isWord 1 = .ok (.getfield 53, 3) := dk_180 0 53 (dk_at dksX9_isWord_0 1 rfl rfl)
theorem dX9_isWord_4 : decode cX9_isWord 4 = .ok (.iconst 2, 1) := dk_5 (dk_at dksX9_isWord_0 4 rfl rfl)
theorem dX9_isWord_5 : decode cX9_isWord 5 = .ok (.if_icmp .ne 14, 3) := dk_160 0 14 (dk_at dksX9_isWord_0 5 rfl rfl)
theorem dX9_isWord_8 : decode cX9_isWord 8 = .ok (.aload_n 0, 1) := dk_42 (dk_at dksX9_isWord_0 8 rfl rfl)
theorem dX9_isWord_9 : decode cX9_isWord 9 = .ok (.getfield 50, 3) := dk_180 0 50 (dk_at dksX9_isWord_0 9 rfl rfl)
theorem dX9_isWord_12 : decode cX9_isWord 12 = .ok (.aload_n 1, 1) := dk_43 (dk_at dksX9_isWord_0 12 rfl rfl)
theorem dX9_isWord_13 : decode cX9_isWord 13 = .ok (.invokevirtual 56, 3) := dk_182 0 56 (dk_at dksX9_isWord_0 13 rfl rfl)
theorem dX9_isWord_16 : decode cX9_isWord 16 = .ok (.if_icmp .eq 5, 3) := dk_159 0 5 (dk_at dksX9_isWord_0 16 rfl rfl)
theorem dX9_isWord_19 : decode cX9_isWord 19 = .ok (.iconst 0, 1) := dk_3 (dk_at dksX9_isWord_0 19 rfl rfl)
theorem dX9_isWord_20 : decode cX9_isWord 20 = .ok (.ireturn, 1) := dk_172 (dk_at dksX9_isWord_0 20 rfl rfl)
theorem dX9_isWord_21 : decode cX9_isWord 21 = .ok (.lconst 0, 1) := dk_9 (dk_at dksX9_isWord_0 21 rfl rfl)
theorem dX9_isWord_22 : decode cX9_isWord 22 = .ok (.lstore_n 2, 1) := dk_65 (dk_at dksX9_isWord_0 22 rfl rfl)
theorem dX9_isWord_23 : decode cX9_isWord 23 = .ok (.iconst 0, 1) := dk_3 (dk_at dksX9_isWord_0 23 rfl rfl)
theorem dX9_isWord_24 : decode cX9_isWord 24 = .ok (.istore 4, 2) := dk_54 4 (dk_at dksX9_isWord_1 0 rfl rfl)
theorem dX9_isWord_26 : decode cX9_isWord 26 = .ok (.iload 4, 2) := dk_21 4 (dk_at dksX9_isWord_1 2 rfl rfl)
theorem dX9_isWord_28 : decode cX9_isWord 28 = .ok (.aload_n 1, 1) := dk_43 (dk_at dksX9_isWord_1 4 rfl rfl)
theorem dX9_isWord_29 : decode cX9_isWord 29 = .ok (.invokevirtual 56, 3) := dk_182 0 56 (dk_at dksX9_isWord_1 5 rfl rfl)
theorem dX9_isWord_32 : decode cX9_isWord 32 = .ok (.if_icmp .ge 22, 3) := dk_162 0 22 (dk_at dksX9_isWord_1 8 rfl rfl)
theorem dX9_isWord_35 : decode cX9_isWord 35 = .ok (.lload_n 2, 1) := dk_32 (dk_at dksX9_isWord_1 11 rfl rfl)
theorem dX9_isWord_36 : decode cX9_isWord 36 = .ok (.bipush 8, 2) := dk_16 8 (dk_at dksX9_isWord_1 12 rfl rfl)
theorem dX9_isWord_38 : decode cX9_isWord 38 = .ok (.lshl, 1) := dk_121 (dk_at dksX9_isWord_1 14 rfl rfl)
theorem dX9_isWord_39 : decode cX9_isWord 39 = .ok (.aload_n 1, 1) := dk_43 (dk_at dksX9_isWord_1 15 rfl rfl)
theorem dX9_isWord_40 : decode cX9_isWord 40 = .ok (.iload 4, 2) := dk_21 4 (dk_at dksX9_isWord_1 16 rfl rfl)
theorem dX9_isWord_42 : decode cX9_isWord 42 = .ok (.invokevirtual 60, 3) := dk_182 0 60 (dk_at dksX9_isWord_1 18 rfl rfl)
theorem dX9_isWord_45 : decode cX9_isWord 45 = .ok (.i2l, 1) := dk_133 (dk_at dksX9_isWord_1 21 rfl rfl)
theorem dX9_isWord_46 : decode cX9_isWord 46 = .ok (.lor, 1) := dk_129 (dk_at dksX9_isWord_1 22 rfl rfl)
theorem dX9_isWord_47 : decode cX9_isWord 47 = .ok (.lstore_n 2, 1) := dk_65 (dk_at dksX9_isWord_1 23 rfl rfl)
theorem dX9_isWord_48 : decode cX9_isWord 48 = .ok (.iinc 4 1, 3) := dk_132 4 1 (dk_at dksX9_isWord_2 0 rfl rfl)
theorem dX9_isWord_51 : decode cX9_isWord 51 = .ok (.goto (-25), 3) := dk_167 255 231 (dk_at dksX9_isWord_2 3 rfl rfl)
theorem dX9_isWord_54 : decode cX9_isWord 54 = .ok (.lload_n 2, 1) := dk_32 (dk_at dksX9_isWord_2 6 rfl rfl)
theorem dX9_isWord_55 : decode cX9_isWord 55 = .ok (.aload_n 0, 1) := dk_42 (dk_at dksX9_isWord_2 7 rfl rfl)
theorem dX9_isWord_56 : decode cX9_isWord 56 = .ok (.getfield 46, 3) := dk_180 0 46 (dk_at dksX9_isWord_2 8 rfl rfl)
theorem dX9_isWord_59 : decode cX9_isWord 59 = .ok (.lcmp, 1) := dk_148 (dk_at dksX9_isWord_2 11 rfl rfl)
theorem dX9_isWord_60 : decode cX9_isWord 60 = .ok (.ifCond .ne 7, 3) := dk_154 0 7 (dk_at dksX9_isWord_2 12 rfl rfl)
theorem dX9_isWord_63 : decode cX9_isWord 63 = .ok (.iconst 1, 1) := dk_4 (dk_at dksX9_isWord_2 15 rfl rfl)
theorem dX9_isWord_64 : decode cX9_isWord 64 = .ok (.goto 4, 3) := dk_167 0 4 (dk_at dksX9_isWord_2 16 rfl rfl)
theorem dX9_isWord_67 : decode cX9_isWord 67 = .ok (.iconst 0, 1) := dk_3 (dk_at dksX9_isWord_2 19 rfl rfl)
theorem dX9_isWord_68 : decode cX9_isWord 68 = .ok (.ireturn, 1) := dk_172 (dk_at dksX9_isWord_2 20 rfl rfl)
abbrev cX9_wrong : ByteArray := prog_17_method_6_code
def yX9_wrong : MethodName := ⟨RX9, "wrong", "()LPretendDesk$Wrong;"⟩
def dkwX9_wrong_0 : List UInt8 := [187, 0, 64, 89, 42, 180, 0, 36, 183, 0, 66, 176]
abbrev dktX9_wrong_0 : List UInt8 := dkwX9_wrong_0 ++ []
theorem dksX9_wrong_0 : cX9_wrong.data.toList.drop 0 = dktX9_wrong_0 := by decide +kernel
theorem dX9_wrong_0 : decode cX9_wrong 0 = .ok (.new 64, 3) := dk_187 0 64 (dk_at dksX9_wrong_0 0 rfl rfl)
theorem dX9_wrong_3 : decode cX9_wrong 3 = .ok (.dup, 1) := dk_89 (dk_at dksX9_wrong_0 3 rfl rfl)
theorem dX9_wrong_4 : decode cX9_wrong 4 = .ok (.aload_n 0, 1) := dk_42 (dk_at dksX9_wrong_0 4 rfl rfl)
theorem dX9_wrong_5 : decode cX9_wrong 5 = .ok (.getfield 36, 3) := dk_180 0 36 (dk_at dksX9_wrong_0 5 rfl rfl)
theorem dX9_wrong_8 : decode cX9_wrong 8 = .ok (.invokespecial 66, 3) := dk_183 0 66 (dk_at dksX9_wrong_0 8 rfl rfl)
theorem dX9_wrong_11 : decode cX9_wrong 11 = .ok (.areturn, 1) := dk_176 (dk_at dksX9_wrong_0 11 rfl rfl)
abbrev cX9_note : ByteArray := prog_17_method_7_code
def yX9_note : MethodName := ⟨RX9, "note", "(II)V"⟩
def dkwX9_note_1 : List UInt8 := [180, 0, 69, 27, 163, 0, 4, 177, 42, 27, 181, 0, 69, 42, 28, 181, 0, 72, 177]
abbrev dktX9_note_1 : List UInt8 := dkwX9_note_1 ++ []
def dkwX9_note_0 : List UInt8 := [42, 180, 0, 69, 158, 0, 28, 42, 180, 0, 72, 28, 161, 0, 19, 42, 180, 0, 72, 28, 160, 0, 12, 42]
abbrev dktX9_note_0 : List UInt8 := dkwX9_note_0 ++ dktX9_note_1
theorem dksX9_note_0 : cX9_note.data.toList.drop 0 = dktX9_note_0 := by decide +kernel
theorem dksX9_note_1 : cX9_note.data.toList.drop 24 = dktX9_note_1 := dk_seg dksX9_note_0 24 rfl rfl
theorem dX9_note_0 : decode cX9_note 0 = .ok (.aload_n 0, 1) := dk_42 (dk_at dksX9_note_0 0 rfl rfl)
theorem dX9_note_1 : decode cX9_note 1 = .ok (.getfield 69, 3) := dk_180 0 69 (dk_at dksX9_note_0 1 rfl rfl)
theorem dX9_note_4 : decode cX9_note 4 = .ok (.ifCond .le 28, 3) := dk_158 0 28 (dk_at dksX9_note_0 4 rfl rfl)
theorem dX9_note_7 : decode cX9_note 7 = .ok (.aload_n 0, 1) := dk_42 (dk_at dksX9_note_0 7 rfl rfl)
theorem dX9_note_8 : decode cX9_note 8 = .ok (.getfield 72, 3) := dk_180 0 72 (dk_at dksX9_note_0 8 rfl rfl)
theorem dX9_note_11 : decode cX9_note 11 = .ok (.iload_n 2, 1) := dk_28 (dk_at dksX9_note_0 11 rfl rfl)
theorem dX9_note_12 : decode cX9_note 12 = .ok (.if_icmp .lt 19, 3) := dk_161 0 19 (dk_at dksX9_note_0 12 rfl rfl)
theorem dX9_note_15 : decode cX9_note 15 = .ok (.aload_n 0, 1) := dk_42 (dk_at dksX9_note_0 15 rfl rfl)
theorem dX9_note_16 : decode cX9_note 16 = .ok (.getfield 72, 3) := dk_180 0 72 (dk_at dksX9_note_0 16 rfl rfl)
theorem dX9_note_19 : decode cX9_note 19 = .ok (.iload_n 2, 1) := dk_28 (dk_at dksX9_note_0 19 rfl rfl)
theorem dX9_note_20 : decode cX9_note 20 = .ok (.if_icmp .ne 12, 3) := dk_160 0 12 (dk_at dksX9_note_0 20 rfl rfl)
theorem dX9_note_23 : decode cX9_note 23 = .ok (.aload_n 0, 1) := dk_42 (dk_at dksX9_note_0 23 rfl rfl)
theorem dX9_note_24 : decode cX9_note 24 = .ok (.getfield 69, 3) := dk_180 0 69 (dk_at dksX9_note_1 0 rfl rfl)
theorem dX9_note_27 : decode cX9_note 27 = .ok (.iload_n 1, 1) := dk_27 (dk_at dksX9_note_1 3 rfl rfl)
theorem dX9_note_28 : decode cX9_note 28 = .ok (.if_icmp .gt 4, 3) := dk_163 0 4 (dk_at dksX9_note_1 4 rfl rfl)
theorem dX9_note_31 : decode cX9_note 31 = .ok (.return_, 1) := dk_177 (dk_at dksX9_note_1 7 rfl rfl)
theorem dX9_note_32 : decode cX9_note 32 = .ok (.aload_n 0, 1) := dk_42 (dk_at dksX9_note_1 8 rfl rfl)
theorem dX9_note_33 : decode cX9_note 33 = .ok (.iload_n 1, 1) := dk_27 (dk_at dksX9_note_1 9 rfl rfl)
theorem dX9_note_34 : decode cX9_note 34 = .ok (.putfield 69, 3) := dk_181 0 69 (dk_at dksX9_note_1 10 rfl rfl)
theorem dX9_note_37 : decode cX9_note 37 = .ok (.aload_n 0, 1) := dk_42 (dk_at dksX9_note_1 13 rfl rfl)
theorem dX9_note_38 : decode cX9_note 38 = .ok (.iload_n 2, 1) := dk_28 (dk_at dksX9_note_1 14 rfl rfl)
theorem dX9_note_39 : decode cX9_note 39 = .ok (.putfield 72, 3) := dk_181 0 72 (dk_at dksX9_note_1 15 rfl rfl)
theorem dX9_note_42 : decode cX9_note 42 = .ok (.return_, 1) := dk_177 (dk_at dksX9_note_1 18 rfl rfl)
abbrev cX9_number : ByteArray := prog_17_method_8_code
def yX9_number : MethodName := ⟨RX9, "number", "(I)I"⟩
def dkwX9_number_1 : List UInt8 := [154, 0, 12, 42, 5, 42, 180, 0, 36, 182, 0, 79, 42, 182, 0, 83, 28, 172]
abbrev dktX9_number_1 : List UInt8 := dkwX9_number_1 ++ []
def dkwX9_number_0 : List UInt8 := [42, 180, 0, 53, 6, 159, 0, 8, 42, 182, 0, 75, 191, 42, 180, 0, 39, 61, 28, 3, 27, 184, 0, 42]
abbrev dktX9_number_0 : List UInt8 := dkwX9_number_0 ++ dktX9_number_1
theorem dksX9_number_0 : cX9_number.data.toList.drop 0 = dktX9_number_0 := by decide +kernel
theorem dksX9_number_1 : cX9_number.data.toList.drop 24 = dktX9_number_1 := dk_seg dksX9_number_0 24 rfl rfl
theorem dX9_number_0 : decode cX9_number 0 = .ok (.aload_n 0, 1) := dk_42 (dk_at dksX9_number_0 0 rfl rfl)
theorem dX9_number_1 : decode cX9_number 1 = .ok (.getfield 53, 3) := dk_180 0 53 (dk_at dksX9_number_0 1 rfl rfl)
theorem dX9_number_4 : decode cX9_number 4 = .ok (.iconst 3, 1) := dk_6 (dk_at dksX9_number_0 4 rfl rfl)
theorem dX9_number_5 : decode cX9_number 5 = .ok (.if_icmp .eq 8, 3) := dk_159 0 8 (dk_at dksX9_number_0 5 rfl rfl)
theorem dX9_number_8 : decode cX9_number 8 = .ok (.aload_n 0, 1) := dk_42 (dk_at dksX9_number_0 8 rfl rfl)
theorem dX9_number_9 : decode cX9_number 9 = .ok (.invokevirtual 75, 3) := dk_182 0 75 (dk_at dksX9_number_0 9 rfl rfl)
theorem dX9_number_12 : decode cX9_number 12 = .ok (.athrow, 1) := dk_191 (dk_at dksX9_number_0 12 rfl rfl)
theorem dX9_number_13 : decode cX9_number 13 = .ok (.aload_n 0, 1) := dk_42 (dk_at dksX9_number_0 13 rfl rfl)
theorem dX9_number_14 : decode cX9_number 14 = .ok (.getfield 39, 3) := dk_180 0 39 (dk_at dksX9_number_0 14 rfl rfl)
theorem dX9_number_17 : decode cX9_number 17 = .ok (.istore_n 2, 1) := dk_61 (dk_at dksX9_number_0 17 rfl rfl)
theorem dX9_number_18 : decode cX9_number 18 = .ok (.iload_n 2, 1) := dk_28 (dk_at dksX9_number_0 18 rfl rfl)
theorem dX9_number_19 : decode cX9_number 19 = .ok (.iconst 0, 1) := dk_3 (dk_at dksX9_number_0 19 rfl rfl)
theorem dX9_number_20 : decode cX9_number 20 = .ok (.iload_n 1, 1) := dk_27 (dk_at dksX9_number_0 20 rfl rfl)
theorem dX9_number_21 : decode cX9_number 21 = .ok (.invokestatic 42, 3) := dk_184 0 42 (dk_at dksX9_number_0 21 rfl rfl)
theorem dX9_number_24 : decode cX9_number 24 = .ok (.ifCond .ne 12, 3) := dk_154 0 12 (dk_at dksX9_number_1 0 rfl rfl)
theorem dX9_number_27 : decode cX9_number 27 = .ok (.aload_n 0, 1) := dk_42 (dk_at dksX9_number_1 3 rfl rfl)
theorem dX9_number_28 : decode cX9_number 28 = .ok (.iconst 2, 1) := dk_5 (dk_at dksX9_number_1 4 rfl rfl)
theorem dX9_number_29 : decode cX9_number 29 = .ok (.aload_n 0, 1) := dk_42 (dk_at dksX9_number_1 5 rfl rfl)
theorem dX9_number_30 : decode cX9_number 30 = .ok (.getfield 36, 3) := dk_180 0 36 (dk_at dksX9_number_1 6 rfl rfl)
theorem dX9_number_33 : decode cX9_number 33 = .ok (.invokevirtual 79, 3) := dk_182 0 79 (dk_at dksX9_number_1 9 rfl rfl)
theorem dX9_number_36 : decode cX9_number 36 = .ok (.aload_n 0, 1) := dk_42 (dk_at dksX9_number_1 12 rfl rfl)
theorem dX9_number_37 : decode cX9_number 37 = .ok (.invokevirtual 83, 3) := dk_182 0 83 (dk_at dksX9_number_1 13 rfl rfl)
theorem dX9_number_40 : decode cX9_number 40 = .ok (.iload_n 2, 1) := dk_28 (dk_at dksX9_number_1 16 rfl rfl)
theorem dX9_number_41 : decode cX9_number 41 = .ok (.ireturn, 1) := dk_172 (dk_at dksX9_number_1 17 rfl rfl)
abbrev cX9_isSign : ByteArray := prog_17_method_5_code
def yX9_isSign : MethodName := ⟨RX9, "isSign", "(I)Z"⟩
def dkwX9_isSign_0 : List UInt8 := [42, 180, 0, 53, 7, 160, 0, 15, 42, 180, 0, 39, 27, 160, 0, 7, 4, 167, 0, 4, 3, 172]
abbrev dktX9_isSign_0 : List UInt8 := dkwX9_isSign_0 ++ []
theorem dksX9_isSign_0 : cX9_isSign.data.toList.drop 0 = dktX9_isSign_0 := by decide +kernel
theorem dX9_isSign_0 : decode cX9_isSign 0 = .ok (.aload_n 0, 1) := dk_42 (dk_at dksX9_isSign_0 0 rfl rfl)
theorem dX9_isSign_1 : decode cX9_isSign 1 = .ok (.getfield 53, 3) := dk_180 0 53 (dk_at dksX9_isSign_0 1 rfl rfl)
theorem dX9_isSign_4 : decode cX9_isSign 4 = .ok (.iconst 4, 1) := dk_7 (dk_at dksX9_isSign_0 4 rfl rfl)
theorem dX9_isSign_5 : decode cX9_isSign 5 = .ok (.if_icmp .ne 15, 3) := dk_160 0 15 (dk_at dksX9_isSign_0 5 rfl rfl)
theorem dX9_isSign_8 : decode cX9_isSign 8 = .ok (.aload_n 0, 1) := dk_42 (dk_at dksX9_isSign_0 8 rfl rfl)
theorem dX9_isSign_9 : decode cX9_isSign 9 = .ok (.getfield 39, 3) := dk_180 0 39 (dk_at dksX9_isSign_0 9 rfl rfl)
theorem dX9_isSign_12 : decode cX9_isSign 12 = .ok (.iload_n 1, 1) := dk_27 (dk_at dksX9_isSign_0 12 rfl rfl)
theorem dX9_isSign_13 : decode cX9_isSign 13 = .ok (.if_icmp .ne 7, 3) := dk_160 0 7 (dk_at dksX9_isSign_0 13 rfl rfl)
theorem dX9_isSign_16 : decode cX9_isSign 16 = .ok (.iconst 1, 1) := dk_4 (dk_at dksX9_isSign_0 16 rfl rfl)
theorem dX9_isSign_17 : decode cX9_isSign 17 = .ok (.goto 4, 3) := dk_167 0 4 (dk_at dksX9_isSign_0 17 rfl rfl)
theorem dX9_isSign_20 : decode cX9_isSign 20 = .ok (.iconst 0, 1) := dk_3 (dk_at dksX9_isSign_0 20 rfl rfl)
theorem dX9_isSign_21 : decode cX9_isSign 21 = .ok (.ireturn, 1) := dk_172 (dk_at dksX9_isSign_0 21 rfl rfl)
abbrev cX9_pass : ByteArray := prog_17_method_10_code
def yX9_pass : MethodName := ⟨RX9, "pass", "(Ljava/lang/String;)V"⟩
def dkwX9_pass_0 : List UInt8 := [42, 43, 182, 0, 90, 154, 0, 8, 42, 182, 0, 75, 191, 42, 182, 0, 83, 177]
abbrev dktX9_pass_0 : List UInt8 := dkwX9_pass_0 ++ []
theorem dksX9_pass_0 : cX9_pass.data.toList.drop 0 = dktX9_pass_0 := by decide +kernel
theorem dX9_pass_0 : decode cX9_pass 0 = .ok (.aload_n 0, 1) := dk_42 (dk_at dksX9_pass_0 0 rfl rfl)
theorem dX9_pass_1 : decode cX9_pass 1 = .ok (.aload_n 1, 1) := dk_43 (dk_at dksX9_pass_0 1 rfl rfl)
theorem dX9_pass_2 : decode cX9_pass 2 = .ok (.invokevirtual 90, 3) := dk_182 0 90 (dk_at dksX9_pass_0 2 rfl rfl)
theorem dX9_pass_5 : decode cX9_pass 5 = .ok (.ifCond .ne 8, 3) := dk_154 0 8 (dk_at dksX9_pass_0 5 rfl rfl)
theorem dX9_pass_8 : decode cX9_pass 8 = .ok (.aload_n 0, 1) := dk_42 (dk_at dksX9_pass_0 8 rfl rfl)
theorem dX9_pass_9 : decode cX9_pass 9 = .ok (.invokevirtual 75, 3) := dk_182 0 75 (dk_at dksX9_pass_0 9 rfl rfl)
theorem dX9_pass_12 : decode cX9_pass 12 = .ok (.athrow, 1) := dk_191 (dk_at dksX9_pass_0 12 rfl rfl)
theorem dX9_pass_13 : decode cX9_pass 13 = .ok (.aload_n 0, 1) := dk_42 (dk_at dksX9_pass_0 13 rfl rfl)
theorem dX9_pass_14 : decode cX9_pass 14 = .ok (.invokevirtual 83, 3) := dk_182 0 83 (dk_at dksX9_pass_0 14 rfl rfl)
theorem dX9_pass_17 : decode cX9_pass 17 = .ok (.return_, 1) := dk_177 (dk_at dksX9_pass_0 17 rfl rfl)
theorem q110 : (Jvm.Cond.initialized "PretendDesk$Tokens") ∈ lw_all := lw_g (lw_at lw_m1 11 rfl) rfl
theorem q221 : (Jvm.Cond.fieldLink "PretendDesk$Tokens" (26 : Nat) "PretendDesk$Desk" "tape" "[B") ∈ lw_all := lw_g (lw_at lw_m1 122 rfl) rfl
theorem q398 : (Jvm.Cond.fieldLinkNest "PretendDesk$Tokens" (86 : Nat) "PretendDesk" "kinds" "[Ljava/lang/String;" "PretendDesk") ∈ lw_tbl := lw_at lw_m2 59 rfl
theorem q401 : (Jvm.Cond.fieldLinkNest "PretendDesk$Tokens" (22 : Nat) "PretendDesk" "desk" "LPretendDesk$Desk;" "PretendDesk") ∈ lw_tbl := lw_at lw_m2 62 rfl
theorem q543 : (Jvm.Cond.instanceMethod ({ cls := "PretendDesk$Tokens", name := "<init>", desc := "(LPretendDesk;I)V" } : Jvm.MethodName)) ∈ lw_all := lw_g (lw_at lw_m2 204 rfl) rfl
theorem q544 : (Jvm.Cond.code ({ cls := "PretendDesk$Tokens", name := "<init>", desc := "(LPretendDesk;I)V" } : Jvm.MethodName) prog_17_method_1_code (3 : Nat) (Option.none : Option Jvm.ClassFile.FieldType)) ∈ lw_all := lw_g (lw_at lw_m2 205 rfl) rfl
theorem q545 : (Jvm.Cond.methodLink "PretendDesk$Tokens" (9 : Nat) ({ cls := "java/lang/Object", name := "<init>", desc := "()V" } : Jvm.MethodName)) ∈ lw_all := lw_g (lw_at lw_m2 206 rfl) rfl
theorem q570 : (Jvm.Cond.fieldLink "PretendDesk$Tokens" (15 : Nat) "PretendDesk$Tokens" "length" "I") ∈ lw_all := lw_g (lw_at lw_m2 231 rfl) rfl
theorem q571 : (Jvm.Cond.fieldLink "PretendDesk$Tokens" (19 : Nat) "PretendDesk$Tokens" "at" "I") ∈ lw_all := lw_g (lw_at lw_m2 232 rfl) rfl
theorem q572 : (Jvm.Cond.fieldLink "PretendDesk$Tokens" (50 : Nat) "PretendDesk$Tokens" "letters" "I") ∈ lw_all := lw_g (lw_at lw_m2 233 rfl) rfl
theorem q573 : (Jvm.Cond.fieldLink "PretendDesk$Tokens" (46 : Nat) "PretendDesk$Tokens" "word" "J") ∈ lw_all := lw_g (lw_at lw_m2 234 rfl) rfl
theorem q578 : (Jvm.Cond.fieldLink "PretendDesk$Tokens" (53 : Nat) "PretendDesk$Tokens" "sort" "I") ∈ lw_all := lw_g (lw_at lw_m2 239 rfl) rfl
theorem q579 : (Jvm.Cond.fieldLink "PretendDesk$Tokens" (36 : Nat) "PretendDesk$Tokens" "place" "I") ∈ lw_all := lw_g (lw_at lw_m3 0 rfl) rfl
theorem q584 : (Jvm.Cond.fieldLink "PretendDesk$Tokens" (39 : Nat) "PretendDesk$Tokens" "value" "I") ∈ lw_all := lw_g (lw_at lw_m3 5 rfl) rfl
theorem q585 : (Jvm.Cond.fieldLink "PretendDesk$Tokens" (69 : Nat) "PretendDesk$Tokens" "fault" "I") ∈ lw_all := lw_g (lw_at lw_m3 6 rfl) rfl
theorem q590 : (Jvm.Cond.fieldLink "PretendDesk$Tokens" (72 : Nat) "PretendDesk$Tokens" "faultPlace" "I") ∈ lw_all := lw_g (lw_at lw_m3 11 rfl) rfl
theorem q595 : (Jvm.Cond.fieldLink "PretendDesk$Tokens" (3 : Nat) "PretendDesk$Tokens" "this$0" "LPretendDesk;") ∈ lw_all := lw_g (lw_at lw_m3 16 rfl) rfl
theorem q601 : (Jvm.Cond.soleField "PretendDesk$Tokens" "length") ∈ lw_all := lw_g (lw_at lw_m3 22 rfl) rfl
theorem q603 : (Jvm.Cond.soleField "PretendDesk$Tokens" "at") ∈ lw_all := lw_g (lw_at lw_m3 24 rfl) rfl
theorem q605 : (Jvm.Cond.soleField "PretendDesk$Tokens" "letters") ∈ lw_all := lw_g (lw_at lw_m3 26 rfl) rfl
theorem q607 : (Jvm.Cond.soleField "PretendDesk$Tokens" "word") ∈ lw_all := lw_g (lw_at lw_m3 28 rfl) rfl
theorem q609 : (Jvm.Cond.soleField "PretendDesk$Tokens" "sort") ∈ lw_all := lw_g (lw_at lw_m3 30 rfl) rfl
theorem q611 : (Jvm.Cond.soleField "PretendDesk$Tokens" "place") ∈ lw_all := lw_g (lw_at lw_m3 32 rfl) rfl
theorem q613 : (Jvm.Cond.soleField "PretendDesk$Tokens" "value") ∈ lw_all := lw_g (lw_at lw_m3 34 rfl) rfl
theorem q615 : (Jvm.Cond.soleField "PretendDesk$Tokens" "fault") ∈ lw_all := lw_g (lw_at lw_m3 36 rfl) rfl
theorem q617 : (Jvm.Cond.soleField "PretendDesk$Tokens" "faultPlace") ∈ lw_all := lw_g (lw_at lw_m3 38 rfl) rfl
theorem q619 : (Jvm.Cond.soleField "PretendDesk$Tokens" "this$0") ∈ lw_all := lw_g (lw_at lw_m3 40 rfl) rfl
theorem q627 : (Jvm.Cond.declares ({ cls := "PretendDesk$Tokens", name := "next", desc := "()V" } : Jvm.MethodName)) ∈ lw_tbl := lw_at lw_m3 48 rfl
theorem q629 : (Jvm.Cond.instanceMethod ({ cls := "PretendDesk$Tokens", name := "next", desc := "()V" } : Jvm.MethodName)) ∈ lw_all := lw_g (lw_at lw_m3 50 rfl) rfl
theorem q630 : (Jvm.Cond.code ({ cls := "PretendDesk$Tokens", name := "next", desc := "()V" } : Jvm.MethodName) prog_17_method_3_code (2 : Nat) (Option.none : Option Jvm.ClassFile.FieldType)) ∈ lw_all := lw_g (lw_at lw_m3 51 rfl) rfl
theorem q631 : (Jvm.Cond.methodLink "PretendDesk$Tokens" (32 : Nat) ({ cls := "PretendDesk$Tokens", name := "see", desc := "()I" } : Jvm.MethodName)) ∈ lw_all := lw_g (lw_at lw_m3 52 rfl) rfl
theorem q632 : (Jvm.Cond.privateMethod ({ cls := "PretendDesk$Tokens", name := "see", desc := "()I" } : Jvm.MethodName)) ∈ lw_tbl := lw_at lw_m3 53 rfl
theorem q633 : (Jvm.Cond.instanceMethod ({ cls := "PretendDesk$Tokens", name := "see", desc := "()I" } : Jvm.MethodName)) ∈ lw_all := lw_g (lw_at lw_m3 54 rfl) rfl
theorem q634 : (Jvm.Cond.instantiable "PretendDesk$Tokens" (10 : Nat)) ∈ lw_all := lw_g (lw_at lw_m3 55 rfl) rfl
theorem q635 : (Jvm.Cond.code ({ cls := "PretendDesk$Tokens", name := "see", desc := "()I" } : Jvm.MethodName) prog_17_method_2_code (1 : Nat) (Option.some Jvm.ClassFile.FieldType.int)) ∈ lw_all := lw_g (lw_at lw_m3 56 rfl) rfl
theorem q636 : (Jvm.Cond.methodLinkNest "PretendDesk$Tokens" (42 : Nat) ({ cls := "PretendDesk", name := "in", desc := "(III)Z" } : Jvm.MethodName) "PretendDesk") ∈ lw_tbl := lw_at lw_m3 57 rfl
theorem q643 : (Jvm.Cond.declares ({ cls := "PretendDesk$Tokens", name := "kind", desc := "()I" } : Jvm.MethodName)) ∈ lw_tbl := lw_at lw_m3 64 rfl
theorem q645 : (Jvm.Cond.instanceMethod ({ cls := "PretendDesk$Tokens", name := "kind", desc := "()I" } : Jvm.MethodName)) ∈ lw_all := lw_g (lw_at lw_m3 66 rfl) rfl
theorem q646 : (Jvm.Cond.code ({ cls := "PretendDesk$Tokens", name := "kind", desc := "()I" } : Jvm.MethodName) prog_17_method_9_code (2 : Nat) (Option.some Jvm.ClassFile.FieldType.int)) ∈ lw_all := lw_g (lw_at lw_m3 67 rfl) rfl
theorem q647 : (Jvm.Cond.methodLink "PretendDesk$Tokens" (90 : Nat) ({ cls := "PretendDesk$Tokens", name := "isWord", desc := "(Ljava/lang/String;)Z" } : Jvm.MethodName)) ∈ lw_all := lw_g (lw_at lw_m3 68 rfl) rfl
theorem q648 : (Jvm.Cond.instanceMethod ({ cls := "PretendDesk$Tokens", name := "isWord", desc := "(Ljava/lang/String;)Z" } : Jvm.MethodName)) ∈ lw_all := lw_g (lw_at lw_m3 69 rfl) rfl
theorem q649 : (Jvm.Cond.sameMethod "PretendDesk$Tokens" "PretendDesk$Tokens" "isWord" "(Ljava/lang/String;)Z") ∈ lw_all := lw_g (lw_at lw_m3 70 rfl) rfl
theorem q652 : (Jvm.Cond.code ({ cls := "PretendDesk$Tokens", name := "isWord", desc := "(Ljava/lang/String;)Z" } : Jvm.MethodName) prog_17_method_4_code (5 : Nat) (Option.some Jvm.ClassFile.FieldType.boolean)) ∈ lw_all := lw_g (lw_at lw_m3 73 rfl) rfl
theorem q653 : (Jvm.Cond.methodLink "PretendDesk$Tokens" (56 : Nat) ({ cls := "java/lang/String", name := "length", desc := "()I" } : Jvm.MethodName)) ∈ lw_all := lw_g (lw_at lw_m3 74 rfl) rfl
theorem q663 : (Jvm.Cond.methodLink "PretendDesk$Tokens" (60 : Nat) ({ cls := "java/lang/String", name := "charAt", desc := "(I)C" } : Jvm.MethodName)) ∈ lw_all := lw_g (lw_at lw_m3 84 rfl) rfl
theorem q703 : (Jvm.Cond.declares ({ cls := "PretendDesk$Tokens", name := "wrong", desc := "()LPretendDesk$Wrong;" } : Jvm.MethodName)) ∈ lw_tbl := lw_at lw_m3 124 rfl
theorem q705 : (Jvm.Cond.instanceMethod ({ cls := "PretendDesk$Tokens", name := "wrong", desc := "()LPretendDesk$Wrong;" } : Jvm.MethodName)) ∈ lw_all := lw_g (lw_at lw_m3 126 rfl) rfl
theorem q706 : (Jvm.Cond.code ({ cls := "PretendDesk$Tokens", name := "wrong", desc := "()LPretendDesk$Wrong;" } : Jvm.MethodName) prog_17_method_6_code (1 : Nat) (Option.some (Jvm.ClassFile.FieldType.object "PretendDesk$Wrong"))) ∈ lw_all := lw_g (lw_at lw_m3 127 rfl) rfl
theorem q707 : (Jvm.Cond.classLink "PretendDesk$Tokens" (64 : Nat) "PretendDesk$Wrong") ∈ lw_all := lw_g (lw_at lw_m3 128 rfl) rfl
theorem q744 : (Jvm.Cond.methodLink "PretendDesk$Tokens" (66 : Nat) ({ cls := "PretendDesk$Wrong", name := "<init>", desc := "(I)V" } : Jvm.MethodName)) ∈ lw_all := lw_g (lw_at lw_m3 165 rfl) rfl
theorem q769 : (Jvm.Cond.declares ({ cls := "PretendDesk$Tokens", name := "note", desc := "(II)V" } : Jvm.MethodName)) ∈ lw_tbl := lw_at lw_m3 190 rfl
theorem q771 : (Jvm.Cond.instanceMethod ({ cls := "PretendDesk$Tokens", name := "note", desc := "(II)V" } : Jvm.MethodName)) ∈ lw_all := lw_g (lw_at lw_m3 192 rfl) rfl
theorem q772 : (Jvm.Cond.code ({ cls := "PretendDesk$Tokens", name := "note", desc := "(II)V" } : Jvm.MethodName) prog_17_method_7_code (3 : Nat) (Option.none : Option Jvm.ClassFile.FieldType)) ∈ lw_all := lw_g (lw_at lw_m3 193 rfl) rfl
theorem q809 : (Jvm.Cond.declares ({ cls := "PretendDesk$Tokens", name := "number", desc := "(I)I" } : Jvm.MethodName)) ∈ lw_tbl := lw_at lw_m3 230 rfl
theorem q811 : (Jvm.Cond.instanceMethod ({ cls := "PretendDesk$Tokens", name := "number", desc := "(I)I" } : Jvm.MethodName)) ∈ lw_all := lw_g (lw_at lw_m3 232 rfl) rfl
theorem q812 : (Jvm.Cond.code ({ cls := "PretendDesk$Tokens", name := "number", desc := "(I)I" } : Jvm.MethodName) prog_17_method_8_code (3 : Nat) (Option.some Jvm.ClassFile.FieldType.int)) ∈ lw_all := lw_g (lw_at lw_m3 233 rfl) rfl
theorem q813 : (Jvm.Cond.methodLink "PretendDesk$Tokens" (75 : Nat) ({ cls := "PretendDesk$Tokens", name := "wrong", desc := "()LPretendDesk$Wrong;" } : Jvm.MethodName)) ∈ lw_all := lw_g (lw_at lw_m3 234 rfl) rfl
theorem q814 : (Jvm.Cond.methodLink "PretendDesk$Tokens" (79 : Nat) ({ cls := "PretendDesk$Tokens", name := "note", desc := "(II)V" } : Jvm.MethodName)) ∈ lw_all := lw_g (lw_at lw_m3 235 rfl) rfl
theorem q815 : (Jvm.Cond.methodLink "PretendDesk$Tokens" (83 : Nat) ({ cls := "PretendDesk$Tokens", name := "next", desc := "()V" } : Jvm.MethodName)) ∈ lw_all := lw_g (lw_at lw_m3 236 rfl) rfl
theorem q819 : (Jvm.Cond.declares ({ cls := "PretendDesk$Tokens", name := "isWord", desc := "(Ljava/lang/String;)Z" } : Jvm.MethodName)) ∈ lw_tbl := lw_at lw_m4 0 rfl
theorem q824 : (Jvm.Cond.declares ({ cls := "PretendDesk$Tokens", name := "isSign", desc := "(I)Z" } : Jvm.MethodName)) ∈ lw_tbl := lw_at lw_m4 5 rfl
theorem q826 : (Jvm.Cond.instanceMethod ({ cls := "PretendDesk$Tokens", name := "isSign", desc := "(I)Z" } : Jvm.MethodName)) ∈ lw_all := lw_g (lw_at lw_m4 7 rfl) rfl
theorem q827 : (Jvm.Cond.code ({ cls := "PretendDesk$Tokens", name := "isSign", desc := "(I)Z" } : Jvm.MethodName) prog_17_method_5_code (2 : Nat) (Option.some Jvm.ClassFile.FieldType.boolean)) ∈ lw_all := lw_g (lw_at lw_m4 8 rfl) rfl
theorem q1278 : (Jvm.Cond.declares ({ cls := "PretendDesk$Tokens", name := "pass", desc := "(Ljava/lang/String;)V" } : Jvm.MethodName)) ∈ lw_tbl := lw_at lw_m5 219 rfl
theorem q1280 : (Jvm.Cond.instanceMethod ({ cls := "PretendDesk$Tokens", name := "pass", desc := "(Ljava/lang/String;)V" } : Jvm.MethodName)) ∈ lw_all := lw_g (lw_at lw_m5 221 rfl) rfl
theorem q1281 : (Jvm.Cond.code ({ cls := "PretendDesk$Tokens", name := "pass", desc := "(Ljava/lang/String;)V" } : Jvm.MethodName) prog_17_method_10_code (2 : Nat) (Option.none : Option Jvm.ClassFile.FieldType)) ∈ lw_all := lw_g (lw_at lw_m5 222 rfl) rfl
theorem q2103 : (Jvm.Cond.sameMethod "PretendDesk$Tokens" "PretendDesk$Tokens" "see" "()I") ∈ lw_all := lw_g (lw_at lw_m9 84 rfl) rfl
theorem q2105 : (Jvm.Cond.sameMethod "PretendDesk$Tokens" "PretendDesk$Tokens" "wrong" "()LPretendDesk$Wrong;") ∈ lw_all := lw_g (lw_at lw_m9 86 rfl) rfl
theorem q2108 : (Jvm.Cond.sameMethod "PretendDesk$Tokens" "PretendDesk$Tokens" "note" "(II)V") ∈ lw_all := lw_g (lw_at lw_m9 89 rfl) rfl
theorem q2111 : (Jvm.Cond.sameMethod "PretendDesk$Tokens" "PretendDesk$Tokens" "next" "()V") ∈ lw_all := lw_g (lw_at lw_m9 92 rfl) rfl
/-! PretendDesk$Reader -/
set_option maxRecDepth 100000
def RX10 : String := "PretendDesk$Reader"
def TX10 : u_T := fun k => match k with
  | 0 => ("PretendDesk$Tokens", "length", "I", true)
  | 1 => ("PretendDesk$Tokens", "at", "I", false)
  | 2 => ("PretendDesk$Tokens", "letters", "I", false)
  | 3 => ("PretendDesk$Tokens", "word", "J", false)
  | 4 => ("PretendDesk$Tokens", "sort", "I", false)
  | 5 => ("PretendDesk$Tokens", "place", "I", false)
  | 6 => ("PretendDesk$Tokens", "value", "I", false)
  | 7 => ("PretendDesk$Tokens", "fault", "I", false)
  | 8 => ("PretendDesk$Tokens", "faultPlace", "I", false)
  | 9 => ("PretendDesk$Tokens", "this$0", "LPretendDesk;", true)
  | 10 => ("PretendDesk$Reader", "page", "LPretendDesk$Page;", true)
  | _ => ("PretendDesk$Reader", "this$0", "LPretendDesk;", true)
def tyX10 : Nat → FieldType := fun k => match k with
  | 0 => .int
  | 1 => .int
  | 2 => .int
  | 3 => .long
  | 4 => .int
  | 5 => .int
  | 6 => .int
  | 7 => .int
  | 8 => .int
  | 9 => .object "PretendDesk"
  | 10 => .object "PretendDesk$Page"
  | _ => .object "PretendDesk"
abbrev wsX100 : List Cond := u_ws RX10 TX10 12
-- two fields of one name: no nmX10
theorem tyX10_ok : ∀ k, k < 12 → parseFieldDescriptor (TX10 k).2.2.1 = some (tyX10 k) := by decide +kernel
abbrev cX10_init : ByteArray := prog_14_method_1_code
def yX10_init : MethodName := ⟨RX10, "<init>", "(LPretendDesk;I)V"⟩
def dkwX10_init_0 : List UInt8 := [42, 43, 181, 0, 3, 42, 43, 28, 183, 0, 9, 42, 187, 0, 15, 89, 183, 0, 17, 181, 0, 20, 177]
abbrev dktX10_init_0 : List UInt8 := dkwX10_init_0 ++ []
theorem dksX10_init_0 : cX10_init.data.toList.drop 0 = dktX10_init_0 := by decide +kernel
theorem dX10_init_0 : decode cX10_init 0 = .ok (.aload_n 0, 1) := dk_42 (dk_at dksX10_init_0 0 rfl rfl)
theorem dX10_init_1 : decode cX10_init 1 = .ok (.aload_n 1, 1) := dk_43 (dk_at dksX10_init_0 1 rfl rfl)
theorem dX10_init_2 : decode cX10_init 2 = .ok (.putfield 3, 3) := dk_181 0 3 (dk_at dksX10_init_0 2 rfl rfl)
theorem dX10_init_5 : decode cX10_init 5 = .ok (.aload_n 0, 1) := dk_42 (dk_at dksX10_init_0 5 rfl rfl)
theorem dX10_init_6 : decode cX10_init 6 = .ok (.aload_n 1, 1) := dk_43 (dk_at dksX10_init_0 6 rfl rfl)
theorem dX10_init_7 : decode cX10_init 7 = .ok (.iload_n 2, 1) := dk_28 (dk_at dksX10_init_0 7 rfl rfl)
theorem dX10_init_8 : decode cX10_init 8 = .ok (.invokespecial 9, 3) := dk_183 0 9 (dk_at dksX10_init_0 8 rfl rfl)
theorem dX10_init_11 : decode cX10_init 11 = .ok (.aload_n 0, 1) := dk_42 (dk_at dksX10_init_0 11 rfl rfl)
theorem dX10_init_12 : decode cX10_init 12 = .ok (.new 15, 3) := dk_187 0 15 (dk_at dksX10_init_0 12 rfl rfl)
theorem dX10_init_15 : decode cX10_init 15 = .ok (.dup, 1) := dk_89 (dk_at dksX10_init_0 15 rfl rfl)
theorem dX10_init_16 : decode cX10_init 16 = .ok (.invokespecial 17, 3) := dk_183 0 17 (dk_at dksX10_init_0 16 rfl rfl)
theorem dX10_init_19 : decode cX10_init 19 = .ok (.putfield 20, 3) := dk_181 0 20 (dk_at dksX10_init_0 19 rfl rfl)
theorem dX10_init_22 : decode cX10_init 22 = .ok (.return_, 1) := dk_177 (dk_at dksX10_init_0 22 rfl rfl)
abbrev cX10_text : ByteArray := prog_14_method_2_code
def yX10_text : MethodName := ⟨RX10, "text", "()V"⟩
def dkwX10_text_0 : List UInt8 := [42, 182, 0, 24, 42, 2, 4, 182, 0, 27, 42, 180, 0, 31, 153, 0, 8, 42, 182, 0, 35, 191, 177]
abbrev dktX10_text_0 : List UInt8 := dkwX10_text_0 ++ []
theorem dksX10_text_0 : cX10_text.data.toList.drop 0 = dktX10_text_0 := by decide +kernel
theorem dX10_text_0 : decode cX10_text 0 = .ok (.aload_n 0, 1) := dk_42 (dk_at dksX10_text_0 0 rfl rfl)
theorem dX10_text_1 : decode cX10_text 1 = .ok (.invokevirtual 24, 3) := dk_182 0 24 (dk_at dksX10_text_0 1 rfl rfl)
theorem dX10_text_4 : decode cX10_text 4 = .ok (.aload_n 0, 1) := dk_42 (dk_at dksX10_text_0 4 rfl rfl)
theorem dX10_text_5 : decode cX10_text 5 = .ok (.iconst (-1), 1) := dk_2 (dk_at dksX10_text_0 5 rfl rfl)
theorem dX10_text_6 : decode cX10_text 6 = .ok (.iconst 1, 1) := dk_4 (dk_at dksX10_text_0 6 rfl rfl)
theorem dX10_text_7 : decode cX10_text 7 = .ok (.invokevirtual 27, 3) := dk_182 0 27 (dk_at dksX10_text_0 7 rfl rfl)
theorem dX10_text_10 : decode cX10_text 10 = .ok (.aload_n 0, 1) := dk_42 (dk_at dksX10_text_0 10 rfl rfl)
theorem dX10_text_11 : decode cX10_text 11 = .ok (.getfield 31, 3) := dk_180 0 31 (dk_at dksX10_text_0 11 rfl rfl)
theorem dX10_text_14 : decode cX10_text 14 = .ok (.ifCond .eq 8, 3) := dk_153 0 8 (dk_at dksX10_text_0 14 rfl rfl)
theorem dX10_text_17 : decode cX10_text 17 = .ok (.aload_n 0, 1) := dk_42 (dk_at dksX10_text_0 17 rfl rfl)
theorem dX10_text_18 : decode cX10_text 18 = .ok (.invokevirtual 35, 3) := dk_182 0 35 (dk_at dksX10_text_0 18 rfl rfl)
theorem dX10_text_21 : decode cX10_text 21 = .ok (.athrow, 1) := dk_191 (dk_at dksX10_text_0 21 rfl rfl)
theorem dX10_text_22 : decode cX10_text 22 = .ok (.return_, 1) := dk_177 (dk_at dksX10_text_0 22 rfl rfl)
abbrev cX10_box : ByteArray := prog_14_method_3_code
def yX10_box : MethodName := ⟨RX10, "box", "(II)V"⟩
def dkwX10_box_10 : List UInt8 := [182, 0, 27, 167, 255, 238, 42, 182, 0, 24, 177]
abbrev dktX10_box_10 : List UInt8 := dkwX10_box_10 ++ []
def dkwX10_box_9 : List UInt8 := [182, 0, 35, 191, 42, 182, 0, 24, 42, 16, 41, 182, 0, 81, 154, 0, 15, 42, 21, 4, 28, 4, 96]
abbrev dktX10_box_9 : List UInt8 := dkwX10_box_9 ++ dktX10_box_10
def dkwX10_box_8 : List UInt8 := [16, 59, 182, 0, 81, 153, 0, 8, 42, 182, 0, 24, 177, 42, 16, 40, 182, 0, 81, 154, 0, 8, 42]
abbrev dktX10_box_8 : List UInt8 := dkwX10_box_8 ++ dktX10_box_9
def dkwX10_box_7 : List UInt8 := [18, 77, 182, 0, 71, 153, 0, 18, 42, 182, 0, 24, 25, 5, 42, 16, 99, 182, 0, 62, 181, 0, 79, 42]
abbrev dktX10_box_7 : List UInt8 := dkwX10_box_7 ++ dktX10_box_8
def dkwX10_box_6 : List UInt8 := [18, 69, 182, 0, 71, 153, 0, 17, 42, 182, 0, 24, 25, 5, 42, 6, 182, 0, 62, 181, 0, 75, 42]
abbrev dktX10_box_6 : List UInt8 := dkwX10_box_6 ++ dktX10_box_7
def dkwX10_box_5 : List UInt8 := [182, 0, 24, 42, 180, 0, 31, 6, 160, 0, 14, 25, 5, 42, 16, 9, 182, 0, 62, 181, 0, 66, 42]
abbrev dktX10_box_5 : List UInt8 := dkwX10_box_5 ++ dktX10_box_6
def dkwX10_box_4 : List UInt8 := [180, 0, 20, 180, 0, 43, 25, 5, 83, 42, 180, 0, 20, 89, 180, 0, 43, 4, 96, 181, 0, 43, 42]
abbrev dktX10_box_4 : List UInt8 := dkwX10_box_4 ++ dktX10_box_5
def dkwX10_box_3 : List UInt8 := [29, 181, 0, 57, 42, 180, 0, 20, 180, 0, 43, 16, 14, 162, 0, 33, 42, 180, 0, 20, 180, 0, 59, 42]
abbrev dktX10_box_3 : List UInt8 := dkwX10_box_3 ++ dktX10_box_4
def dkwX10_box_2 : List UInt8 := [164, 0, 12, 42, 7, 42, 180, 0, 46, 182, 0, 49, 187, 0, 52, 89, 27, 183, 0, 54, 58, 5, 25, 5]
abbrev dktX10_box_2 : List UInt8 := dkwX10_box_2 ++ dktX10_box_3
def dkwX10_box_1 : List UInt8 := [42, 180, 0, 20, 180, 0, 43, 16, 14, 160, 0, 12, 42, 6, 42, 180, 0, 46, 182, 0, 49, 28, 16, 6]
abbrev dktX10_box_1 : List UInt8 := dkwX10_box_1 ++ dktX10_box_2
def dkwX10_box_0 : List UInt8 := [42, 182, 0, 39, 62, 42, 180, 0, 20, 180, 0, 43, 54, 4, 29, 2, 160, 0, 8, 42, 182, 0, 35, 191]
abbrev dktX10_box_0 : List UInt8 := dkwX10_box_0 ++ dktX10_box_1
theorem dksX10_box_0 : cX10_box.data.toList.drop 0 = dktX10_box_0 := by decide +kernel
theorem dksX10_box_1 : cX10_box.data.toList.drop 24 = dktX10_box_1 := dk_seg dksX10_box_0 24 rfl rfl
theorem dksX10_box_2 : cX10_box.data.toList.drop 48 = dktX10_box_2 := dk_seg dksX10_box_1 24 rfl rfl
theorem dksX10_box_3 : cX10_box.data.toList.drop 72 = dktX10_box_3 := dk_seg dksX10_box_2 24 rfl rfl
theorem dksX10_box_4 : cX10_box.data.toList.drop 96 = dktX10_box_4 := dk_seg dksX10_box_3 24 rfl rfl
theorem dksX10_box_5 : cX10_box.data.toList.drop 119 = dktX10_box_5 := dk_seg dksX10_box_4 23 rfl rfl
theorem dksX10_box_6 : cX10_box.data.toList.drop 142 = dktX10_box_6 := dk_seg dksX10_box_5 23 rfl rfl
theorem dksX10_box_7 : cX10_box.data.toList.drop 165 = dktX10_box_7 := dk_seg dksX10_box_6 23 rfl rfl
theorem dksX10_box_8 : cX10_box.data.toList.drop 189 = dktX10_box_8 := dk_seg dksX10_box_7 24 rfl rfl
theorem dksX10_box_9 : cX10_box.data.toList.drop 212 = dktX10_box_9 := dk_seg dksX10_box_8 23 rfl rfl
theorem dksX10_box_10 : cX10_box.data.toList.drop 235 = dktX10_box_10 := dk_seg dksX10_box_9 23 rfl rfl
theorem dX10_box_0 : decode cX10_box 0 = .ok (.aload_n 0, 1) := dk_42 (dk_at dksX10_box_0 0 rfl rfl)
theorem dX10_box_1 : decode cX10_box 1 = .ok (.invokevirtual 39, 3) := dk_182 0 39 (dk_at dksX10_box_0 1 rfl rfl)
theorem dX10_box_4 : decode cX10_box 4 = .ok (.istore_n 3, 1) := dk_62 (dk_at dksX10_box_0 4 rfl rfl)
theorem dX10_box_5 : decode cX10_box 5 = .ok (.aload_n 0, 1) := dk_42 (dk_at dksX10_box_0 5 rfl rfl)
theorem dX10_box_6 : decode cX10_box 6 = .ok (.getfield 20, 3) := dk_180 0 20 (dk_at dksX10_box_0 6 rfl rfl)
theorem dX10_box_9 : decode cX10_box 9 = .ok (.getfield 43, 3) := dk_180 0 43 (dk_at dksX10_box_0 9 rfl rfl)
theorem dX10_box_12 : decode cX10_box 12 = .ok (.istore 4, 2) := dk_54 4 (dk_at dksX10_box_0 12 rfl rfl)
theorem dX10_box_14 : decode cX10_box 14 = .ok (.iload_n 3, 1) := dk_29 (dk_at dksX10_box_0 14 rfl rfl)
theorem dX10_box_15 : decode cX10_box 15 = .ok (.iconst (-1), 1) := dk_2 (dk_at dksX10_box_0 15 rfl rfl)
theorem dX10_box_16 : decode cX10_box 16 = .ok (.if_icmp .ne 8, 3) := dk_160 0 8 (dk_at dksX10_box_0 16 rfl rfl)
theorem dX10_box_19 : decode cX10_box 19 = .ok (.aload_n 0, 1) := dk_42 (dk_at dksX10_box_0 19 rfl rfl)
theorem dX10_box_20 : decode cX10_box 20 = .ok (.invokevirtual 35, 3) := dk_182 0 35 (dk_at dksX10_box_0 20 rfl rfl)
theorem dX10_box_23 : decode cX10_box 23 = .ok (.athrow, 1) := dk_191 (dk_at dksX10_box_0 23 rfl rfl)
theorem dX10_box_24 : decode cX10_box 24 = .ok (.aload_n 0, 1) := dk_42 (dk_at dksX10_box_1 0 rfl rfl)
theorem dX10_box_25 : decode cX10_box 25 = .ok (.getfield 20, 3) := dk_180 0 20 (dk_at dksX10_box_1 1 rfl rfl)
theorem dX10_box_28 : decode cX10_box 28 = .ok (.getfield 43, 3) := dk_180 0 43 (dk_at dksX10_box_1 4 rfl rfl)
theorem dX10_box_31 : decode cX10_box 31 = .ok (.bipush 14, 2) := dk_16 14 (dk_at dksX10_box_1 7 rfl rfl)
theorem dX10_box_33 : decode cX10_box 33 = .ok (.if_icmp .ne 12, 3) := dk_160 0 12 (dk_at dksX10_box_1 9 rfl rfl)
theorem dX10_box_36 : decode cX10_box 36 = .ok (.aload_n 0, 1) := dk_42 (dk_at dksX10_box_1 12 rfl rfl)
theorem dX10_box_37 : decode cX10_box 37 = .ok (.iconst 3, 1) := dk_6 (dk_at dksX10_box_1 13 rfl rfl)
theorem dX10_box_38 : decode cX10_box 38 = .ok (.aload_n 0, 1) := dk_42 (dk_at dksX10_box_1 14 rfl rfl)
theorem dX10_box_39 : decode cX10_box 39 = .ok (.getfield 46, 3) := dk_180 0 46 (dk_at dksX10_box_1 15 rfl rfl)
theorem dX10_box_42 : decode cX10_box 42 = .ok (.invokevirtual 49, 3) := dk_182 0 49 (dk_at dksX10_box_1 18 rfl rfl)
theorem dX10_box_45 : decode cX10_box 45 = .ok (.iload_n 2, 1) := dk_28 (dk_at dksX10_box_1 21 rfl rfl)
theorem dX10_box_46 : decode cX10_box 46 = .ok (.bipush 6, 2) := dk_16 6 (dk_at dksX10_box_1 22 rfl rfl)
theorem dX10_box_48 : decode cX10_box 48 = .ok (.if_icmp .le 12, 3) := dk_164 0 12 (dk_at dksX10_box_2 0 rfl rfl)
theorem dX10_box_51 : decode cX10_box 51 = .ok (.aload_n 0, 1) := dk_42 (dk_at dksX10_box_2 3 rfl rfl)
theorem dX10_box_52 : decode cX10_box 52 = .ok (.iconst 4, 1) := dk_7 (dk_at dksX10_box_2 4 rfl rfl)
theorem dX10_box_53 : decode cX10_box 53 = .ok (.aload_n 0, 1) := dk_42 (dk_at dksX10_box_2 5 rfl rfl)
theorem dX10_box_54 : decode cX10_box 54 = .ok (.getfield 46, 3) := dk_180 0 46 (dk_at dksX10_box_2 6 rfl rfl)
theorem dX10_box_57 : decode cX10_box 57 = .ok (.invokevirtual 49, 3) := dk_182 0 49 (dk_at dksX10_box_2 9 rfl rfl)
theorem dX10_box_60 : decode cX10_box 60 = .ok (.new 52, 3) := dk_187 0 52 (dk_at dksX10_box_2 12 rfl rfl)
theorem dX10_box_63 : decode cX10_box 63 = .ok (.dup, 1) := dk_89 (dk_at dksX10_box_2 15 rfl rfl)
theorem dX10_box_64 : decode cX10_box 64 = .ok (.iload_n 1, 1) := dk_27 (dk_at dksX10_box_2 16 rfl rfl)
theorem dX10_box_65 : decode cX10_box 65 = .ok (.invokespecial 54, 3) := dk_183 0 54 (dk_at dksX10_box_2 17 rfl rfl)
theorem dX10_box_68 : decode cX10_box 68 = .ok (.astore 5, 2) := dk_58 5 (dk_at dksX10_box_2 20 rfl rfl)
theorem dX10_box_70 : decode cX10_box 70 = .ok (.aload 5, 2) := dk_25 5 (dk_at dksX10_box_2 22 rfl rfl)
theorem dX10_box_72 : decode cX10_box 72 = .ok (.iload_n 3, 1) := dk_29 (dk_at dksX10_box_3 0 rfl rfl)
theorem dX10_box_73 : decode cX10_box 73 = .ok (.putfield 57, 3) := dk_181 0 57 (dk_at dksX10_box_3 1 rfl rfl)
theorem dX10_box_76 : decode cX10_box 76 = .ok (.aload_n 0, 1) := dk_42 (dk_at dksX10_box_3 4 rfl rfl)
theorem dX10_box_77 : decode cX10_box 77 = .ok (.getfield 20, 3) := dk_180 0 20 (dk_at dksX10_box_3 5 rfl rfl)
theorem dX10_box_80 : decode cX10_box 80 = .ok (.getfield 43, 3) := dk_180 0 43 (dk_at dksX10_box_3 8 rfl rfl)
theorem dX10_box_83 : decode cX10_box 83 = .ok (.bipush 14, 2) := dk_16 14 (dk_at dksX10_box_3 11 rfl rfl)
theorem dX10_box_85 : decode cX10_box 85 = .ok (.if_icmp .ge 33, 3) := dk_162 0 33 (dk_at dksX10_box_3 13 rfl rfl)
theorem dX10_box_88 : decode cX10_box 88 = .ok (.aload_n 0, 1) := dk_42 (dk_at dksX10_box_3 16 rfl rfl)
theorem dX10_box_89 : decode cX10_box 89 = .ok (.getfield 20, 3) := dk_180 0 20 (dk_at dksX10_box_3 17 rfl rfl)
theorem dX10_box_92 : decode cX10_box 92 = .ok (.getfield 59, 3) := dk_180 0 59 (dk_at dksX10_box_3 20 rfl rfl)
theorem dX10_box_95 : decode cX10_box 95 = .ok (.aload_n 0, 1) := dk_42 (dk_at dksX10_box_3 23 rfl rfl)
theorem dX10_box_96 : decode cX10_box 96 = .ok (.getfield 20, 3) := dk_180 0 20 (dk_at dksX10_box_4 0 rfl rfl)
theorem dX10_box_99 : decode cX10_box 99 = .ok (.getfield 43, 3) := dk_180 0 43 (dk_at dksX10_box_4 3 rfl rfl)
theorem dX10_box_102 : decode cX10_box 102 = .ok (.aload 5, 2) := dk_25 5 (dk_at dksX10_box_4 6 rfl rfl)
theorem dX10_box_104 : decode cX10_box 104 = .ok (.aastore, 1) := dk_83 (dk_at dksX10_box_4 8 rfl rfl)
theorem dX10_box_105 : decode cX10_box 105 = .ok (.aload_n 0, 1) := dk_42 (dk_at dksX10_box_4 9 rfl rfl)
theorem dX10_box_106 : decode cX10_box 106 = .ok (.getfield 20, 3) := dk_180 0 20 (dk_at dksX10_box_4 10 rfl rfl)
theorem dX10_box_109 : decode cX10_box 109 = .ok (.dup, 1) := dk_89 (dk_at dksX10_box_4 13 rfl rfl)
theorem dX10_box_110 : decode cX10_box 110 = .ok (.getfield 43, 3) := dk_180 0 43 (dk_at dksX10_box_4 14 rfl rfl)
theorem dX10_box_113 : decode cX10_box 113 = .ok (.iconst 1, 1) := dk_4 (dk_at dksX10_box_4 17 rfl rfl)
theorem dX10_box_114 : decode cX10_box 114 = .ok (.iadd, 1) := dk_96 (dk_at dksX10_box_4 18 rfl rfl)
theorem dX10_box_115 : decode cX10_box 115 = .ok (.putfield 43, 3) := dk_181 0 43 (dk_at dksX10_box_4 19 rfl rfl)
theorem dX10_box_118 : decode cX10_box 118 = .ok (.aload_n 0, 1) := dk_42 (dk_at dksX10_box_4 22 rfl rfl)
theorem dX10_box_119 : decode cX10_box 119 = .ok (.invokevirtual 24, 3) := dk_182 0 24 (dk_at dksX10_box_5 0 rfl rfl)
theorem dX10_box_122 : decode cX10_box 122 = .ok (.aload_n 0, 1) := dk_42 (dk_at dksX10_box_5 3 rfl rfl)
theorem dX10_box_123 : decode cX10_box 123 = .ok (.getfield 31, 3) := dk_180 0 31 (dk_at dksX10_box_5 4 rfl rfl)
theorem dX10_box_126 : decode cX10_box 126 = .ok (.iconst 3, 1) := dk_6 (dk_at dksX10_box_5 7 rfl rfl)
theorem dX10_box_127 : decode cX10_box 127 = .ok (.if_icmp .ne 14, 3) := dk_160 0 14 (dk_at dksX10_box_5 8 rfl rfl)
theorem dX10_box_130 : decode cX10_box 130 = .ok (.aload 5, 2) := dk_25 5 (dk_at dksX10_box_5 11 rfl rfl)
theorem dX10_box_132 : decode cX10_box 132 = .ok (.aload_n 0, 1) := dk_42 (dk_at dksX10_box_5 13 rfl rfl)
theorem dX10_box_133 : decode cX10_box 133 = .ok (.bipush 9, 2) := dk_16 9 (dk_at dksX10_box_5 14 rfl rfl)
theorem dX10_box_135 : decode cX10_box 135 = .ok (.invokevirtual 62, 3) := dk_182 0 62 (dk_at dksX10_box_5 16 rfl rfl)
theorem dX10_box_138 : decode cX10_box 138 = .ok (.putfield 66, 3) := dk_181 0 66 (dk_at dksX10_box_5 19 rfl rfl)
theorem dX10_box_141 : decode cX10_box 141 = .ok (.aload_n 0, 1) := dk_42 (dk_at dksX10_box_5 22 rfl rfl)
theorem dX10_box_142 : decode cX10_box 142 = .ok (.ldc 69, 2) := dk_18 69 (dk_at dksX10_box_6 0 rfl rfl)
theorem dX10_box_144 : decode cX10_box 144 = .ok (.invokevirtual 71, 3) := dk_182 0 71 (dk_at dksX10_box_6 2 rfl rfl)
theorem dX10_box_147 : decode cX10_box 147 = .ok (.ifCond .eq 17, 3) := dk_153 0 17 (dk_at dksX10_box_6 5 rfl rfl)
theorem dX10_box_150 : decode cX10_box 150 = .ok (.aload_n 0, 1) := dk_42 (dk_at dksX10_box_6 8 rfl rfl)
theorem dX10_box_151 : decode cX10_box 151 = .ok (.invokevirtual 24, 3) := dk_182 0 24 (dk_at dksX10_box_6 9 rfl rfl)
theorem dX10_box_154 : decode cX10_box 154 = .ok (.aload 5, 2) := dk_25 5 (dk_at dksX10_box_6 12 rfl rfl)
theorem dX10_box_156 : decode cX10_box 156 = .ok (.aload_n 0, 1) := dk_42 (dk_at dksX10_box_6 14 rfl rfl)
theorem dX10_box_157 : decode cX10_box 157 = .ok (.iconst 3, 1) := dk_6 (dk_at dksX10_box_6 15 rfl rfl)
theorem dX10_box_158 : decode cX10_box 158 = .ok (.invokevirtual 62, 3) := dk_182 0 62 (dk_at dksX10_box_6 16 rfl rfl)
theorem dX10_box_161 : decode cX10_box 161 = .ok (.putfield 75, 3) := dk_181 0 75 (dk_at dksX10_box_6 19 rfl rfl)
theorem dX10_box_164 : decode cX10_box 164 = .ok (.aload_n 0, 1) := dk_42 (dk_at dksX10_box_6 22 rfl rfl)
theorem dX10_box_165 : decode cX10_box 165 = .ok (.ldc 77, 2) := dk_18 77 (dk_at dksX10_box_7 0 rfl rfl)
theorem dX10_box_167 : decode cX10_box 167 = .ok (.invokevirtual 71, 3) := dk_182 0 71 (dk_at dksX10_box_7 2 rfl rfl)
theorem dX10_box_170 : decode cX10_box 170 = .ok (.ifCond .eq 18, 3) := dk_153 0 18 (dk_at dksX10_box_7 5 rfl rfl)
theorem dX10_box_173 : decode cX10_box 173 = .ok (.aload_n 0, 1) := dk_42 (dk_at dksX10_box_7 8 rfl rfl)
theorem dX10_box_174 : decode cX10_box 174 = .ok (.invokevirtual 24, 3) := dk_182 0 24 (dk_at dksX10_box_7 9 rfl rfl)
theorem dX10_box_177 : decode cX10_box 177 = .ok (.aload 5, 2) := dk_25 5 (dk_at dksX10_box_7 12 rfl rfl)
theorem dX10_box_179 : decode cX10_box 179 = .ok (.aload_n 0, 1) := dk_42 (dk_at dksX10_box_7 14 rfl rfl)
theorem dX10_box_180 : decode cX10_box 180 = .ok (.bipush 99, 2) := dk_16 99 (dk_at dksX10_box_7 15 rfl rfl)
theorem dX10_box_182 : decode cX10_box 182 = .ok (.invokevirtual 62, 3) := dk_182 0 62 (dk_at dksX10_box_7 17 rfl rfl)
theorem dX10_box_185 : decode cX10_box 185 = .ok (.putfield 79, 3) := dk_181 0 79 (dk_at dksX10_box_7 20 rfl rfl)
theorem dX10_box_188 : decode cX10_box 188 = .ok (.aload_n 0, 1) := dk_42 (dk_at dksX10_box_7 23 rfl rfl)
theorem dX10_box_189 : decode cX10_box 189 = .ok (.bipush 59, 2) := dk_16 59 (dk_at dksX10_box_8 0 rfl rfl)
theorem dX10_box_191 : decode cX10_box 191 = .ok (.invokevirtual 81, 3) := dk_182 0 81 (dk_at dksX10_box_8 2 rfl rfl)
theorem dX10_box_194 : decode cX10_box 194 = .ok (.ifCond .eq 8, 3) := dk_153 0 8 (dk_at dksX10_box_8 5 rfl rfl)
theorem dX10_box_197 : decode cX10_box 197 = .ok (.aload_n 0, 1) := dk_42 (dk_at dksX10_box_8 8 rfl rfl)
theorem dX10_box_198 : decode cX10_box 198 = .ok (.invokevirtual 24, 3) := dk_182 0 24 (dk_at dksX10_box_8 9 rfl rfl)
theorem dX10_box_201 : decode cX10_box 201 = .ok (.return_, 1) := dk_177 (dk_at dksX10_box_8 12 rfl rfl)
theorem dX10_box_202 : decode cX10_box 202 = .ok (.aload_n 0, 1) := dk_42 (dk_at dksX10_box_8 13 rfl rfl)
theorem dX10_box_203 : decode cX10_box 203 = .ok (.bipush 40, 2) := dk_16 40 (dk_at dksX10_box_8 14 rfl rfl)
theorem dX10_box_205 : decode cX10_box 205 = .ok (.invokevirtual 81, 3) := dk_182 0 81 (dk_at dksX10_box_8 16 rfl rfl)
theorem dX10_box_208 : decode cX10_box 208 = .ok (.ifCond .ne 8, 3) := dk_154 0 8 (dk_at dksX10_box_8 19 rfl rfl)
theorem dX10_box_211 : decode cX10_box 211 = .ok (.aload_n 0, 1) := dk_42 (dk_at dksX10_box_8 22 rfl rfl)
theorem dX10_box_212 : decode cX10_box 212 = .ok (.invokevirtual 35, 3) := dk_182 0 35 (dk_at dksX10_box_9 0 rfl rfl)
theorem dX10_box_215 : decode cX10_box 215 = .ok (.athrow, 1) := dk_191 (dk_at dksX10_box_9 3 rfl rfl)
theorem dX10_box_216 : decode cX10_box 216 = .ok (.aload_n 0, 1) := dk_42 (dk_at dksX10_box_9 4 rfl rfl)
theorem dX10_box_217 : decode cX10_box 217 = .ok (.invokevirtual 24, 3) := dk_182 0 24 (dk_at dksX10_box_9 5 rfl rfl)
theorem dX10_box_220 : decode cX10_box 220 = .ok (.aload_n 0, 1) := dk_42 (dk_at dksX10_box_9 8 rfl rfl)
theorem dX10_box_221 : decode cX10_box 221 = .ok (.bipush 41, 2) := dk_16 41 (dk_at dksX10_box_9 9 rfl rfl)
theorem dX10_box_223 : decode cX10_box 223 = .ok (.invokevirtual 81, 3) := dk_182 0 81 (dk_at dksX10_box_9 11 rfl rfl)
theorem dX10_box_226 : decode cX10_box 226 = .ok (.ifCond .ne 15, 3) := dk_154 0 15 (dk_at dksX10_box_9 14 rfl rfl)
theorem dX10_box_229 : decode cX10_box 229 = .ok (.aload_n 0, 1) := dk_42 (dk_at dksX10_box_9 17 rfl rfl)
theorem dX10_box_230 : decode cX10_box 230 = .ok (.iload 4, 2) := dk_21 4 (dk_at dksX10_box_9 18 rfl rfl)
theorem dX10_box_232 : decode cX10_box 232 = .ok (.iload_n 2, 1) := dk_28 (dk_at dksX10_box_9 20 rfl rfl)
theorem dX10_box_233 : decode cX10_box 233 = .ok (.iconst 1, 1) := dk_4 (dk_at dksX10_box_9 21 rfl rfl)
theorem dX10_box_234 : decode cX10_box 234 = .ok (.iadd, 1) := dk_96 (dk_at dksX10_box_9 22 rfl rfl)
theorem dX10_box_235 : decode cX10_box 235 = .ok (.invokevirtual 27, 3) := dk_182 0 27 (dk_at dksX10_box_10 0 rfl rfl)
theorem dX10_box_238 : decode cX10_box 238 = .ok (.goto (-18), 3) := dk_167 255 238 (dk_at dksX10_box_10 3 rfl rfl)
theorem dX10_box_241 : decode cX10_box 241 = .ok (.aload_n 0, 1) := dk_42 (dk_at dksX10_box_10 6 rfl rfl)
theorem dX10_box_242 : decode cX10_box 242 = .ok (.invokevirtual 24, 3) := dk_182 0 24 (dk_at dksX10_box_10 7 rfl rfl)
theorem dX10_box_245 : decode cX10_box 245 = .ok (.return_, 1) := dk_177 (dk_at dksX10_box_10 10 rfl rfl)
theorem q111 : (Jvm.Cond.initialized "PretendDesk$Reader") ∈ lw_all := lw_g (lw_at lw_m1 12 rfl) rfl
theorem q538 : (Jvm.Cond.instantiable "PretendDesk$Reader" (12 : Nat)) ∈ lw_all := lw_g (lw_at lw_m2 199 rfl) rfl
theorem q540 : (Jvm.Cond.instanceMethod ({ cls := "PretendDesk$Reader", name := "<init>", desc := "(LPretendDesk;I)V" } : Jvm.MethodName)) ∈ lw_all := lw_g (lw_at lw_m2 201 rfl) rfl
theorem q541 : (Jvm.Cond.code ({ cls := "PretendDesk$Reader", name := "<init>", desc := "(LPretendDesk;I)V" } : Jvm.MethodName) prog_14_method_1_code (3 : Nat) (Option.none : Option Jvm.ClassFile.FieldType)) ∈ lw_all := lw_g (lw_at lw_m2 202 rfl) rfl
theorem q542 : (Jvm.Cond.methodLink "PretendDesk$Reader" (9 : Nat) ({ cls := "PretendDesk$Tokens", name := "<init>", desc := "(LPretendDesk;I)V" } : Jvm.MethodName)) ∈ lw_all := lw_g (lw_at lw_m2 203 rfl) rfl
theorem q546 : (Jvm.Cond.classLink "PretendDesk$Reader" (15 : Nat) "PretendDesk$Page") ∈ lw_all := lw_g (lw_at lw_m2 207 rfl) rfl
theorem q548 : (Jvm.Cond.methodLinkNest "PretendDesk$Reader" (17 : Nat) ({ cls := "PretendDesk$Page", name := "<init>", desc := "()V" } : Jvm.MethodName) "PretendDesk") ∈ lw_tbl := lw_at lw_m2 209 rfl
theorem q556 : (Jvm.Cond.fieldLink "PretendDesk$Reader" (59 : Nat) "PretendDesk$Page" "box" "[LPretendDesk$Box;") ∈ lw_all := lw_g (lw_at lw_m2 217 rfl) rfl
theorem q560 : (Jvm.Cond.fieldLink "PretendDesk$Reader" (43 : Nat) "PretendDesk$Page" "boxes" "I") ∈ lw_all := lw_g (lw_at lw_m2 221 rfl) rfl
theorem q567 : (Jvm.Cond.fieldLink "PretendDesk$Reader" (20 : Nat) "PretendDesk$Reader" "page" "LPretendDesk$Page;") ∈ lw_all := lw_g (lw_at lw_m2 228 rfl) rfl
theorem q569 : (Jvm.Cond.fieldLink "PretendDesk$Reader" (3 : Nat) "PretendDesk$Reader" "this$0" "LPretendDesk;") ∈ lw_all := lw_g (lw_at lw_m2 230 rfl) rfl
theorem q576 : (Jvm.Cond.fieldLink "PretendDesk$Reader" (31 : Nat) "PretendDesk$Reader" "sort" "I") ∈ lw_all := lw_g (lw_at lw_m2 237 rfl) rfl
theorem q577 : (Jvm.Cond.sameField "PretendDesk$Reader" "PretendDesk$Tokens" "sort" "I") ∈ lw_all := lw_g (lw_at lw_m2 238 rfl) rfl
theorem q580 : (Jvm.Cond.fieldLink "PretendDesk$Reader" (46 : Nat) "PretendDesk$Reader" "place" "I") ∈ lw_all := lw_g (lw_at lw_m3 1 rfl) rfl
theorem q581 : (Jvm.Cond.sameField "PretendDesk$Reader" "PretendDesk$Tokens" "place" "I") ∈ lw_all := lw_g (lw_at lw_m3 2 rfl) rfl
theorem q587 : (Jvm.Cond.sameField "PretendDesk$Reader" "PretendDesk$Tokens" "fault" "I") ∈ lw_all := lw_g (lw_at lw_m3 8 rfl) rfl
theorem q592 : (Jvm.Cond.sameField "PretendDesk$Reader" "PretendDesk$Tokens" "faultPlace" "I") ∈ lw_all := lw_g (lw_at lw_m3 13 rfl) rfl
theorem q596 : (Jvm.Cond.laysFinal "PretendDesk$Reader" "PretendDesk$Reader" "page" "LPretendDesk$Page;") ∈ lw_all := lw_g (lw_at lw_m3 17 rfl) rfl
theorem q597 : (Jvm.Cond.soleField "PretendDesk$Reader" "page") ∈ lw_all := lw_g (lw_at lw_m3 18 rfl) rfl
theorem q598 : (Jvm.Cond.laysFinal "PretendDesk$Reader" "PretendDesk$Reader" "this$0" "LPretendDesk;") ∈ lw_all := lw_g (lw_at lw_m3 19 rfl) rfl
theorem q599 : (Jvm.Cond.soleField "PretendDesk$Reader" "this$0") ∈ lw_all := lw_g (lw_at lw_m3 20 rfl) rfl
theorem q600 : (Jvm.Cond.laysFinal "PretendDesk$Reader" "PretendDesk$Tokens" "length" "I") ∈ lw_all := lw_g (lw_at lw_m3 21 rfl) rfl
theorem q602 : (Jvm.Cond.lays "PretendDesk$Reader" "PretendDesk$Tokens" "at" "I") ∈ lw_all := lw_g (lw_at lw_m3 23 rfl) rfl
theorem q604 : (Jvm.Cond.lays "PretendDesk$Reader" "PretendDesk$Tokens" "letters" "I") ∈ lw_all := lw_g (lw_at lw_m3 25 rfl) rfl
theorem q606 : (Jvm.Cond.lays "PretendDesk$Reader" "PretendDesk$Tokens" "word" "J") ∈ lw_all := lw_g (lw_at lw_m3 27 rfl) rfl
theorem q608 : (Jvm.Cond.lays "PretendDesk$Reader" "PretendDesk$Tokens" "sort" "I") ∈ lw_all := lw_g (lw_at lw_m3 29 rfl) rfl
theorem q610 : (Jvm.Cond.lays "PretendDesk$Reader" "PretendDesk$Tokens" "place" "I") ∈ lw_all := lw_g (lw_at lw_m3 31 rfl) rfl
theorem q612 : (Jvm.Cond.lays "PretendDesk$Reader" "PretendDesk$Tokens" "value" "I") ∈ lw_all := lw_g (lw_at lw_m3 33 rfl) rfl
theorem q614 : (Jvm.Cond.lays "PretendDesk$Reader" "PretendDesk$Tokens" "fault" "I") ∈ lw_all := lw_g (lw_at lw_m3 35 rfl) rfl
theorem q616 : (Jvm.Cond.lays "PretendDesk$Reader" "PretendDesk$Tokens" "faultPlace" "I") ∈ lw_all := lw_g (lw_at lw_m3 37 rfl) rfl
theorem q618 : (Jvm.Cond.laysFinal "PretendDesk$Reader" "PretendDesk$Tokens" "this$0" "LPretendDesk;") ∈ lw_all := lw_g (lw_at lw_m3 39 rfl) rfl
theorem q620 : (Jvm.Cond.superclass "PretendDesk$Reader" "PretendDesk$Tokens") ∈ lw_all := lw_g (lw_at lw_m3 41 rfl) rfl
theorem q622 : (Jvm.Cond.instanceMethod ({ cls := "PretendDesk$Reader", name := "text", desc := "()V" } : Jvm.MethodName)) ∈ lw_all := lw_g (lw_at lw_m3 43 rfl) rfl
theorem q623 : (Jvm.Cond.selects "PretendDesk$Reader" ({ cls := "PretendDesk$Reader", name := "text", desc := "()V" } : Jvm.MethodName) ({ cls := "PretendDesk$Reader", name := "text", desc := "()V" } : Jvm.MethodName)) ∈ lw_all := lw_g (lw_at lw_m3 44 rfl) rfl
theorem q624 : (Jvm.Cond.code ({ cls := "PretendDesk$Reader", name := "text", desc := "()V" } : Jvm.MethodName) prog_14_method_2_code (1 : Nat) (Option.none : Option Jvm.ClassFile.FieldType)) ∈ lw_all := lw_g (lw_at lw_m3 45 rfl) rfl
theorem q625 : (Jvm.Cond.methodLink "PretendDesk$Reader" (24 : Nat) ({ cls := "PretendDesk$Reader", name := "next", desc := "()V" } : Jvm.MethodName)) ∈ lw_all := lw_g (lw_at lw_m3 46 rfl) rfl
theorem q626 : (Jvm.Cond.sameMethod "PretendDesk$Reader" "PretendDesk$Tokens" "next" "()V") ∈ lw_all := lw_g (lw_at lw_m3 47 rfl) rfl
theorem q628 : (Jvm.Cond.selects "PretendDesk$Reader" ({ cls := "PretendDesk$Reader", name := "next", desc := "()V" } : Jvm.MethodName) ({ cls := "PretendDesk$Tokens", name := "next", desc := "()V" } : Jvm.MethodName)) ∈ lw_all := lw_g (lw_at lw_m3 49 rfl) rfl
theorem q637 : (Jvm.Cond.methodLink "PretendDesk$Reader" (27 : Nat) ({ cls := "PretendDesk$Reader", name := "box", desc := "(II)V" } : Jvm.MethodName)) ∈ lw_all := lw_g (lw_at lw_m3 58 rfl) rfl
theorem q638 : (Jvm.Cond.privateMethod ({ cls := "PretendDesk$Reader", name := "box", desc := "(II)V" } : Jvm.MethodName)) ∈ lw_tbl := lw_at lw_m3 59 rfl
theorem q639 : (Jvm.Cond.instanceMethod ({ cls := "PretendDesk$Reader", name := "box", desc := "(II)V" } : Jvm.MethodName)) ∈ lw_all := lw_g (lw_at lw_m3 60 rfl) rfl
theorem q640 : (Jvm.Cond.code ({ cls := "PretendDesk$Reader", name := "box", desc := "(II)V" } : Jvm.MethodName) prog_14_method_3_code (6 : Nat) (Option.none : Option Jvm.ClassFile.FieldType)) ∈ lw_all := lw_g (lw_at lw_m3 61 rfl) rfl
theorem q641 : (Jvm.Cond.methodLink "PretendDesk$Reader" (39 : Nat) ({ cls := "PretendDesk$Reader", name := "kind", desc := "()I" } : Jvm.MethodName)) ∈ lw_all := lw_g (lw_at lw_m3 62 rfl) rfl
theorem q642 : (Jvm.Cond.sameMethod "PretendDesk$Reader" "PretendDesk$Tokens" "kind" "()I") ∈ lw_all := lw_g (lw_at lw_m3 63 rfl) rfl
theorem q644 : (Jvm.Cond.selects "PretendDesk$Reader" ({ cls := "PretendDesk$Reader", name := "kind", desc := "()I" } : Jvm.MethodName) ({ cls := "PretendDesk$Tokens", name := "kind", desc := "()I" } : Jvm.MethodName)) ∈ lw_all := lw_g (lw_at lw_m3 65 rfl) rfl
theorem q651 : (Jvm.Cond.selects "PretendDesk$Reader" ({ cls := "PretendDesk$Tokens", name := "isWord", desc := "(Ljava/lang/String;)Z" } : Jvm.MethodName) ({ cls := "PretendDesk$Tokens", name := "isWord", desc := "(Ljava/lang/String;)Z" } : Jvm.MethodName)) ∈ lw_all := lw_g (lw_at lw_m3 72 rfl) rfl
theorem q701 : (Jvm.Cond.methodLink "PretendDesk$Reader" (35 : Nat) ({ cls := "PretendDesk$Reader", name := "wrong", desc := "()LPretendDesk$Wrong;" } : Jvm.MethodName)) ∈ lw_all := lw_g (lw_at lw_m3 122 rfl) rfl
theorem q702 : (Jvm.Cond.sameMethod "PretendDesk$Reader" "PretendDesk$Tokens" "wrong" "()LPretendDesk$Wrong;") ∈ lw_all := lw_g (lw_at lw_m3 123 rfl) rfl
theorem q704 : (Jvm.Cond.selects "PretendDesk$Reader" ({ cls := "PretendDesk$Reader", name := "wrong", desc := "()LPretendDesk$Wrong;" } : Jvm.MethodName) ({ cls := "PretendDesk$Tokens", name := "wrong", desc := "()LPretendDesk$Wrong;" } : Jvm.MethodName)) ∈ lw_all := lw_g (lw_at lw_m3 125 rfl) rfl
theorem q767 : (Jvm.Cond.methodLink "PretendDesk$Reader" (49 : Nat) ({ cls := "PretendDesk$Reader", name := "note", desc := "(II)V" } : Jvm.MethodName)) ∈ lw_all := lw_g (lw_at lw_m3 188 rfl) rfl
theorem q768 : (Jvm.Cond.sameMethod "PretendDesk$Reader" "PretendDesk$Tokens" "note" "(II)V") ∈ lw_all := lw_g (lw_at lw_m3 189 rfl) rfl
theorem q770 : (Jvm.Cond.selects "PretendDesk$Reader" ({ cls := "PretendDesk$Reader", name := "note", desc := "(II)V" } : Jvm.MethodName) ({ cls := "PretendDesk$Tokens", name := "note", desc := "(II)V" } : Jvm.MethodName)) ∈ lw_all := lw_g (lw_at lw_m3 191 rfl) rfl
theorem q773 : (Jvm.Cond.classLink "PretendDesk$Reader" (52 : Nat) "PretendDesk$Box") ∈ lw_all := lw_g (lw_at lw_m3 194 rfl) rfl
theorem q775 : (Jvm.Cond.methodLink "PretendDesk$Reader" (54 : Nat) ({ cls := "PretendDesk$Box", name := "<init>", desc := "(I)V" } : Jvm.MethodName)) ∈ lw_all := lw_g (lw_at lw_m3 196 rfl) rfl
theorem q780 : (Jvm.Cond.fieldLink "PretendDesk$Reader" (57 : Nat) "PretendDesk$Box" "kind" "I") ∈ lw_all := lw_g (lw_at lw_m3 201 rfl) rfl
theorem q785 : (Jvm.Cond.fieldLink "PretendDesk$Reader" (66 : Nat) "PretendDesk$Box" "colour" "I") ∈ lw_all := lw_g (lw_at lw_m3 206 rfl) rfl
theorem q788 : (Jvm.Cond.fieldLink "PretendDesk$Reader" (75 : Nat) "PretendDesk$Box" "land" "I") ∈ lw_all := lw_g (lw_at lw_m3 209 rfl) rfl
theorem q791 : (Jvm.Cond.fieldLink "PretendDesk$Reader" (79 : Nat) "PretendDesk$Box" "day" "I") ∈ lw_all := lw_g (lw_at lw_m3 212 rfl) rfl
theorem q807 : (Jvm.Cond.methodLink "PretendDesk$Reader" (62 : Nat) ({ cls := "PretendDesk$Reader", name := "number", desc := "(I)I" } : Jvm.MethodName)) ∈ lw_all := lw_g (lw_at lw_m3 228 rfl) rfl
theorem q808 : (Jvm.Cond.sameMethod "PretendDesk$Reader" "PretendDesk$Tokens" "number" "(I)I") ∈ lw_all := lw_g (lw_at lw_m3 229 rfl) rfl
theorem q810 : (Jvm.Cond.selects "PretendDesk$Reader" ({ cls := "PretendDesk$Reader", name := "number", desc := "(I)I" } : Jvm.MethodName) ({ cls := "PretendDesk$Tokens", name := "number", desc := "(I)I" } : Jvm.MethodName)) ∈ lw_all := lw_g (lw_at lw_m3 231 rfl) rfl
theorem q816 : (Jvm.Cond.stringRef "PretendDesk$Reader" (69 : Nat) "land") ∈ lw_tbl := lw_at lw_m3 237 rfl
theorem q817 : (Jvm.Cond.methodLink "PretendDesk$Reader" (71 : Nat) ({ cls := "PretendDesk$Reader", name := "isWord", desc := "(Ljava/lang/String;)Z" } : Jvm.MethodName)) ∈ lw_all := lw_g (lw_at lw_m3 238 rfl) rfl
theorem q818 : (Jvm.Cond.sameMethod "PretendDesk$Reader" "PretendDesk$Tokens" "isWord" "(Ljava/lang/String;)Z") ∈ lw_all := lw_g (lw_at lw_m3 239 rfl) rfl
theorem q820 : (Jvm.Cond.selects "PretendDesk$Reader" ({ cls := "PretendDesk$Reader", name := "isWord", desc := "(Ljava/lang/String;)Z" } : Jvm.MethodName) ({ cls := "PretendDesk$Tokens", name := "isWord", desc := "(Ljava/lang/String;)Z" } : Jvm.MethodName)) ∈ lw_all := lw_g (lw_at lw_m4 1 rfl) rfl
theorem q821 : (Jvm.Cond.stringRef "PretendDesk$Reader" (77 : Nat) "day") ∈ lw_tbl := lw_at lw_m4 2 rfl
theorem q822 : (Jvm.Cond.methodLink "PretendDesk$Reader" (81 : Nat) ({ cls := "PretendDesk$Reader", name := "isSign", desc := "(I)Z" } : Jvm.MethodName)) ∈ lw_all := lw_g (lw_at lw_m4 3 rfl) rfl
theorem q823 : (Jvm.Cond.sameMethod "PretendDesk$Reader" "PretendDesk$Tokens" "isSign" "(I)Z") ∈ lw_all := lw_g (lw_at lw_m4 4 rfl) rfl
theorem q825 : (Jvm.Cond.selects "PretendDesk$Reader" ({ cls := "PretendDesk$Reader", name := "isSign", desc := "(I)Z" } : Jvm.MethodName) ({ cls := "PretendDesk$Tokens", name := "isSign", desc := "(I)Z" } : Jvm.MethodName)) ∈ lw_all := lw_g (lw_at lw_m4 6 rfl) rfl
theorem q2107 : (Jvm.Cond.selects "PretendDesk$Reader" ({ cls := "PretendDesk$Tokens", name := "wrong", desc := "()LPretendDesk$Wrong;" } : Jvm.MethodName) ({ cls := "PretendDesk$Tokens", name := "wrong", desc := "()LPretendDesk$Wrong;" } : Jvm.MethodName)) ∈ lw_all := lw_g (lw_at lw_m9 88 rfl) rfl
theorem q2110 : (Jvm.Cond.selects "PretendDesk$Reader" ({ cls := "PretendDesk$Tokens", name := "note", desc := "(II)V" } : Jvm.MethodName) ({ cls := "PretendDesk$Tokens", name := "note", desc := "(II)V" } : Jvm.MethodName)) ∈ lw_all := lw_g (lw_at lw_m9 91 rfl) rfl
theorem q2113 : (Jvm.Cond.selects "PretendDesk$Reader" ({ cls := "PretendDesk$Tokens", name := "next", desc := "()V" } : Jvm.MethodName) ({ cls := "PretendDesk$Tokens", name := "next", desc := "()V" } : Jvm.MethodName)) ∈ lw_all := lw_g (lw_at lw_m9 94 rfl) rfl
theorem in_X10 : ∀ w ∈ wsX100, w ∈ lw_all := lw_in wsX100 [600, 602, 604, 606, 608, 610, 612, 614, 616, 618, 596, 598] (by decide +kernel) (by decide +kernel)
/-! PretendDesk$Page -/
set_option maxRecDepth 100000
def RX11 : String := "PretendDesk$Page"
def TX11 : u_T := fun k => match k with
  | 0 => ("PretendDesk$Page", "box", "[LPretendDesk$Box;", true)
  | _ => ("PretendDesk$Page", "boxes", "I", false)
def tyX11 : Nat → FieldType := fun k => match k with
  | 0 => .array (.object "PretendDesk$Box")
  | _ => .int
abbrev wsX110 : List Cond := u_ws RX11 TX11 2
theorem nmX11 : ∀ a, a < 2 → ∀ b, b < 2 → a ≠ b → (TX11 a).2.1 ≠ (TX11 b).2.1 := by decide +kernel
theorem tyX11_ok : ∀ k, k < 2 → parseFieldDescriptor (TX11 k).2.2.1 = some (tyX11 k) := by decide +kernel
abbrev cX11_init : ByteArray := prog_10_method_1_code
def yX11_init : MethodName := ⟨RX11, "<init>", "()V"⟩
def dkwX11_init_0 : List UInt8 := [42, 183, 0, 3, 42, 16, 14, 189, 0, 9, 181, 0, 11, 177]
abbrev dktX11_init_0 : List UInt8 := dkwX11_init_0 ++ []
theorem dksX11_init_0 : cX11_init.data.toList.drop 0 = dktX11_init_0 := by decide +kernel
theorem dX11_init_0 : decode cX11_init 0 = .ok (.aload_n 0, 1) := dk_42 (dk_at dksX11_init_0 0 rfl rfl)
theorem dX11_init_1 : decode cX11_init 1 = .ok (.invokespecial 3, 3) := dk_183 0 3 (dk_at dksX11_init_0 1 rfl rfl)
theorem dX11_init_4 : decode cX11_init 4 = .ok (.aload_n 0, 1) := dk_42 (dk_at dksX11_init_0 4 rfl rfl)
theorem dX11_init_5 : decode cX11_init 5 = .ok (.bipush 14, 2) := dk_16 14 (dk_at dksX11_init_0 5 rfl rfl)
theorem dX11_init_7 : decode cX11_init 7 = .ok (.anewarray 9, 3) := dk_189 0 9 (dk_at dksX11_init_0 7 rfl rfl)
theorem dX11_init_10 : decode cX11_init 10 = .ok (.putfield 11, 3) := dk_181 0 11 (dk_at dksX11_init_0 10 rfl rfl)
theorem dX11_init_13 : decode cX11_init 13 = .ok (.return_, 1) := dk_177 (dk_at dksX11_init_0 13 rfl rfl)
abbrev cX11_sketch : ByteArray := prog_10_method_2_code
def yX11_sketch : MethodName := ⟨RX11, "sketch", "()I"⟩
def dkwX11_sketch_2 : List UInt8 := [167, 255, 214, 27, 172]
abbrev dktX11_sketch_2 : List UInt8 := dkwX11_sketch_2 ++ []
def dkwX11_sketch_1 : List UInt8 := [50, 180, 0, 21, 104, 96, 42, 180, 0, 11, 28, 50, 180, 0, 24, 96, 18, 27, 126, 60, 132, 2, 1]
abbrev dktX11_sketch_1 : List UInt8 := dkwX11_sketch_1 ++ dktX11_sketch_2
def dkwX11_sketch_0 : List UInt8 := [16, 7, 60, 3, 61, 28, 42, 180, 0, 17, 162, 0, 40, 27, 16, 31, 104, 16, 10, 42, 180, 0, 11, 28]
abbrev dktX11_sketch_0 : List UInt8 := dkwX11_sketch_0 ++ dktX11_sketch_1
theorem dksX11_sketch_0 : cX11_sketch.data.toList.drop 0 = dktX11_sketch_0 := by decide +kernel
theorem dksX11_sketch_1 : cX11_sketch.data.toList.drop 24 = dktX11_sketch_1 := dk_seg dksX11_sketch_0 24 rfl rfl
theorem dksX11_sketch_2 : cX11_sketch.data.toList.drop 47 = dktX11_sketch_2 := dk_seg dksX11_sketch_1 23 rfl rfl
theorem dX11_sketch_0 : decode cX11_sketch 0 = .ok (.bipush 7, 2) := dk_16 7 (dk_at dksX11_sketch_0 0 rfl rfl)
theorem dX11_sketch_2 : decode cX11_sketch 2 = .ok (.istore_n 1, 1) := dk_60 (dk_at dksX11_sketch_0 2 rfl rfl)
theorem dX11_sketch_3 : decode cX11_sketch 3 = .ok (.iconst 0, 1) := dk_3 (dk_at dksX11_sketch_0 3 rfl rfl)
theorem dX11_sketch_4 : decode cX11_sketch 4 = .ok (.istore_n 2, 1) := dk_61 (dk_at dksX11_sketch_0 4 rfl rfl)
theorem dX11_sketch_5 : decode cX11_sketch 5 = .ok (.iload_n 2, 1) := dk_28 (dk_at dksX11_sketch_0 5 rfl rfl)
theorem dX11_sketch_6 : decode cX11_sketch 6 = .ok (.aload_n 0, 1) := dk_42 (dk_at dksX11_sketch_0 6 rfl rfl)
theorem dX11_sketch_7 : decode cX11_sketch 7 = .ok (.getfield 17, 3) := dk_180 0 17 (dk_at dksX11_sketch_0 7 rfl rfl)
theorem dX11_sketch_10 : decode cX11_sketch 10 = .ok (.if_icmp .ge 40, 3) := dk_162 0 40 (dk_at dksX11_sketch_0 10 rfl rfl)
theorem dX11_sketch_13 : decode cX11_sketch 13 = .ok (.iload_n 1, 1) := dk_27 (dk_at dksX11_sketch_0 13 rfl rfl)
theorem dX11_sketch_14 : decode cX11_sketch 14 = .ok (.bipush 31, 2) := dk_16 31 (dk_at dksX11_sketch_0 14 rfl rfl)
theorem dX11_sketch_16 : decode cX11_sketch 16 = .ok (.imul, 1) := dk_104 (dk_at dksX11_sketch_0 16 rfl rfl)
theorem dX11_sketch_17 : decode cX11_sketch 17 = .ok (.bipush 10, 2) := dk_16 10 (dk_at dksX11_sketch_0 17 rfl rfl)
theorem dX11_sketch_19 : decode cX11_sketch 19 = .ok (.aload_n 0, 1) := dk_42 (dk_at dksX11_sketch_0 19 rfl rfl)
theorem dX11_sketch_20 : decode cX11_sketch 20 = .ok (.getfield 11, 3) := dk_180 0 11 (dk_at dksX11_sketch_0 20 rfl rfl)
theorem dX11_sketch_23 : decode cX11_sketch 23 = .ok (.iload_n 2, 1) := dk_28 (dk_at dksX11_sketch_0 23 rfl rfl)
theorem dX11_sketch_24 : decode cX11_sketch 24 = .ok (.aaload, 1) := dk_50 (dk_at dksX11_sketch_1 0 rfl rfl)
theorem dX11_sketch_25 : decode cX11_sketch 25 = .ok (.getfield 21, 3) := dk_180 0 21 (dk_at dksX11_sketch_1 1 rfl rfl)
theorem dX11_sketch_28 : decode cX11_sketch 28 = .ok (.imul, 1) := dk_104 (dk_at dksX11_sketch_1 4 rfl rfl)
theorem dX11_sketch_29 : decode cX11_sketch 29 = .ok (.iadd, 1) := dk_96 (dk_at dksX11_sketch_1 5 rfl rfl)
theorem dX11_sketch_30 : decode cX11_sketch 30 = .ok (.aload_n 0, 1) := dk_42 (dk_at dksX11_sketch_1 6 rfl rfl)
theorem dX11_sketch_31 : decode cX11_sketch 31 = .ok (.getfield 11, 3) := dk_180 0 11 (dk_at dksX11_sketch_1 7 rfl rfl)
theorem dX11_sketch_34 : decode cX11_sketch 34 = .ok (.iload_n 2, 1) := dk_28 (dk_at dksX11_sketch_1 10 rfl rfl)
theorem dX11_sketch_35 : decode cX11_sketch 35 = .ok (.aaload, 1) := dk_50 (dk_at dksX11_sketch_1 11 rfl rfl)
theorem dX11_sketch_36 : decode cX11_sketch 36 = .ok (.getfield 24, 3) := dk_180 0 24 (dk_at dksX11_sketch_1 12 rfl rfl)
theorem dX11_sketch_39 : decode cX11_sketch 39 = .ok (.iadd, 1) := dk_96 (dk_at dksX11_sketch_1 15 rfl rfl)
theorem dX11_sketch_40 : decode cX11_sketch 40 = .ok (.ldc 27, 2) := dk_18 27 (dk_at dksX11_sketch_1 16 rfl rfl)
theorem dX11_sketch_42 : decode cX11_sketch 42 = .ok (.iand, 1) := dk_126 (dk_at dksX11_sketch_1 18 rfl rfl)
theorem dX11_sketch_43 : decode cX11_sketch 43 = .ok (.istore_n 1, 1) := dk_60 (dk_at dksX11_sketch_1 19 rfl rfl)
theorem dX11_sketch_44 : decode cX11_sketch 44 = .ok (.iinc 2 1, 3) := dk_132 2 1 (dk_at dksX11_sketch_1 20 rfl rfl)
theorem dX11_sketch_47 : decode cX11_sketch 47 = .ok (.goto (-42), 3) := dk_167 255 214 (dk_at dksX11_sketch_2 0 rfl rfl)
theorem dX11_sketch_50 : decode cX11_sketch 50 = .ok (.iload_n 1, 1) := dk_27 (dk_at dksX11_sketch_2 3 rfl rfl)
theorem dX11_sketch_51 : decode cX11_sketch 51 = .ok (.ireturn, 1) := dk_172 (dk_at dksX11_sketch_2 4 rfl rfl)
theorem q112 : (Jvm.Cond.initialized "PretendDesk$Page") ∈ lw_all := lw_g (lw_at lw_m1 13 rfl) rfl
theorem q547 : (Jvm.Cond.instantiable "PretendDesk$Page" (2 : Nat)) ∈ lw_all := lw_g (lw_at lw_m2 208 rfl) rfl
theorem q549 : (Jvm.Cond.instanceMethod ({ cls := "PretendDesk$Page", name := "<init>", desc := "()V" } : Jvm.MethodName)) ∈ lw_all := lw_g (lw_at lw_m2 210 rfl) rfl
theorem q550 : (Jvm.Cond.code ({ cls := "PretendDesk$Page", name := "<init>", desc := "()V" } : Jvm.MethodName) prog_10_method_1_code (1 : Nat) (Option.none : Option Jvm.ClassFile.FieldType)) ∈ lw_all := lw_g (lw_at lw_m2 211 rfl) rfl
theorem q551 : (Jvm.Cond.methodLink "PretendDesk$Page" (3 : Nat) ({ cls := "java/lang/Object", name := "<init>", desc := "()V" } : Jvm.MethodName)) ∈ lw_all := lw_g (lw_at lw_m2 212 rfl) rfl
theorem q552 : (Jvm.Cond.classLink "PretendDesk$Page" (9 : Nat) "PretendDesk$Box") ∈ lw_all := lw_g (lw_at lw_m2 213 rfl) rfl
theorem q554 : (Jvm.Cond.fieldLink "PretendDesk$Page" (11 : Nat) "PretendDesk$Page" "box" "[LPretendDesk$Box;") ∈ lw_all := lw_g (lw_at lw_m2 215 rfl) rfl
theorem q558 : (Jvm.Cond.fieldLink "PretendDesk$Page" (17 : Nat) "PretendDesk$Page" "boxes" "I") ∈ lw_all := lw_g (lw_at lw_m2 219 rfl) rfl
theorem q562 : (Jvm.Cond.laysFinal "PretendDesk$Page" "PretendDesk$Page" "box" "[LPretendDesk$Box;") ∈ lw_all := lw_g (lw_at lw_m2 223 rfl) rfl
theorem q563 : (Jvm.Cond.soleField "PretendDesk$Page" "box") ∈ lw_all := lw_g (lw_at lw_m2 224 rfl) rfl
theorem q564 : (Jvm.Cond.lays "PretendDesk$Page" "PretendDesk$Page" "boxes" "I") ∈ lw_all := lw_g (lw_at lw_m2 225 rfl) rfl
theorem q565 : (Jvm.Cond.soleField "PretendDesk$Page" "boxes") ∈ lw_all := lw_g (lw_at lw_m2 226 rfl) rfl
theorem q566 : (Jvm.Cond.superclass "PretendDesk$Page" "java/lang/Object") ∈ lw_all := lw_g (lw_at lw_m2 227 rfl) rfl
theorem q779 : (Jvm.Cond.fieldLink "PretendDesk$Page" (21 : Nat) "PretendDesk$Box" "kind" "I") ∈ lw_all := lw_g (lw_at lw_m3 200 rfl) rfl
theorem q783 : (Jvm.Cond.fieldLink "PretendDesk$Page" (24 : Nat) "PretendDesk$Box" "colour" "I") ∈ lw_all := lw_g (lw_at lw_m3 204 rfl) rfl
theorem q1202 : (Jvm.Cond.instanceMethod ({ cls := "PretendDesk$Page", name := "sketch", desc := "()I" } : Jvm.MethodName)) ∈ lw_all := lw_g (lw_at lw_m5 143 rfl) rfl
theorem q1203 : (Jvm.Cond.selects "PretendDesk$Page" ({ cls := "PretendDesk$Page", name := "sketch", desc := "()I" } : Jvm.MethodName) ({ cls := "PretendDesk$Page", name := "sketch", desc := "()I" } : Jvm.MethodName)) ∈ lw_all := lw_g (lw_at lw_m5 144 rfl) rfl
theorem q1204 : (Jvm.Cond.code ({ cls := "PretendDesk$Page", name := "sketch", desc := "()I" } : Jvm.MethodName) prog_10_method_2_code (3 : Nat) (Option.some Jvm.ClassFile.FieldType.int)) ∈ lw_all := lw_g (lw_at lw_m5 145 rfl) rfl
theorem q1205 : (Jvm.Cond.constant "PretendDesk$Page" (27 : Nat) (65535 : Int32)) ∈ lw_all := lw_g (lw_at lw_m5 146 rfl) rfl
theorem in_X11 : ∀ w ∈ wsX110, w ∈ lw_all := lw_in wsX110 [562, 564] (by decide +kernel) (by decide +kernel)
/-! PretendDesk$Wrong -/
set_option maxRecDepth 100000
def RX12 : String := "PretendDesk$Wrong"
def TX12 : u_T := fun k => match k with
  | 0 => ("java/lang/Throwable", "cause", "Ljava/lang/Throwable;", false)
  | 1 => ("java/lang/Throwable", "stackTrace", "[Ljava/lang/StackTraceElement;", false)
  | 2 => ("java/lang/Throwable", "suppressedExceptions", "Ljava/util/List;", false)
  | 3 => ("java/lang/Throwable", "detailMessage", "Ljava/lang/String;", false)
  | 4 => ("java/lang/Throwable", "backtrace", "Ljava/lang/Object;", false)
  | 5 => ("java/lang/Throwable", "depth", "I", false)
  | _ => ("PretendDesk$Wrong", "place", "I", true)
def tyX12 : Nat → FieldType := fun k => match k with
  | 0 => .object "java/lang/Throwable"
  | 1 => .array (.object "java/lang/StackTraceElement")
  | 2 => .object "java/util/List"
  | 3 => .object "java/lang/String"
  | 4 => .object "java/lang/Object"
  | 5 => .int
  | _ => .int
abbrev wsX120 : List Cond := u_ws RX12 TX12 7
theorem nmX12 : ∀ a, a < 7 → ∀ b, b < 7 → a ≠ b → (TX12 a).2.1 ≠ (TX12 b).2.1 := by decide +kernel
theorem tyX12_ok : ∀ k, k < 7 → parseFieldDescriptor (TX12 k).2.2.1 = some (tyX12 k) := by decide +kernel
abbrev cX12_init : ByteArray := prog_19_method_1_code
def yX12_init : MethodName := ⟨RX12, "<init>", "(I)V"⟩
def dkwX12_init_0 : List UInt8 := [42, 183, 0, 1, 42, 27, 181, 0, 7, 177]
abbrev dktX12_init_0 : List UInt8 := dkwX12_init_0 ++ []
theorem dksX12_init_0 : cX12_init.data.toList.drop 0 = dktX12_init_0 := by decide +kernel
theorem dX12_init_0 : decode cX12_init 0 = .ok (.aload_n 0, 1) := dk_42 (dk_at dksX12_init_0 0 rfl rfl)
theorem dX12_init_1 : decode cX12_init 1 = .ok (.invokespecial 1, 3) := dk_183 0 1 (dk_at dksX12_init_0 1 rfl rfl)
theorem dX12_init_4 : decode cX12_init 4 = .ok (.aload_n 0, 1) := dk_42 (dk_at dksX12_init_0 4 rfl rfl)
theorem dX12_init_5 : decode cX12_init 5 = .ok (.iload_n 1, 1) := dk_27 (dk_at dksX12_init_0 5 rfl rfl)
theorem dX12_init_6 : decode cX12_init 6 = .ok (.putfield 7, 3) := dk_181 0 7 (dk_at dksX12_init_0 6 rfl rfl)
theorem dX12_init_9 : decode cX12_init 9 = .ok (.return_, 1) := dk_177 (dk_at dksX12_init_0 9 rfl rfl)
theorem q119 : (Jvm.Cond.initialized "PretendDesk$Wrong") ∈ lw_all := lw_g (lw_at lw_m1 20 rfl) rfl
theorem q708 : (Jvm.Cond.instantiable "PretendDesk$Wrong" (7 : Nat)) ∈ lw_all := lw_g (lw_at lw_m3 129 rfl) rfl
theorem q709 : (Jvm.Cond.castable "PretendDesk$Wrong" "PretendDesk$Wrong") ∈ lw_tbl := lw_at lw_m3 130 rfl
theorem q714 : (Jvm.Cond.selects "PretendDesk$Wrong" ({ cls := "java/lang/Throwable", name := "fillInStackTrace", desc := "(I)Ljava/lang/Throwable;" } : Jvm.MethodName) ({ cls := "java/lang/Throwable", name := "fillInStackTrace", desc := "(I)Ljava/lang/Throwable;" } : Jvm.MethodName)) ∈ lw_all := lw_g (lw_at lw_m3 135 rfl) rfl
theorem q715 : (Jvm.Cond.selects "PretendDesk$Wrong" ({ cls := "java/lang/Throwable", name := "fillInStackTrace", desc := "()Ljava/lang/Throwable;" } : Jvm.MethodName) ({ cls := "java/lang/Throwable", name := "fillInStackTrace", desc := "()Ljava/lang/Throwable;" } : Jvm.MethodName)) ∈ lw_all := lw_g (lw_at lw_m3 136 rfl) rfl
theorem q716 : (Jvm.Cond.lays "PretendDesk$Wrong" "java/lang/Throwable" "cause" "Ljava/lang/Throwable;") ∈ lw_all := lw_g (lw_at lw_m3 137 rfl) rfl
theorem q718 : (Jvm.Cond.lays "PretendDesk$Wrong" "java/lang/Throwable" "stackTrace" "[Ljava/lang/StackTraceElement;") ∈ lw_all := lw_g (lw_at lw_m3 139 rfl) rfl
theorem q720 : (Jvm.Cond.lays "PretendDesk$Wrong" "java/lang/Throwable" "suppressedExceptions" "Ljava/util/List;") ∈ lw_all := lw_g (lw_at lw_m3 141 rfl) rfl
theorem q722 : (Jvm.Cond.lays "PretendDesk$Wrong" "java/lang/Throwable" "detailMessage" "Ljava/lang/String;") ∈ lw_all := lw_g (lw_at lw_m3 143 rfl) rfl
theorem q724 : (Jvm.Cond.lays "PretendDesk$Wrong" "java/lang/Throwable" "backtrace" "Ljava/lang/Object;") ∈ lw_all := lw_g (lw_at lw_m3 145 rfl) rfl
theorem q745 : (Jvm.Cond.instanceMethod ({ cls := "PretendDesk$Wrong", name := "<init>", desc := "(I)V" } : Jvm.MethodName)) ∈ lw_all := lw_g (lw_at lw_m3 166 rfl) rfl
theorem q746 : (Jvm.Cond.code ({ cls := "PretendDesk$Wrong", name := "<init>", desc := "(I)V" } : Jvm.MethodName) prog_19_method_1_code (2 : Nat) (Option.none : Option Jvm.ClassFile.FieldType)) ∈ lw_all := lw_g (lw_at lw_m3 167 rfl) rfl
theorem q747 : (Jvm.Cond.methodLink "PretendDesk$Wrong" (1 : Nat) ({ cls := "java/lang/Exception", name := "<init>", desc := "()V" } : Jvm.MethodName)) ∈ lw_all := lw_g (lw_at lw_m3 168 rfl) rfl
theorem q751 : (Jvm.Cond.fieldLink "PretendDesk$Wrong" (7 : Nat) "PretendDesk$Wrong" "place" "I") ∈ lw_all := lw_g (lw_at lw_m3 172 rfl) rfl
theorem q757 : (Jvm.Cond.laysFinal "PretendDesk$Wrong" "PretendDesk$Wrong" "place" "I") ∈ lw_all := lw_g (lw_at lw_m3 178 rfl) rfl
theorem q758 : (Jvm.Cond.soleField "PretendDesk$Wrong" "place") ∈ lw_all := lw_g (lw_at lw_m3 179 rfl) rfl
theorem q763 : (Jvm.Cond.lays "PretendDesk$Wrong" "java/lang/Throwable" "depth" "I") ∈ lw_all := lw_g (lw_at lw_m3 184 rfl) rfl
theorem q766 : (Jvm.Cond.superclass "PretendDesk$Wrong" "java/lang/Exception") ∈ lw_all := lw_g (lw_at lw_m3 187 rfl) rfl
theorem in_X12 : ∀ w ∈ wsX120, w ∈ lw_all := lw_in wsX120 [716, 718, 720, 722, 724, 763, 757] (by decide +kernel) (by decide +kernel)
/-! PretendDesk$Box -/
set_option maxRecDepth 100000
def RX13 : String := "PretendDesk$Box"
def TX13 : u_T := fun k => match k with
  | 0 => ("PretendDesk$Box", "kind", "I", false)
  | 1 => ("PretendDesk$Box", "colour", "I", false)
  | 2 => ("PretendDesk$Box", "land", "I", false)
  | 3 => ("PretendDesk$Box", "day", "I", false)
  | _ => ("PretendDesk$Box", "inside", "I", true)
def tyX13 : Nat → FieldType := fun k => match k with
  | 0 => .int
  | 1 => .int
  | 2 => .int
  | 3 => .int
  | _ => .int
abbrev wsX130 : List Cond := u_ws RX13 TX13 5
theorem nmX13 : ∀ a, a < 5 → ∀ b, b < 5 → a ≠ b → (TX13 a).2.1 ≠ (TX13 b).2.1 := by decide +kernel
theorem tyX13_ok : ∀ k, k < 5 → parseFieldDescriptor (TX13 k).2.2.1 = some (tyX13 k) := by decide +kernel
abbrev cX13_init : ByteArray := prog_2_method_1_code
def yX13_init : MethodName := ⟨RX13, "<init>", "(I)V"⟩
def dkwX13_init_0 : List UInt8 := [42, 183, 0, 3, 42, 2, 181, 0, 9, 42, 27, 181, 0, 15, 177]
abbrev dktX13_init_0 : List UInt8 := dkwX13_init_0 ++ []
theorem dksX13_init_0 : cX13_init.data.toList.drop 0 = dktX13_init_0 := by decide +kernel
theorem dX13_init_0 : decode cX13_init 0 = .ok (.aload_n 0, 1) := dk_42 (dk_at dksX13_init_0 0 rfl rfl)
theorem dX13_init_1 : decode cX13_init 1 = .ok (.invokespecial 3, 3) := dk_183 0 3 (dk_at dksX13_init_0 1 rfl rfl)
theorem dX13_init_4 : decode cX13_init 4 = .ok (.aload_n 0, 1) := dk_42 (dk_at dksX13_init_0 4 rfl rfl)
theorem dX13_init_5 : decode cX13_init 5 = .ok (.iconst (-1), 1) := dk_2 (dk_at dksX13_init_0 5 rfl rfl)
theorem dX13_init_6 : decode cX13_init 6 = .ok (.putfield 9, 3) := dk_181 0 9 (dk_at dksX13_init_0 6 rfl rfl)
theorem dX13_init_9 : decode cX13_init 9 = .ok (.aload_n 0, 1) := dk_42 (dk_at dksX13_init_0 9 rfl rfl)
theorem dX13_init_10 : decode cX13_init 10 = .ok (.iload_n 1, 1) := dk_27 (dk_at dksX13_init_0 10 rfl rfl)
theorem dX13_init_11 : decode cX13_init 11 = .ok (.putfield 15, 3) := dk_181 0 15 (dk_at dksX13_init_0 11 rfl rfl)
theorem dX13_init_14 : decode cX13_init 14 = .ok (.return_, 1) := dk_177 (dk_at dksX13_init_0 14 rfl rfl)
abbrev cX13_isShown : ByteArray := prog_2_method_2_code
def yX13_isShown : MethodName := ⟨RX13, "isShown", "(II)Z"⟩
def dkwX13_isShown_1 : List UInt8 := [4, 167, 0, 4, 3, 172]
abbrev dktX13_isShown_1 : List UInt8 := dkwX13_isShown_1 ++ []
def dkwX13_isShown_0 : List UInt8 := [42, 180, 0, 9, 2, 159, 0, 11, 42, 180, 0, 9, 27, 160, 0, 15, 42, 180, 0, 18, 28, 163, 0, 7]
abbrev dktX13_isShown_0 : List UInt8 := dkwX13_isShown_0 ++ dktX13_isShown_1
theorem dksX13_isShown_0 : cX13_isShown.data.toList.drop 0 = dktX13_isShown_0 := by decide +kernel
theorem dksX13_isShown_1 : cX13_isShown.data.toList.drop 24 = dktX13_isShown_1 := dk_seg dksX13_isShown_0 24 rfl rfl
theorem dX13_isShown_0 : decode cX13_isShown 0 = .ok (.aload_n 0, 1) := dk_42 (dk_at dksX13_isShown_0 0 rfl rfl)
theorem dX13_isShown_1 : decode cX13_isShown 1 = .ok (.getfield 9, 3) := dk_180 0 9 (dk_at dksX13_isShown_0 1 rfl rfl)
theorem dX13_isShown_4 : decode cX13_isShown 4 = .ok (.iconst (-1), 1) := dk_2 (dk_at dksX13_isShown_0 4 rfl rfl)
theorem dX13_isShown_5 : decode cX13_isShown 5 = .ok (.if_icmp .eq 11, 3) := dk_159 0 11 (dk_at dksX13_isShown_0 5 rfl rfl)
theorem dX13_isShown_8 : decode cX13_isShown 8 = .ok (.aload_n 0, 1) := dk_42 (dk_at dksX13_isShown_0 8 rfl rfl)
theorem dX13_isShown_9 : decode cX13_isShown 9 = .ok (.getfield 9, 3) := dk_180 0 9 (dk_at dksX13_isShown_0 9 rfl rfl)
theorem dX13_isShown_12 : decode cX13_isShown 12 = .ok (.iload_n 1, 1) := dk_27 (dk_at dksX13_isShown_0 12 rfl rfl)
theorem dX13_isShown_13 : decode cX13_isShown 13 = .ok (.if_icmp .ne 15, 3) := dk_160 0 15 (dk_at dksX13_isShown_0 13 rfl rfl)
theorem dX13_isShown_16 : decode cX13_isShown 16 = .ok (.aload_n 0, 1) := dk_42 (dk_at dksX13_isShown_0 16 rfl rfl)
theorem dX13_isShown_17 : decode cX13_isShown 17 = .ok (.getfield 18, 3) := dk_180 0 18 (dk_at dksX13_isShown_0 17 rfl rfl)
theorem dX13_isShown_20 : decode cX13_isShown 20 = .ok (.iload_n 2, 1) := dk_28 (dk_at dksX13_isShown_0 20 rfl rfl)
theorem dX13_isShown_21 : decode cX13_isShown 21 = .ok (.if_icmp .gt 7, 3) := dk_163 0 7 (dk_at dksX13_isShown_0 21 rfl rfl)
theorem dX13_isShown_24 : decode cX13_isShown 24 = .ok (.iconst 1, 1) := dk_4 (dk_at dksX13_isShown_1 0 rfl rfl)
theorem dX13_isShown_25 : decode cX13_isShown 25 = .ok (.goto 4, 3) := dk_167 0 4 (dk_at dksX13_isShown_1 1 rfl rfl)
theorem dX13_isShown_28 : decode cX13_isShown 28 = .ok (.iconst 0, 1) := dk_3 (dk_at dksX13_isShown_1 4 rfl rfl)
theorem dX13_isShown_29 : decode cX13_isShown 29 = .ok (.ireturn, 1) := dk_172 (dk_at dksX13_isShown_1 5 rfl rfl)
theorem q120 : (Jvm.Cond.initialized "PretendDesk$Box") ∈ lw_all := lw_g (lw_at lw_m1 21 rfl) rfl
theorem q774 : (Jvm.Cond.instantiable "PretendDesk$Box" (5 : Nat)) ∈ lw_all := lw_g (lw_at lw_m3 195 rfl) rfl
theorem q776 : (Jvm.Cond.instanceMethod ({ cls := "PretendDesk$Box", name := "<init>", desc := "(I)V" } : Jvm.MethodName)) ∈ lw_all := lw_g (lw_at lw_m3 197 rfl) rfl
theorem q777 : (Jvm.Cond.code ({ cls := "PretendDesk$Box", name := "<init>", desc := "(I)V" } : Jvm.MethodName) prog_2_method_1_code (2 : Nat) (Option.none : Option Jvm.ClassFile.FieldType)) ∈ lw_all := lw_g (lw_at lw_m3 198 rfl) rfl
theorem q778 : (Jvm.Cond.methodLink "PretendDesk$Box" (3 : Nat) ({ cls := "java/lang/Object", name := "<init>", desc := "()V" } : Jvm.MethodName)) ∈ lw_all := lw_g (lw_at lw_m3 199 rfl) rfl
theorem q787 : (Jvm.Cond.fieldLink "PretendDesk$Box" (9 : Nat) "PretendDesk$Box" "land" "I") ∈ lw_all := lw_g (lw_at lw_m3 208 rfl) rfl
theorem q790 : (Jvm.Cond.fieldLink "PretendDesk$Box" (18 : Nat) "PretendDesk$Box" "day" "I") ∈ lw_all := lw_g (lw_at lw_m3 211 rfl) rfl
theorem q793 : (Jvm.Cond.fieldLink "PretendDesk$Box" (15 : Nat) "PretendDesk$Box" "inside" "I") ∈ lw_all := lw_g (lw_at lw_m3 214 rfl) rfl
theorem q796 : (Jvm.Cond.lays "PretendDesk$Box" "PretendDesk$Box" "kind" "I") ∈ lw_all := lw_g (lw_at lw_m3 217 rfl) rfl
theorem q797 : (Jvm.Cond.soleField "PretendDesk$Box" "kind") ∈ lw_all := lw_g (lw_at lw_m3 218 rfl) rfl
theorem q798 : (Jvm.Cond.lays "PretendDesk$Box" "PretendDesk$Box" "colour" "I") ∈ lw_all := lw_g (lw_at lw_m3 219 rfl) rfl
theorem q799 : (Jvm.Cond.soleField "PretendDesk$Box" "colour") ∈ lw_all := lw_g (lw_at lw_m3 220 rfl) rfl
theorem q800 : (Jvm.Cond.lays "PretendDesk$Box" "PretendDesk$Box" "land" "I") ∈ lw_all := lw_g (lw_at lw_m3 221 rfl) rfl
theorem q801 : (Jvm.Cond.soleField "PretendDesk$Box" "land") ∈ lw_all := lw_g (lw_at lw_m3 222 rfl) rfl
theorem q802 : (Jvm.Cond.lays "PretendDesk$Box" "PretendDesk$Box" "day" "I") ∈ lw_all := lw_g (lw_at lw_m3 223 rfl) rfl
theorem q803 : (Jvm.Cond.soleField "PretendDesk$Box" "day") ∈ lw_all := lw_g (lw_at lw_m3 224 rfl) rfl
theorem q804 : (Jvm.Cond.laysFinal "PretendDesk$Box" "PretendDesk$Box" "inside" "I") ∈ lw_all := lw_g (lw_at lw_m3 225 rfl) rfl
theorem q805 : (Jvm.Cond.soleField "PretendDesk$Box" "inside") ∈ lw_all := lw_g (lw_at lw_m3 226 rfl) rfl
theorem q806 : (Jvm.Cond.superclass "PretendDesk$Box" "java/lang/Object") ∈ lw_all := lw_g (lw_at lw_m3 227 rfl) rfl
theorem q962 : (Jvm.Cond.instanceMethod ({ cls := "PretendDesk$Box", name := "isShown", desc := "(II)Z" } : Jvm.MethodName)) ∈ lw_all := lw_g (lw_at lw_m4 143 rfl) rfl
theorem q963 : (Jvm.Cond.selects "PretendDesk$Box" ({ cls := "PretendDesk$Box", name := "isShown", desc := "(II)Z" } : Jvm.MethodName) ({ cls := "PretendDesk$Box", name := "isShown", desc := "(II)Z" } : Jvm.MethodName)) ∈ lw_all := lw_g (lw_at lw_m4 144 rfl) rfl
theorem q964 : (Jvm.Cond.code ({ cls := "PretendDesk$Box", name := "isShown", desc := "(II)Z" } : Jvm.MethodName) prog_2_method_2_code (3 : Nat) (Option.some Jvm.ClassFile.FieldType.boolean)) ∈ lw_all := lw_g (lw_at lw_m4 145 rfl) rfl
theorem in_X13 : ∀ w ∈ wsX130, w ∈ lw_all := lw_in wsX130 [796, 798, 800, 802, 804] (by decide +kernel) (by decide +kernel)
/-! PretendDesk$Came -/
set_option maxRecDepth 100000
def RX14 : String := "PretendDesk$Came"
def TX14 : u_T := fun k => match k with
  | 0 => ("PretendDesk$Came", "page", "LPretendDesk$Page;", true)
  | 1 => ("PretendDesk$Came", "name", "[B", false)
  | 2 => ("PretendDesk$Came", "program", "LPretendDesk$Program;", false)
  | 3 => ("PretendDesk$Came", "since", "I", false)
  | 4 => ("PretendDesk$Came", "pieces", "I", false)
  | 5 => ("PretendDesk$Came", "changes", "I", false)
  | 6 => ("PretendDesk$Came", "picture", "I", false)
  | _ => ("PretendDesk$Came", "change", "[LPretendDesk$Change;", true)
def tyX14 : Nat → FieldType := fun k => match k with
  | 0 => .object "PretendDesk$Page"
  | 1 => .array .byte
  | 2 => .object "PretendDesk$Program"
  | 3 => .int
  | 4 => .int
  | 5 => .int
  | 6 => .int
  | _ => .array (.object "PretendDesk$Change")
abbrev wsX140 : List Cond := u_ws RX14 TX14 8
theorem nmX14 : ∀ a, a < 8 → ∀ b, b < 8 → a ≠ b → (TX14 a).2.1 ≠ (TX14 b).2.1 := by decide +kernel
theorem tyX14_ok : ∀ k, k < 8 → parseFieldDescriptor (TX14 k).2.2.1 = some (tyX14 k) := by decide +kernel
abbrev cX14_init : ByteArray := prog_3_method_1_code
def yX14_init : MethodName := ⟨RX14, "<init>", "(LPretendDesk$Page;)V"⟩
def dkwX14_init_1 : List UInt8 := [16, 6, 189, 0, 22, 181, 0, 24, 42, 43, 181, 0, 28, 177]
abbrev dktX14_init_1 : List UInt8 := dkwX14_init_1 ++ []
def dkwX14_init_0 : List UInt8 := [42, 183, 0, 3, 42, 3, 188, 8, 181, 0, 9, 42, 187, 0, 15, 89, 183, 0, 17, 181, 0, 18, 42]
abbrev dktX14_init_0 : List UInt8 := dkwX14_init_0 ++ dktX14_init_1
theorem dksX14_init_0 : cX14_init.data.toList.drop 0 = dktX14_init_0 := by decide +kernel
theorem dksX14_init_1 : cX14_init.data.toList.drop 23 = dktX14_init_1 := dk_seg dksX14_init_0 23 rfl rfl
theorem dX14_init_0 : decode cX14_init 0 = .ok (.aload_n 0, 1) := dk_42 (dk_at dksX14_init_0 0 rfl rfl)
theorem dX14_init_1 : decode cX14_init 1 = .ok (.invokespecial 3, 3) := dk_183 0 3 (dk_at dksX14_init_0 1 rfl rfl)
theorem dX14_init_4 : decode cX14_init 4 = .ok (.aload_n 0, 1) := dk_42 (dk_at dksX14_init_0 4 rfl rfl)
theorem dX14_init_5 : decode cX14_init 5 = .ok (.iconst 0, 1) := dk_3 (dk_at dksX14_init_0 5 rfl rfl)
theorem dX14_init_6 : decode cX14_init 6 = .ok (.newarray .byte, 2) := dk_188_8 (dk_at dksX14_init_0 6 rfl rfl)
theorem dX14_init_8 : decode cX14_init 8 = .ok (.putfield 9, 3) := dk_181 0 9 (dk_at dksX14_init_0 8 rfl rfl)
theorem dX14_init_11 : decode cX14_init 11 = .ok (.aload_n 0, 1) := dk_42 (dk_at dksX14_init_0 11 rfl rfl)
theorem dX14_init_12 : decode cX14_init 12 = .ok (.new 15, 3) := dk_187 0 15 (dk_at dksX14_init_0 12 rfl rfl)
theorem dX14_init_15 : decode cX14_init 15 = .ok (.dup, 1) := dk_89 (dk_at dksX14_init_0 15 rfl rfl)
theorem dX14_init_16 : decode cX14_init 16 = .ok (.invokespecial 17, 3) := dk_183 0 17 (dk_at dksX14_init_0 16 rfl rfl)
theorem dX14_init_19 : decode cX14_init 19 = .ok (.putfield 18, 3) := dk_181 0 18 (dk_at dksX14_init_0 19 rfl rfl)
theorem dX14_init_22 : decode cX14_init 22 = .ok (.aload_n 0, 1) := dk_42 (dk_at dksX14_init_0 22 rfl rfl)
theorem dX14_init_23 : decode cX14_init 23 = .ok (.bipush 6, 2) := dk_16 6 (dk_at dksX14_init_1 0 rfl rfl)
theorem dX14_init_25 : decode cX14_init 25 = .ok (.anewarray 22, 3) := dk_189 0 22 (dk_at dksX14_init_1 2 rfl rfl)
theorem dX14_init_28 : decode cX14_init 28 = .ok (.putfield 24, 3) := dk_181 0 24 (dk_at dksX14_init_1 5 rfl rfl)
theorem dX14_init_31 : decode cX14_init 31 = .ok (.aload_n 0, 1) := dk_42 (dk_at dksX14_init_1 8 rfl rfl)
theorem dX14_init_32 : decode cX14_init 32 = .ok (.aload_n 1, 1) := dk_43 (dk_at dksX14_init_1 9 rfl rfl)
theorem dX14_init_33 : decode cX14_init 33 = .ok (.putfield 28, 3) := dk_181 0 28 (dk_at dksX14_init_1 10 rfl rfl)
theorem dX14_init_36 : decode cX14_init 36 = .ok (.return_, 1) := dk_177 (dk_at dksX14_init_1 13 rfl rfl)
abbrev cX14_age : ByteArray := prog_3_method_3_code
def yX14_age : MethodName := ⟨RX14, "age", "(I)I"⟩
def dkwX14_age_0 : List UInt8 := [3, 27, 42, 180, 0, 32, 100, 184, 0, 51, 172]
abbrev dktX14_age_0 : List UInt8 := dkwX14_age_0 ++ []
theorem dksX14_age_0 : cX14_age.data.toList.drop 0 = dktX14_age_0 := by decide +kernel
theorem dX14_age_0 : decode cX14_age 0 = .ok (.iconst 0, 1) := dk_3 (dk_at dksX14_age_0 0 rfl rfl)
theorem dX14_age_1 : decode cX14_age 1 = .ok (.iload_n 1, 1) := dk_27 (dk_at dksX14_age_0 1 rfl rfl)
theorem dX14_age_2 : decode cX14_age 2 = .ok (.aload_n 0, 1) := dk_42 (dk_at dksX14_age_0 2 rfl rfl)
theorem dX14_age_3 : decode cX14_age 3 = .ok (.getfield 32, 3) := dk_180 0 32 (dk_at dksX14_age_0 3 rfl rfl)
theorem dX14_age_6 : decode cX14_age 6 = .ok (.isub, 1) := dk_100 (dk_at dksX14_age_0 6 rfl rfl)
theorem dX14_age_7 : decode cX14_age 7 = .ok (.invokestatic 51, 3) := dk_184 0 51 (dk_at dksX14_age_0 7 rfl rfl)
theorem dX14_age_10 : decode cX14_age 10 = .ok (.ireturn, 1) := dk_172 (dk_at dksX14_age_0 10 rfl rfl)
abbrev cX14_init_2 : ByteArray := prog_3_method_2_code
def yX14_init_2 : MethodName := ⟨RX14, "<init>", "(LPretendDesk$Came;)V"⟩
def dkwX14_init_2_4 : List UInt8 := [180, 0, 24, 3, 42, 180, 0, 42, 184, 0, 45, 177]
abbrev dktX14_init_2_4 : List UInt8 := dkwX14_init_2_4 ++ []
def dkwX14_init_2_3 : List UInt8 := [42, 43, 180, 0, 39, 181, 0, 39, 42, 43, 180, 0, 42, 181, 0, 42, 43, 180, 0, 24, 3, 42]
abbrev dktX14_init_2_3 : List UInt8 := dkwX14_init_2_3 ++ dktX14_init_2_4
def dkwX14_init_2_2 : List UInt8 := [42, 43, 180, 0, 32, 181, 0, 32, 42, 43, 180, 0, 36, 181, 0, 36, 42, 43, 180, 0, 18, 181, 0, 18]
abbrev dktX14_init_2_2 : List UInt8 := dkwX14_init_2_2 ++ dktX14_init_2_3
def dkwX14_init_2_1 : List UInt8 := [16, 6, 189, 0, 22, 181, 0, 24, 42, 43, 180, 0, 28, 181, 0, 28, 42, 43, 180, 0, 9, 181, 0, 9]
abbrev dktX14_init_2_1 : List UInt8 := dkwX14_init_2_1 ++ dktX14_init_2_2
def dkwX14_init_2_0 : List UInt8 := [42, 183, 0, 3, 42, 3, 188, 8, 181, 0, 9, 42, 187, 0, 15, 89, 183, 0, 17, 181, 0, 18, 42]
abbrev dktX14_init_2_0 : List UInt8 := dkwX14_init_2_0 ++ dktX14_init_2_1
theorem dksX14_init_2_0 : cX14_init_2.data.toList.drop 0 = dktX14_init_2_0 := by decide +kernel
theorem dksX14_init_2_1 : cX14_init_2.data.toList.drop 23 = dktX14_init_2_1 := dk_seg dksX14_init_2_0 23 rfl rfl
theorem dksX14_init_2_2 : cX14_init_2.data.toList.drop 47 = dktX14_init_2_2 := dk_seg dksX14_init_2_1 24 rfl rfl
theorem dksX14_init_2_3 : cX14_init_2.data.toList.drop 71 = dktX14_init_2_3 := dk_seg dksX14_init_2_2 24 rfl rfl
theorem dksX14_init_2_4 : cX14_init_2.data.toList.drop 93 = dktX14_init_2_4 := dk_seg dksX14_init_2_3 22 rfl rfl
theorem dX14_init_2_0 : decode cX14_init_2 0 = .ok (.aload_n 0, 1) := dk_42 (dk_at dksX14_init_2_0 0 rfl rfl)
theorem dX14_init_2_1 : decode cX14_init_2 1 = .ok (.invokespecial 3, 3) := dk_183 0 3 (dk_at dksX14_init_2_0 1 rfl rfl)
theorem dX14_init_2_4 : decode cX14_init_2 4 = .ok (.aload_n 0, 1) := dk_42 (dk_at dksX14_init_2_0 4 rfl rfl)
theorem dX14_init_2_5 : decode cX14_init_2 5 = .ok (.iconst 0, 1) := dk_3 (dk_at dksX14_init_2_0 5 rfl rfl)
theorem dX14_init_2_6 : decode cX14_init_2 6 = .ok (.newarray .byte, 2) := dk_188_8 (dk_at dksX14_init_2_0 6 rfl rfl)
theorem dX14_init_2_8 : decode cX14_init_2 8 = .ok (.putfield 9, 3) := dk_181 0 9 (dk_at dksX14_init_2_0 8 rfl rfl)
theorem dX14_init_2_11 : decode cX14_init_2 11 = .ok (.aload_n 0, 1) := dk_42 (dk_at dksX14_init_2_0 11 rfl rfl)
theorem dX14_init_2_12 : decode cX14_init_2 12 = .ok (.new 15, 3) := dk_187 0 15 (dk_at dksX14_init_2_0 12 rfl rfl)
theorem dX14_init_2_15 : decode cX14_init_2 15 = .ok (.dup, 1) := dk_89 (dk_at dksX14_init_2_0 15 rfl rfl)
theorem dX14_init_2_16 : decode cX14_init_2 16 = .ok (.invokespecial 17, 3) := dk_183 0 17 (dk_at dksX14_init_2_0 16 rfl rfl)
theorem dX14_init_2_19 : decode cX14_init_2 19 = .ok (.putfield 18, 3) := dk_181 0 18 (dk_at dksX14_init_2_0 19 rfl rfl)
theorem dX14_init_2_22 : decode cX14_init_2 22 = .ok (.aload_n 0, 1) := dk_42 (dk_at dksX14_init_2_0 22 rfl rfl)
theorem dX14_init_2_23 : decode cX14_init_2 23 = .ok (.bipush 6, 2) := dk_16 6 (dk_at dksX14_init_2_1 0 rfl rfl)
theorem dX14_init_2_25 : decode cX14_init_2 25 = .ok (.anewarray 22, 3) := dk_189 0 22 (dk_at dksX14_init_2_1 2 rfl rfl)
theorem dX14_init_2_28 : decode cX14_init_2 28 = .ok (.putfield 24, 3) := dk_181 0 24 (dk_at dksX14_init_2_1 5 rfl rfl)
theorem dX14_init_2_31 : decode cX14_init_2 31 = .ok (.aload_n 0, 1) := dk_42 (dk_at dksX14_init_2_1 8 rfl rfl)
theorem dX14_init_2_32 : decode cX14_init_2 32 = .ok (.aload_n 1, 1) := dk_43 (dk_at dksX14_init_2_1 9 rfl rfl)
theorem dX14_init_2_33 : decode cX14_init_2 33 = .ok (.getfield 28, 3) := dk_180 0 28 (dk_at dksX14_init_2_1 10 rfl rfl)
theorem dX14_init_2_36 : decode cX14_init_2 36 = .ok (.putfield 28, 3) := dk_181 0 28 (dk_at dksX14_init_2_1 13 rfl rfl)
theorem dX14_init_2_39 : decode cX14_init_2 39 = .ok (.aload_n 0, 1) := dk_42 (dk_at dksX14_init_2_1 16 rfl rfl)
theorem dX14_init_2_40 : decode cX14_init_2 40 = .ok (.aload_n 1, 1) := dk_43 (dk_at dksX14_init_2_1 17 rfl rfl)
theorem dX14_init_2_41 : decode cX14_init_2 41 = .ok (.getfield 9, 3) := dk_180 0 9 (dk_at dksX14_init_2_1 18 rfl rfl)
theorem dX14_init_2_44 : decode cX14_init_2 44 = .ok (.putfield 9, 3) := dk_181 0 9 (dk_at dksX14_init_2_1 21 rfl rfl)
theorem dX14_init_2_47 : decode cX14_init_2 47 = .ok (.aload_n 0, 1) := dk_42 (dk_at dksX14_init_2_2 0 rfl rfl)
theorem dX14_init_2_48 : decode cX14_init_2 48 = .ok (.aload_n 1, 1) := dk_43 (dk_at dksX14_init_2_2 1 rfl rfl)
theorem dX14_init_2_49 : decode cX14_init_2 49 = .ok (.getfield 32, 3) := dk_180 0 32 (dk_at dksX14_init_2_2 2 rfl rfl)
theorem dX14_init_2_52 : decode cX14_init_2 52 = .ok (.putfield 32, 3) := dk_181 0 32 (dk_at dksX14_init_2_2 5 rfl rfl)
theorem dX14_init_2_55 : decode cX14_init_2 55 = .ok (.aload_n 0, 1) := dk_42 (dk_at dksX14_init_2_2 8 rfl rfl)
theorem dX14_init_2_56 : decode cX14_init_2 56 = .ok (.aload_n 1, 1) := dk_43 (dk_at dksX14_init_2_2 9 rfl rfl)
theorem dX14_init_2_57 : decode cX14_init_2 57 = .ok (.getfield 36, 3) := dk_180 0 36 (dk_at dksX14_init_2_2 10 rfl rfl)
theorem dX14_init_2_60 : decode cX14_init_2 60 = .ok (.putfield 36, 3) := dk_181 0 36 (dk_at dksX14_init_2_2 13 rfl rfl)
theorem dX14_init_2_63 : decode cX14_init_2 63 = .ok (.aload_n 0, 1) := dk_42 (dk_at dksX14_init_2_2 16 rfl rfl)
theorem dX14_init_2_64 : decode cX14_init_2 64 = .ok (.aload_n 1, 1) := dk_43 (dk_at dksX14_init_2_2 17 rfl rfl)
theorem dX14_init_2_65 : decode cX14_init_2 65 = .ok (.getfield 18, 3) := dk_180 0 18 (dk_at dksX14_init_2_2 18 rfl rfl)
theorem dX14_init_2_68 : decode cX14_init_2 68 = .ok (.putfield 18, 3) := dk_181 0 18 (dk_at dksX14_init_2_2 21 rfl rfl)
theorem dX14_init_2_71 : decode cX14_init_2 71 = .ok (.aload_n 0, 1) := dk_42 (dk_at dksX14_init_2_3 0 rfl rfl)
theorem dX14_init_2_72 : decode cX14_init_2 72 = .ok (.aload_n 1, 1) := dk_43 (dk_at dksX14_init_2_3 1 rfl rfl)
theorem dX14_init_2_73 : decode cX14_init_2 73 = .ok (.getfield 39, 3) := dk_180 0 39 (dk_at dksX14_init_2_3 2 rfl rfl)
theorem dX14_init_2_76 : decode cX14_init_2 76 = .ok (.putfield 39, 3) := dk_181 0 39 (dk_at dksX14_init_2_3 5 rfl rfl)
theorem dX14_init_2_79 : decode cX14_init_2 79 = .ok (.aload_n 0, 1) := dk_42 (dk_at dksX14_init_2_3 8 rfl rfl)
theorem dX14_init_2_80 : decode cX14_init_2 80 = .ok (.aload_n 1, 1) := dk_43 (dk_at dksX14_init_2_3 9 rfl rfl)
theorem dX14_init_2_81 : decode cX14_init_2 81 = .ok (.getfield 42, 3) := dk_180 0 42 (dk_at dksX14_init_2_3 10 rfl rfl)
theorem dX14_init_2_84 : decode cX14_init_2 84 = .ok (.putfield 42, 3) := dk_181 0 42 (dk_at dksX14_init_2_3 13 rfl rfl)
theorem dX14_init_2_87 : decode cX14_init_2 87 = .ok (.aload_n 1, 1) := dk_43 (dk_at dksX14_init_2_3 16 rfl rfl)
theorem dX14_init_2_88 : decode cX14_init_2 88 = .ok (.getfield 24, 3) := dk_180 0 24 (dk_at dksX14_init_2_3 17 rfl rfl)
theorem dX14_init_2_91 : decode cX14_init_2 91 = .ok (.iconst 0, 1) := dk_3 (dk_at dksX14_init_2_3 20 rfl rfl)
theorem dX14_init_2_92 : decode cX14_init_2 92 = .ok (.aload_n 0, 1) := dk_42 (dk_at dksX14_init_2_3 21 rfl rfl)
theorem dX14_init_2_93 : decode cX14_init_2 93 = .ok (.getfield 24, 3) := dk_180 0 24 (dk_at dksX14_init_2_4 0 rfl rfl)
theorem dX14_init_2_96 : decode cX14_init_2 96 = .ok (.iconst 0, 1) := dk_3 (dk_at dksX14_init_2_4 3 rfl rfl)
theorem dX14_init_2_97 : decode cX14_init_2 97 = .ok (.aload_n 0, 1) := dk_42 (dk_at dksX14_init_2_4 4 rfl rfl)
theorem dX14_init_2_98 : decode cX14_init_2 98 = .ok (.getfield 42, 3) := dk_180 0 42 (dk_at dksX14_init_2_4 5 rfl rfl)
theorem dX14_init_2_101 : decode cX14_init_2 101 = .ok (.invokestatic 45, 3) := dk_184 0 45 (dk_at dksX14_init_2_4 8 rfl rfl)
theorem dX14_init_2_104 : decode cX14_init_2 104 = .ok (.return_, 1) := dk_177 (dk_at dksX14_init_2_4 11 rfl rfl)
theorem q121 : (Jvm.Cond.initialized "PretendDesk$Came") ∈ lw_all := lw_g (lw_at lw_m1 22 rfl) rfl
theorem q833 : (Jvm.Cond.instantiable "PretendDesk$Came" (8 : Nat)) ∈ lw_all := lw_g (lw_at lw_m4 14 rfl) rfl
theorem q835 : (Jvm.Cond.instanceMethod ({ cls := "PretendDesk$Came", name := "<init>", desc := "(LPretendDesk$Page;)V" } : Jvm.MethodName)) ∈ lw_all := lw_g (lw_at lw_m4 16 rfl) rfl
theorem q836 : (Jvm.Cond.code ({ cls := "PretendDesk$Came", name := "<init>", desc := "(LPretendDesk$Page;)V" } : Jvm.MethodName) prog_3_method_1_code (2 : Nat) (Option.none : Option Jvm.ClassFile.FieldType)) ∈ lw_all := lw_g (lw_at lw_m4 17 rfl) rfl
theorem q837 : (Jvm.Cond.methodLink "PretendDesk$Came" (3 : Nat) ({ cls := "java/lang/Object", name := "<init>", desc := "()V" } : Jvm.MethodName)) ∈ lw_all := lw_g (lw_at lw_m4 18 rfl) rfl
theorem q838 : (Jvm.Cond.classLink "PretendDesk$Came" (15 : Nat) "PretendDesk$Program") ∈ lw_all := lw_g (lw_at lw_m4 19 rfl) rfl
theorem q840 : (Jvm.Cond.methodLinkNest "PretendDesk$Came" (17 : Nat) ({ cls := "PretendDesk$Program", name := "<init>", desc := "()V" } : Jvm.MethodName) "PretendDesk") ∈ lw_tbl := lw_at lw_m4 21 rfl
theorem q867 : (Jvm.Cond.classLink "PretendDesk$Came" (22 : Nat) "PretendDesk$Change") ∈ lw_all := lw_g (lw_at lw_m4 48 rfl) rfl
theorem q869 : (Jvm.Cond.fieldLink "PretendDesk$Came" (28 : Nat) "PretendDesk$Came" "page" "LPretendDesk$Page;") ∈ lw_all := lw_g (lw_at lw_m4 50 rfl) rfl
theorem q872 : (Jvm.Cond.fieldLink "PretendDesk$Came" (9 : Nat) "PretendDesk$Came" "name" "[B") ∈ lw_all := lw_g (lw_at lw_m4 53 rfl) rfl
theorem q875 : (Jvm.Cond.fieldLink "PretendDesk$Came" (18 : Nat) "PretendDesk$Came" "program" "LPretendDesk$Program;") ∈ lw_all := lw_g (lw_at lw_m4 56 rfl) rfl
theorem q877 : (Jvm.Cond.fieldLink "PretendDesk$Came" (32 : Nat) "PretendDesk$Came" "since" "I") ∈ lw_all := lw_g (lw_at lw_m4 58 rfl) rfl
theorem q879 : (Jvm.Cond.fieldLink "PretendDesk$Came" (36 : Nat) "PretendDesk$Came" "pieces" "I") ∈ lw_all := lw_g (lw_at lw_m4 60 rfl) rfl
theorem q882 : (Jvm.Cond.fieldLink "PretendDesk$Came" (42 : Nat) "PretendDesk$Came" "changes" "I") ∈ lw_all := lw_g (lw_at lw_m4 63 rfl) rfl
theorem q884 : (Jvm.Cond.fieldLink "PretendDesk$Came" (39 : Nat) "PretendDesk$Came" "picture" "I") ∈ lw_all := lw_g (lw_at lw_m4 65 rfl) rfl
theorem q886 : (Jvm.Cond.fieldLink "PretendDesk$Came" (24 : Nat) "PretendDesk$Came" "change" "[LPretendDesk$Change;") ∈ lw_all := lw_g (lw_at lw_m4 67 rfl) rfl
theorem q889 : (Jvm.Cond.laysFinal "PretendDesk$Came" "PretendDesk$Came" "page" "LPretendDesk$Page;") ∈ lw_all := lw_g (lw_at lw_m4 70 rfl) rfl
theorem q890 : (Jvm.Cond.soleField "PretendDesk$Came" "page") ∈ lw_all := lw_g (lw_at lw_m4 71 rfl) rfl
theorem q891 : (Jvm.Cond.lays "PretendDesk$Came" "PretendDesk$Came" "name" "[B") ∈ lw_all := lw_g (lw_at lw_m4 72 rfl) rfl
theorem q892 : (Jvm.Cond.soleField "PretendDesk$Came" "name") ∈ lw_all := lw_g (lw_at lw_m4 73 rfl) rfl
theorem q893 : (Jvm.Cond.lays "PretendDesk$Came" "PretendDesk$Came" "program" "LPretendDesk$Program;") ∈ lw_all := lw_g (lw_at lw_m4 74 rfl) rfl
theorem q894 : (Jvm.Cond.soleField "PretendDesk$Came" "program") ∈ lw_all := lw_g (lw_at lw_m4 75 rfl) rfl
theorem q895 : (Jvm.Cond.lays "PretendDesk$Came" "PretendDesk$Came" "since" "I") ∈ lw_all := lw_g (lw_at lw_m4 76 rfl) rfl
theorem q896 : (Jvm.Cond.soleField "PretendDesk$Came" "since") ∈ lw_all := lw_g (lw_at lw_m4 77 rfl) rfl
theorem q897 : (Jvm.Cond.lays "PretendDesk$Came" "PretendDesk$Came" "pieces" "I") ∈ lw_all := lw_g (lw_at lw_m4 78 rfl) rfl
theorem q898 : (Jvm.Cond.soleField "PretendDesk$Came" "pieces") ∈ lw_all := lw_g (lw_at lw_m4 79 rfl) rfl
theorem q899 : (Jvm.Cond.lays "PretendDesk$Came" "PretendDesk$Came" "changes" "I") ∈ lw_all := lw_g (lw_at lw_m4 80 rfl) rfl
theorem q900 : (Jvm.Cond.soleField "PretendDesk$Came" "changes") ∈ lw_all := lw_g (lw_at lw_m4 81 rfl) rfl
theorem q901 : (Jvm.Cond.lays "PretendDesk$Came" "PretendDesk$Came" "picture" "I") ∈ lw_all := lw_g (lw_at lw_m4 82 rfl) rfl
theorem q902 : (Jvm.Cond.soleField "PretendDesk$Came" "picture") ∈ lw_all := lw_g (lw_at lw_m4 83 rfl) rfl
theorem q903 : (Jvm.Cond.laysFinal "PretendDesk$Came" "PretendDesk$Came" "change" "[LPretendDesk$Change;") ∈ lw_all := lw_g (lw_at lw_m4 84 rfl) rfl
theorem q904 : (Jvm.Cond.soleField "PretendDesk$Came" "change") ∈ lw_all := lw_g (lw_at lw_m4 85 rfl) rfl
theorem q905 : (Jvm.Cond.superclass "PretendDesk$Came" "java/lang/Object") ∈ lw_all := lw_g (lw_at lw_m4 86 rfl) rfl
theorem q1034 : (Jvm.Cond.instanceMethod ({ cls := "PretendDesk$Came", name := "age", desc := "(I)I" } : Jvm.MethodName)) ∈ lw_all := lw_g (lw_at lw_m4 215 rfl) rfl
theorem q1035 : (Jvm.Cond.selects "PretendDesk$Came" ({ cls := "PretendDesk$Came", name := "age", desc := "(I)I" } : Jvm.MethodName) ({ cls := "PretendDesk$Came", name := "age", desc := "(I)I" } : Jvm.MethodName)) ∈ lw_all := lw_g (lw_at lw_m4 216 rfl) rfl
theorem q1036 : (Jvm.Cond.code ({ cls := "PretendDesk$Came", name := "age", desc := "(I)I" } : Jvm.MethodName) prog_3_method_3_code (2 : Nat) (Option.some Jvm.ClassFile.FieldType.int)) ∈ lw_all := lw_g (lw_at lw_m4 217 rfl) rfl
theorem q1037 : (Jvm.Cond.methodLink "PretendDesk$Came" (51 : Nat) ({ cls := "java/lang/Math", name := "max", desc := "(II)I" } : Jvm.MethodName)) ∈ lw_all := lw_g (lw_at lw_m4 218 rfl) rfl
theorem q1430 : (Jvm.Cond.instanceMethod ({ cls := "PretendDesk$Came", name := "<init>", desc := "(LPretendDesk$Came;)V" } : Jvm.MethodName)) ∈ lw_all := lw_g (lw_at lw_m6 131 rfl) rfl
theorem q1431 : (Jvm.Cond.code ({ cls := "PretendDesk$Came", name := "<init>", desc := "(LPretendDesk$Came;)V" } : Jvm.MethodName) prog_3_method_2_code (2 : Nat) (Option.none : Option Jvm.ClassFile.FieldType)) ∈ lw_all := lw_g (lw_at lw_m6 132 rfl) rfl
theorem q1432 : (Jvm.Cond.methodLink "PretendDesk$Came" (45 : Nat) ({ cls := "java/lang/System", name := "arraycopy", desc := "(Ljava/lang/Object;ILjava/lang/Object;II)V" } : Jvm.MethodName)) ∈ lw_all := lw_g (lw_at lw_m6 133 rfl) rfl
theorem in_X14 : ∀ w ∈ wsX140, w ∈ lw_all := lw_in wsX140 [889, 891, 893, 895, 897, 899, 901, 903] (by decide +kernel) (by decide +kernel)
/-! PretendDesk$Program -/
set_option maxRecDepth 100000
def RX15 : String := "PretendDesk$Program"
def TX15 : u_T := fun k => match k with
  | 0 => ("PretendDesk$Program", "act", "[B", true)
  | 1 => ("PretendDesk$Program", "one", "[B", true)
  | 2 => ("PretendDesk$Program", "two", "[B", true)
  | 3 => ("PretendDesk$Program", "three", "[B", true)
  | _ => ("PretendDesk$Program", "lines", "I", false)
def tyX15 : Nat → FieldType := fun k => match k with
  | 0 => .array .byte
  | 1 => .array .byte
  | 2 => .array .byte
  | 3 => .array .byte
  | _ => .int
abbrev wsX150 : List Cond := u_ws RX15 TX15 5
theorem nmX15 : ∀ a, a < 5 → ∀ b, b < 5 → a ≠ b → (TX15 a).2.1 ≠ (TX15 b).2.1 := by decide +kernel
theorem tyX15_ok : ∀ k, k < 5 → parseFieldDescriptor (TX15 k).2.2.1 = some (tyX15 k) := by decide +kernel
abbrev cX15_init : ByteArray := prog_12_method_1_code
def yX15_init : MethodName := ⟨RX15, "<init>", "()V"⟩
def dkwX15_init_1 : List UInt8 := [188, 8, 181, 0, 18, 42, 16, 20, 188, 8, 181, 0, 21, 177]
abbrev dktX15_init_1 : List UInt8 := dkwX15_init_1 ++ []
def dkwX15_init_0 : List UInt8 := [42, 183, 0, 3, 42, 16, 20, 188, 8, 181, 0, 9, 42, 16, 20, 188, 8, 181, 0, 15, 42, 16, 20]
abbrev dktX15_init_0 : List UInt8 := dkwX15_init_0 ++ dktX15_init_1
theorem dksX15_init_0 : cX15_init.data.toList.drop 0 = dktX15_init_0 := by decide +kernel
theorem dksX15_init_1 : cX15_init.data.toList.drop 23 = dktX15_init_1 := dk_seg dksX15_init_0 23 rfl rfl
theorem dX15_init_0 : decode cX15_init 0 = .ok (.aload_n 0, 1) := dk_42 (dk_at dksX15_init_0 0 rfl rfl)
theorem dX15_init_1 : decode cX15_init 1 = .ok (.invokespecial 3, 3) := dk_183 0 3 (dk_at dksX15_init_0 1 rfl rfl)
theorem dX15_init_4 : decode cX15_init 4 = .ok (.aload_n 0, 1) := dk_42 (dk_at dksX15_init_0 4 rfl rfl)
theorem dX15_init_5 : decode cX15_init 5 = .ok (.bipush 20, 2) := dk_16 20 (dk_at dksX15_init_0 5 rfl rfl)
theorem dX15_init_7 : decode cX15_init 7 = .ok (.newarray .byte, 2) := dk_188_8 (dk_at dksX15_init_0 7 rfl rfl)
theorem dX15_init_9 : decode cX15_init 9 = .ok (.putfield 9, 3) := dk_181 0 9 (dk_at dksX15_init_0 9 rfl rfl)
theorem dX15_init_12 : decode cX15_init 12 = .ok (.aload_n 0, 1) := dk_42 (dk_at dksX15_init_0 12 rfl rfl)
theorem dX15_init_13 : decode cX15_init 13 = .ok (.bipush 20, 2) := dk_16 20 (dk_at dksX15_init_0 13 rfl rfl)
theorem dX15_init_15 : decode cX15_init 15 = .ok (.newarray .byte, 2) := dk_188_8 (dk_at dksX15_init_0 15 rfl rfl)
theorem dX15_init_17 : decode cX15_init 17 = .ok (.putfield 15, 3) := dk_181 0 15 (dk_at dksX15_init_0 17 rfl rfl)
theorem dX15_init_20 : decode cX15_init 20 = .ok (.aload_n 0, 1) := dk_42 (dk_at dksX15_init_0 20 rfl rfl)
theorem dX15_init_21 : decode cX15_init 21 = .ok (.bipush 20, 2) := dk_16 20 (dk_at dksX15_init_0 21 rfl rfl)
theorem dX15_init_23 : decode cX15_init 23 = .ok (.newarray .byte, 2) := dk_188_8 (dk_at dksX15_init_1 0 rfl rfl)
theorem dX15_init_25 : decode cX15_init 25 = .ok (.putfield 18, 3) := dk_181 0 18 (dk_at dksX15_init_1 2 rfl rfl)
theorem dX15_init_28 : decode cX15_init 28 = .ok (.aload_n 0, 1) := dk_42 (dk_at dksX15_init_1 5 rfl rfl)
theorem dX15_init_29 : decode cX15_init 29 = .ok (.bipush 20, 2) := dk_16 20 (dk_at dksX15_init_1 6 rfl rfl)
theorem dX15_init_31 : decode cX15_init 31 = .ok (.newarray .byte, 2) := dk_188_8 (dk_at dksX15_init_1 8 rfl rfl)
theorem dX15_init_33 : decode cX15_init 33 = .ok (.putfield 21, 3) := dk_181 0 21 (dk_at dksX15_init_1 10 rfl rfl)
theorem dX15_init_36 : decode cX15_init 36 = .ok (.return_, 1) := dk_177 (dk_at dksX15_init_1 13 rfl rfl)
abbrev cX15_add : ByteArray := prog_12_method_2_code
def yX15_add : MethodName := ⟨RX15, "add", "(IIII)V"⟩
def dkwX15_add_2 : List UInt8 := [180, 0, 24, 21, 4, 145, 84, 42, 89, 180, 0, 24, 4, 96, 181, 0, 24, 177]
abbrev dktX15_add_2 : List UInt8 := dkwX15_add_2 ++ []
def dkwX15_add_1 : List UInt8 := [42, 180, 0, 24, 28, 145, 84, 42, 180, 0, 18, 42, 180, 0, 24, 29, 145, 84, 42, 180, 0, 21, 42]
abbrev dktX15_add_1 : List UInt8 := dkwX15_add_1 ++ dktX15_add_2
def dkwX15_add_0 : List UInt8 := [42, 180, 0, 24, 16, 20, 162, 0, 48, 42, 180, 0, 9, 42, 180, 0, 24, 27, 145, 84, 42, 180, 0, 15]
abbrev dktX15_add_0 : List UInt8 := dkwX15_add_0 ++ dktX15_add_1
theorem dksX15_add_0 : cX15_add.data.toList.drop 0 = dktX15_add_0 := by decide +kernel
theorem dksX15_add_1 : cX15_add.data.toList.drop 24 = dktX15_add_1 := dk_seg dksX15_add_0 24 rfl rfl
theorem dksX15_add_2 : cX15_add.data.toList.drop 47 = dktX15_add_2 := dk_seg dksX15_add_1 23 rfl rfl
theorem dX15_add_0 : decode cX15_add 0 = .ok (.aload_n 0, 1) := dk_42 (dk_at dksX15_add_0 0 rfl rfl)
theorem dX15_add_1 : decode cX15_add 1 = .ok (.getfield 24, 3) := dk_180 0 24 (dk_at dksX15_add_0 1 rfl rfl)
theorem dX15_add_4 : decode cX15_add 4 = .ok (.bipush 20, 2) := dk_16 20 (dk_at dksX15_add_0 4 rfl rfl)
theorem dX15_add_6 : decode cX15_add 6 = .ok (.if_icmp .ge 48, 3) := dk_162 0 48 (dk_at dksX15_add_0 6 rfl rfl)
theorem dX15_add_9 : decode cX15_add 9 = .ok (.aload_n 0, 1) := dk_42 (dk_at dksX15_add_0 9 rfl rfl)
theorem dX15_add_10 : decode cX15_add 10 = .ok (.getfield 9, 3) := dk_180 0 9 (dk_at dksX15_add_0 10 rfl rfl)
theorem dX15_add_13 : decode cX15_add 13 = .ok (.aload_n 0, 1) := dk_42 (dk_at dksX15_add_0 13 rfl rfl)
theorem dX15_add_14 : decode cX15_add 14 = .ok (.getfield 24, 3) := dk_180 0 24 (dk_at dksX15_add_0 14 rfl rfl)
theorem dX15_add_17 : decode cX15_add 17 = .ok (.iload_n 1, 1) := dk_27 (dk_at dksX15_add_0 17 rfl rfl)
theorem dX15_add_18 : decode cX15_add 18 = .ok (.i2b, 1) := dk_145 (dk_at dksX15_add_0 18 rfl rfl)
theorem dX15_add_19 : decode cX15_add 19 = .ok (.bastore, 1) := dk_84 (dk_at dksX15_add_0 19 rfl rfl)
theorem dX15_add_20 : decode cX15_add 20 = .ok (.aload_n 0, 1) := dk_42 (dk_at dksX15_add_0 20 rfl rfl)
theorem dX15_add_21 : decode cX15_add 21 = .ok (.getfield 15, 3) := dk_180 0 15 (dk_at dksX15_add_0 21 rfl rfl)
theorem dX15_add_24 : decode cX15_add 24 = .ok (.aload_n 0, 1) := dk_42 (dk_at dksX15_add_1 0 rfl rfl)
theorem dX15_add_25 : decode cX15_add 25 = .ok (.getfield 24, 3) := dk_180 0 24 (dk_at dksX15_add_1 1 rfl rfl)
theorem dX15_add_28 : decode cX15_add 28 = .ok (.iload_n 2, 1) := dk_28 (dk_at dksX15_add_1 4 rfl rfl)
theorem dX15_add_29 : decode cX15_add 29 = .ok (.i2b, 1) := dk_145 (dk_at dksX15_add_1 5 rfl rfl)
theorem dX15_add_30 : decode cX15_add 30 = .ok (.bastore, 1) := dk_84 (dk_at dksX15_add_1 6 rfl rfl)
theorem dX15_add_31 : decode cX15_add 31 = .ok (.aload_n 0, 1) := dk_42 (dk_at dksX15_add_1 7 rfl rfl)
theorem dX15_add_32 : decode cX15_add 32 = .ok (.getfield 18, 3) := dk_180 0 18 (dk_at dksX15_add_1 8 rfl rfl)
theorem dX15_add_35 : decode cX15_add 35 = .ok (.aload_n 0, 1) := dk_42 (dk_at dksX15_add_1 11 rfl rfl)
theorem dX15_add_36 : decode cX15_add 36 = .ok (.getfield 24, 3) := dk_180 0 24 (dk_at dksX15_add_1 12 rfl rfl)
theorem dX15_add_39 : decode cX15_add 39 = .ok (.iload_n 3, 1) := dk_29 (dk_at dksX15_add_1 15 rfl rfl)
theorem dX15_add_40 : decode cX15_add 40 = .ok (.i2b, 1) := dk_145 (dk_at dksX15_add_1 16 rfl rfl)
theorem dX15_add_41 : decode cX15_add 41 = .ok (.bastore, 1) := dk_84 (dk_at dksX15_add_1 17 rfl rfl)
theorem dX15_add_42 : decode cX15_add 42 = .ok (.aload_n 0, 1) := dk_42 (dk_at dksX15_add_1 18 rfl rfl)
theorem dX15_add_43 : decode cX15_add 43 = .ok (.getfield 21, 3) := dk_180 0 21 (dk_at dksX15_add_1 19 rfl rfl)
theorem dX15_add_46 : decode cX15_add 46 = .ok (.aload_n 0, 1) := dk_42 (dk_at dksX15_add_1 22 rfl rfl)
theorem dX15_add_47 : decode cX15_add 47 = .ok (.getfield 24, 3) := dk_180 0 24 (dk_at dksX15_add_2 0 rfl rfl)
theorem dX15_add_50 : decode cX15_add 50 = .ok (.iload 4, 2) := dk_21 4 (dk_at dksX15_add_2 3 rfl rfl)
theorem dX15_add_52 : decode cX15_add 52 = .ok (.i2b, 1) := dk_145 (dk_at dksX15_add_2 5 rfl rfl)
theorem dX15_add_53 : decode cX15_add 53 = .ok (.bastore, 1) := dk_84 (dk_at dksX15_add_2 6 rfl rfl)
theorem dX15_add_54 : decode cX15_add 54 = .ok (.aload_n 0, 1) := dk_42 (dk_at dksX15_add_2 7 rfl rfl)
theorem dX15_add_55 : decode cX15_add 55 = .ok (.dup, 1) := dk_89 (dk_at dksX15_add_2 8 rfl rfl)
theorem dX15_add_56 : decode cX15_add 56 = .ok (.getfield 24, 3) := dk_180 0 24 (dk_at dksX15_add_2 9 rfl rfl)
theorem dX15_add_59 : decode cX15_add 59 = .ok (.iconst 1, 1) := dk_4 (dk_at dksX15_add_2 12 rfl rfl)
theorem dX15_add_60 : decode cX15_add 60 = .ok (.iadd, 1) := dk_96 (dk_at dksX15_add_2 13 rfl rfl)
theorem dX15_add_61 : decode cX15_add 61 = .ok (.putfield 24, 3) := dk_181 0 24 (dk_at dksX15_add_2 14 rfl rfl)
theorem dX15_add_64 : decode cX15_add 64 = .ok (.return_, 1) := dk_177 (dk_at dksX15_add_2 17 rfl rfl)
theorem q122 : (Jvm.Cond.initialized "PretendDesk$Program") ∈ lw_all := lw_g (lw_at lw_m1 23 rfl) rfl
theorem q839 : (Jvm.Cond.instantiable "PretendDesk$Program" (5 : Nat)) ∈ lw_all := lw_g (lw_at lw_m4 20 rfl) rfl
theorem q841 : (Jvm.Cond.instanceMethod ({ cls := "PretendDesk$Program", name := "<init>", desc := "()V" } : Jvm.MethodName)) ∈ lw_all := lw_g (lw_at lw_m4 22 rfl) rfl
theorem q842 : (Jvm.Cond.code ({ cls := "PretendDesk$Program", name := "<init>", desc := "()V" } : Jvm.MethodName) prog_12_method_1_code (1 : Nat) (Option.none : Option Jvm.ClassFile.FieldType)) ∈ lw_all := lw_g (lw_at lw_m4 23 rfl) rfl
theorem q843 : (Jvm.Cond.methodLink "PretendDesk$Program" (3 : Nat) ({ cls := "java/lang/Object", name := "<init>", desc := "()V" } : Jvm.MethodName)) ∈ lw_all := lw_g (lw_at lw_m4 24 rfl) rfl
theorem q844 : (Jvm.Cond.fieldLink "PretendDesk$Program" (9 : Nat) "PretendDesk$Program" "act" "[B") ∈ lw_all := lw_g (lw_at lw_m4 25 rfl) rfl
theorem q846 : (Jvm.Cond.fieldLink "PretendDesk$Program" (15 : Nat) "PretendDesk$Program" "one" "[B") ∈ lw_all := lw_g (lw_at lw_m4 27 rfl) rfl
theorem q848 : (Jvm.Cond.fieldLink "PretendDesk$Program" (18 : Nat) "PretendDesk$Program" "two" "[B") ∈ lw_all := lw_g (lw_at lw_m4 29 rfl) rfl
theorem q850 : (Jvm.Cond.fieldLink "PretendDesk$Program" (21 : Nat) "PretendDesk$Program" "three" "[B") ∈ lw_all := lw_g (lw_at lw_m4 31 rfl) rfl
theorem q852 : (Jvm.Cond.fieldLink "PretendDesk$Program" (24 : Nat) "PretendDesk$Program" "lines" "I") ∈ lw_all := lw_g (lw_at lw_m4 33 rfl) rfl
theorem q856 : (Jvm.Cond.laysFinal "PretendDesk$Program" "PretendDesk$Program" "act" "[B") ∈ lw_all := lw_g (lw_at lw_m4 37 rfl) rfl
theorem q857 : (Jvm.Cond.soleField "PretendDesk$Program" "act") ∈ lw_all := lw_g (lw_at lw_m4 38 rfl) rfl
theorem q858 : (Jvm.Cond.laysFinal "PretendDesk$Program" "PretendDesk$Program" "one" "[B") ∈ lw_all := lw_g (lw_at lw_m4 39 rfl) rfl
theorem q859 : (Jvm.Cond.soleField "PretendDesk$Program" "one") ∈ lw_all := lw_g (lw_at lw_m4 40 rfl) rfl
theorem q860 : (Jvm.Cond.laysFinal "PretendDesk$Program" "PretendDesk$Program" "two" "[B") ∈ lw_all := lw_g (lw_at lw_m4 41 rfl) rfl
theorem q861 : (Jvm.Cond.soleField "PretendDesk$Program" "two") ∈ lw_all := lw_g (lw_at lw_m4 42 rfl) rfl
theorem q862 : (Jvm.Cond.laysFinal "PretendDesk$Program" "PretendDesk$Program" "three" "[B") ∈ lw_all := lw_g (lw_at lw_m4 43 rfl) rfl
theorem q863 : (Jvm.Cond.soleField "PretendDesk$Program" "three") ∈ lw_all := lw_g (lw_at lw_m4 44 rfl) rfl
theorem q864 : (Jvm.Cond.lays "PretendDesk$Program" "PretendDesk$Program" "lines" "I") ∈ lw_all := lw_g (lw_at lw_m4 45 rfl) rfl
theorem q865 : (Jvm.Cond.soleField "PretendDesk$Program" "lines") ∈ lw_all := lw_g (lw_at lw_m4 46 rfl) rfl
theorem q866 : (Jvm.Cond.superclass "PretendDesk$Program" "java/lang/Object") ∈ lw_all := lw_g (lw_at lw_m4 47 rfl) rfl
theorem q1290 : (Jvm.Cond.instanceMethod ({ cls := "PretendDesk$Program", name := "add", desc := "(IIII)V" } : Jvm.MethodName)) ∈ lw_all := lw_g (lw_at lw_m5 231 rfl) rfl
theorem q1291 : (Jvm.Cond.selects "PretendDesk$Program" ({ cls := "PretendDesk$Program", name := "add", desc := "(IIII)V" } : Jvm.MethodName) ({ cls := "PretendDesk$Program", name := "add", desc := "(IIII)V" } : Jvm.MethodName)) ∈ lw_all := lw_g (lw_at lw_m5 232 rfl) rfl
theorem q1292 : (Jvm.Cond.code ({ cls := "PretendDesk$Program", name := "add", desc := "(IIII)V" } : Jvm.MethodName) prog_12_method_2_code (5 : Nat) (Option.none : Option Jvm.ClassFile.FieldType)) ∈ lw_all := lw_g (lw_at lw_m5 233 rfl) rfl
theorem in_X15 : ∀ w ∈ wsX150, w ∈ lw_all := lw_in wsX150 [856, 858, 860, 862, 864] (by decide +kernel) (by decide +kernel)
/-! PretendDesk$Case -/
set_option maxRecDepth 100000
def RX16 : String := "PretendDesk$Case"
def TX16 : u_T := fun k => match k with
  | 0 => ("PretendDesk$Case", "page", "I", true)
  | 1 => ("PretendDesk$Case", "day", "I", true)
  | _ => ("PretendDesk$Case", "pretends", "Z", true)
def tyX16 : Nat → FieldType := fun k => match k with
  | 0 => .int
  | 1 => .int
  | _ => .boolean
abbrev wsX160 : List Cond := u_ws RX16 TX16 3
theorem nmX16 : ∀ a, a < 3 → ∀ b, b < 3 → a ≠ b → (TX16 a).2.1 ≠ (TX16 b).2.1 := by decide +kernel
theorem tyX16_ok : ∀ k, k < 3 → parseFieldDescriptor (TX16 k).2.2.1 = some (tyX16 k) := by decide +kernel
abbrev cX16_init : ByteArray := prog_4_method_1_code
def yX16_init : MethodName := ⟨RX16, "<init>", "(IIZ)V"⟩
def dkwX16_init_0 : List UInt8 := [42, 183, 0, 1, 42, 27, 181, 0, 7, 42, 28, 181, 0, 13, 42, 29, 181, 0, 16, 177]
abbrev dktX16_init_0 : List UInt8 := dkwX16_init_0 ++ []
theorem dksX16_init_0 : cX16_init.data.toList.drop 0 = dktX16_init_0 := by decide +kernel
theorem dX16_init_0 : decode cX16_init 0 = .ok (.aload_n 0, 1) := dk_42 (dk_at dksX16_init_0 0 rfl rfl)
theorem dX16_init_1 : decode cX16_init 1 = .ok (.invokespecial 1, 3) := dk_183 0 1 (dk_at dksX16_init_0 1 rfl rfl)
theorem dX16_init_4 : decode cX16_init 4 = .ok (.aload_n 0, 1) := dk_42 (dk_at dksX16_init_0 4 rfl rfl)
theorem dX16_init_5 : decode cX16_init 5 = .ok (.iload_n 1, 1) := dk_27 (dk_at dksX16_init_0 5 rfl rfl)
theorem dX16_init_6 : decode cX16_init 6 = .ok (.putfield 7, 3) := dk_181 0 7 (dk_at dksX16_init_0 6 rfl rfl)
theorem dX16_init_9 : decode cX16_init 9 = .ok (.aload_n 0, 1) := dk_42 (dk_at dksX16_init_0 9 rfl rfl)
theorem dX16_init_10 : decode cX16_init 10 = .ok (.iload_n 2, 1) := dk_28 (dk_at dksX16_init_0 10 rfl rfl)
theorem dX16_init_11 : decode cX16_init 11 = .ok (.putfield 13, 3) := dk_181 0 13 (dk_at dksX16_init_0 11 rfl rfl)
theorem dX16_init_14 : decode cX16_init 14 = .ok (.aload_n 0, 1) := dk_42 (dk_at dksX16_init_0 14 rfl rfl)
theorem dX16_init_15 : decode cX16_init 15 = .ok (.iload_n 3, 1) := dk_29 (dk_at dksX16_init_0 15 rfl rfl)
theorem dX16_init_16 : decode cX16_init 16 = .ok (.putfield 16, 3) := dk_181 0 16 (dk_at dksX16_init_0 16 rfl rfl)
theorem dX16_init_19 : decode cX16_init 19 = .ok (.return_, 1) := dk_177 (dk_at dksX16_init_0 19 rfl rfl)
theorem q125 : (Jvm.Cond.initialized "PretendDesk$Case") ∈ lw_all := lw_g (lw_at lw_m1 26 rfl) rfl
theorem q1082 : (Jvm.Cond.instantiable "PretendDesk$Case" (3 : Nat)) ∈ lw_all := lw_g (lw_at lw_m5 23 rfl) rfl
theorem q1084 : (Jvm.Cond.instanceMethod ({ cls := "PretendDesk$Case", name := "<init>", desc := "(IIZ)V" } : Jvm.MethodName)) ∈ lw_all := lw_g (lw_at lw_m5 25 rfl) rfl
theorem q1085 : (Jvm.Cond.code ({ cls := "PretendDesk$Case", name := "<init>", desc := "(IIZ)V" } : Jvm.MethodName) prog_4_method_1_code (4 : Nat) (Option.none : Option Jvm.ClassFile.FieldType)) ∈ lw_all := lw_g (lw_at lw_m5 26 rfl) rfl
theorem q1086 : (Jvm.Cond.methodLink "PretendDesk$Case" (1 : Nat) ({ cls := "java/lang/Object", name := "<init>", desc := "()V" } : Jvm.MethodName)) ∈ lw_all := lw_g (lw_at lw_m5 27 rfl) rfl
theorem q1087 : (Jvm.Cond.fieldLink "PretendDesk$Case" (7 : Nat) "PretendDesk$Case" "page" "I") ∈ lw_all := lw_g (lw_at lw_m5 28 rfl) rfl
theorem q1089 : (Jvm.Cond.fieldLink "PretendDesk$Case" (13 : Nat) "PretendDesk$Case" "day" "I") ∈ lw_all := lw_g (lw_at lw_m5 30 rfl) rfl
theorem q1091 : (Jvm.Cond.fieldLink "PretendDesk$Case" (16 : Nat) "PretendDesk$Case" "pretends" "Z") ∈ lw_all := lw_g (lw_at lw_m5 32 rfl) rfl
theorem q1093 : (Jvm.Cond.laysFinal "PretendDesk$Case" "PretendDesk$Case" "page" "I") ∈ lw_all := lw_g (lw_at lw_m5 34 rfl) rfl
theorem q1094 : (Jvm.Cond.soleField "PretendDesk$Case" "page") ∈ lw_all := lw_g (lw_at lw_m5 35 rfl) rfl
theorem q1095 : (Jvm.Cond.laysFinal "PretendDesk$Case" "PretendDesk$Case" "day" "I") ∈ lw_all := lw_g (lw_at lw_m5 36 rfl) rfl
theorem q1096 : (Jvm.Cond.soleField "PretendDesk$Case" "day") ∈ lw_all := lw_g (lw_at lw_m5 37 rfl) rfl
theorem q1097 : (Jvm.Cond.laysFinal "PretendDesk$Case" "PretendDesk$Case" "pretends" "Z") ∈ lw_all := lw_g (lw_at lw_m5 38 rfl) rfl
theorem q1098 : (Jvm.Cond.soleField "PretendDesk$Case" "pretends") ∈ lw_all := lw_g (lw_at lw_m5 39 rfl) rfl
theorem q1099 : (Jvm.Cond.superclass "PretendDesk$Case" "java/lang/Object") ∈ lw_all := lw_g (lw_at lw_m5 40 rfl) rfl
theorem in_X16 : ∀ w ∈ wsX160, w ∈ lw_all := lw_in wsX160 [1093, 1095, 1097] (by decide +kernel) (by decide +kernel)
/-! PretendDesk$Change -/
set_option maxRecDepth 100000
def RX17 : String := "PretendDesk$Change"
def TX17 : u_T := fun k => match k with
  | 0 => ("PretendDesk$Change", "sort", "I", true)
  | 1 => ("PretendDesk$Change", "box", "I", true)
  | 2 => ("PretendDesk$Change", "n", "I", true)
  | _ => ("PretendDesk$Change", "price", "I", true)
def tyX17 : Nat → FieldType := fun k => match k with
  | 0 => .int
  | 1 => .int
  | 2 => .int
  | _ => .int
abbrev wsX170 : List Cond := u_ws RX17 TX17 4
theorem nmX17 : ∀ a, a < 4 → ∀ b, b < 4 → a ≠ b → (TX17 a).2.1 ≠ (TX17 b).2.1 := by decide +kernel
theorem tyX17_ok : ∀ k, k < 4 → parseFieldDescriptor (TX17 k).2.2.1 = some (tyX17 k) := by decide +kernel
abbrev cX17_init : ByteArray := prog_5_method_1_code
def yX17_init : MethodName := ⟨RX17, "<init>", "(IIII)V"⟩
def dkwX17_init_1 : List UInt8 := [181, 0, 19, 177]
abbrev dktX17_init_1 : List UInt8 := dkwX17_init_1 ++ []
def dkwX17_init_0 : List UInt8 := [42, 183, 0, 1, 42, 27, 181, 0, 7, 42, 28, 181, 0, 13, 42, 29, 181, 0, 16, 42, 21, 4]
abbrev dktX17_init_0 : List UInt8 := dkwX17_init_0 ++ dktX17_init_1
theorem dksX17_init_0 : cX17_init.data.toList.drop 0 = dktX17_init_0 := by decide +kernel
theorem dksX17_init_1 : cX17_init.data.toList.drop 22 = dktX17_init_1 := dk_seg dksX17_init_0 22 rfl rfl
theorem dX17_init_0 : decode cX17_init 0 = .ok (.aload_n 0, 1) := dk_42 (dk_at dksX17_init_0 0 rfl rfl)
theorem dX17_init_1 : decode cX17_init 1 = .ok (.invokespecial 1, 3) := dk_183 0 1 (dk_at dksX17_init_0 1 rfl rfl)
theorem dX17_init_4 : decode cX17_init 4 = .ok (.aload_n 0, 1) := dk_42 (dk_at dksX17_init_0 4 rfl rfl)
theorem dX17_init_5 : decode cX17_init 5 = .ok (.iload_n 1, 1) := dk_27 (dk_at dksX17_init_0 5 rfl rfl)
theorem dX17_init_6 : decode cX17_init 6 = .ok (.putfield 7, 3) := dk_181 0 7 (dk_at dksX17_init_0 6 rfl rfl)
theorem dX17_init_9 : decode cX17_init 9 = .ok (.aload_n 0, 1) := dk_42 (dk_at dksX17_init_0 9 rfl rfl)
theorem dX17_init_10 : decode cX17_init 10 = .ok (.iload_n 2, 1) := dk_28 (dk_at dksX17_init_0 10 rfl rfl)
theorem dX17_init_11 : decode cX17_init 11 = .ok (.putfield 13, 3) := dk_181 0 13 (dk_at dksX17_init_0 11 rfl rfl)
theorem dX17_init_14 : decode cX17_init 14 = .ok (.aload_n 0, 1) := dk_42 (dk_at dksX17_init_0 14 rfl rfl)
theorem dX17_init_15 : decode cX17_init 15 = .ok (.iload_n 3, 1) := dk_29 (dk_at dksX17_init_0 15 rfl rfl)
theorem dX17_init_16 : decode cX17_init 16 = .ok (.putfield 16, 3) := dk_181 0 16 (dk_at dksX17_init_0 16 rfl rfl)
theorem dX17_init_19 : decode cX17_init 19 = .ok (.aload_n 0, 1) := dk_42 (dk_at dksX17_init_0 19 rfl rfl)
theorem dX17_init_20 : decode cX17_init 20 = .ok (.iload 4, 2) := dk_21 4 (dk_at dksX17_init_0 20 rfl rfl)
theorem dX17_init_22 : decode cX17_init 22 = .ok (.putfield 19, 3) := dk_181 0 19 (dk_at dksX17_init_1 0 rfl rfl)
theorem dX17_init_25 : decode cX17_init 25 = .ok (.return_, 1) := dk_177 (dk_at dksX17_init_1 3 rfl rfl)
theorem q126 : (Jvm.Cond.initialized "PretendDesk$Change") ∈ lw_all := lw_g (lw_at lw_m1 27 rfl) rfl
theorem q1130 : (Jvm.Cond.instantiable "PretendDesk$Change" (4 : Nat)) ∈ lw_all := lw_g (lw_at lw_m5 71 rfl) rfl
theorem q1132 : (Jvm.Cond.instanceMethod ({ cls := "PretendDesk$Change", name := "<init>", desc := "(IIII)V" } : Jvm.MethodName)) ∈ lw_all := lw_g (lw_at lw_m5 73 rfl) rfl
theorem q1133 : (Jvm.Cond.code ({ cls := "PretendDesk$Change", name := "<init>", desc := "(IIII)V" } : Jvm.MethodName) prog_5_method_1_code (5 : Nat) (Option.none : Option Jvm.ClassFile.FieldType)) ∈ lw_all := lw_g (lw_at lw_m5 74 rfl) rfl
theorem q1134 : (Jvm.Cond.methodLink "PretendDesk$Change" (1 : Nat) ({ cls := "java/lang/Object", name := "<init>", desc := "()V" } : Jvm.MethodName)) ∈ lw_all := lw_g (lw_at lw_m5 75 rfl) rfl
theorem q1135 : (Jvm.Cond.fieldLink "PretendDesk$Change" (7 : Nat) "PretendDesk$Change" "sort" "I") ∈ lw_all := lw_g (lw_at lw_m5 76 rfl) rfl
theorem q1137 : (Jvm.Cond.fieldLink "PretendDesk$Change" (13 : Nat) "PretendDesk$Change" "box" "I") ∈ lw_all := lw_g (lw_at lw_m5 78 rfl) rfl
theorem q1139 : (Jvm.Cond.fieldLink "PretendDesk$Change" (16 : Nat) "PretendDesk$Change" "n" "I") ∈ lw_all := lw_g (lw_at lw_m5 80 rfl) rfl
theorem q1141 : (Jvm.Cond.fieldLink "PretendDesk$Change" (19 : Nat) "PretendDesk$Change" "price" "I") ∈ lw_all := lw_g (lw_at lw_m5 82 rfl) rfl
theorem q1143 : (Jvm.Cond.laysFinal "PretendDesk$Change" "PretendDesk$Change" "sort" "I") ∈ lw_all := lw_g (lw_at lw_m5 84 rfl) rfl
theorem q1144 : (Jvm.Cond.soleField "PretendDesk$Change" "sort") ∈ lw_all := lw_g (lw_at lw_m5 85 rfl) rfl
theorem q1145 : (Jvm.Cond.laysFinal "PretendDesk$Change" "PretendDesk$Change" "box" "I") ∈ lw_all := lw_g (lw_at lw_m5 86 rfl) rfl
theorem q1146 : (Jvm.Cond.soleField "PretendDesk$Change" "box") ∈ lw_all := lw_g (lw_at lw_m5 87 rfl) rfl
theorem q1147 : (Jvm.Cond.laysFinal "PretendDesk$Change" "PretendDesk$Change" "n" "I") ∈ lw_all := lw_g (lw_at lw_m5 88 rfl) rfl
theorem q1148 : (Jvm.Cond.soleField "PretendDesk$Change" "n") ∈ lw_all := lw_g (lw_at lw_m5 89 rfl) rfl
theorem q1149 : (Jvm.Cond.laysFinal "PretendDesk$Change" "PretendDesk$Change" "price" "I") ∈ lw_all := lw_g (lw_at lw_m5 90 rfl) rfl
theorem q1150 : (Jvm.Cond.soleField "PretendDesk$Change" "price") ∈ lw_all := lw_g (lw_at lw_m5 91 rfl) rfl
theorem q1151 : (Jvm.Cond.superclass "PretendDesk$Change" "java/lang/Object") ∈ lw_all := lw_g (lw_at lw_m5 92 rfl) rfl
theorem in_X17 : ∀ w ∈ wsX170, w ∈ lw_all := lw_in wsX170 [1143, 1145, 1147, 1149] (by decide +kernel) (by decide +kernel)
/-! PretendDesk$ProgramReader -/
set_option maxRecDepth 100000
def RX18 : String := "PretendDesk$ProgramReader"
def TX18 : u_T := fun k => match k with
  | 0 => ("PretendDesk$Tokens", "length", "I", true)
  | 1 => ("PretendDesk$Tokens", "at", "I", false)
  | 2 => ("PretendDesk$Tokens", "letters", "I", false)
  | 3 => ("PretendDesk$Tokens", "word", "J", false)
  | 4 => ("PretendDesk$Tokens", "sort", "I", false)
  | 5 => ("PretendDesk$Tokens", "place", "I", false)
  | 6 => ("PretendDesk$Tokens", "value", "I", false)
  | 7 => ("PretendDesk$Tokens", "fault", "I", false)
  | 8 => ("PretendDesk$Tokens", "faultPlace", "I", false)
  | 9 => ("PretendDesk$Tokens", "this$0", "LPretendDesk;", true)
  | 10 => ("PretendDesk$ProgramReader", "program", "LPretendDesk$Program;", true)
  | _ => ("PretendDesk$ProgramReader", "this$0", "LPretendDesk;", true)
def tyX18 : Nat → FieldType := fun k => match k with
  | 0 => .int
  | 1 => .int
  | 2 => .int
  | 3 => .long
  | 4 => .int
  | 5 => .int
  | 6 => .int
  | 7 => .int
  | 8 => .int
  | 9 => .object "PretendDesk"
  | 10 => .object "PretendDesk$Program"
  | _ => .object "PretendDesk"
abbrev wsX180 : List Cond := u_ws RX18 TX18 12
-- two fields of one name: no nmX18
theorem tyX18_ok : ∀ k, k < 12 → parseFieldDescriptor (TX18 k).2.2.1 = some (tyX18 k) := by decide +kernel
abbrev cX18_init : ByteArray := prog_13_method_1_code
def yX18_init : MethodName := ⟨RX18, "<init>", "(LPretendDesk;I)V"⟩
def dkwX18_init_0 : List UInt8 := [42, 43, 181, 0, 3, 42, 43, 28, 183, 0, 9, 42, 187, 0, 15, 89, 183, 0, 17, 181, 0, 20, 177]
abbrev dktX18_init_0 : List UInt8 := dkwX18_init_0 ++ []
theorem dksX18_init_0 : cX18_init.data.toList.drop 0 = dktX18_init_0 := by decide +kernel
theorem dX18_init_0 : decode cX18_init 0 = .ok (.aload_n 0, 1) := dk_42 (dk_at dksX18_init_0 0 rfl rfl)
theorem dX18_init_1 : decode cX18_init 1 = .ok (.aload_n 1, 1) := dk_43 (dk_at dksX18_init_0 1 rfl rfl)
theorem dX18_init_2 : decode cX18_init 2 = .ok (.putfield 3, 3) := dk_181 0 3 (dk_at dksX18_init_0 2 rfl rfl)
theorem dX18_init_5 : decode cX18_init 5 = .ok (.aload_n 0, 1) := dk_42 (dk_at dksX18_init_0 5 rfl rfl)
theorem dX18_init_6 : decode cX18_init 6 = .ok (.aload_n 1, 1) := dk_43 (dk_at dksX18_init_0 6 rfl rfl)
theorem dX18_init_7 : decode cX18_init 7 = .ok (.iload_n 2, 1) := dk_28 (dk_at dksX18_init_0 7 rfl rfl)
theorem dX18_init_8 : decode cX18_init 8 = .ok (.invokespecial 9, 3) := dk_183 0 9 (dk_at dksX18_init_0 8 rfl rfl)
theorem dX18_init_11 : decode cX18_init 11 = .ok (.aload_n 0, 1) := dk_42 (dk_at dksX18_init_0 11 rfl rfl)
theorem dX18_init_12 : decode cX18_init 12 = .ok (.new 15, 3) := dk_187 0 15 (dk_at dksX18_init_0 12 rfl rfl)
theorem dX18_init_15 : decode cX18_init 15 = .ok (.dup, 1) := dk_89 (dk_at dksX18_init_0 15 rfl rfl)
theorem dX18_init_16 : decode cX18_init 16 = .ok (.invokespecial 17, 3) := dk_183 0 17 (dk_at dksX18_init_0 16 rfl rfl)
theorem dX18_init_19 : decode cX18_init 19 = .ok (.putfield 20, 3) := dk_181 0 20 (dk_at dksX18_init_0 19 rfl rfl)
theorem dX18_init_22 : decode cX18_init 22 = .ok (.return_, 1) := dk_177 (dk_at dksX18_init_0 22 rfl rfl)
abbrev cX18_text : ByteArray := prog_13_method_2_code
def yX18_text : MethodName := ⟨RX18, "text", "()V"⟩
def dkwX18_text_0 : List UInt8 := [42, 182, 0, 24, 42, 180, 0, 27, 153, 0, 10, 42, 182, 0, 31, 167, 255, 245, 177]
abbrev dktX18_text_0 : List UInt8 := dkwX18_text_0 ++ []
theorem dksX18_text_0 : cX18_text.data.toList.drop 0 = dktX18_text_0 := by decide +kernel
theorem dX18_text_0 : decode cX18_text 0 = .ok (.aload_n 0, 1) := dk_42 (dk_at dksX18_text_0 0 rfl rfl)
theorem dX18_text_1 : decode cX18_text 1 = .ok (.invokevirtual 24, 3) := dk_182 0 24 (dk_at dksX18_text_0 1 rfl rfl)
theorem dX18_text_4 : decode cX18_text 4 = .ok (.aload_n 0, 1) := dk_42 (dk_at dksX18_text_0 4 rfl rfl)
theorem dX18_text_5 : decode cX18_text 5 = .ok (.getfield 27, 3) := dk_180 0 27 (dk_at dksX18_text_0 5 rfl rfl)
theorem dX18_text_8 : decode cX18_text 8 = .ok (.ifCond .eq 10, 3) := dk_153 0 10 (dk_at dksX18_text_0 8 rfl rfl)
theorem dX18_text_11 : decode cX18_text 11 = .ok (.aload_n 0, 1) := dk_42 (dk_at dksX18_text_0 11 rfl rfl)
theorem dX18_text_12 : decode cX18_text 12 = .ok (.invokevirtual 31, 3) := dk_182 0 31 (dk_at dksX18_text_0 12 rfl rfl)
theorem dX18_text_15 : decode cX18_text 15 = .ok (.goto (-11), 3) := dk_167 255 245 (dk_at dksX18_text_0 15 rfl rfl)
theorem dX18_text_18 : decode cX18_text 18 = .ok (.return_, 1) := dk_177 (dk_at dksX18_text_0 18 rfl rfl)
abbrev cX18_line : ByteArray := prog_13_method_3_code
def yX18_line : MethodName := ⟨RX18, "line", "()V"⟩
def dkwX18_line_12 : List UInt8 := [182, 0, 77, 177]
abbrev dktX18_line_12 : List UInt8 := dkwX18_line_12 ++ []
def dkwX18_line_11 : List UInt8 := [182, 0, 67, 154, 0, 8, 42, 182, 0, 42, 191, 42, 182, 0, 24, 42, 180, 0, 20, 27, 28, 29, 21, 4]
abbrev dktX18_line_11 : List UInt8 := dkwX18_line_11 ++ dktX18_line_12
def dkwX18_line_10 : List UInt8 := [182, 0, 64, 54, 4, 167, 0, 14, 42, 16, 20, 182, 0, 64, 54, 4, 167, 0, 3, 42, 16, 59]
abbrev dktX18_line_10 : List UInt8 := dkwX18_line_10 ++ dktX18_line_11
def dkwX18_line_9 : List UInt8 := [182, 0, 42, 191, 42, 182, 0, 24, 42, 16, 99, 182, 0, 64, 62, 42, 18, 71, 182, 0, 73, 42, 16, 20]
abbrev dktX18_line_9 : List UInt8 := dkwX18_line_9 ++ dktX18_line_10
def dkwX18_line_8 : List UInt8 := [182, 0, 60, 62, 167, 0, 62, 42, 8, 182, 0, 64, 61, 42, 16, 60, 182, 0, 67, 154, 0, 8, 42]
abbrev dktX18_line_8 : List UInt8 := dkwX18_line_8 ++ dktX18_line_9
def dkwX18_line_7 : List UInt8 := [182, 0, 64, 61, 42, 8, 182, 0, 60, 62, 167, 0, 78, 42, 8, 182, 0, 64, 61, 42, 16, 9]
abbrev dktX18_line_7 : List UInt8 := dkwX18_line_7 ++ dktX18_line_8
def dkwX18_line_6 : List UInt8 := [62, 167, 0, 109, 42, 8, 182, 0, 64, 61, 42, 8, 182, 0, 60, 62, 167, 0, 94, 42, 16, 99]
abbrev dktX18_line_6 : List UInt8 := dkwX18_line_6 ++ dktX18_line_7
def dkwX18_line_5 : List UInt8 := [42, 182, 0, 56, 61, 28, 2, 160, 0, 8, 42, 182, 0, 42, 191, 42, 182, 0, 24, 42, 8, 182, 0, 60]
abbrev dktX18_line_5 : List UInt8 := dkwX18_line_5 ++ dktX18_line_6
def dkwX18_line_4 : List UInt8 := [170, 0, 0, 0, 0, 172, 0, 0, 0, 0, 0, 0, 0, 5, 0, 0, 0, 38, 0, 0, 0, 66, 0, 0, 0, 81, 0, 0, 0, 97, 0, 0, 0, 113, 0, 0, 0, 161]
abbrev dktX18_line_4 : List UInt8 := dkwX18_line_4 ++ dktX18_line_5
def dkwX18_line_3 : List UInt8 := [160, 0, 12, 42, 6, 42, 180, 0, 49, 182, 0, 52, 42, 182, 0, 24, 27]
abbrev dktX18_line_3 : List UInt8 := dkwX18_line_3 ++ dktX18_line_4
def dkwX18_line_2 : List UInt8 := [180, 0, 3, 180, 0, 34, 190, 160, 0, 8, 42, 182, 0, 42, 191, 42, 180, 0, 20, 180, 0, 46, 16, 20]
abbrev dktX18_line_2 : List UInt8 := dkwX18_line_2 ++ dktX18_line_3
def dkwX18_line_1 : List UInt8 := [180, 0, 3, 180, 0, 34, 27, 50, 182, 0, 38, 154, 0, 9, 132, 1, 1, 167, 255, 225, 27, 42]
abbrev dktX18_line_1 : List UInt8 := dkwX18_line_1 ++ dktX18_line_2
def dkwX18_line_0 : List UInt8 := [3, 60, 3, 61, 3, 62, 3, 54, 4, 27, 42, 180, 0, 3, 180, 0, 34, 190, 162, 0, 25, 42, 42]
abbrev dktX18_line_0 : List UInt8 := dkwX18_line_0 ++ dktX18_line_1
theorem dksX18_line_0 : cX18_line.data.toList.drop 0 = dktX18_line_0 := by decide +kernel
theorem dksX18_line_1 : cX18_line.data.toList.drop 23 = dktX18_line_1 := dk_seg dksX18_line_0 23 rfl rfl
theorem dksX18_line_2 : cX18_line.data.toList.drop 45 = dktX18_line_2 := dk_seg dksX18_line_1 22 rfl rfl
theorem dksX18_line_3 : cX18_line.data.toList.drop 69 = dktX18_line_3 := dk_seg dksX18_line_2 24 rfl rfl
theorem dksX18_line_4 : cX18_line.data.toList.drop 86 = dktX18_line_4 := dk_seg dksX18_line_3 17 rfl rfl
theorem dksX18_line_5 : cX18_line.data.toList.drop 124 = dktX18_line_5 := dk_seg dksX18_line_4 38 rfl rfl
theorem dksX18_line_6 : cX18_line.data.toList.drop 148 = dktX18_line_6 := dk_seg dksX18_line_5 24 rfl rfl
theorem dksX18_line_7 : cX18_line.data.toList.drop 170 = dktX18_line_7 := dk_seg dksX18_line_6 22 rfl rfl
theorem dksX18_line_8 : cX18_line.data.toList.drop 192 = dktX18_line_8 := dk_seg dksX18_line_7 22 rfl rfl
theorem dksX18_line_9 : cX18_line.data.toList.drop 215 = dktX18_line_9 := dk_seg dksX18_line_8 23 rfl rfl
theorem dksX18_line_10 : cX18_line.data.toList.drop 239 = dktX18_line_10 := dk_seg dksX18_line_9 24 rfl rfl
theorem dksX18_line_11 : cX18_line.data.toList.drop 261 = dktX18_line_11 := dk_seg dksX18_line_10 22 rfl rfl
theorem dksX18_line_12 : cX18_line.data.toList.drop 285 = dktX18_line_12 := dk_seg dksX18_line_11 24 rfl rfl
theorem dX18_line_0 : decode cX18_line 0 = .ok (.iconst 0, 1) := dk_3 (dk_at dksX18_line_0 0 rfl rfl)
theorem dX18_line_1 : decode cX18_line 1 = .ok (.istore_n 1, 1) := dk_60 (dk_at dksX18_line_0 1 rfl rfl)
theorem dX18_line_2 : decode cX18_line 2 = .ok (.iconst 0, 1) := dk_3 (dk_at dksX18_line_0 2 rfl rfl)
theorem dX18_line_3 : decode cX18_line 3 = .ok (.istore_n 2, 1) := dk_61 (dk_at dksX18_line_0 3 rfl rfl)
theorem dX18_line_4 : decode cX18_line 4 = .ok (.iconst 0, 1) := dk_3 (dk_at dksX18_line_0 4 rfl rfl)
theorem dX18_line_5 : decode cX18_line 5 = .ok (.istore_n 3, 1) := dk_62 (dk_at dksX18_line_0 5 rfl rfl)
theorem dX18_line_6 : decode cX18_line 6 = .ok (.iconst 0, 1) := dk_3 (dk_at dksX18_line_0 6 rfl rfl)
theorem dX18_line_7 : decode cX18_line 7 = .ok (.istore 4, 2) := dk_54 4 (dk_at dksX18_line_0 7 rfl rfl)
theorem dX18_line_9 : decode cX18_line 9 = .ok (.iload_n 1, 1) := dk_27 (dk_at dksX18_line_0 9 rfl rfl)
theorem dX18_line_10 : decode cX18_line 10 = .ok (.aload_n 0, 1) := dk_42 (dk_at dksX18_line_0 10 rfl rfl)
theorem dX18_line_11 : decode cX18_line 11 = .ok (.getfield 3, 3) := dk_180 0 3 (dk_at dksX18_line_0 11 rfl rfl)
theorem dX18_line_14 : decode cX18_line 14 = .ok (.getfield 34, 3) := dk_180 0 34 (dk_at dksX18_line_0 14 rfl rfl)
theorem dX18_line_17 : decode cX18_line 17 = .ok (.arraylength, 1) := dk_190 (dk_at dksX18_line_0 17 rfl rfl)
theorem dX18_line_18 : decode cX18_line 18 = .ok (.if_icmp .ge 25, 3) := dk_162 0 25 (dk_at dksX18_line_0 18 rfl rfl)
theorem dX18_line_21 : decode cX18_line 21 = .ok (.aload_n 0, 1) := dk_42 (dk_at dksX18_line_0 21 rfl rfl)
theorem dX18_line_22 : decode cX18_line 22 = .ok (.aload_n 0, 1) := dk_42 (dk_at dksX18_line_0 22 rfl rfl)
theorem dX18_line_23 : decode cX18_line 23 = .ok (.getfield 3, 3) := dk_180 0 3 (dk_at dksX18_line_1 0 rfl rfl)
theorem dX18_line_26 : decode cX18_line 26 = .ok (.getfield 34, 3) := dk_180 0 34 (dk_at dksX18_line_1 3 rfl rfl)
theorem dX18_line_29 : decode cX18_line 29 = .ok (.iload_n 1, 1) := dk_27 (dk_at dksX18_line_1 6 rfl rfl)
theorem dX18_line_30 : decode cX18_line 30 = .ok (.aaload, 1) := dk_50 (dk_at dksX18_line_1 7 rfl rfl)
theorem dX18_line_31 : decode cX18_line 31 = .ok (.invokevirtual 38, 3) := dk_182 0 38 (dk_at dksX18_line_1 8 rfl rfl)
theorem dX18_line_34 : decode cX18_line 34 = .ok (.ifCond .ne 9, 3) := dk_154 0 9 (dk_at dksX18_line_1 11 rfl rfl)
theorem dX18_line_37 : decode cX18_line 37 = .ok (.iinc 1 1, 3) := dk_132 1 1 (dk_at dksX18_line_1 14 rfl rfl)
theorem dX18_line_40 : decode cX18_line 40 = .ok (.goto (-31), 3) := dk_167 255 225 (dk_at dksX18_line_1 17 rfl rfl)
theorem dX18_line_43 : decode cX18_line 43 = .ok (.iload_n 1, 1) := dk_27 (dk_at dksX18_line_1 20 rfl rfl)
theorem dX18_line_44 : decode cX18_line 44 = .ok (.aload_n 0, 1) := dk_42 (dk_at dksX18_line_1 21 rfl rfl)
theorem dX18_line_45 : decode cX18_line 45 = .ok (.getfield 3, 3) := dk_180 0 3 (dk_at dksX18_line_2 0 rfl rfl)
theorem dX18_line_48 : decode cX18_line 48 = .ok (.getfield 34, 3) := dk_180 0 34 (dk_at dksX18_line_2 3 rfl rfl)
theorem dX18_line_51 : decode cX18_line 51 = .ok (.arraylength, 1) := dk_190 (dk_at dksX18_line_2 6 rfl rfl)
theorem dX18_line_52 : decode cX18_line 52 = .ok (.if_icmp .ne 8, 3) := dk_160 0 8 (dk_at dksX18_line_2 7 rfl rfl)
theorem dX18_line_55 : decode cX18_line 55 = .ok (.aload_n 0, 1) := dk_42 (dk_at dksX18_line_2 10 rfl rfl)
theorem dX18_line_56 : decode cX18_line 56 = .ok (.invokevirtual 42, 3) := dk_182 0 42 (dk_at dksX18_line_2 11 rfl rfl)
theorem dX18_line_59 : decode cX18_line 59 = .ok (.athrow, 1) := dk_191 (dk_at dksX18_line_2 14 rfl rfl)
theorem dX18_line_60 : decode cX18_line 60 = .ok (.aload_n 0, 1) := dk_42 (dk_at dksX18_line_2 15 rfl rfl)
theorem dX18_line_61 : decode cX18_line 61 = .ok (.getfield 20, 3) := dk_180 0 20 (dk_at dksX18_line_2 16 rfl rfl)
theorem dX18_line_64 : decode cX18_line 64 = .ok (.getfield 46, 3) := dk_180 0 46 (dk_at dksX18_line_2 19 rfl rfl)
theorem dX18_line_67 : decode cX18_line 67 = .ok (.bipush 20, 2) := dk_16 20 (dk_at dksX18_line_2 22 rfl rfl)
theorem dX18_line_69 : decode cX18_line 69 = .ok (.if_icmp .ne 12, 3) := dk_160 0 12 (dk_at dksX18_line_3 0 rfl rfl)
theorem dX18_line_72 : decode cX18_line 72 = .ok (.aload_n 0, 1) := dk_42 (dk_at dksX18_line_3 3 rfl rfl)
theorem dX18_line_73 : decode cX18_line 73 = .ok (.iconst 3, 1) := dk_6 (dk_at dksX18_line_3 4 rfl rfl)
theorem dX18_line_74 : decode cX18_line 74 = .ok (.aload_n 0, 1) := dk_42 (dk_at dksX18_line_3 5 rfl rfl)
theorem dX18_line_75 : decode cX18_line 75 = .ok (.getfield 49, 3) := dk_180 0 49 (dk_at dksX18_line_3 6 rfl rfl)
theorem dX18_line_78 : decode cX18_line 78 = .ok (.invokevirtual 52, 3) := dk_182 0 52 (dk_at dksX18_line_3 9 rfl rfl)
theorem dX18_line_81 : decode cX18_line 81 = .ok (.aload_n 0, 1) := dk_42 (dk_at dksX18_line_3 12 rfl rfl)
theorem dX18_line_82 : decode cX18_line 82 = .ok (.invokevirtual 24, 3) := dk_182 0 24 (dk_at dksX18_line_3 13 rfl rfl)
theorem dX18_line_85 : decode cX18_line 85 = .ok (.iload_n 1, 1) := dk_27 (dk_at dksX18_line_3 16 rfl rfl)
theorem dX18_line_86 : decode cX18_line 86 = .ok (.tableswitch 172 0 5 #[38, 66, 81, 97, 113, 161], 38) := by decide +kernel
theorem dX18_line_124 : decode cX18_line 124 = .ok (.aload_n 0, 1) := dk_42 (dk_at dksX18_line_5 0 rfl rfl)
theorem dX18_line_125 : decode cX18_line 125 = .ok (.invokevirtual 56, 3) := dk_182 0 56 (dk_at dksX18_line_5 1 rfl rfl)
theorem dX18_line_128 : decode cX18_line 128 = .ok (.istore_n 2, 1) := dk_61 (dk_at dksX18_line_5 4 rfl rfl)
theorem dX18_line_129 : decode cX18_line 129 = .ok (.iload_n 2, 1) := dk_28 (dk_at dksX18_line_5 5 rfl rfl)
theorem dX18_line_130 : decode cX18_line 130 = .ok (.iconst (-1), 1) := dk_2 (dk_at dksX18_line_5 6 rfl rfl)
theorem dX18_line_131 : decode cX18_line 131 = .ok (.if_icmp .ne 8, 3) := dk_160 0 8 (dk_at dksX18_line_5 7 rfl rfl)
theorem dX18_line_134 : decode cX18_line 134 = .ok (.aload_n 0, 1) := dk_42 (dk_at dksX18_line_5 10 rfl rfl)
theorem dX18_line_135 : decode cX18_line 135 = .ok (.invokevirtual 42, 3) := dk_182 0 42 (dk_at dksX18_line_5 11 rfl rfl)
theorem dX18_line_138 : decode cX18_line 138 = .ok (.athrow, 1) := dk_191 (dk_at dksX18_line_5 14 rfl rfl)
theorem dX18_line_139 : decode cX18_line 139 = .ok (.aload_n 0, 1) := dk_42 (dk_at dksX18_line_5 15 rfl rfl)
theorem dX18_line_140 : decode cX18_line 140 = .ok (.invokevirtual 24, 3) := dk_182 0 24 (dk_at dksX18_line_5 16 rfl rfl)
theorem dX18_line_143 : decode cX18_line 143 = .ok (.aload_n 0, 1) := dk_42 (dk_at dksX18_line_5 19 rfl rfl)
theorem dX18_line_144 : decode cX18_line 144 = .ok (.iconst 5, 1) := dk_8 (dk_at dksX18_line_5 20 rfl rfl)
theorem dX18_line_145 : decode cX18_line 145 = .ok (.invokevirtual 60, 3) := dk_182 0 60 (dk_at dksX18_line_5 21 rfl rfl)
theorem dX18_line_148 : decode cX18_line 148 = .ok (.istore_n 3, 1) := dk_62 (dk_at dksX18_line_6 0 rfl rfl)
theorem dX18_line_149 : decode cX18_line 149 = .ok (.goto 109, 3) := dk_167 0 109 (dk_at dksX18_line_6 1 rfl rfl)
theorem dX18_line_152 : decode cX18_line 152 = .ok (.aload_n 0, 1) := dk_42 (dk_at dksX18_line_6 4 rfl rfl)
theorem dX18_line_153 : decode cX18_line 153 = .ok (.iconst 5, 1) := dk_8 (dk_at dksX18_line_6 5 rfl rfl)
theorem dX18_line_154 : decode cX18_line 154 = .ok (.invokevirtual 64, 3) := dk_182 0 64 (dk_at dksX18_line_6 6 rfl rfl)
theorem dX18_line_157 : decode cX18_line 157 = .ok (.istore_n 2, 1) := dk_61 (dk_at dksX18_line_6 9 rfl rfl)
theorem dX18_line_158 : decode cX18_line 158 = .ok (.aload_n 0, 1) := dk_42 (dk_at dksX18_line_6 10 rfl rfl)
theorem dX18_line_159 : decode cX18_line 159 = .ok (.iconst 5, 1) := dk_8 (dk_at dksX18_line_6 11 rfl rfl)
theorem dX18_line_160 : decode cX18_line 160 = .ok (.invokevirtual 60, 3) := dk_182 0 60 (dk_at dksX18_line_6 12 rfl rfl)
theorem dX18_line_163 : decode cX18_line 163 = .ok (.istore_n 3, 1) := dk_62 (dk_at dksX18_line_6 15 rfl rfl)
theorem dX18_line_164 : decode cX18_line 164 = .ok (.goto 94, 3) := dk_167 0 94 (dk_at dksX18_line_6 16 rfl rfl)
theorem dX18_line_167 : decode cX18_line 167 = .ok (.aload_n 0, 1) := dk_42 (dk_at dksX18_line_6 19 rfl rfl)
theorem dX18_line_168 : decode cX18_line 168 = .ok (.bipush 99, 2) := dk_16 99 (dk_at dksX18_line_6 20 rfl rfl)
theorem dX18_line_170 : decode cX18_line 170 = .ok (.invokevirtual 64, 3) := dk_182 0 64 (dk_at dksX18_line_7 0 rfl rfl)
theorem dX18_line_173 : decode cX18_line 173 = .ok (.istore_n 2, 1) := dk_61 (dk_at dksX18_line_7 3 rfl rfl)
theorem dX18_line_174 : decode cX18_line 174 = .ok (.aload_n 0, 1) := dk_42 (dk_at dksX18_line_7 4 rfl rfl)
theorem dX18_line_175 : decode cX18_line 175 = .ok (.iconst 5, 1) := dk_8 (dk_at dksX18_line_7 5 rfl rfl)
theorem dX18_line_176 : decode cX18_line 176 = .ok (.invokevirtual 60, 3) := dk_182 0 60 (dk_at dksX18_line_7 6 rfl rfl)
theorem dX18_line_179 : decode cX18_line 179 = .ok (.istore_n 3, 1) := dk_62 (dk_at dksX18_line_7 9 rfl rfl)
theorem dX18_line_180 : decode cX18_line 180 = .ok (.goto 78, 3) := dk_167 0 78 (dk_at dksX18_line_7 10 rfl rfl)
theorem dX18_line_183 : decode cX18_line 183 = .ok (.aload_n 0, 1) := dk_42 (dk_at dksX18_line_7 13 rfl rfl)
theorem dX18_line_184 : decode cX18_line 184 = .ok (.iconst 5, 1) := dk_8 (dk_at dksX18_line_7 14 rfl rfl)
theorem dX18_line_185 : decode cX18_line 185 = .ok (.invokevirtual 64, 3) := dk_182 0 64 (dk_at dksX18_line_7 15 rfl rfl)
theorem dX18_line_188 : decode cX18_line 188 = .ok (.istore_n 2, 1) := dk_61 (dk_at dksX18_line_7 18 rfl rfl)
theorem dX18_line_189 : decode cX18_line 189 = .ok (.aload_n 0, 1) := dk_42 (dk_at dksX18_line_7 19 rfl rfl)
theorem dX18_line_190 : decode cX18_line 190 = .ok (.bipush 9, 2) := dk_16 9 (dk_at dksX18_line_7 20 rfl rfl)
theorem dX18_line_192 : decode cX18_line 192 = .ok (.invokevirtual 60, 3) := dk_182 0 60 (dk_at dksX18_line_8 0 rfl rfl)
theorem dX18_line_195 : decode cX18_line 195 = .ok (.istore_n 3, 1) := dk_62 (dk_at dksX18_line_8 3 rfl rfl)
theorem dX18_line_196 : decode cX18_line 196 = .ok (.goto 62, 3) := dk_167 0 62 (dk_at dksX18_line_8 4 rfl rfl)
theorem dX18_line_199 : decode cX18_line 199 = .ok (.aload_n 0, 1) := dk_42 (dk_at dksX18_line_8 7 rfl rfl)
theorem dX18_line_200 : decode cX18_line 200 = .ok (.iconst 5, 1) := dk_8 (dk_at dksX18_line_8 8 rfl rfl)
theorem dX18_line_201 : decode cX18_line 201 = .ok (.invokevirtual 64, 3) := dk_182 0 64 (dk_at dksX18_line_8 9 rfl rfl)
theorem dX18_line_204 : decode cX18_line 204 = .ok (.istore_n 2, 1) := dk_61 (dk_at dksX18_line_8 12 rfl rfl)
theorem dX18_line_205 : decode cX18_line 205 = .ok (.aload_n 0, 1) := dk_42 (dk_at dksX18_line_8 13 rfl rfl)
theorem dX18_line_206 : decode cX18_line 206 = .ok (.bipush 60, 2) := dk_16 60 (dk_at dksX18_line_8 14 rfl rfl)
theorem dX18_line_208 : decode cX18_line 208 = .ok (.invokevirtual 67, 3) := dk_182 0 67 (dk_at dksX18_line_8 16 rfl rfl)
theorem dX18_line_211 : decode cX18_line 211 = .ok (.ifCond .ne 8, 3) := dk_154 0 8 (dk_at dksX18_line_8 19 rfl rfl)
theorem dX18_line_214 : decode cX18_line 214 = .ok (.aload_n 0, 1) := dk_42 (dk_at dksX18_line_8 22 rfl rfl)
theorem dX18_line_215 : decode cX18_line 215 = .ok (.invokevirtual 42, 3) := dk_182 0 42 (dk_at dksX18_line_9 0 rfl rfl)
theorem dX18_line_218 : decode cX18_line 218 = .ok (.athrow, 1) := dk_191 (dk_at dksX18_line_9 3 rfl rfl)
theorem dX18_line_219 : decode cX18_line 219 = .ok (.aload_n 0, 1) := dk_42 (dk_at dksX18_line_9 4 rfl rfl)
theorem dX18_line_220 : decode cX18_line 220 = .ok (.invokevirtual 24, 3) := dk_182 0 24 (dk_at dksX18_line_9 5 rfl rfl)
theorem dX18_line_223 : decode cX18_line 223 = .ok (.aload_n 0, 1) := dk_42 (dk_at dksX18_line_9 8 rfl rfl)
theorem dX18_line_224 : decode cX18_line 224 = .ok (.bipush 99, 2) := dk_16 99 (dk_at dksX18_line_9 9 rfl rfl)
theorem dX18_line_226 : decode cX18_line 226 = .ok (.invokevirtual 64, 3) := dk_182 0 64 (dk_at dksX18_line_9 11 rfl rfl)
theorem dX18_line_229 : decode cX18_line 229 = .ok (.istore_n 3, 1) := dk_62 (dk_at dksX18_line_9 14 rfl rfl)
theorem dX18_line_230 : decode cX18_line 230 = .ok (.aload_n 0, 1) := dk_42 (dk_at dksX18_line_9 15 rfl rfl)
theorem dX18_line_231 : decode cX18_line 231 = .ok (.ldc 71, 2) := dk_18 71 (dk_at dksX18_line_9 16 rfl rfl)
theorem dX18_line_233 : decode cX18_line 233 = .ok (.invokevirtual 73, 3) := dk_182 0 73 (dk_at dksX18_line_9 18 rfl rfl)
theorem dX18_line_236 : decode cX18_line 236 = .ok (.aload_n 0, 1) := dk_42 (dk_at dksX18_line_9 21 rfl rfl)
theorem dX18_line_237 : decode cX18_line 237 = .ok (.bipush 20, 2) := dk_16 20 (dk_at dksX18_line_9 22 rfl rfl)
theorem dX18_line_239 : decode cX18_line 239 = .ok (.invokevirtual 64, 3) := dk_182 0 64 (dk_at dksX18_line_10 0 rfl rfl)
theorem dX18_line_242 : decode cX18_line 242 = .ok (.istore 4, 2) := dk_54 4 (dk_at dksX18_line_10 3 rfl rfl)
theorem dX18_line_244 : decode cX18_line 244 = .ok (.goto 14, 3) := dk_167 0 14 (dk_at dksX18_line_10 5 rfl rfl)
theorem dX18_line_247 : decode cX18_line 247 = .ok (.aload_n 0, 1) := dk_42 (dk_at dksX18_line_10 8 rfl rfl)
theorem dX18_line_248 : decode cX18_line 248 = .ok (.bipush 20, 2) := dk_16 20 (dk_at dksX18_line_10 9 rfl rfl)
theorem dX18_line_250 : decode cX18_line 250 = .ok (.invokevirtual 64, 3) := dk_182 0 64 (dk_at dksX18_line_10 11 rfl rfl)
theorem dX18_line_253 : decode cX18_line 253 = .ok (.istore 4, 2) := dk_54 4 (dk_at dksX18_line_10 14 rfl rfl)
theorem dX18_line_255 : decode cX18_line 255 = .ok (.goto 3, 3) := dk_167 0 3 (dk_at dksX18_line_10 16 rfl rfl)
theorem dX18_line_258 : decode cX18_line 258 = .ok (.aload_n 0, 1) := dk_42 (dk_at dksX18_line_10 19 rfl rfl)
theorem dX18_line_259 : decode cX18_line 259 = .ok (.bipush 59, 2) := dk_16 59 (dk_at dksX18_line_10 20 rfl rfl)
theorem dX18_line_261 : decode cX18_line 261 = .ok (.invokevirtual 67, 3) := dk_182 0 67 (dk_at dksX18_line_11 0 rfl rfl)
theorem dX18_line_264 : decode cX18_line 264 = .ok (.ifCond .ne 8, 3) := dk_154 0 8 (dk_at dksX18_line_11 3 rfl rfl)
theorem dX18_line_267 : decode cX18_line 267 = .ok (.aload_n 0, 1) := dk_42 (dk_at dksX18_line_11 6 rfl rfl)
theorem dX18_line_268 : decode cX18_line 268 = .ok (.invokevirtual 42, 3) := dk_182 0 42 (dk_at dksX18_line_11 7 rfl rfl)
theorem dX18_line_271 : decode cX18_line 271 = .ok (.athrow, 1) := dk_191 (dk_at dksX18_line_11 10 rfl rfl)
theorem dX18_line_272 : decode cX18_line 272 = .ok (.aload_n 0, 1) := dk_42 (dk_at dksX18_line_11 11 rfl rfl)
theorem dX18_line_273 : decode cX18_line 273 = .ok (.invokevirtual 24, 3) := dk_182 0 24 (dk_at dksX18_line_11 12 rfl rfl)
theorem dX18_line_276 : decode cX18_line 276 = .ok (.aload_n 0, 1) := dk_42 (dk_at dksX18_line_11 15 rfl rfl)
theorem dX18_line_277 : decode cX18_line 277 = .ok (.getfield 20, 3) := dk_180 0 20 (dk_at dksX18_line_11 16 rfl rfl)
theorem dX18_line_280 : decode cX18_line 280 = .ok (.iload_n 1, 1) := dk_27 (dk_at dksX18_line_11 19 rfl rfl)
theorem dX18_line_281 : decode cX18_line 281 = .ok (.iload_n 2, 1) := dk_28 (dk_at dksX18_line_11 20 rfl rfl)
theorem dX18_line_282 : decode cX18_line 282 = .ok (.iload_n 3, 1) := dk_29 (dk_at dksX18_line_11 21 rfl rfl)
theorem dX18_line_283 : decode cX18_line 283 = .ok (.iload 4, 2) := dk_21 4 (dk_at dksX18_line_11 22 rfl rfl)
theorem dX18_line_285 : decode cX18_line 285 = .ok (.invokevirtual 77, 3) := dk_182 0 77 (dk_at dksX18_line_12 0 rfl rfl)
theorem dX18_line_288 : decode cX18_line 288 = .ok (.return_, 1) := dk_177 (dk_at dksX18_line_12 3 rfl rfl)
abbrev cX18_to : ByteArray := prog_13_method_4_code
def yX18_to : MethodName := ⟨RX18, "to", "(I)I"⟩
def dkwX18_to_0 : List UInt8 := [42, 18, 81, 182, 0, 73, 42, 27, 182, 0, 64, 172]
abbrev dktX18_to_0 : List UInt8 := dkwX18_to_0 ++ []
theorem dksX18_to_0 : cX18_to.data.toList.drop 0 = dktX18_to_0 := by decide +kernel
theorem dX18_to_0 : decode cX18_to 0 = .ok (.aload_n 0, 1) := dk_42 (dk_at dksX18_to_0 0 rfl rfl)
theorem dX18_to_1 : decode cX18_to 1 = .ok (.ldc 81, 2) := dk_18 81 (dk_at dksX18_to_0 1 rfl rfl)
theorem dX18_to_3 : decode cX18_to 3 = .ok (.invokevirtual 73, 3) := dk_182 0 73 (dk_at dksX18_to_0 3 rfl rfl)
theorem dX18_to_6 : decode cX18_to 6 = .ok (.aload_n 0, 1) := dk_42 (dk_at dksX18_to_0 6 rfl rfl)
theorem dX18_to_7 : decode cX18_to 7 = .ok (.iload_n 1, 1) := dk_27 (dk_at dksX18_to_0 7 rfl rfl)
theorem dX18_to_8 : decode cX18_to 8 = .ok (.invokevirtual 64, 3) := dk_182 0 64 (dk_at dksX18_to_0 8 rfl rfl)
theorem dX18_to_11 : decode cX18_to 11 = .ok (.ireturn, 1) := dk_172 (dk_at dksX18_to_0 11 rfl rfl)
theorem q127 : (Jvm.Cond.initialized "PretendDesk$ProgramReader") ∈ lw_all := lw_g (lw_at lw_m1 28 rfl) rfl
theorem q399 : (Jvm.Cond.fieldLinkNest "PretendDesk$ProgramReader" (34 : Nat) "PretendDesk" "acts" "[Ljava/lang/String;" "PretendDesk") ∈ lw_tbl := lw_at lw_m2 60 rfl
theorem q574 : (Jvm.Cond.fieldLink "PretendDesk$ProgramReader" (27 : Nat) "PretendDesk$ProgramReader" "sort" "I") ∈ lw_all := lw_g (lw_at lw_m2 235 rfl) rfl
theorem q575 : (Jvm.Cond.sameField "PretendDesk$ProgramReader" "PretendDesk$Tokens" "sort" "I") ∈ lw_all := lw_g (lw_at lw_m2 236 rfl) rfl
theorem q582 : (Jvm.Cond.fieldLink "PretendDesk$ProgramReader" (49 : Nat) "PretendDesk$ProgramReader" "place" "I") ∈ lw_all := lw_g (lw_at lw_m3 3 rfl) rfl
theorem q583 : (Jvm.Cond.sameField "PretendDesk$ProgramReader" "PretendDesk$Tokens" "place" "I") ∈ lw_all := lw_g (lw_at lw_m3 4 rfl) rfl
theorem q589 : (Jvm.Cond.sameField "PretendDesk$ProgramReader" "PretendDesk$Tokens" "fault" "I") ∈ lw_all := lw_g (lw_at lw_m3 10 rfl) rfl
theorem q594 : (Jvm.Cond.sameField "PretendDesk$ProgramReader" "PretendDesk$Tokens" "faultPlace" "I") ∈ lw_all := lw_g (lw_at lw_m3 15 rfl) rfl
theorem q650 : (Jvm.Cond.selects "PretendDesk$ProgramReader" ({ cls := "PretendDesk$Tokens", name := "isWord", desc := "(Ljava/lang/String;)Z" } : Jvm.MethodName) ({ cls := "PretendDesk$Tokens", name := "isWord", desc := "(Ljava/lang/String;)Z" } : Jvm.MethodName)) ∈ lw_all := lw_g (lw_at lw_m3 71 rfl) rfl
theorem q854 : (Jvm.Cond.fieldLink "PretendDesk$ProgramReader" (46 : Nat) "PretendDesk$Program" "lines" "I") ∈ lw_all := lw_g (lw_at lw_m4 35 rfl) rfl
theorem q1223 : (Jvm.Cond.instantiable "PretendDesk$ProgramReader" (12 : Nat)) ∈ lw_all := lw_g (lw_at lw_m5 164 rfl) rfl
theorem q1225 : (Jvm.Cond.instanceMethod ({ cls := "PretendDesk$ProgramReader", name := "<init>", desc := "(LPretendDesk;I)V" } : Jvm.MethodName)) ∈ lw_all := lw_g (lw_at lw_m5 166 rfl) rfl
theorem q1226 : (Jvm.Cond.code ({ cls := "PretendDesk$ProgramReader", name := "<init>", desc := "(LPretendDesk;I)V" } : Jvm.MethodName) prog_13_method_1_code (3 : Nat) (Option.none : Option Jvm.ClassFile.FieldType)) ∈ lw_all := lw_g (lw_at lw_m5 167 rfl) rfl
theorem q1227 : (Jvm.Cond.methodLink "PretendDesk$ProgramReader" (9 : Nat) ({ cls := "PretendDesk$Tokens", name := "<init>", desc := "(LPretendDesk;I)V" } : Jvm.MethodName)) ∈ lw_all := lw_g (lw_at lw_m5 168 rfl) rfl
theorem q1228 : (Jvm.Cond.classLink "PretendDesk$ProgramReader" (15 : Nat) "PretendDesk$Program") ∈ lw_all := lw_g (lw_at lw_m5 169 rfl) rfl
theorem q1229 : (Jvm.Cond.methodLinkNest "PretendDesk$ProgramReader" (17 : Nat) ({ cls := "PretendDesk$Program", name := "<init>", desc := "()V" } : Jvm.MethodName) "PretendDesk") ∈ lw_tbl := lw_at lw_m5 170 rfl
theorem q1230 : (Jvm.Cond.fieldLink "PretendDesk$ProgramReader" (20 : Nat) "PretendDesk$ProgramReader" "program" "LPretendDesk$Program;") ∈ lw_all := lw_g (lw_at lw_m5 171 rfl) rfl
theorem q1232 : (Jvm.Cond.fieldLink "PretendDesk$ProgramReader" (3 : Nat) "PretendDesk$ProgramReader" "this$0" "LPretendDesk;") ∈ lw_all := lw_g (lw_at lw_m5 173 rfl) rfl
theorem q1233 : (Jvm.Cond.laysFinal "PretendDesk$ProgramReader" "PretendDesk$ProgramReader" "program" "LPretendDesk$Program;") ∈ lw_all := lw_g (lw_at lw_m5 174 rfl) rfl
theorem q1234 : (Jvm.Cond.soleField "PretendDesk$ProgramReader" "program") ∈ lw_all := lw_g (lw_at lw_m5 175 rfl) rfl
theorem q1235 : (Jvm.Cond.laysFinal "PretendDesk$ProgramReader" "PretendDesk$ProgramReader" "this$0" "LPretendDesk;") ∈ lw_all := lw_g (lw_at lw_m5 176 rfl) rfl
theorem q1236 : (Jvm.Cond.soleField "PretendDesk$ProgramReader" "this$0") ∈ lw_all := lw_g (lw_at lw_m5 177 rfl) rfl
theorem q1237 : (Jvm.Cond.laysFinal "PretendDesk$ProgramReader" "PretendDesk$Tokens" "length" "I") ∈ lw_all := lw_g (lw_at lw_m5 178 rfl) rfl
theorem q1238 : (Jvm.Cond.lays "PretendDesk$ProgramReader" "PretendDesk$Tokens" "at" "I") ∈ lw_all := lw_g (lw_at lw_m5 179 rfl) rfl
theorem q1239 : (Jvm.Cond.lays "PretendDesk$ProgramReader" "PretendDesk$Tokens" "letters" "I") ∈ lw_all := lw_g (lw_at lw_m5 180 rfl) rfl
theorem q1240 : (Jvm.Cond.lays "PretendDesk$ProgramReader" "PretendDesk$Tokens" "word" "J") ∈ lw_all := lw_g (lw_at lw_m5 181 rfl) rfl
theorem q1241 : (Jvm.Cond.lays "PretendDesk$ProgramReader" "PretendDesk$Tokens" "sort" "I") ∈ lw_all := lw_g (lw_at lw_m5 182 rfl) rfl
theorem q1242 : (Jvm.Cond.lays "PretendDesk$ProgramReader" "PretendDesk$Tokens" "place" "I") ∈ lw_all := lw_g (lw_at lw_m5 183 rfl) rfl
theorem q1243 : (Jvm.Cond.lays "PretendDesk$ProgramReader" "PretendDesk$Tokens" "value" "I") ∈ lw_all := lw_g (lw_at lw_m5 184 rfl) rfl
theorem q1244 : (Jvm.Cond.lays "PretendDesk$ProgramReader" "PretendDesk$Tokens" "fault" "I") ∈ lw_all := lw_g (lw_at lw_m5 185 rfl) rfl
theorem q1245 : (Jvm.Cond.lays "PretendDesk$ProgramReader" "PretendDesk$Tokens" "faultPlace" "I") ∈ lw_all := lw_g (lw_at lw_m5 186 rfl) rfl
theorem q1246 : (Jvm.Cond.laysFinal "PretendDesk$ProgramReader" "PretendDesk$Tokens" "this$0" "LPretendDesk;") ∈ lw_all := lw_g (lw_at lw_m5 187 rfl) rfl
theorem q1247 : (Jvm.Cond.superclass "PretendDesk$ProgramReader" "PretendDesk$Tokens") ∈ lw_all := lw_g (lw_at lw_m5 188 rfl) rfl
theorem q1249 : (Jvm.Cond.instanceMethod ({ cls := "PretendDesk$ProgramReader", name := "text", desc := "()V" } : Jvm.MethodName)) ∈ lw_all := lw_g (lw_at lw_m5 190 rfl) rfl
theorem q1250 : (Jvm.Cond.selects "PretendDesk$ProgramReader" ({ cls := "PretendDesk$ProgramReader", name := "text", desc := "()V" } : Jvm.MethodName) ({ cls := "PretendDesk$ProgramReader", name := "text", desc := "()V" } : Jvm.MethodName)) ∈ lw_all := lw_g (lw_at lw_m5 191 rfl) rfl
theorem q1251 : (Jvm.Cond.code ({ cls := "PretendDesk$ProgramReader", name := "text", desc := "()V" } : Jvm.MethodName) prog_13_method_2_code (1 : Nat) (Option.none : Option Jvm.ClassFile.FieldType)) ∈ lw_all := lw_g (lw_at lw_m5 192 rfl) rfl
theorem q1252 : (Jvm.Cond.methodLink "PretendDesk$ProgramReader" (24 : Nat) ({ cls := "PretendDesk$ProgramReader", name := "next", desc := "()V" } : Jvm.MethodName)) ∈ lw_all := lw_g (lw_at lw_m5 193 rfl) rfl
theorem q1253 : (Jvm.Cond.sameMethod "PretendDesk$ProgramReader" "PretendDesk$Tokens" "next" "()V") ∈ lw_all := lw_g (lw_at lw_m5 194 rfl) rfl
theorem q1254 : (Jvm.Cond.selects "PretendDesk$ProgramReader" ({ cls := "PretendDesk$ProgramReader", name := "next", desc := "()V" } : Jvm.MethodName) ({ cls := "PretendDesk$Tokens", name := "next", desc := "()V" } : Jvm.MethodName)) ∈ lw_all := lw_g (lw_at lw_m5 195 rfl) rfl
theorem q1255 : (Jvm.Cond.methodLink "PretendDesk$ProgramReader" (31 : Nat) ({ cls := "PretendDesk$ProgramReader", name := "line", desc := "()V" } : Jvm.MethodName)) ∈ lw_all := lw_g (lw_at lw_m5 196 rfl) rfl
theorem q1256 : (Jvm.Cond.privateMethod ({ cls := "PretendDesk$ProgramReader", name := "line", desc := "()V" } : Jvm.MethodName)) ∈ lw_tbl := lw_at lw_m5 197 rfl
theorem q1257 : (Jvm.Cond.instanceMethod ({ cls := "PretendDesk$ProgramReader", name := "line", desc := "()V" } : Jvm.MethodName)) ∈ lw_all := lw_g (lw_at lw_m5 198 rfl) rfl
theorem q1258 : (Jvm.Cond.code ({ cls := "PretendDesk$ProgramReader", name := "line", desc := "()V" } : Jvm.MethodName) prog_13_method_3_code (5 : Nat) (Option.none : Option Jvm.ClassFile.FieldType)) ∈ lw_all := lw_g (lw_at lw_m5 199 rfl) rfl
theorem q1259 : (Jvm.Cond.methodLink "PretendDesk$ProgramReader" (38 : Nat) ({ cls := "PretendDesk$ProgramReader", name := "isWord", desc := "(Ljava/lang/String;)Z" } : Jvm.MethodName)) ∈ lw_all := lw_g (lw_at lw_m5 200 rfl) rfl
theorem q1260 : (Jvm.Cond.sameMethod "PretendDesk$ProgramReader" "PretendDesk$Tokens" "isWord" "(Ljava/lang/String;)Z") ∈ lw_all := lw_g (lw_at lw_m5 201 rfl) rfl
theorem q1261 : (Jvm.Cond.selects "PretendDesk$ProgramReader" ({ cls := "PretendDesk$ProgramReader", name := "isWord", desc := "(Ljava/lang/String;)Z" } : Jvm.MethodName) ({ cls := "PretendDesk$Tokens", name := "isWord", desc := "(Ljava/lang/String;)Z" } : Jvm.MethodName)) ∈ lw_all := lw_g (lw_at lw_m5 202 rfl) rfl
theorem q1262 : (Jvm.Cond.methodLink "PretendDesk$ProgramReader" (42 : Nat) ({ cls := "PretendDesk$ProgramReader", name := "wrong", desc := "()LPretendDesk$Wrong;" } : Jvm.MethodName)) ∈ lw_all := lw_g (lw_at lw_m5 203 rfl) rfl
theorem q1263 : (Jvm.Cond.sameMethod "PretendDesk$ProgramReader" "PretendDesk$Tokens" "wrong" "()LPretendDesk$Wrong;") ∈ lw_all := lw_g (lw_at lw_m5 204 rfl) rfl
theorem q1264 : (Jvm.Cond.selects "PretendDesk$ProgramReader" ({ cls := "PretendDesk$ProgramReader", name := "wrong", desc := "()LPretendDesk$Wrong;" } : Jvm.MethodName) ({ cls := "PretendDesk$Tokens", name := "wrong", desc := "()LPretendDesk$Wrong;" } : Jvm.MethodName)) ∈ lw_all := lw_g (lw_at lw_m5 205 rfl) rfl
theorem q1265 : (Jvm.Cond.methodLink "PretendDesk$ProgramReader" (52 : Nat) ({ cls := "PretendDesk$ProgramReader", name := "note", desc := "(II)V" } : Jvm.MethodName)) ∈ lw_all := lw_g (lw_at lw_m5 206 rfl) rfl
theorem q1266 : (Jvm.Cond.sameMethod "PretendDesk$ProgramReader" "PretendDesk$Tokens" "note" "(II)V") ∈ lw_all := lw_g (lw_at lw_m5 207 rfl) rfl
theorem q1267 : (Jvm.Cond.selects "PretendDesk$ProgramReader" ({ cls := "PretendDesk$ProgramReader", name := "note", desc := "(II)V" } : Jvm.MethodName) ({ cls := "PretendDesk$Tokens", name := "note", desc := "(II)V" } : Jvm.MethodName)) ∈ lw_all := lw_g (lw_at lw_m5 208 rfl) rfl
theorem q1268 : (Jvm.Cond.methodLink "PretendDesk$ProgramReader" (56 : Nat) ({ cls := "PretendDesk$ProgramReader", name := "kind", desc := "()I" } : Jvm.MethodName)) ∈ lw_all := lw_g (lw_at lw_m5 209 rfl) rfl
theorem q1269 : (Jvm.Cond.sameMethod "PretendDesk$ProgramReader" "PretendDesk$Tokens" "kind" "()I") ∈ lw_all := lw_g (lw_at lw_m5 210 rfl) rfl
theorem q1270 : (Jvm.Cond.selects "PretendDesk$ProgramReader" ({ cls := "PretendDesk$ProgramReader", name := "kind", desc := "()I" } : Jvm.MethodName) ({ cls := "PretendDesk$Tokens", name := "kind", desc := "()I" } : Jvm.MethodName)) ∈ lw_all := lw_g (lw_at lw_m5 211 rfl) rfl
theorem q1271 : (Jvm.Cond.methodLink "PretendDesk$ProgramReader" (60 : Nat) ({ cls := "PretendDesk$ProgramReader", name := "to", desc := "(I)I" } : Jvm.MethodName)) ∈ lw_all := lw_g (lw_at lw_m5 212 rfl) rfl
theorem q1272 : (Jvm.Cond.privateMethod ({ cls := "PretendDesk$ProgramReader", name := "to", desc := "(I)I" } : Jvm.MethodName)) ∈ lw_tbl := lw_at lw_m5 213 rfl
theorem q1273 : (Jvm.Cond.instanceMethod ({ cls := "PretendDesk$ProgramReader", name := "to", desc := "(I)I" } : Jvm.MethodName)) ∈ lw_all := lw_g (lw_at lw_m5 214 rfl) rfl
theorem q1274 : (Jvm.Cond.code ({ cls := "PretendDesk$ProgramReader", name := "to", desc := "(I)I" } : Jvm.MethodName) prog_13_method_4_code (2 : Nat) (Option.some Jvm.ClassFile.FieldType.int)) ∈ lw_all := lw_g (lw_at lw_m5 215 rfl) rfl
theorem q1275 : (Jvm.Cond.stringRef "PretendDesk$ProgramReader" (81 : Nat) "to") ∈ lw_tbl := lw_at lw_m5 216 rfl
theorem q1276 : (Jvm.Cond.methodLink "PretendDesk$ProgramReader" (73 : Nat) ({ cls := "PretendDesk$ProgramReader", name := "pass", desc := "(Ljava/lang/String;)V" } : Jvm.MethodName)) ∈ lw_all := lw_g (lw_at lw_m5 217 rfl) rfl
theorem q1277 : (Jvm.Cond.sameMethod "PretendDesk$ProgramReader" "PretendDesk$Tokens" "pass" "(Ljava/lang/String;)V") ∈ lw_all := lw_g (lw_at lw_m5 218 rfl) rfl
theorem q1279 : (Jvm.Cond.selects "PretendDesk$ProgramReader" ({ cls := "PretendDesk$ProgramReader", name := "pass", desc := "(Ljava/lang/String;)V" } : Jvm.MethodName) ({ cls := "PretendDesk$Tokens", name := "pass", desc := "(Ljava/lang/String;)V" } : Jvm.MethodName)) ∈ lw_all := lw_g (lw_at lw_m5 220 rfl) rfl
theorem q1282 : (Jvm.Cond.methodLink "PretendDesk$ProgramReader" (64 : Nat) ({ cls := "PretendDesk$ProgramReader", name := "number", desc := "(I)I" } : Jvm.MethodName)) ∈ lw_all := lw_g (lw_at lw_m5 223 rfl) rfl
theorem q1283 : (Jvm.Cond.sameMethod "PretendDesk$ProgramReader" "PretendDesk$Tokens" "number" "(I)I") ∈ lw_all := lw_g (lw_at lw_m5 224 rfl) rfl
theorem q1284 : (Jvm.Cond.selects "PretendDesk$ProgramReader" ({ cls := "PretendDesk$ProgramReader", name := "number", desc := "(I)I" } : Jvm.MethodName) ({ cls := "PretendDesk$Tokens", name := "number", desc := "(I)I" } : Jvm.MethodName)) ∈ lw_all := lw_g (lw_at lw_m5 225 rfl) rfl
theorem q1285 : (Jvm.Cond.methodLink "PretendDesk$ProgramReader" (67 : Nat) ({ cls := "PretendDesk$ProgramReader", name := "isSign", desc := "(I)Z" } : Jvm.MethodName)) ∈ lw_all := lw_g (lw_at lw_m5 226 rfl) rfl
theorem q1286 : (Jvm.Cond.sameMethod "PretendDesk$ProgramReader" "PretendDesk$Tokens" "isSign" "(I)Z") ∈ lw_all := lw_g (lw_at lw_m5 227 rfl) rfl
theorem q1287 : (Jvm.Cond.selects "PretendDesk$ProgramReader" ({ cls := "PretendDesk$ProgramReader", name := "isSign", desc := "(I)Z" } : Jvm.MethodName) ({ cls := "PretendDesk$Tokens", name := "isSign", desc := "(I)Z" } : Jvm.MethodName)) ∈ lw_all := lw_g (lw_at lw_m5 228 rfl) rfl
theorem q1288 : (Jvm.Cond.stringRef "PretendDesk$ProgramReader" (71 : Nat) "go") ∈ lw_tbl := lw_at lw_m5 229 rfl
theorem q1289 : (Jvm.Cond.methodLink "PretendDesk$ProgramReader" (77 : Nat) ({ cls := "PretendDesk$Program", name := "add", desc := "(IIII)V" } : Jvm.MethodName)) ∈ lw_all := lw_g (lw_at lw_m5 230 rfl) rfl
theorem q2106 : (Jvm.Cond.selects "PretendDesk$ProgramReader" ({ cls := "PretendDesk$Tokens", name := "wrong", desc := "()LPretendDesk$Wrong;" } : Jvm.MethodName) ({ cls := "PretendDesk$Tokens", name := "wrong", desc := "()LPretendDesk$Wrong;" } : Jvm.MethodName)) ∈ lw_all := lw_g (lw_at lw_m9 87 rfl) rfl
theorem q2109 : (Jvm.Cond.selects "PretendDesk$ProgramReader" ({ cls := "PretendDesk$Tokens", name := "note", desc := "(II)V" } : Jvm.MethodName) ({ cls := "PretendDesk$Tokens", name := "note", desc := "(II)V" } : Jvm.MethodName)) ∈ lw_all := lw_g (lw_at lw_m9 90 rfl) rfl
theorem q2112 : (Jvm.Cond.selects "PretendDesk$ProgramReader" ({ cls := "PretendDesk$Tokens", name := "next", desc := "()V" } : Jvm.MethodName) ({ cls := "PretendDesk$Tokens", name := "next", desc := "()V" } : Jvm.MethodName)) ∈ lw_all := lw_g (lw_at lw_m9 93 rfl) rfl
theorem in_X18 : ∀ w ∈ wsX180, w ∈ lw_all := lw_in wsX180 [1237, 1238, 1239, 1240, 1241, 1242, 1243, 1244, 1245, 1246, 1233, 1235] (by decide +kernel) (by decide +kernel)
/-! PretendDesk$Pattern -/
set_option maxRecDepth 100000
def RX19 : String := "PretendDesk$Pattern"
def TX19 : u_T := fun k => match k with
  | 0 => ("PretendDesk$Pattern", "meanings", "I", true)
  | _ => ("PretendDesk$Pattern", "weight", "I", true)
def tyX19 : Nat → FieldType := fun k => match k with
  | 0 => .int
  | _ => .int
abbrev wsX190 : List Cond := u_ws RX19 TX19 2
theorem nmX19 : ∀ a, a < 2 → ∀ b, b < 2 → a ≠ b → (TX19 a).2.1 ≠ (TX19 b).2.1 := by decide +kernel
theorem tyX19_ok : ∀ k, k < 2 → parseFieldDescriptor (TX19 k).2.2.1 = some (tyX19 k) := by decide +kernel
abbrev cX19_init : ByteArray := prog_11_method_1_code
def yX19_init : MethodName := ⟨RX19, "<init>", "(II)V"⟩
def dkwX19_init_0 : List UInt8 := [42, 183, 0, 1, 42, 27, 181, 0, 7, 42, 28, 181, 0, 13, 177]
abbrev dktX19_init_0 : List UInt8 := dkwX19_init_0 ++ []
theorem dksX19_init_0 : cX19_init.data.toList.drop 0 = dktX19_init_0 := by decide +kernel
theorem dX19_init_0 : decode cX19_init 0 = .ok (.aload_n 0, 1) := dk_42 (dk_at dksX19_init_0 0 rfl rfl)
theorem dX19_init_1 : decode cX19_init 1 = .ok (.invokespecial 1, 3) := dk_183 0 1 (dk_at dksX19_init_0 1 rfl rfl)
theorem dX19_init_4 : decode cX19_init 4 = .ok (.aload_n 0, 1) := dk_42 (dk_at dksX19_init_0 4 rfl rfl)
theorem dX19_init_5 : decode cX19_init 5 = .ok (.iload_n 1, 1) := dk_27 (dk_at dksX19_init_0 5 rfl rfl)
theorem dX19_init_6 : decode cX19_init 6 = .ok (.putfield 7, 3) := dk_181 0 7 (dk_at dksX19_init_0 6 rfl rfl)
theorem dX19_init_9 : decode cX19_init 9 = .ok (.aload_n 0, 1) := dk_42 (dk_at dksX19_init_0 9 rfl rfl)
theorem dX19_init_10 : decode cX19_init 10 = .ok (.iload_n 2, 1) := dk_28 (dk_at dksX19_init_0 10 rfl rfl)
theorem dX19_init_11 : decode cX19_init 11 = .ok (.putfield 13, 3) := dk_181 0 13 (dk_at dksX19_init_0 11 rfl rfl)
theorem dX19_init_14 : decode cX19_init 14 = .ok (.return_, 1) := dk_177 (dk_at dksX19_init_0 14 rfl rfl)
theorem q128 : (Jvm.Cond.initialized "PretendDesk$Pattern") ∈ lw_all := lw_g (lw_at lw_m1 29 rfl) rfl
theorem q1352 : (Jvm.Cond.instantiable "PretendDesk$Pattern" (2 : Nat)) ∈ lw_all := lw_g (lw_at lw_m6 53 rfl) rfl
theorem q1354 : (Jvm.Cond.instanceMethod ({ cls := "PretendDesk$Pattern", name := "<init>", desc := "(II)V" } : Jvm.MethodName)) ∈ lw_all := lw_g (lw_at lw_m6 55 rfl) rfl
theorem q1355 : (Jvm.Cond.code ({ cls := "PretendDesk$Pattern", name := "<init>", desc := "(II)V" } : Jvm.MethodName) prog_11_method_1_code (3 : Nat) (Option.none : Option Jvm.ClassFile.FieldType)) ∈ lw_all := lw_g (lw_at lw_m6 56 rfl) rfl
theorem q1356 : (Jvm.Cond.methodLink "PretendDesk$Pattern" (1 : Nat) ({ cls := "java/lang/Object", name := "<init>", desc := "()V" } : Jvm.MethodName)) ∈ lw_all := lw_g (lw_at lw_m6 57 rfl) rfl
theorem q1357 : (Jvm.Cond.fieldLink "PretendDesk$Pattern" (7 : Nat) "PretendDesk$Pattern" "meanings" "I") ∈ lw_all := lw_g (lw_at lw_m6 58 rfl) rfl
theorem q1359 : (Jvm.Cond.fieldLink "PretendDesk$Pattern" (13 : Nat) "PretendDesk$Pattern" "weight" "I") ∈ lw_all := lw_g (lw_at lw_m6 60 rfl) rfl
theorem q1361 : (Jvm.Cond.laysFinal "PretendDesk$Pattern" "PretendDesk$Pattern" "meanings" "I") ∈ lw_all := lw_g (lw_at lw_m6 62 rfl) rfl
theorem q1362 : (Jvm.Cond.soleField "PretendDesk$Pattern" "meanings") ∈ lw_all := lw_g (lw_at lw_m6 63 rfl) rfl
theorem q1363 : (Jvm.Cond.laysFinal "PretendDesk$Pattern" "PretendDesk$Pattern" "weight" "I") ∈ lw_all := lw_g (lw_at lw_m6 64 rfl) rfl
theorem q1364 : (Jvm.Cond.soleField "PretendDesk$Pattern" "weight") ∈ lw_all := lw_g (lw_at lw_m6 65 rfl) rfl
theorem q1365 : (Jvm.Cond.superclass "PretendDesk$Pattern" "java/lang/Object") ∈ lw_all := lw_g (lw_at lw_m6 66 rfl) rfl
theorem in_X19 : ∀ w ∈ wsX190, w ∈ lw_all := lw_in wsX190 [1361, 1363] (by decide +kernel) (by decide +kernel)
