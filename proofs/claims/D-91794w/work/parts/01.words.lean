-- ===== PART A: goes FIRST, ahead of the names: the tables' words, and 'selects' of the private methods out of them =====
/-- a private method of a class that the tables say can be made, by its rows of tables_1 -/
def lw_okq (q : MethodName × Nat) : Prop := (q.1.cls ≠ "java/lang/invoke/MethodHandle" ∧ q.1.cls ≠ "java/lang/invoke/VarHandle") ∧ Cond.instantiable q.1.cls q.2 ∈ tables_1 ∧ Cond.privateMethod q.1 ∈ tables_1 ∧ Cond.instanceMethod q.1 ∈ tables_1
set_option maxRecDepth 100000
theorem lw_t1 {w : Cond} (h : w ∈ tables_1_1) : w ∈ tables_1 := List.mem_append_left _ h
theorem lw_t2 {w : Cond} (h : w ∈ tables_1_2) : w ∈ tables_1 := List.mem_append_right _ (List.mem_append_left _ h)
theorem lw_t3 {w : Cond} (h : w ∈ tables_1_3) : w ∈ tables_1 := List.mem_append_right _ (List.mem_append_right _ (List.mem_append_left _ h))
theorem lw_t4 {w : Cond} (h : w ∈ tables_1_4) : w ∈ tables_1 := List.mem_append_right _ (List.mem_append_right _ (List.mem_append_right _ (List.mem_append_left _ h)))
theorem lw_t5 {w : Cond} (h : w ∈ tables_1_5) : w ∈ tables_1 := List.mem_append_right _ (List.mem_append_right _ (List.mem_append_right _ (List.mem_append_right _ (List.mem_append_left _ h))))
theorem lw_t6 {w : Cond} (h : w ∈ tables_1_6) : w ∈ tables_1 := List.mem_append_right _ (List.mem_append_right _ (List.mem_append_right _ (List.mem_append_right _ (List.mem_append_right _ (List.mem_append_left _ h)))))
theorem lw_t7 {w : Cond} (h : w ∈ tables_1_7) : w ∈ tables_1 := List.mem_append_right _ (List.mem_append_right _ (List.mem_append_right _ (List.mem_append_right _ (List.mem_append_right _ (List.mem_append_right _ (List.mem_append_left _ h))))))
theorem lw_t8 {w : Cond} (h : w ∈ tables_1_8) : w ∈ tables_1 := List.mem_append_right _ (List.mem_append_right _ (List.mem_append_right _ (List.mem_append_right _ (List.mem_append_right _ (List.mem_append_right _ (List.mem_append_right _ (List.mem_append_left _ h)))))))
theorem lw_t9 {w : Cond} (h : w ∈ tables_1_9) : w ∈ tables_1 := List.mem_append_right _ (List.mem_append_right _ (List.mem_append_right _ (List.mem_append_right _ (List.mem_append_right _ (List.mem_append_right _ (List.mem_append_right _ (List.mem_append_right _ h)))))))
theorem lw_p0 : lw_okq (⟨"PretendDesk", "four", "(I)V"⟩, 17) := ⟨⟨by decide +kernel, by decide +kernel⟩, lw_t1 (List.mem_of_getElem? (i := 31) rfl), lw_t2 (List.mem_of_getElem? (i := 119) rfl), lw_t2 (List.mem_of_getElem? (i := 120) rfl)⟩
theorem lw_p1 : lw_okq (⟨"PretendDesk", "take", "()I"⟩, 17) := ⟨⟨by decide +kernel, by decide +kernel⟩, lw_t1 (List.mem_of_getElem? (i := 31) rfl), lw_t2 (List.mem_of_getElem? (i := 134) rfl), lw_t2 (List.mem_of_getElem? (i := 135) rfl)⟩
theorem lw_p2 : lw_okq (⟨"PretendDesk", "fails", "(II)I"⟩, 17) := ⟨⟨by decide +kernel, by decide +kernel⟩, lw_t1 (List.mem_of_getElem? (i := 31) rfl), lw_t2 (List.mem_of_getElem? (i := 138) rfl), lw_t2 (List.mem_of_getElem? (i := 139) rfl)⟩
theorem lw_p3 : lw_okq (⟨"PretendDesk", "readName", "(I)[B"⟩, 17) := ⟨⟨by decide +kernel, by decide +kernel⟩, lw_t1 (List.mem_of_getElem? (i := 31) rfl), lw_t2 (List.mem_of_getElem? (i := 142) rfl), lw_t2 (List.mem_of_getElem? (i := 143) rfl)⟩
theorem lw_p4 : lw_okq (⟨"PretendDesk", "isPage", "(I)Z"⟩, 17) := ⟨⟨by decide +kernel, by decide +kernel⟩, lw_t1 (List.mem_of_getElem? (i := 31) rfl), lw_t2 (List.mem_of_getElem? (i := 182) rfl), lw_t2 (List.mem_of_getElem? (i := 183) rfl)⟩
theorem lw_p5 : lw_okq (⟨"PretendDesk", "isHouse", "(I)Z"⟩, 17) := ⟨⟨by decide +kernel, by decide +kernel⟩, lw_t1 (List.mem_of_getElem? (i := 31) rfl), lw_t2 (List.mem_of_getElem? (i := 190) rfl), lw_t2 (List.mem_of_getElem? (i := 191) rfl)⟩
theorem lw_p6 : lw_okq (⟨"PretendDesk", "readPage", "(I)LPretendDesk$Page;"⟩, 17) := ⟨⟨by decide +kernel, by decide +kernel⟩, lw_t1 (List.mem_of_getElem? (i := 31) rfl), lw_t2 (List.mem_of_getElem? (i := 194) rfl), lw_t2 (List.mem_of_getElem? (i := 195) rfl)⟩
theorem lw_p7 : lw_okq (⟨"PretendDesk$Tokens", "see", "()I"⟩, 10) := ⟨⟨by decide +kernel, by decide +kernel⟩, lw_t3 (List.mem_of_getElem? (i := 55) rfl), lw_t3 (List.mem_of_getElem? (i := 53) rfl), lw_t3 (List.mem_of_getElem? (i := 54) rfl)⟩
theorem lw_p8 : lw_okq (⟨"PretendDesk$Reader", "box", "(II)V"⟩, 12) := ⟨⟨by decide +kernel, by decide +kernel⟩, lw_t2 (List.mem_of_getElem? (i := 199) rfl), lw_t3 (List.mem_of_getElem? (i := 59) rfl), lw_t3 (List.mem_of_getElem? (i := 60) rfl)⟩
theorem lw_p9 : lw_okq (⟨"java/lang/Throwable", "fillInStackTrace", "(I)Ljava/lang/Throwable;"⟩, 6) := ⟨⟨by decide +kernel, by decide +kernel⟩, lw_t3 (List.mem_of_getElem? (i := 163) rfl), lw_t3 (List.mem_of_getElem? (i := 161) rfl), lw_t3 (List.mem_of_getElem? (i := 162) rfl)⟩
theorem lw_p10 : lw_okq (⟨"PretendDesk", "spellOf", "([B[B)I"⟩, 17) := ⟨⟨by decide +kernel, by decide +kernel⟩, lw_t1 (List.mem_of_getElem? (i := 31) rfl), lw_t4 (List.mem_of_getElem? (i := 100) rfl), lw_t4 (List.mem_of_getElem? (i := 101) rfl)⟩
theorem lw_p11 : lw_okq (⟨"PretendDesk", "turn", "(BB)I"⟩, 17) := ⟨⟨by decide +kernel, by decide +kernel⟩, lw_t1 (List.mem_of_getElem? (i := 31) rfl), lw_t4 (List.mem_of_getElem? (i := 108) rfl), lw_t4 (List.mem_of_getElem? (i := 109) rfl)⟩
theorem lw_p12 : lw_okq (⟨"PretendDesk", "isSeen", "(III)Z"⟩, 17) := ⟨⟨by decide +kernel, by decide +kernel⟩, lw_t1 (List.mem_of_getElem? (i := 31) rfl), lw_t4 (List.mem_of_getElem? (i := 128) rfl), lw_t4 (List.mem_of_getElem? (i := 129) rfl)⟩
theorem lw_p13 : lw_okq (⟨"PretendDesk$Tree", "put", "(LPretendDesk$Page;IIII[I)V"⟩, 4) := ⟨⟨by decide +kernel, by decide +kernel⟩, lw_t1 (List.mem_of_getElem? (i := 45) rfl), lw_t4 (List.mem_of_getElem? (i := 139) rfl), lw_t4 (List.mem_of_getElem? (i := 140) rfl)⟩
theorem lw_p14 : lw_okq (⟨"PretendDesk$Ruler", "isCorner", "(LPretendDesk$Tree;I)Z"⟩, 5) := ⟨⟨by decide +kernel, by decide +kernel⟩, lw_t1 (List.mem_of_getElem? (i := 39) rfl), lw_t4 (List.mem_of_getElem? (i := 159) rfl), lw_t4 (List.mem_of_getElem? (i := 160) rfl)⟩
theorem lw_p15 : lw_okq (⟨"PretendDesk$Ruler", "lay", "(II)V"⟩, 5) := ⟨⟨by decide +kernel, by decide +kernel⟩, lw_t1 (List.mem_of_getElem? (i := 39) rfl), lw_t4 (List.mem_of_getElem? (i := 163) rfl), lw_t4 (List.mem_of_getElem? (i := 164) rfl)⟩
def lw_privs_1 : List (MethodName × Nat) := [(⟨"PretendDesk", "four", "(I)V"⟩, 17), (⟨"PretendDesk", "take", "()I"⟩, 17), (⟨"PretendDesk", "fails", "(II)I"⟩, 17), (⟨"PretendDesk", "readName", "(I)[B"⟩, 17), (⟨"PretendDesk", "isPage", "(I)Z"⟩, 17), (⟨"PretendDesk", "isHouse", "(I)Z"⟩, 17), (⟨"PretendDesk", "readPage", "(I)LPretendDesk$Page;"⟩, 17), (⟨"PretendDesk$Tokens", "see", "()I"⟩, 10), (⟨"PretendDesk$Reader", "box", "(II)V"⟩, 12), (⟨"java/lang/Throwable", "fillInStackTrace", "(I)Ljava/lang/Throwable;"⟩, 6), (⟨"PretendDesk", "spellOf", "([B[B)I"⟩, 17), (⟨"PretendDesk", "turn", "(BB)I"⟩, 17), (⟨"PretendDesk", "isSeen", "(III)Z"⟩, 17), (⟨"PretendDesk$Tree", "put", "(LPretendDesk$Page;IIII[I)V"⟩, 4), (⟨"PretendDesk$Ruler", "isCorner", "(LPretendDesk$Tree;I)Z"⟩, 5), (⟨"PretendDesk$Ruler", "lay", "(II)V"⟩, 5)]
theorem lw_r1 : ∀ q ∈ lw_privs_1, lw_okq q := List.forall_mem_cons.mpr ⟨lw_p0, List.forall_mem_cons.mpr ⟨lw_p1, List.forall_mem_cons.mpr ⟨lw_p2, List.forall_mem_cons.mpr ⟨lw_p3, List.forall_mem_cons.mpr ⟨lw_p4, List.forall_mem_cons.mpr ⟨lw_p5, List.forall_mem_cons.mpr ⟨lw_p6, List.forall_mem_cons.mpr ⟨lw_p7, List.forall_mem_cons.mpr ⟨lw_p8, List.forall_mem_cons.mpr ⟨lw_p9, List.forall_mem_cons.mpr ⟨lw_p10, List.forall_mem_cons.mpr ⟨lw_p11, List.forall_mem_cons.mpr ⟨lw_p12, List.forall_mem_cons.mpr ⟨lw_p13, List.forall_mem_cons.mpr ⟨lw_p14, List.forall_mem_cons.mpr ⟨lw_p15, fun _ h => absurd h List.not_mem_nil⟩⟩⟩⟩⟩⟩⟩⟩⟩⟩⟩⟩⟩⟩⟩⟩
theorem lw_p16 : lw_okq (⟨"PretendDesk$Ruler", "turn", "(II)I"⟩, 5) := ⟨⟨by decide +kernel, by decide +kernel⟩, lw_t1 (List.mem_of_getElem? (i := 39) rfl), lw_t4 (List.mem_of_getElem? (i := 168) rfl), lw_t4 (List.mem_of_getElem? (i := 169) rfl)⟩
theorem lw_p17 : lw_okq (⟨"PretendDesk", "lookAt", "(III)I"⟩, 17) := ⟨⟨by decide +kernel, by decide +kernel⟩, lw_t1 (List.mem_of_getElem? (i := 31) rfl), lw_t4 (List.mem_of_getElem? (i := 177) rfl), lw_t4 (List.mem_of_getElem? (i := 178) rfl)⟩
theorem lw_p18 : lw_okq (⟨"PretendDesk", "lookOf", "(III)LPretendDesk$Look;"⟩, 17) := ⟨⟨by decide +kernel, by decide +kernel⟩, lw_t1 (List.mem_of_getElem? (i := 31) rfl), lw_t4 (List.mem_of_getElem? (i := 185) rfl), lw_t4 (List.mem_of_getElem? (i := 186) rfl)⟩
theorem lw_p19 : lw_okq (⟨"PretendDesk", "signsOf", "(III)I"⟩, 17) := ⟨⟨by decide +kernel, by decide +kernel⟩, lw_t1 (List.mem_of_getElem? (i := 31) rfl), lw_t4 (List.mem_of_getElem? (i := 211) rfl), lw_t4 (List.mem_of_getElem? (i := 212) rfl)⟩
theorem lw_p20 : lw_okq (⟨"PretendDesk$Look", "signs", "(LPretendDesk$Came;IIII)I"⟩, 4) := ⟨⟨by decide +kernel, by decide +kernel⟩, lw_t1 (List.mem_of_getElem? (i := 224) rfl), lw_t4 (List.mem_of_getElem? (i := 222) rfl), lw_t4 (List.mem_of_getElem? (i := 223) rfl)⟩
theorem lw_p21 : lw_okq (⟨"PretendDesk", "differsOf", "(IIIII)I"⟩, 17) := ⟨⟨by decide +kernel, by decide +kernel⟩, lw_t1 (List.mem_of_getElem? (i := 31) rfl), lw_t5 (List.mem_of_getElem? (i := 7) rfl), lw_t5 (List.mem_of_getElem? (i := 8) rfl)⟩
theorem lw_p22 : lw_okq (⟨"PretendDesk", "fitsMarks", "(I)Z"⟩, 17) := ⟨⟨by decide +kernel, by decide +kernel⟩, lw_t1 (List.mem_of_getElem? (i := 31) rfl), lw_t5 (List.mem_of_getElem? (i := 46) rfl), lw_t5 (List.mem_of_getElem? (i := 47) rfl)⟩
theorem lw_p23 : lw_okq (⟨"PretendDesk", "pretenders", "()I"⟩, 17) := ⟨⟨by decide +kernel, by decide +kernel⟩, lw_t1 (List.mem_of_getElem? (i := 31) rfl), lw_t5 (List.mem_of_getElem? (i := 50) rfl), lw_t5 (List.mem_of_getElem? (i := 51) rfl)⟩
theorem lw_p24 : lw_okq (⟨"PretendDesk", "layCases", "()V"⟩, 17) := ⟨⟨by decide +kernel, by decide +kernel⟩, lw_t1 (List.mem_of_getElem? (i := 31) rfl), lw_t5 (List.mem_of_getElem? (i := 54) rfl), lw_t5 (List.mem_of_getElem? (i := 55) rfl)⟩
theorem lw_p25 : lw_okq (⟨"PretendDesk", "cried", "(Z)I"⟩, 17) := ⟨⟨by decide +kernel, by decide +kernel⟩, lw_t1 (List.mem_of_getElem? (i := 31) rfl), lw_t5 (List.mem_of_getElem? (i := 59) rfl), lw_t5 (List.mem_of_getElem? (i := 60) rfl)⟩
theorem lw_p26 : lw_okq (⟨"PretendDesk", "isLessRow", "()Z"⟩, 17) := ⟨⟨by decide +kernel, by decide +kernel⟩, lw_t1 (List.mem_of_getElem? (i := 31) rfl), lw_t5 (List.mem_of_getElem? (i := 63) rfl), lw_t5 (List.mem_of_getElem? (i := 64) rfl)⟩
theorem lw_p27 : lw_okq (⟨"PretendDesk", "isForged", "(IIII)Z"⟩, 17) := ⟨⟨by decide +kernel, by decide +kernel⟩, lw_t1 (List.mem_of_getElem? (i := 31) rfl), lw_t5 (List.mem_of_getElem? (i := 98) rfl), lw_t5 (List.mem_of_getElem? (i := 99) rfl)⟩
theorem lw_p28 : lw_okq (⟨"PretendDesk$Forger", "priceOf", "(LPretendDesk$Came;IIIII)I"⟩, 5) := ⟨⟨by decide +kernel, by decide +kernel⟩, lw_t2 (List.mem_of_getElem? (i := 9) rfl), lw_t5 (List.mem_of_getElem? (i := 106) rfl), lw_t5 (List.mem_of_getElem? (i := 107) rfl)⟩
theorem lw_p29 : lw_okq (⟨"PretendDesk", "waysOf", "(II)I"⟩, 17) := ⟨⟨by decide +kernel, by decide +kernel⟩, lw_t1 (List.mem_of_getElem? (i := 31) rfl), lw_t5 (List.mem_of_getElem? (i := 124) rfl), lw_t5 (List.mem_of_getElem? (i := 125) rfl)⟩
theorem lw_p30 : lw_okq (⟨"PretendDesk", "dealsOf", "(I)I"⟩, 17) := ⟨⟨by decide +kernel, by decide +kernel⟩, lw_t1 (List.mem_of_getElem? (i := 31) rfl), lw_t5 (List.mem_of_getElem? (i := 131) rfl), lw_t5 (List.mem_of_getElem? (i := 132) rfl)⟩
theorem lw_p31 : lw_okq (⟨"PretendDesk", "fits", "(II)I"⟩, 17) := ⟨⟨by decide +kernel, by decide +kernel⟩, lw_t1 (List.mem_of_getElem? (i := 31) rfl), lw_t5 (List.mem_of_getElem? (i := 152) rfl), lw_t5 (List.mem_of_getElem? (i := 153) rfl)⟩
def lw_privs_2 : List (MethodName × Nat) := [(⟨"PretendDesk$Ruler", "turn", "(II)I"⟩, 5), (⟨"PretendDesk", "lookAt", "(III)I"⟩, 17), (⟨"PretendDesk", "lookOf", "(III)LPretendDesk$Look;"⟩, 17), (⟨"PretendDesk", "signsOf", "(III)I"⟩, 17), (⟨"PretendDesk$Look", "signs", "(LPretendDesk$Came;IIII)I"⟩, 4), (⟨"PretendDesk", "differsOf", "(IIIII)I"⟩, 17), (⟨"PretendDesk", "fitsMarks", "(I)Z"⟩, 17), (⟨"PretendDesk", "pretenders", "()I"⟩, 17), (⟨"PretendDesk", "layCases", "()V"⟩, 17), (⟨"PretendDesk", "cried", "(Z)I"⟩, 17), (⟨"PretendDesk", "isLessRow", "()Z"⟩, 17), (⟨"PretendDesk", "isForged", "(IIII)Z"⟩, 17), (⟨"PretendDesk$Forger", "priceOf", "(LPretendDesk$Came;IIIII)I"⟩, 5), (⟨"PretendDesk", "waysOf", "(II)I"⟩, 17), (⟨"PretendDesk", "dealsOf", "(I)I"⟩, 17), (⟨"PretendDesk", "fits", "(II)I"⟩, 17)]
theorem lw_r2 : ∀ q ∈ lw_privs_2, lw_okq q := List.forall_mem_cons.mpr ⟨lw_p16, List.forall_mem_cons.mpr ⟨lw_p17, List.forall_mem_cons.mpr ⟨lw_p18, List.forall_mem_cons.mpr ⟨lw_p19, List.forall_mem_cons.mpr ⟨lw_p20, List.forall_mem_cons.mpr ⟨lw_p21, List.forall_mem_cons.mpr ⟨lw_p22, List.forall_mem_cons.mpr ⟨lw_p23, List.forall_mem_cons.mpr ⟨lw_p24, List.forall_mem_cons.mpr ⟨lw_p25, List.forall_mem_cons.mpr ⟨lw_p26, List.forall_mem_cons.mpr ⟨lw_p27, List.forall_mem_cons.mpr ⟨lw_p28, List.forall_mem_cons.mpr ⟨lw_p29, List.forall_mem_cons.mpr ⟨lw_p30, List.forall_mem_cons.mpr ⟨lw_p31, fun _ h => absurd h List.not_mem_nil⟩⟩⟩⟩⟩⟩⟩⟩⟩⟩⟩⟩⟩⟩⟩⟩
theorem lw_p32 : lw_okq (⟨"PretendDesk$ProgramReader", "line", "()V"⟩, 12) := ⟨⟨by decide +kernel, by decide +kernel⟩, lw_t5 (List.mem_of_getElem? (i := 164) rfl), lw_t5 (List.mem_of_getElem? (i := 197) rfl), lw_t5 (List.mem_of_getElem? (i := 198) rfl)⟩
theorem lw_p33 : lw_okq (⟨"PretendDesk$ProgramReader", "to", "(I)I"⟩, 12) := ⟨⟨by decide +kernel, by decide +kernel⟩, lw_t5 (List.mem_of_getElem? (i := 164) rfl), lw_t5 (List.mem_of_getElem? (i := 213) rfl), lw_t5 (List.mem_of_getElem? (i := 214) rfl)⟩
theorem lw_p34 : lw_okq (⟨"PretendDesk", "endOf", "(I)I"⟩, 17) := ⟨⟨by decide +kernel, by decide +kernel⟩, lw_t1 (List.mem_of_getElem? (i := 31) rfl), lw_t6 (List.mem_of_getElem? (i := 10) rfl), lw_t6 (List.mem_of_getElem? (i := 11) rfl)⟩
theorem lw_p35 : lw_okq (⟨"PretendDesk$Stepper", "set", "(III)V"⟩, 4) := ⟨⟨by decide +kernel, by decide +kernel⟩, lw_t2 (List.mem_of_getElem? (i := 34) rfl), lw_t6 (List.mem_of_getElem? (i := 25) rfl), lw_t6 (List.mem_of_getElem? (i := 26) rfl)⟩
theorem lw_p36 : lw_okq (⟨"PretendDesk", "takenBy", "(III)I"⟩, 17) := ⟨⟨by decide +kernel, by decide +kernel⟩, lw_t1 (List.mem_of_getElem? (i := 31) rfl), lw_t6 (List.mem_of_getElem? (i := 37) rfl), lw_t6 (List.mem_of_getElem? (i := 38) rfl)⟩
theorem lw_p37 : lw_okq (⟨"PretendDesk", "place", "(J)I"⟩, 17) := ⟨⟨by decide +kernel, by decide +kernel⟩, lw_t1 (List.mem_of_getElem? (i := 31) rfl), lw_t6 (List.mem_of_getElem? (i := 45) rfl), lw_t6 (List.mem_of_getElem? (i := 46) rfl)⟩
theorem lw_p38 : lw_okq (⟨"PretendDesk", "sentences", "()I"⟩, 17) := ⟨⟨by decide +kernel, by decide +kernel⟩, lw_t1 (List.mem_of_getElem? (i := 31) rfl), lw_t6 (List.mem_of_getElem? (i := 72) rfl), lw_t6 (List.mem_of_getElem? (i := 73) rfl)⟩
theorem lw_p39 : lw_okq (⟨"PretendDesk", "holdsIn", "(II)I"⟩, 17) := ⟨⟨by decide +kernel, by decide +kernel⟩, lw_t1 (List.mem_of_getElem? (i := 31) rfl), lw_t6 (List.mem_of_getElem? (i := 84) rfl), lw_t6 (List.mem_of_getElem? (i := 85) rfl)⟩
theorem lw_p40 : lw_okq (⟨"PretendDesk", "unlikeOf", "(II)I"⟩, 17) := ⟨⟨by decide +kernel, by decide +kernel⟩, lw_t1 (List.mem_of_getElem? (i := 31) rfl), lw_t6 (List.mem_of_getElem? (i := 101) rfl), lw_t6 (List.mem_of_getElem? (i := 102) rfl)⟩
theorem lw_p41 : lw_okq (⟨"PretendDeskModel", "begins", "()V"⟩, 49) := ⟨⟨by decide +kernel, by decide +kernel⟩, lw_t6 (List.mem_of_getElem? (i := 139) rfl), lw_t7 (List.mem_of_getElem? (i := 66) rfl), lw_t7 (List.mem_of_getElem? (i := 67) rfl)⟩
theorem lw_p42 : lw_okq (⟨"PretendDeskModel", "isHouse", "(I)Z"⟩, 49) := ⟨⟨by decide +kernel, by decide +kernel⟩, lw_t6 (List.mem_of_getElem? (i := 139) rfl), lw_t7 (List.mem_of_getElem? (i := 70) rfl), lw_t7 (List.mem_of_getElem? (i := 71) rfl)⟩
theorem lw_p43 : lw_okq (⟨"PretendDeskModel", "reads", "()Z"⟩, 49) := ⟨⟨by decide +kernel, by decide +kernel⟩, lw_t6 (List.mem_of_getElem? (i := 139) rfl), lw_t7 (List.mem_of_getElem? (i := 80) rfl), lw_t7 (List.mem_of_getElem? (i := 81) rfl)⟩
theorem lw_p44 : lw_okq (⟨"PretendDeskModel", "advance", "()V"⟩, 49) := ⟨⟨by decide +kernel, by decide +kernel⟩, lw_t6 (List.mem_of_getElem? (i := 139) rfl), lw_t7 (List.mem_of_getElem? (i := 84) rfl), lw_t7 (List.mem_of_getElem? (i := 85) rfl)⟩
theorem lw_p45 : lw_okq (⟨"PretendDeskModel", "byteAt", "(I)I"⟩, 49) := ⟨⟨by decide +kernel, by decide +kernel⟩, lw_t6 (List.mem_of_getElem? (i := 139) rfl), lw_t7 (List.mem_of_getElem? (i := 88) rfl), lw_t7 (List.mem_of_getElem? (i := 89) rfl)⟩
theorem lw_p46 : lw_okq (⟨"PretendDeskModel", "aBox", "()V"⟩, 49) := ⟨⟨by decide +kernel, by decide +kernel⟩, lw_t6 (List.mem_of_getElem? (i := 139) rfl), lw_t7 (List.mem_of_getElem? (i := 110) rfl), lw_t7 (List.mem_of_getElem? (i := 111) rfl)⟩
theorem lw_p47 : lw_okq (⟨"PretendDeskModel", "ends", "()V"⟩, 49) := ⟨⟨by decide +kernel, by decide +kernel⟩, lw_t6 (List.mem_of_getElem? (i := 139) rfl), lw_t7 (List.mem_of_getElem? (i := 114) rfl), lw_t7 (List.mem_of_getElem? (i := 115) rfl)⟩
def lw_privs_3 : List (MethodName × Nat) := [(⟨"PretendDesk$ProgramReader", "line", "()V"⟩, 12), (⟨"PretendDesk$ProgramReader", "to", "(I)I"⟩, 12), (⟨"PretendDesk", "endOf", "(I)I"⟩, 17), (⟨"PretendDesk$Stepper", "set", "(III)V"⟩, 4), (⟨"PretendDesk", "takenBy", "(III)I"⟩, 17), (⟨"PretendDesk", "place", "(J)I"⟩, 17), (⟨"PretendDesk", "sentences", "()I"⟩, 17), (⟨"PretendDesk", "holdsIn", "(II)I"⟩, 17), (⟨"PretendDesk", "unlikeOf", "(II)I"⟩, 17), (⟨"PretendDeskModel", "begins", "()V"⟩, 49), (⟨"PretendDeskModel", "isHouse", "(I)Z"⟩, 49), (⟨"PretendDeskModel", "reads", "()Z"⟩, 49), (⟨"PretendDeskModel", "advance", "()V"⟩, 49), (⟨"PretendDeskModel", "byteAt", "(I)I"⟩, 49), (⟨"PretendDeskModel", "aBox", "()V"⟩, 49), (⟨"PretendDeskModel", "ends", "()V"⟩, 49)]
theorem lw_r3 : ∀ q ∈ lw_privs_3, lw_okq q := List.forall_mem_cons.mpr ⟨lw_p32, List.forall_mem_cons.mpr ⟨lw_p33, List.forall_mem_cons.mpr ⟨lw_p34, List.forall_mem_cons.mpr ⟨lw_p35, List.forall_mem_cons.mpr ⟨lw_p36, List.forall_mem_cons.mpr ⟨lw_p37, List.forall_mem_cons.mpr ⟨lw_p38, List.forall_mem_cons.mpr ⟨lw_p39, List.forall_mem_cons.mpr ⟨lw_p40, List.forall_mem_cons.mpr ⟨lw_p41, List.forall_mem_cons.mpr ⟨lw_p42, List.forall_mem_cons.mpr ⟨lw_p43, List.forall_mem_cons.mpr ⟨lw_p44, List.forall_mem_cons.mpr ⟨lw_p45, List.forall_mem_cons.mpr ⟨lw_p46, List.forall_mem_cons.mpr ⟨lw_p47, fun _ h => absurd h List.not_mem_nil⟩⟩⟩⟩⟩⟩⟩⟩⟩⟩⟩⟩⟩⟩⟩⟩
theorem lw_p48 : lw_okq (⟨"PretendDeskModel", "also", "(II)V"⟩, 49) := ⟨⟨by decide +kernel, by decide +kernel⟩, lw_t6 (List.mem_of_getElem? (i := 139) rfl), lw_t7 (List.mem_of_getElem? (i := 118) rfl), lw_t7 (List.mem_of_getElem? (i := 119) rfl)⟩
theorem lw_p49 : lw_okq (⟨"PretendDeskModel", "numbered", "(I)I"⟩, 49) := ⟨⟨by decide +kernel, by decide +kernel⟩, lw_t6 (List.mem_of_getElem? (i := 139) rfl), lw_t7 (List.mem_of_getElem? (i := 122) rfl), lw_t7 (List.mem_of_getElem? (i := 123) rfl)⟩
theorem lw_p50 : lw_okq (⟨"PretendDeskModel", "isWord", "(I)Z"⟩, 49) := ⟨⟨by decide +kernel, by decide +kernel⟩, lw_t6 (List.mem_of_getElem? (i := 139) rfl), lw_t7 (List.mem_of_getElem? (i := 126) rfl), lw_t7 (List.mem_of_getElem? (i := 127) rfl)⟩
theorem lw_p51 : lw_okq (⟨"PretendDeskModel", "isSign", "(I)Z"⟩, 49) := ⟨⟨by decide +kernel, by decide +kernel⟩, lw_t6 (List.mem_of_getElem? (i := 139) rfl), lw_t7 (List.mem_of_getElem? (i := 130) rfl), lw_t7 (List.mem_of_getElem? (i := 131) rfl)⟩
theorem lw_p52 : lw_okq (⟨"PretendDeskModel", "keeps", "(I)V"⟩, 49) := ⟨⟨by decide +kernel, by decide +kernel⟩, lw_t6 (List.mem_of_getElem? (i := 139) rfl), lw_t7 (List.mem_of_getElem? (i := 137) rfl), lw_t7 (List.mem_of_getElem? (i := 138) rfl)⟩
theorem lw_p53 : lw_okq (⟨"PretendDeskModel", "named", "(I)Z"⟩, 49) := ⟨⟨by decide +kernel, by decide +kernel⟩, lw_t6 (List.mem_of_getElem? (i := 139) rfl), lw_t7 (List.mem_of_getElem? (i := 152) rfl), lw_t7 (List.mem_of_getElem? (i := 153) rfl)⟩
theorem lw_p54 : lw_okq (⟨"PretendDeskModel", "isPage", "(I)Z"⟩, 49) := ⟨⟨by decide +kernel, by decide +kernel⟩, lw_t6 (List.mem_of_getElem? (i := 139) rfl), lw_t7 (List.mem_of_getElem? (i := 163) rfl), lw_t7 (List.mem_of_getElem? (i := 164) rfl)⟩
theorem lw_p55 : lw_okq (⟨"PretendDeskModel", "spells", "(II)I"⟩, 49) := ⟨⟨by decide +kernel, by decide +kernel⟩, lw_t6 (List.mem_of_getElem? (i := 139) rfl), lw_t7 (List.mem_of_getElem? (i := 179) rfl), lw_t7 (List.mem_of_getElem? (i := 180) rfl)⟩
theorem lw_p56 : lw_okq (⟨"PretendDeskModel", "priceOf", "(II)I"⟩, 49) := ⟨⟨by decide +kernel, by decide +kernel⟩, lw_t6 (List.mem_of_getElem? (i := 139) rfl), lw_t7 (List.mem_of_getElem? (i := 186) rfl), lw_t7 (List.mem_of_getElem? (i := 187) rfl)⟩
theorem lw_p57 : lw_okq (⟨"PretendDeskModel", "takes", "(I)V"⟩, 49) := ⟨⟨by decide +kernel, by decide +kernel⟩, lw_t6 (List.mem_of_getElem? (i := 139) rfl), lw_t7 (List.mem_of_getElem? (i := 209) rfl), lw_t7 (List.mem_of_getElem? (i := 210) rfl)⟩
theorem lw_p58 : lw_okq (⟨"PretendDeskModel", "boxOf", "(II)I"⟩, 49) := ⟨⟨by decide +kernel, by decide +kernel⟩, lw_t6 (List.mem_of_getElem? (i := 139) rfl), lw_t7 (List.mem_of_getElem? (i := 213) rfl), lw_t7 (List.mem_of_getElem? (i := 214) rfl)⟩
theorem lw_p59 : lw_okq (⟨"PretendDeskModel", "opens", "(III)V"⟩, 49) := ⟨⟨by decide +kernel, by decide +kernel⟩, lw_t6 (List.mem_of_getElem? (i := 139) rfl), lw_t7 (List.mem_of_getElem? (i := 217) rfl), lw_t7 (List.mem_of_getElem? (i := 218) rfl)⟩
theorem lw_p60 : lw_okq (⟨"PretendDeskModel", "closes", "(II)V"⟩, 49) := ⟨⟨by decide +kernel, by decide +kernel⟩, lw_t6 (List.mem_of_getElem? (i := 139) rfl), lw_t7 (List.mem_of_getElem? (i := 221) rfl), lw_t7 (List.mem_of_getElem? (i := 222) rfl)⟩
theorem lw_p61 : lw_okq (⟨"PretendDeskModel", "farOf", "(IIIIII)I"⟩, 49) := ⟨⟨by decide +kernel, by decide +kernel⟩, lw_t6 (List.mem_of_getElem? (i := 139) rfl), lw_t7 (List.mem_of_getElem? (i := 233) rfl), lw_t7 (List.mem_of_getElem? (i := 234) rfl)⟩
theorem lw_p62 : lw_okq (⟨"PretendDeskModel", "farNow", "()I"⟩, 49) := ⟨⟨by decide +kernel, by decide +kernel⟩, lw_t6 (List.mem_of_getElem? (i := 139) rfl), lw_t7 (List.mem_of_getElem? (i := 237) rfl), lw_t7 (List.mem_of_getElem? (i := 238) rfl)⟩
theorem lw_p63 : lw_okq (⟨"PretendDeskModel", "isLast", "(II)Z"⟩, 49) := ⟨⟨by decide +kernel, by decide +kernel⟩, lw_t6 (List.mem_of_getElem? (i := 139) rfl), lw_t8 (List.mem_of_getElem? (i := 1) rfl), lw_t8 (List.mem_of_getElem? (i := 2) rfl)⟩
def lw_privs_4 : List (MethodName × Nat) := [(⟨"PretendDeskModel", "also", "(II)V"⟩, 49), (⟨"PretendDeskModel", "numbered", "(I)I"⟩, 49), (⟨"PretendDeskModel", "isWord", "(I)Z"⟩, 49), (⟨"PretendDeskModel", "isSign", "(I)Z"⟩, 49), (⟨"PretendDeskModel", "keeps", "(I)V"⟩, 49), (⟨"PretendDeskModel", "named", "(I)Z"⟩, 49), (⟨"PretendDeskModel", "isPage", "(I)Z"⟩, 49), (⟨"PretendDeskModel", "spells", "(II)I"⟩, 49), (⟨"PretendDeskModel", "priceOf", "(II)I"⟩, 49), (⟨"PretendDeskModel", "takes", "(I)V"⟩, 49), (⟨"PretendDeskModel", "boxOf", "(II)I"⟩, 49), (⟨"PretendDeskModel", "opens", "(III)V"⟩, 49), (⟨"PretendDeskModel", "closes", "(II)V"⟩, 49), (⟨"PretendDeskModel", "farOf", "(IIIIII)I"⟩, 49), (⟨"PretendDeskModel", "farNow", "()I"⟩, 49), (⟨"PretendDeskModel", "isLast", "(II)Z"⟩, 49)]
theorem lw_r4 : ∀ q ∈ lw_privs_4, lw_okq q := List.forall_mem_cons.mpr ⟨lw_p48, List.forall_mem_cons.mpr ⟨lw_p49, List.forall_mem_cons.mpr ⟨lw_p50, List.forall_mem_cons.mpr ⟨lw_p51, List.forall_mem_cons.mpr ⟨lw_p52, List.forall_mem_cons.mpr ⟨lw_p53, List.forall_mem_cons.mpr ⟨lw_p54, List.forall_mem_cons.mpr ⟨lw_p55, List.forall_mem_cons.mpr ⟨lw_p56, List.forall_mem_cons.mpr ⟨lw_p57, List.forall_mem_cons.mpr ⟨lw_p58, List.forall_mem_cons.mpr ⟨lw_p59, List.forall_mem_cons.mpr ⟨lw_p60, List.forall_mem_cons.mpr ⟨lw_p61, List.forall_mem_cons.mpr ⟨lw_p62, List.forall_mem_cons.mpr ⟨lw_p63, fun _ h => absurd h List.not_mem_nil⟩⟩⟩⟩⟩⟩⟩⟩⟩⟩⟩⟩⟩⟩⟩⟩
theorem lw_p64 : lw_okq (⟨"PretendDeskModel", "lays", "(II)V"⟩, 49) := ⟨⟨by decide +kernel, by decide +kernel⟩, lw_t6 (List.mem_of_getElem? (i := 139) rfl), lw_t8 (List.mem_of_getElem? (i := 5) rfl), lw_t8 (List.mem_of_getElem? (i := 6) rfl)⟩
theorem lw_p65 : lw_okq (⟨"PretendDeskModel", "without", "(I)I"⟩, 49) := ⟨⟨by decide +kernel, by decide +kernel⟩, lw_t6 (List.mem_of_getElem? (i := 139) rfl), lw_t8 (List.mem_of_getElem? (i := 9) rfl), lw_t8 (List.mem_of_getElem? (i := 10) rfl)⟩
theorem lw_p66 : lw_okq (⟨"PretendDeskModel", "changed", "(II)I"⟩, 49) := ⟨⟨by decide +kernel, by decide +kernel⟩, lw_t6 (List.mem_of_getElem? (i := 139) rfl), lw_t8 (List.mem_of_getElem? (i := 13) rfl), lw_t8 (List.mem_of_getElem? (i := 14) rfl)⟩
theorem lw_p67 : lw_okq (⟨"PretendDeskModel", "shows", "(III)V"⟩, 49) := ⟨⟨by decide +kernel, by decide +kernel⟩, lw_t6 (List.mem_of_getElem? (i := 139) rfl), lw_t8 (List.mem_of_getElem? (i := 21) rfl), lw_t8 (List.mem_of_getElem? (i := 22) rfl)⟩
theorem lw_p68 : lw_okq (⟨"PretendDeskModel", "lookAt", "(III)I"⟩, 49) := ⟨⟨by decide +kernel, by decide +kernel⟩, lw_t6 (List.mem_of_getElem? (i := 139) rfl), lw_t8 (List.mem_of_getElem? (i := 25) rfl), lw_t8 (List.mem_of_getElem? (i := 26) rfl)⟩
theorem lw_p69 : lw_okq (⟨"PretendDeskModel", "likeNow", "(II)I"⟩, 49) := ⟨⟨by decide +kernel, by decide +kernel⟩, lw_t6 (List.mem_of_getElem? (i := 139) rfl), lw_t8 (List.mem_of_getElem? (i := 33) rfl), lw_t8 (List.mem_of_getElem? (i := 34) rfl)⟩
theorem lw_p70 : lw_okq (⟨"PretendDeskModel", "signsOf", "(III)I"⟩, 49) := ⟨⟨by decide +kernel, by decide +kernel⟩, lw_t6 (List.mem_of_getElem? (i := 139) rfl), lw_t8 (List.mem_of_getElem? (i := 53) rfl), lw_t8 (List.mem_of_getElem? (i := 54) rfl)⟩
theorem lw_p71 : lw_okq (⟨"PretendDeskModel", "judges", "(III)V"⟩, 49) := ⟨⟨by decide +kernel, by decide +kernel⟩, lw_t6 (List.mem_of_getElem? (i := 139) rfl), lw_t8 (List.mem_of_getElem? (i := 57) rfl), lw_t8 (List.mem_of_getElem? (i := 58) rfl)⟩
theorem lw_p72 : lw_okq (⟨"PretendDeskModel", "isNameOf", "(II)Z"⟩, 49) := ⟨⟨by decide +kernel, by decide +kernel⟩, lw_t6 (List.mem_of_getElem? (i := 139) rfl), lw_t8 (List.mem_of_getElem? (i := 61) rfl), lw_t8 (List.mem_of_getElem? (i := 62) rfl)⟩
theorem lw_p73 : lw_okq (⟨"PretendDeskModel", "ageOf", "(II)I"⟩, 49) := ⟨⟨by decide +kernel, by decide +kernel⟩, lw_t6 (List.mem_of_getElem? (i := 139) rfl), lw_t8 (List.mem_of_getElem? (i := 65) rfl), lw_t8 (List.mem_of_getElem? (i := 66) rfl)⟩
theorem lw_p74 : lw_okq (⟨"PretendDeskModel", "signsBy", "(I)I"⟩, 49) := ⟨⟨by decide +kernel, by decide +kernel⟩, lw_t6 (List.mem_of_getElem? (i := 139) rfl), lw_t8 (List.mem_of_getElem? (i := 69) rfl), lw_t8 (List.mem_of_getElem? (i := 70) rfl)⟩
theorem lw_p75 : lw_okq (⟨"PretendDeskModel", "fits", "(I)V"⟩, 49) := ⟨⟨by decide +kernel, by decide +kernel⟩, lw_t6 (List.mem_of_getElem? (i := 139) rfl), lw_t8 (List.mem_of_getElem? (i := 103) rfl), lw_t8 (List.mem_of_getElem? (i := 104) rfl)⟩
theorem lw_p76 : lw_okq (⟨"PretendDeskModel", "weighs", "()V"⟩, 49) := ⟨⟨by decide +kernel, by decide +kernel⟩, lw_t6 (List.mem_of_getElem? (i := 139) rfl), lw_t8 (List.mem_of_getElem? (i := 107) rfl), lw_t8 (List.mem_of_getElem? (i := 108) rfl)⟩
theorem lw_p77 : lw_okq (⟨"PretendDeskModel", "tells", "(II)Z"⟩, 49) := ⟨⟨by decide +kernel, by decide +kernel⟩, lw_t6 (List.mem_of_getElem? (i := 139) rfl), lw_t8 (List.mem_of_getElem? (i := 111) rfl), lw_t8 (List.mem_of_getElem? (i := 112) rfl)⟩
theorem lw_p78 : lw_okq (⟨"PretendDeskModel", "missed", "(Z)I"⟩, 49) := ⟨⟨by decide +kernel, by decide +kernel⟩, lw_t6 (List.mem_of_getElem? (i := 139) rfl), lw_t8 (List.mem_of_getElem? (i := 115) rfl), lw_t8 (List.mem_of_getElem? (i := 116) rfl)⟩
theorem lw_p79 : lw_okq (⟨"PretendDeskModel", "isAhead", "(II)Z"⟩, 49) := ⟨⟨by decide +kernel, by decide +kernel⟩, lw_t6 (List.mem_of_getElem? (i := 139) rfl), lw_t8 (List.mem_of_getElem? (i := 119) rfl), lw_t8 (List.mem_of_getElem? (i := 120) rfl)⟩
def lw_privs_5 : List (MethodName × Nat) := [(⟨"PretendDeskModel", "lays", "(II)V"⟩, 49), (⟨"PretendDeskModel", "without", "(I)I"⟩, 49), (⟨"PretendDeskModel", "changed", "(II)I"⟩, 49), (⟨"PretendDeskModel", "shows", "(III)V"⟩, 49), (⟨"PretendDeskModel", "lookAt", "(III)I"⟩, 49), (⟨"PretendDeskModel", "likeNow", "(II)I"⟩, 49), (⟨"PretendDeskModel", "signsOf", "(III)I"⟩, 49), (⟨"PretendDeskModel", "judges", "(III)V"⟩, 49), (⟨"PretendDeskModel", "isNameOf", "(II)Z"⟩, 49), (⟨"PretendDeskModel", "ageOf", "(II)I"⟩, 49), (⟨"PretendDeskModel", "signsBy", "(I)I"⟩, 49), (⟨"PretendDeskModel", "fits", "(I)V"⟩, 49), (⟨"PretendDeskModel", "weighs", "()V"⟩, 49), (⟨"PretendDeskModel", "tells", "(II)Z"⟩, 49), (⟨"PretendDeskModel", "missed", "(Z)I"⟩, 49), (⟨"PretendDeskModel", "isAhead", "(II)Z"⟩, 49)]
theorem lw_r5 : ∀ q ∈ lw_privs_5, lw_okq q := List.forall_mem_cons.mpr ⟨lw_p64, List.forall_mem_cons.mpr ⟨lw_p65, List.forall_mem_cons.mpr ⟨lw_p66, List.forall_mem_cons.mpr ⟨lw_p67, List.forall_mem_cons.mpr ⟨lw_p68, List.forall_mem_cons.mpr ⟨lw_p69, List.forall_mem_cons.mpr ⟨lw_p70, List.forall_mem_cons.mpr ⟨lw_p71, List.forall_mem_cons.mpr ⟨lw_p72, List.forall_mem_cons.mpr ⟨lw_p73, List.forall_mem_cons.mpr ⟨lw_p74, List.forall_mem_cons.mpr ⟨lw_p75, List.forall_mem_cons.mpr ⟨lw_p76, List.forall_mem_cons.mpr ⟨lw_p77, List.forall_mem_cons.mpr ⟨lw_p78, List.forall_mem_cons.mpr ⟨lw_p79, fun _ h => absurd h List.not_mem_nil⟩⟩⟩⟩⟩⟩⟩⟩⟩⟩⟩⟩⟩⟩⟩⟩
theorem lw_p80 : lw_okq (⟨"PretendDeskModel", "isForger", "(IIII)Z"⟩, 49) := ⟨⟨by decide +kernel, by decide +kernel⟩, lw_t6 (List.mem_of_getElem? (i := 139) rfl), lw_t8 (List.mem_of_getElem? (i := 131) rfl), lw_t8 (List.mem_of_getElem? (i := 132) rfl)⟩
theorem lw_p81 : lw_okq (⟨"PretendDeskModel", "forges", "(III)V"⟩, 49) := ⟨⟨by decide +kernel, by decide +kernel⟩, lw_t6 (List.mem_of_getElem? (i := 139) rfl), lw_t8 (List.mem_of_getElem? (i := 135) rfl), lw_t8 (List.mem_of_getElem? (i := 136) rfl)⟩
theorem lw_p82 : lw_okq (⟨"PretendDeskModel", "isForgery", "(II)Z"⟩, 49) := ⟨⟨by decide +kernel, by decide +kernel⟩, lw_t6 (List.mem_of_getElem? (i := 139) rfl), lw_t8 (List.mem_of_getElem? (i := 139) rfl), lw_t8 (List.mem_of_getElem? (i := 140) rfl)⟩
theorem lw_p83 : lw_okq (⟨"PretendDeskModel", "oddsOf", "(II)I"⟩, 49) := ⟨⟨by decide +kernel, by decide +kernel⟩, lw_t6 (List.mem_of_getElem? (i := 139) rfl), lw_t8 (List.mem_of_getElem? (i := 151) rfl), lw_t8 (List.mem_of_getElem? (i := 152) rfl)⟩
theorem lw_p84 : lw_okq (⟨"PretendDeskModel", "pieces", "(I)I"⟩, 49) := ⟨⟨by decide +kernel, by decide +kernel⟩, lw_t6 (List.mem_of_getElem? (i := 139) rfl), lw_t8 (List.mem_of_getElem? (i := 155) rfl), lw_t8 (List.mem_of_getElem? (i := 156) rfl)⟩
theorem lw_p85 : lw_okq (⟨"PretendDeskModel", "isOneHand", "(III)Z"⟩, 49) := ⟨⟨by decide +kernel, by decide +kernel⟩, lw_t6 (List.mem_of_getElem? (i := 139) rfl), lw_t8 (List.mem_of_getElem? (i := 166) rfl), lw_t8 (List.mem_of_getElem? (i := 167) rfl)⟩
theorem lw_p86 : lw_okq (⟨"PretendDeskModel", "sketchOf", "(II)I"⟩, 49) := ⟨⟨by decide +kernel, by decide +kernel⟩, lw_t6 (List.mem_of_getElem? (i := 139) rfl), lw_t8 (List.mem_of_getElem? (i := 174) rfl), lw_t8 (List.mem_of_getElem? (i := 175) rfl)⟩
theorem lw_p87 : lw_okq (⟨"PretendDeskModel", "aLine", "()V"⟩, 49) := ⟨⟨by decide +kernel, by decide +kernel⟩, lw_t6 (List.mem_of_getElem? (i := 139) rfl), lw_t8 (List.mem_of_getElem? (i := 191) rfl), lw_t8 (List.mem_of_getElem? (i := 192) rfl)⟩
theorem lw_p88 : lw_okq (⟨"PretendDeskModel", "puts", "(II)V"⟩, 49) := ⟨⟨by decide +kernel, by decide +kernel⟩, lw_t6 (List.mem_of_getElem? (i := 139) rfl), lw_t8 (List.mem_of_getElem? (i := 195) rfl), lw_t8 (List.mem_of_getElem? (i := 196) rfl)⟩
theorem lw_p89 : lw_okq (⟨"PretendDeskModel", "must", "(I)V"⟩, 49) := ⟨⟨by decide +kernel, by decide +kernel⟩, lw_t6 (List.mem_of_getElem? (i := 139) rfl), lw_t8 (List.mem_of_getElem? (i := 199) rfl), lw_t8 (List.mem_of_getElem? (i := 200) rfl)⟩
theorem lw_p90 : lw_okq (⟨"PretendDeskModel", "oneTo", "(II)V"⟩, 49) := ⟨⟨by decide +kernel, by decide +kernel⟩, lw_t6 (List.mem_of_getElem? (i := 139) rfl), lw_t8 (List.mem_of_getElem? (i := 203) rfl), lw_t8 (List.mem_of_getElem? (i := 204) rfl)⟩
theorem lw_p91 : lw_okq (⟨"PretendDeskModel", "endOf", "(I)I"⟩, 49) := ⟨⟨by decide +kernel, by decide +kernel⟩, lw_t6 (List.mem_of_getElem? (i := 139) rfl), lw_t8 (List.mem_of_getElem? (i := 222) rfl), lw_t8 (List.mem_of_getElem? (i := 223) rfl)⟩
theorem lw_p92 : lw_okq (⟨"PretendDeskModel", "does", "(II)I"⟩, 49) := ⟨⟨by decide +kernel, by decide +kernel⟩, lw_t6 (List.mem_of_getElem? (i := 139) rfl), lw_t8 (List.mem_of_getElem? (i := 233) rfl), lw_t8 (List.mem_of_getElem? (i := 234) rfl)⟩
theorem lw_p93 : lw_okq (⟨"PretendDeskModel", "takenWith", "(III)I"⟩, 49) := ⟨⟨by decide +kernel, by decide +kernel⟩, lw_t6 (List.mem_of_getElem? (i := 139) rfl), lw_t9 (List.mem_of_getElem? (i := 5) rfl), lw_t9 (List.mem_of_getElem? (i := 6) rfl)⟩
theorem lw_p94 : lw_okq (⟨"PretendDeskModel", "wordAt", "(II)I"⟩, 49) := ⟨⟨by decide +kernel, by decide +kernel⟩, lw_t6 (List.mem_of_getElem? (i := 139) rfl), lw_t9 (List.mem_of_getElem? (i := 13) rfl), lw_t9 (List.mem_of_getElem? (i := 14) rfl)⟩
theorem lw_p95 : lw_okq (⟨"PretendDeskModel", "isSaid", "(III)Z"⟩, 49) := ⟨⟨by decide +kernel, by decide +kernel⟩, lw_t6 (List.mem_of_getElem? (i := 139) rfl), lw_t9 (List.mem_of_getElem? (i := 17) rfl), lw_t9 (List.mem_of_getElem? (i := 18) rfl)⟩
def lw_privs_6 : List (MethodName × Nat) := [(⟨"PretendDeskModel", "isForger", "(IIII)Z"⟩, 49), (⟨"PretendDeskModel", "forges", "(III)V"⟩, 49), (⟨"PretendDeskModel", "isForgery", "(II)Z"⟩, 49), (⟨"PretendDeskModel", "oddsOf", "(II)I"⟩, 49), (⟨"PretendDeskModel", "pieces", "(I)I"⟩, 49), (⟨"PretendDeskModel", "isOneHand", "(III)Z"⟩, 49), (⟨"PretendDeskModel", "sketchOf", "(II)I"⟩, 49), (⟨"PretendDeskModel", "aLine", "()V"⟩, 49), (⟨"PretendDeskModel", "puts", "(II)V"⟩, 49), (⟨"PretendDeskModel", "must", "(I)V"⟩, 49), (⟨"PretendDeskModel", "oneTo", "(II)V"⟩, 49), (⟨"PretendDeskModel", "endOf", "(I)I"⟩, 49), (⟨"PretendDeskModel", "does", "(II)I"⟩, 49), (⟨"PretendDeskModel", "takenWith", "(III)I"⟩, 49), (⟨"PretendDeskModel", "wordAt", "(II)I"⟩, 49), (⟨"PretendDeskModel", "isSaid", "(III)Z"⟩, 49)]
theorem lw_r6 : ∀ q ∈ lw_privs_6, lw_okq q := List.forall_mem_cons.mpr ⟨lw_p80, List.forall_mem_cons.mpr ⟨lw_p81, List.forall_mem_cons.mpr ⟨lw_p82, List.forall_mem_cons.mpr ⟨lw_p83, List.forall_mem_cons.mpr ⟨lw_p84, List.forall_mem_cons.mpr ⟨lw_p85, List.forall_mem_cons.mpr ⟨lw_p86, List.forall_mem_cons.mpr ⟨lw_p87, List.forall_mem_cons.mpr ⟨lw_p88, List.forall_mem_cons.mpr ⟨lw_p89, List.forall_mem_cons.mpr ⟨lw_p90, List.forall_mem_cons.mpr ⟨lw_p91, List.forall_mem_cons.mpr ⟨lw_p92, List.forall_mem_cons.mpr ⟨lw_p93, List.forall_mem_cons.mpr ⟨lw_p94, List.forall_mem_cons.mpr ⟨lw_p95, fun _ h => absurd h List.not_mem_nil⟩⟩⟩⟩⟩⟩⟩⟩⟩⟩⟩⟩⟩⟩⟩⟩
theorem lw_p96 : lw_okq (⟨"PretendDeskModel", "sentences", "(I)I"⟩, 49) := ⟨⟨by decide +kernel, by decide +kernel⟩, lw_t6 (List.mem_of_getElem? (i := 139) rfl), lw_t9 (List.mem_of_getElem? (i := 29) rfl), lw_t9 (List.mem_of_getElem? (i := 30) rfl)⟩
theorem lw_p97 : lw_okq (⟨"PretendDeskModel", "firstOf", "(I)I"⟩, 49) := ⟨⟨by decide +kernel, by decide +kernel⟩, lw_t6 (List.mem_of_getElem? (i := 139) rfl), lw_t9 (List.mem_of_getElem? (i := 41) rfl), lw_t9 (List.mem_of_getElem? (i := 42) rfl)⟩
theorem lw_p98 : lw_okq (⟨"PretendDeskModel", "unlikeOf", "(II)I"⟩, 49) := ⟨⟨by decide +kernel, by decide +kernel⟩, lw_t6 (List.mem_of_getElem? (i := 139) rfl), lw_t9 (List.mem_of_getElem? (i := 59) rfl), lw_t9 (List.mem_of_getElem? (i := 60) rfl)⟩
def lw_privs_7 : List (MethodName × Nat) := [(⟨"PretendDeskModel", "sentences", "(I)I"⟩, 49), (⟨"PretendDeskModel", "firstOf", "(I)I"⟩, 49), (⟨"PretendDeskModel", "unlikeOf", "(II)I"⟩, 49)]
theorem lw_r7 : ∀ q ∈ lw_privs_7, lw_okq q := List.forall_mem_cons.mpr ⟨lw_p96, List.forall_mem_cons.mpr ⟨lw_p97, List.forall_mem_cons.mpr ⟨lw_p98, fun _ h => absurd h List.not_mem_nil⟩⟩⟩
def lw_privs : List (MethodName × Nat) := lw_privs_1 ++ (lw_privs_2 ++ (lw_privs_3 ++ (lw_privs_4 ++ (lw_privs_5 ++ (lw_privs_6 ++ (lw_privs_7))))))
def lw_tbl : List Cond := k2_sels lw_privs ++ tables_1
theorem lw_privs_ok : ∀ q ∈ lw_privs, lw_okq q := by
  show ∀ q ∈ lw_privs_1 ++ (lw_privs_2 ++ (lw_privs_3 ++ (lw_privs_4 ++ (lw_privs_5 ++ (lw_privs_6 ++ (lw_privs_7)))))), lw_okq q
  exact List.forall_mem_append.mpr ⟨lw_r1, List.forall_mem_append.mpr ⟨lw_r2, List.forall_mem_append.mpr ⟨lw_r3, List.forall_mem_append.mpr ⟨lw_r4, List.forall_mem_append.mpr ⟨lw_r5, List.forall_mem_append.mpr ⟨lw_r6, lw_r7⟩⟩⟩⟩⟩⟩
-- ===== ONE list of words for every method: the tables' words that hold all through a run =====
def lw_all : List Cond := lw_tbl.filter goodWord
/-- a word of the tables by its place: claim/WORDS.tsv -/
theorem lw_w {w : Cond} (i : Nat) (h : lw_tbl[i]? = some w) (g : goodWord w = true) : w ∈ lw_all := List.mem_filter.mpr ⟨List.mem_of_getElem? h, g⟩
theorem lw_all_tbl {w : Cond} (h : w ∈ lw_all) : w ∈ lw_tbl := (List.mem_filter.mp h).1
theorem lw_self : GoodIn lw_all lw_all := fun w h => ⟨h, good_of_word (List.mem_filter.mp h).2⟩
/-- a class's field words, by their places -/
theorem lw_in (ws : List Cond) (ps : List Nat) (hp : ws = ps.filterMap (fun i => lw_tbl[i]?)) (hg : ws.all goodWord = true) : ∀ w ∈ ws, w ∈ lw_all := by
  intro w h
  have h1 := List.all_eq_true.mp hg w h
  rw [hp] at h
  obtain ⟨i, -, hi⟩ := List.mem_filterMap.mp h
  exact lw_w i hi h1
/-- the words of a contract for the method y with code b, L locals, answer r -/
abbrev ws_ (y : MethodName) (b : ByteArray) (L : Nat) (r : Option FieldType) : List Cond := Cond.code y b L r :: lw_all
theorem lw_meth {y : MethodName} {b : ByteArray} {L : Nat} {r : Option FieldType} (h : Cond.code y b L r ∈ lw_all) : GoodIn lw_all (ws_ y b L r) := by
  intro w hw
  rcases List.mem_cons.mp hw with e | e
  · rw [e]
    exact lw_self _ h
  · exact lw_self _ e
theorem lw_app {a c : List Cond} (ha : ∀ w ∈ a, w ∈ lw_all) (hc : GoodIn lw_all c) : GoodIn lw_all (a ++ c) := by
  intro w hw
  rcases List.mem_append.mp hw with e | e
  · exact lw_self w (ha w e)
  · exact hc w e
/-- what a call through an object asks: cwV n hts (lw_V ..) -/
theorem lw_V {own : String} {idx : Nat} {C : String} {y : MethodName} {b : ByteArray} {L : Nat} {r : Option FieldType} (h1 : Cond.methodLink own idx y ∈ lw_all) (h2 : Cond.instanceMethod y ∈ lw_all) (h3 : Cond.selects C y y ∈ lw_all) (h4 : Cond.initialized C ∈ lw_all) (h5 : Cond.code y b L r ∈ lw_all) : GoodIn lw_all (wsV own idx C y (ws_ y b L r)) := by
  refine lw_app ?_ (lw_meth h5)
  intro w hw
  simp only [List.mem_cons, List.not_mem_nil, or_false] at hw
  rcases hw with e | e | e | e
  · rw [e]; exact h1
  · rw [e]; exact h2
  · rw [e]; exact h3
  · rw [e]; exact h4
/-- what a static call asks: va_cwS n hts (lw_S ..) -/
theorem lw_S {own : String} {idx : Nat} {y : MethodName} {b : ByteArray} {L : Nat} {r : Option FieldType} (h1 : Cond.methodLink own idx y ∈ lw_all) (h2 : Cond.static y ∈ lw_all) (h3 : Cond.initialized y.cls ∈ lw_all) (h4 : Cond.code y b L r ∈ lw_all) : GoodIn lw_all (va_wsS own idx y (ws_ y b L r)) := by
  refine lw_app ?_ (lw_meth h4)
  intro w hw
  simp only [List.mem_cons, List.not_mem_nil, or_false] at hw
  rcases hw with e | e | e
  · rw [e]; exact h1
  · rw [e]; exact h2
  · rw [e]; exact h3
/-- the words of a contract for a method WITH HANDLERS (hh: its table) -/
abbrev wsW_ (y : MethodName) (b : ByteArray) (L : Nat) (r : Option FieldType) (hh : List (Nat × Nat × Nat × Nat)) : List Cond := Cond.codeWith y b L r hh :: lw_all
theorem lw_methW {y : MethodName} {b : ByteArray} {L : Nat} {r : Option FieldType} {hh : List (Nat × Nat × Nat × Nat)} (h : Cond.codeWith y b L r hh ∈ lw_all) : GoodIn lw_all (wsW_ y b L r hh) := by
  intro w hw
  rcases List.mem_cons.mp hw with e | e
  · rw [e]
    exact lw_self _ h
  · exact lw_self _ e
/-- any list of words by their places (lw_in), good -/
theorem lw_good {ws : List Cond} (h : ∀ w ∈ ws, w ∈ lw_all) : GoodIn lw_all ws := fun w hw => lw_self w (h w hw)
/-- what a call of a method with handlers asks: vx_cwVW n hts (lw_VW ..), vx_cwSW n hts (lw_SW ..) -/
theorem lw_VW {own : String} {idx : Nat} {C : String} {y : MethodName} {b : ByteArray} {L : Nat} {r : Option FieldType} {hh : List (Nat × Nat × Nat × Nat)} (h1 : Cond.methodLink own idx y ∈ lw_all) (h2 : Cond.instanceMethod y ∈ lw_all) (h3 : Cond.selects C y y ∈ lw_all) (h4 : Cond.initialized C ∈ lw_all) (h5 : Cond.codeWith y b L r hh ∈ lw_all) : GoodIn lw_all (wsV own idx C y (wsW_ y b L r hh)) := by
  refine lw_app ?_ (lw_methW h5)
  intro w hw
  simp only [List.mem_cons, List.not_mem_nil, or_false] at hw
  rcases hw with e | e | e | e
  · rw [e]; exact h1
  · rw [e]; exact h2
  · rw [e]; exact h3
  · rw [e]; exact h4
theorem lw_SW {own : String} {idx : Nat} {y : MethodName} {b : ByteArray} {L : Nat} {r : Option FieldType} {hh : List (Nat × Nat × Nat × Nat)} (h1 : Cond.methodLink own idx y ∈ lw_all) (h2 : Cond.static y ∈ lw_all) (h3 : Cond.initialized y.cls ∈ lw_all) (h4 : Cond.codeWith y b L r hh ∈ lw_all) : GoodIn lw_all (va_wsS own idx y (wsW_ y b L r hh)) := by
  refine lw_app ?_ (lw_methW h4)
  intro w hw
  simp only [List.mem_cons, List.not_mem_nil, or_false] at hw
  rcases hw with e | e | e
  · rw [e]; exact h1
  · rw [e]; exact h2
  · rw [e]; exact h3
/-- a word by its place in its run of the tables -/
theorem lw_at {r : List Cond} (hr : ∀ w ∈ r, w ∈ lw_tbl) {w : Cond} (i : Nat) (h : r[i]? = some w) : w ∈ lw_tbl := hr w (List.mem_of_getElem? h)
theorem lw_g {w : Cond} (h : w ∈ lw_tbl) (g : goodWord w = true) : w ∈ lw_all := List.mem_filter.mpr ⟨h, g⟩
theorem lw_ms : ∀ w ∈ k2_sels lw_privs, w ∈ lw_tbl := fun w h => show w ∈ k2_sels lw_privs ++ tables_1 from List.mem_append_left _ h
theorem lw_m1 : ∀ w ∈ tables_1_1, w ∈ lw_tbl := fun w h => show w ∈ k2_sels lw_privs ++ tables_1 from List.mem_append_right (k2_sels lw_privs) (show w ∈ tables_1 from List.mem_append_left _ h)
theorem lw_m2 : ∀ w ∈ tables_1_2, w ∈ lw_tbl := fun w h => show w ∈ k2_sels lw_privs ++ tables_1 from List.mem_append_right (k2_sels lw_privs) (show w ∈ tables_1 from List.mem_append_right _ (List.mem_append_left _ h))
theorem lw_m3 : ∀ w ∈ tables_1_3, w ∈ lw_tbl := fun w h => show w ∈ k2_sels lw_privs ++ tables_1 from List.mem_append_right (k2_sels lw_privs) (show w ∈ tables_1 from List.mem_append_right _ (List.mem_append_right _ (List.mem_append_left _ h)))
theorem lw_m4 : ∀ w ∈ tables_1_4, w ∈ lw_tbl := fun w h => show w ∈ k2_sels lw_privs ++ tables_1 from List.mem_append_right (k2_sels lw_privs) (show w ∈ tables_1 from List.mem_append_right _ (List.mem_append_right _ (List.mem_append_right _ (List.mem_append_left _ h))))
theorem lw_m5 : ∀ w ∈ tables_1_5, w ∈ lw_tbl := fun w h => show w ∈ k2_sels lw_privs ++ tables_1 from List.mem_append_right (k2_sels lw_privs) (show w ∈ tables_1 from List.mem_append_right _ (List.mem_append_right _ (List.mem_append_right _ (List.mem_append_right _ (List.mem_append_left _ h)))))
theorem lw_m6 : ∀ w ∈ tables_1_6, w ∈ lw_tbl := fun w h => show w ∈ k2_sels lw_privs ++ tables_1 from List.mem_append_right (k2_sels lw_privs) (show w ∈ tables_1 from List.mem_append_right _ (List.mem_append_right _ (List.mem_append_right _ (List.mem_append_right _ (List.mem_append_right _ (List.mem_append_left _ h))))))
theorem lw_m7 : ∀ w ∈ tables_1_7, w ∈ lw_tbl := fun w h => show w ∈ k2_sels lw_privs ++ tables_1 from List.mem_append_right (k2_sels lw_privs) (show w ∈ tables_1 from List.mem_append_right _ (List.mem_append_right _ (List.mem_append_right _ (List.mem_append_right _ (List.mem_append_right _ (List.mem_append_right _ (List.mem_append_left _ h)))))))
theorem lw_m8 : ∀ w ∈ tables_1_8, w ∈ lw_tbl := fun w h => show w ∈ k2_sels lw_privs ++ tables_1 from List.mem_append_right (k2_sels lw_privs) (show w ∈ tables_1 from List.mem_append_right _ (List.mem_append_right _ (List.mem_append_right _ (List.mem_append_right _ (List.mem_append_right _ (List.mem_append_right _ (List.mem_append_right _ (List.mem_append_left _ h))))))))
theorem lw_m9 : ∀ w ∈ tables_1_9, w ∈ lw_tbl := fun w h => show w ∈ k2_sels lw_privs ++ tables_1 from List.mem_append_right (k2_sels lw_privs) (show w ∈ tables_1 from List.mem_append_right _ (List.mem_append_right _ (List.mem_append_right _ (List.mem_append_right _ (List.mem_append_right _ (List.mem_append_right _ (List.mem_append_right _ (List.mem_append_right _ h))))))))
theorem qs0 : (Cond.selects "PretendDesk" ⟨"PretendDesk", "four", "(I)V"⟩ ⟨"PretendDesk", "four", "(I)V"⟩) ∈ lw_all := lw_g (lw_at lw_ms 0 rfl) rfl
theorem qs1 : (Cond.selects "PretendDesk" ⟨"PretendDesk", "take", "()I"⟩ ⟨"PretendDesk", "take", "()I"⟩) ∈ lw_all := lw_g (lw_at lw_ms 1 rfl) rfl
theorem qs2 : (Cond.selects "PretendDesk" ⟨"PretendDesk", "fails", "(II)I"⟩ ⟨"PretendDesk", "fails", "(II)I"⟩) ∈ lw_all := lw_g (lw_at lw_ms 2 rfl) rfl
theorem qs3 : (Cond.selects "PretendDesk" ⟨"PretendDesk", "readName", "(I)[B"⟩ ⟨"PretendDesk", "readName", "(I)[B"⟩) ∈ lw_all := lw_g (lw_at lw_ms 3 rfl) rfl
theorem qs4 : (Cond.selects "PretendDesk" ⟨"PretendDesk", "isPage", "(I)Z"⟩ ⟨"PretendDesk", "isPage", "(I)Z"⟩) ∈ lw_all := lw_g (lw_at lw_ms 4 rfl) rfl
theorem qs5 : (Cond.selects "PretendDesk" ⟨"PretendDesk", "isHouse", "(I)Z"⟩ ⟨"PretendDesk", "isHouse", "(I)Z"⟩) ∈ lw_all := lw_g (lw_at lw_ms 5 rfl) rfl
theorem qs6 : (Cond.selects "PretendDesk" ⟨"PretendDesk", "readPage", "(I)LPretendDesk$Page;"⟩ ⟨"PretendDesk", "readPage", "(I)LPretendDesk$Page;"⟩) ∈ lw_all := lw_g (lw_at lw_ms 6 rfl) rfl
theorem qs7 : (Cond.selects "PretendDesk$Tokens" ⟨"PretendDesk$Tokens", "see", "()I"⟩ ⟨"PretendDesk$Tokens", "see", "()I"⟩) ∈ lw_all := lw_g (lw_at lw_ms 7 rfl) rfl
theorem qs8 : (Cond.selects "PretendDesk$Reader" ⟨"PretendDesk$Reader", "box", "(II)V"⟩ ⟨"PretendDesk$Reader", "box", "(II)V"⟩) ∈ lw_all := lw_g (lw_at lw_ms 8 rfl) rfl
theorem qs9 : (Cond.selects "java/lang/Throwable" ⟨"java/lang/Throwable", "fillInStackTrace", "(I)Ljava/lang/Throwable;"⟩ ⟨"java/lang/Throwable", "fillInStackTrace", "(I)Ljava/lang/Throwable;"⟩) ∈ lw_all := lw_g (lw_at lw_ms 9 rfl) rfl
theorem qs10 : (Cond.selects "PretendDesk" ⟨"PretendDesk", "spellOf", "([B[B)I"⟩ ⟨"PretendDesk", "spellOf", "([B[B)I"⟩) ∈ lw_all := lw_g (lw_at lw_ms 10 rfl) rfl
theorem qs11 : (Cond.selects "PretendDesk" ⟨"PretendDesk", "turn", "(BB)I"⟩ ⟨"PretendDesk", "turn", "(BB)I"⟩) ∈ lw_all := lw_g (lw_at lw_ms 11 rfl) rfl
theorem qs12 : (Cond.selects "PretendDesk" ⟨"PretendDesk", "isSeen", "(III)Z"⟩ ⟨"PretendDesk", "isSeen", "(III)Z"⟩) ∈ lw_all := lw_g (lw_at lw_ms 12 rfl) rfl
theorem qs13 : (Cond.selects "PretendDesk$Tree" ⟨"PretendDesk$Tree", "put", "(LPretendDesk$Page;IIII[I)V"⟩ ⟨"PretendDesk$Tree", "put", "(LPretendDesk$Page;IIII[I)V"⟩) ∈ lw_all := lw_g (lw_at lw_ms 13 rfl) rfl
theorem qs14 : (Cond.selects "PretendDesk$Ruler" ⟨"PretendDesk$Ruler", "isCorner", "(LPretendDesk$Tree;I)Z"⟩ ⟨"PretendDesk$Ruler", "isCorner", "(LPretendDesk$Tree;I)Z"⟩) ∈ lw_all := lw_g (lw_at lw_ms 14 rfl) rfl
theorem qs15 : (Cond.selects "PretendDesk$Ruler" ⟨"PretendDesk$Ruler", "lay", "(II)V"⟩ ⟨"PretendDesk$Ruler", "lay", "(II)V"⟩) ∈ lw_all := lw_g (lw_at lw_ms 15 rfl) rfl
theorem qs16 : (Cond.selects "PretendDesk$Ruler" ⟨"PretendDesk$Ruler", "turn", "(II)I"⟩ ⟨"PretendDesk$Ruler", "turn", "(II)I"⟩) ∈ lw_all := lw_g (lw_at lw_ms 16 rfl) rfl
theorem qs17 : (Cond.selects "PretendDesk" ⟨"PretendDesk", "lookAt", "(III)I"⟩ ⟨"PretendDesk", "lookAt", "(III)I"⟩) ∈ lw_all := lw_g (lw_at lw_ms 17 rfl) rfl
theorem qs18 : (Cond.selects "PretendDesk" ⟨"PretendDesk", "lookOf", "(III)LPretendDesk$Look;"⟩ ⟨"PretendDesk", "lookOf", "(III)LPretendDesk$Look;"⟩) ∈ lw_all := lw_g (lw_at lw_ms 18 rfl) rfl
theorem qs19 : (Cond.selects "PretendDesk" ⟨"PretendDesk", "signsOf", "(III)I"⟩ ⟨"PretendDesk", "signsOf", "(III)I"⟩) ∈ lw_all := lw_g (lw_at lw_ms 19 rfl) rfl
theorem qs20 : (Cond.selects "PretendDesk$Look" ⟨"PretendDesk$Look", "signs", "(LPretendDesk$Came;IIII)I"⟩ ⟨"PretendDesk$Look", "signs", "(LPretendDesk$Came;IIII)I"⟩) ∈ lw_all := lw_g (lw_at lw_ms 20 rfl) rfl
theorem qs21 : (Cond.selects "PretendDesk" ⟨"PretendDesk", "differsOf", "(IIIII)I"⟩ ⟨"PretendDesk", "differsOf", "(IIIII)I"⟩) ∈ lw_all := lw_g (lw_at lw_ms 21 rfl) rfl
theorem qs22 : (Cond.selects "PretendDesk" ⟨"PretendDesk", "fitsMarks", "(I)Z"⟩ ⟨"PretendDesk", "fitsMarks", "(I)Z"⟩) ∈ lw_all := lw_g (lw_at lw_ms 22 rfl) rfl
theorem qs23 : (Cond.selects "PretendDesk" ⟨"PretendDesk", "pretenders", "()I"⟩ ⟨"PretendDesk", "pretenders", "()I"⟩) ∈ lw_all := lw_g (lw_at lw_ms 23 rfl) rfl
theorem qs24 : (Cond.selects "PretendDesk" ⟨"PretendDesk", "layCases", "()V"⟩ ⟨"PretendDesk", "layCases", "()V"⟩) ∈ lw_all := lw_g (lw_at lw_ms 24 rfl) rfl
theorem qs25 : (Cond.selects "PretendDesk" ⟨"PretendDesk", "cried", "(Z)I"⟩ ⟨"PretendDesk", "cried", "(Z)I"⟩) ∈ lw_all := lw_g (lw_at lw_ms 25 rfl) rfl
theorem qs26 : (Cond.selects "PretendDesk" ⟨"PretendDesk", "isLessRow", "()Z"⟩ ⟨"PretendDesk", "isLessRow", "()Z"⟩) ∈ lw_all := lw_g (lw_at lw_ms 26 rfl) rfl
theorem qs27 : (Cond.selects "PretendDesk" ⟨"PretendDesk", "isForged", "(IIII)Z"⟩ ⟨"PretendDesk", "isForged", "(IIII)Z"⟩) ∈ lw_all := lw_g (lw_at lw_ms 27 rfl) rfl
theorem qs28 : (Cond.selects "PretendDesk$Forger" ⟨"PretendDesk$Forger", "priceOf", "(LPretendDesk$Came;IIIII)I"⟩ ⟨"PretendDesk$Forger", "priceOf", "(LPretendDesk$Came;IIIII)I"⟩) ∈ lw_all := lw_g (lw_at lw_ms 28 rfl) rfl
theorem qs29 : (Cond.selects "PretendDesk" ⟨"PretendDesk", "waysOf", "(II)I"⟩ ⟨"PretendDesk", "waysOf", "(II)I"⟩) ∈ lw_all := lw_g (lw_at lw_ms 29 rfl) rfl
theorem qs30 : (Cond.selects "PretendDesk" ⟨"PretendDesk", "dealsOf", "(I)I"⟩ ⟨"PretendDesk", "dealsOf", "(I)I"⟩) ∈ lw_all := lw_g (lw_at lw_ms 30 rfl) rfl
theorem qs31 : (Cond.selects "PretendDesk" ⟨"PretendDesk", "fits", "(II)I"⟩ ⟨"PretendDesk", "fits", "(II)I"⟩) ∈ lw_all := lw_g (lw_at lw_ms 31 rfl) rfl
theorem qs32 : (Cond.selects "PretendDesk$ProgramReader" ⟨"PretendDesk$ProgramReader", "line", "()V"⟩ ⟨"PretendDesk$ProgramReader", "line", "()V"⟩) ∈ lw_all := lw_g (lw_at lw_ms 32 rfl) rfl
theorem qs33 : (Cond.selects "PretendDesk$ProgramReader" ⟨"PretendDesk$ProgramReader", "to", "(I)I"⟩ ⟨"PretendDesk$ProgramReader", "to", "(I)I"⟩) ∈ lw_all := lw_g (lw_at lw_ms 33 rfl) rfl
theorem qs34 : (Cond.selects "PretendDesk" ⟨"PretendDesk", "endOf", "(I)I"⟩ ⟨"PretendDesk", "endOf", "(I)I"⟩) ∈ lw_all := lw_g (lw_at lw_ms 34 rfl) rfl
theorem qs35 : (Cond.selects "PretendDesk$Stepper" ⟨"PretendDesk$Stepper", "set", "(III)V"⟩ ⟨"PretendDesk$Stepper", "set", "(III)V"⟩) ∈ lw_all := lw_g (lw_at lw_ms 35 rfl) rfl
theorem qs36 : (Cond.selects "PretendDesk" ⟨"PretendDesk", "takenBy", "(III)I"⟩ ⟨"PretendDesk", "takenBy", "(III)I"⟩) ∈ lw_all := lw_g (lw_at lw_ms 36 rfl) rfl
theorem qs37 : (Cond.selects "PretendDesk" ⟨"PretendDesk", "place", "(J)I"⟩ ⟨"PretendDesk", "place", "(J)I"⟩) ∈ lw_all := lw_g (lw_at lw_ms 37 rfl) rfl
theorem qs38 : (Cond.selects "PretendDesk" ⟨"PretendDesk", "sentences", "()I"⟩ ⟨"PretendDesk", "sentences", "()I"⟩) ∈ lw_all := lw_g (lw_at lw_ms 38 rfl) rfl
theorem qs39 : (Cond.selects "PretendDesk" ⟨"PretendDesk", "holdsIn", "(II)I"⟩ ⟨"PretendDesk", "holdsIn", "(II)I"⟩) ∈ lw_all := lw_g (lw_at lw_ms 39 rfl) rfl
theorem qs40 : (Cond.selects "PretendDesk" ⟨"PretendDesk", "unlikeOf", "(II)I"⟩ ⟨"PretendDesk", "unlikeOf", "(II)I"⟩) ∈ lw_all := lw_g (lw_at lw_ms 40 rfl) rfl
theorem qs41 : (Cond.selects "PretendDeskModel" ⟨"PretendDeskModel", "begins", "()V"⟩ ⟨"PretendDeskModel", "begins", "()V"⟩) ∈ lw_all := lw_g (lw_at lw_ms 41 rfl) rfl
theorem qs42 : (Cond.selects "PretendDeskModel" ⟨"PretendDeskModel", "isHouse", "(I)Z"⟩ ⟨"PretendDeskModel", "isHouse", "(I)Z"⟩) ∈ lw_all := lw_g (lw_at lw_ms 42 rfl) rfl
theorem qs43 : (Cond.selects "PretendDeskModel" ⟨"PretendDeskModel", "reads", "()Z"⟩ ⟨"PretendDeskModel", "reads", "()Z"⟩) ∈ lw_all := lw_g (lw_at lw_ms 43 rfl) rfl
theorem qs44 : (Cond.selects "PretendDeskModel" ⟨"PretendDeskModel", "advance", "()V"⟩ ⟨"PretendDeskModel", "advance", "()V"⟩) ∈ lw_all := lw_g (lw_at lw_ms 44 rfl) rfl
theorem qs45 : (Cond.selects "PretendDeskModel" ⟨"PretendDeskModel", "byteAt", "(I)I"⟩ ⟨"PretendDeskModel", "byteAt", "(I)I"⟩) ∈ lw_all := lw_g (lw_at lw_ms 45 rfl) rfl
theorem qs46 : (Cond.selects "PretendDeskModel" ⟨"PretendDeskModel", "aBox", "()V"⟩ ⟨"PretendDeskModel", "aBox", "()V"⟩) ∈ lw_all := lw_g (lw_at lw_ms 46 rfl) rfl
theorem qs47 : (Cond.selects "PretendDeskModel" ⟨"PretendDeskModel", "ends", "()V"⟩ ⟨"PretendDeskModel", "ends", "()V"⟩) ∈ lw_all := lw_g (lw_at lw_ms 47 rfl) rfl
theorem qs48 : (Cond.selects "PretendDeskModel" ⟨"PretendDeskModel", "also", "(II)V"⟩ ⟨"PretendDeskModel", "also", "(II)V"⟩) ∈ lw_all := lw_g (lw_at lw_ms 48 rfl) rfl
theorem qs49 : (Cond.selects "PretendDeskModel" ⟨"PretendDeskModel", "numbered", "(I)I"⟩ ⟨"PretendDeskModel", "numbered", "(I)I"⟩) ∈ lw_all := lw_g (lw_at lw_ms 49 rfl) rfl
theorem qs50 : (Cond.selects "PretendDeskModel" ⟨"PretendDeskModel", "isWord", "(I)Z"⟩ ⟨"PretendDeskModel", "isWord", "(I)Z"⟩) ∈ lw_all := lw_g (lw_at lw_ms 50 rfl) rfl
theorem qs51 : (Cond.selects "PretendDeskModel" ⟨"PretendDeskModel", "isSign", "(I)Z"⟩ ⟨"PretendDeskModel", "isSign", "(I)Z"⟩) ∈ lw_all := lw_g (lw_at lw_ms 51 rfl) rfl
theorem qs52 : (Cond.selects "PretendDeskModel" ⟨"PretendDeskModel", "keeps", "(I)V"⟩ ⟨"PretendDeskModel", "keeps", "(I)V"⟩) ∈ lw_all := lw_g (lw_at lw_ms 52 rfl) rfl
theorem qs53 : (Cond.selects "PretendDeskModel" ⟨"PretendDeskModel", "named", "(I)Z"⟩ ⟨"PretendDeskModel", "named", "(I)Z"⟩) ∈ lw_all := lw_g (lw_at lw_ms 53 rfl) rfl
theorem qs54 : (Cond.selects "PretendDeskModel" ⟨"PretendDeskModel", "isPage", "(I)Z"⟩ ⟨"PretendDeskModel", "isPage", "(I)Z"⟩) ∈ lw_all := lw_g (lw_at lw_ms 54 rfl) rfl
theorem qs55 : (Cond.selects "PretendDeskModel" ⟨"PretendDeskModel", "spells", "(II)I"⟩ ⟨"PretendDeskModel", "spells", "(II)I"⟩) ∈ lw_all := lw_g (lw_at lw_ms 55 rfl) rfl
theorem qs56 : (Cond.selects "PretendDeskModel" ⟨"PretendDeskModel", "priceOf", "(II)I"⟩ ⟨"PretendDeskModel", "priceOf", "(II)I"⟩) ∈ lw_all := lw_g (lw_at lw_ms 56 rfl) rfl
theorem qs57 : (Cond.selects "PretendDeskModel" ⟨"PretendDeskModel", "takes", "(I)V"⟩ ⟨"PretendDeskModel", "takes", "(I)V"⟩) ∈ lw_all := lw_g (lw_at lw_ms 57 rfl) rfl
theorem qs58 : (Cond.selects "PretendDeskModel" ⟨"PretendDeskModel", "boxOf", "(II)I"⟩ ⟨"PretendDeskModel", "boxOf", "(II)I"⟩) ∈ lw_all := lw_g (lw_at lw_ms 58 rfl) rfl
theorem qs59 : (Cond.selects "PretendDeskModel" ⟨"PretendDeskModel", "opens", "(III)V"⟩ ⟨"PretendDeskModel", "opens", "(III)V"⟩) ∈ lw_all := lw_g (lw_at lw_ms 59 rfl) rfl
theorem qs60 : (Cond.selects "PretendDeskModel" ⟨"PretendDeskModel", "closes", "(II)V"⟩ ⟨"PretendDeskModel", "closes", "(II)V"⟩) ∈ lw_all := lw_g (lw_at lw_ms 60 rfl) rfl
theorem qs61 : (Cond.selects "PretendDeskModel" ⟨"PretendDeskModel", "farOf", "(IIIIII)I"⟩ ⟨"PretendDeskModel", "farOf", "(IIIIII)I"⟩) ∈ lw_all := lw_g (lw_at lw_ms 61 rfl) rfl
theorem qs62 : (Cond.selects "PretendDeskModel" ⟨"PretendDeskModel", "farNow", "()I"⟩ ⟨"PretendDeskModel", "farNow", "()I"⟩) ∈ lw_all := lw_g (lw_at lw_ms 62 rfl) rfl
theorem qs63 : (Cond.selects "PretendDeskModel" ⟨"PretendDeskModel", "isLast", "(II)Z"⟩ ⟨"PretendDeskModel", "isLast", "(II)Z"⟩) ∈ lw_all := lw_g (lw_at lw_ms 63 rfl) rfl
theorem qs64 : (Cond.selects "PretendDeskModel" ⟨"PretendDeskModel", "lays", "(II)V"⟩ ⟨"PretendDeskModel", "lays", "(II)V"⟩) ∈ lw_all := lw_g (lw_at lw_ms 64 rfl) rfl
theorem qs65 : (Cond.selects "PretendDeskModel" ⟨"PretendDeskModel", "without", "(I)I"⟩ ⟨"PretendDeskModel", "without", "(I)I"⟩) ∈ lw_all := lw_g (lw_at lw_ms 65 rfl) rfl
theorem qs66 : (Cond.selects "PretendDeskModel" ⟨"PretendDeskModel", "changed", "(II)I"⟩ ⟨"PretendDeskModel", "changed", "(II)I"⟩) ∈ lw_all := lw_g (lw_at lw_ms 66 rfl) rfl
theorem qs67 : (Cond.selects "PretendDeskModel" ⟨"PretendDeskModel", "shows", "(III)V"⟩ ⟨"PretendDeskModel", "shows", "(III)V"⟩) ∈ lw_all := lw_g (lw_at lw_ms 67 rfl) rfl
theorem qs68 : (Cond.selects "PretendDeskModel" ⟨"PretendDeskModel", "lookAt", "(III)I"⟩ ⟨"PretendDeskModel", "lookAt", "(III)I"⟩) ∈ lw_all := lw_g (lw_at lw_ms 68 rfl) rfl
theorem qs69 : (Cond.selects "PretendDeskModel" ⟨"PretendDeskModel", "likeNow", "(II)I"⟩ ⟨"PretendDeskModel", "likeNow", "(II)I"⟩) ∈ lw_all := lw_g (lw_at lw_ms 69 rfl) rfl
theorem qs70 : (Cond.selects "PretendDeskModel" ⟨"PretendDeskModel", "signsOf", "(III)I"⟩ ⟨"PretendDeskModel", "signsOf", "(III)I"⟩) ∈ lw_all := lw_g (lw_at lw_ms 70 rfl) rfl
theorem qs71 : (Cond.selects "PretendDeskModel" ⟨"PretendDeskModel", "judges", "(III)V"⟩ ⟨"PretendDeskModel", "judges", "(III)V"⟩) ∈ lw_all := lw_g (lw_at lw_ms 71 rfl) rfl
theorem qs72 : (Cond.selects "PretendDeskModel" ⟨"PretendDeskModel", "isNameOf", "(II)Z"⟩ ⟨"PretendDeskModel", "isNameOf", "(II)Z"⟩) ∈ lw_all := lw_g (lw_at lw_ms 72 rfl) rfl
theorem qs73 : (Cond.selects "PretendDeskModel" ⟨"PretendDeskModel", "ageOf", "(II)I"⟩ ⟨"PretendDeskModel", "ageOf", "(II)I"⟩) ∈ lw_all := lw_g (lw_at lw_ms 73 rfl) rfl
theorem qs74 : (Cond.selects "PretendDeskModel" ⟨"PretendDeskModel", "signsBy", "(I)I"⟩ ⟨"PretendDeskModel", "signsBy", "(I)I"⟩) ∈ lw_all := lw_g (lw_at lw_ms 74 rfl) rfl
theorem qs75 : (Cond.selects "PretendDeskModel" ⟨"PretendDeskModel", "fits", "(I)V"⟩ ⟨"PretendDeskModel", "fits", "(I)V"⟩) ∈ lw_all := lw_g (lw_at lw_ms 75 rfl) rfl
theorem qs76 : (Cond.selects "PretendDeskModel" ⟨"PretendDeskModel", "weighs", "()V"⟩ ⟨"PretendDeskModel", "weighs", "()V"⟩) ∈ lw_all := lw_g (lw_at lw_ms 76 rfl) rfl
theorem qs77 : (Cond.selects "PretendDeskModel" ⟨"PretendDeskModel", "tells", "(II)Z"⟩ ⟨"PretendDeskModel", "tells", "(II)Z"⟩) ∈ lw_all := lw_g (lw_at lw_ms 77 rfl) rfl
theorem qs78 : (Cond.selects "PretendDeskModel" ⟨"PretendDeskModel", "missed", "(Z)I"⟩ ⟨"PretendDeskModel", "missed", "(Z)I"⟩) ∈ lw_all := lw_g (lw_at lw_ms 78 rfl) rfl
theorem qs79 : (Cond.selects "PretendDeskModel" ⟨"PretendDeskModel", "isAhead", "(II)Z"⟩ ⟨"PretendDeskModel", "isAhead", "(II)Z"⟩) ∈ lw_all := lw_g (lw_at lw_ms 79 rfl) rfl
theorem qs80 : (Cond.selects "PretendDeskModel" ⟨"PretendDeskModel", "isForger", "(IIII)Z"⟩ ⟨"PretendDeskModel", "isForger", "(IIII)Z"⟩) ∈ lw_all := lw_g (lw_at lw_ms 80 rfl) rfl
theorem qs81 : (Cond.selects "PretendDeskModel" ⟨"PretendDeskModel", "forges", "(III)V"⟩ ⟨"PretendDeskModel", "forges", "(III)V"⟩) ∈ lw_all := lw_g (lw_at lw_ms 81 rfl) rfl
theorem qs82 : (Cond.selects "PretendDeskModel" ⟨"PretendDeskModel", "isForgery", "(II)Z"⟩ ⟨"PretendDeskModel", "isForgery", "(II)Z"⟩) ∈ lw_all := lw_g (lw_at lw_ms 82 rfl) rfl
theorem qs83 : (Cond.selects "PretendDeskModel" ⟨"PretendDeskModel", "oddsOf", "(II)I"⟩ ⟨"PretendDeskModel", "oddsOf", "(II)I"⟩) ∈ lw_all := lw_g (lw_at lw_ms 83 rfl) rfl
theorem qs84 : (Cond.selects "PretendDeskModel" ⟨"PretendDeskModel", "pieces", "(I)I"⟩ ⟨"PretendDeskModel", "pieces", "(I)I"⟩) ∈ lw_all := lw_g (lw_at lw_ms 84 rfl) rfl
theorem qs85 : (Cond.selects "PretendDeskModel" ⟨"PretendDeskModel", "isOneHand", "(III)Z"⟩ ⟨"PretendDeskModel", "isOneHand", "(III)Z"⟩) ∈ lw_all := lw_g (lw_at lw_ms 85 rfl) rfl
theorem qs86 : (Cond.selects "PretendDeskModel" ⟨"PretendDeskModel", "sketchOf", "(II)I"⟩ ⟨"PretendDeskModel", "sketchOf", "(II)I"⟩) ∈ lw_all := lw_g (lw_at lw_ms 86 rfl) rfl
theorem qs87 : (Cond.selects "PretendDeskModel" ⟨"PretendDeskModel", "aLine", "()V"⟩ ⟨"PretendDeskModel", "aLine", "()V"⟩) ∈ lw_all := lw_g (lw_at lw_ms 87 rfl) rfl
theorem qs88 : (Cond.selects "PretendDeskModel" ⟨"PretendDeskModel", "puts", "(II)V"⟩ ⟨"PretendDeskModel", "puts", "(II)V"⟩) ∈ lw_all := lw_g (lw_at lw_ms 88 rfl) rfl
theorem qs89 : (Cond.selects "PretendDeskModel" ⟨"PretendDeskModel", "must", "(I)V"⟩ ⟨"PretendDeskModel", "must", "(I)V"⟩) ∈ lw_all := lw_g (lw_at lw_ms 89 rfl) rfl
theorem qs90 : (Cond.selects "PretendDeskModel" ⟨"PretendDeskModel", "oneTo", "(II)V"⟩ ⟨"PretendDeskModel", "oneTo", "(II)V"⟩) ∈ lw_all := lw_g (lw_at lw_ms 90 rfl) rfl
theorem qs91 : (Cond.selects "PretendDeskModel" ⟨"PretendDeskModel", "endOf", "(I)I"⟩ ⟨"PretendDeskModel", "endOf", "(I)I"⟩) ∈ lw_all := lw_g (lw_at lw_ms 91 rfl) rfl
theorem qs92 : (Cond.selects "PretendDeskModel" ⟨"PretendDeskModel", "does", "(II)I"⟩ ⟨"PretendDeskModel", "does", "(II)I"⟩) ∈ lw_all := lw_g (lw_at lw_ms 92 rfl) rfl
theorem qs93 : (Cond.selects "PretendDeskModel" ⟨"PretendDeskModel", "takenWith", "(III)I"⟩ ⟨"PretendDeskModel", "takenWith", "(III)I"⟩) ∈ lw_all := lw_g (lw_at lw_ms 93 rfl) rfl
theorem qs94 : (Cond.selects "PretendDeskModel" ⟨"PretendDeskModel", "wordAt", "(II)I"⟩ ⟨"PretendDeskModel", "wordAt", "(II)I"⟩) ∈ lw_all := lw_g (lw_at lw_ms 94 rfl) rfl
theorem qs95 : (Cond.selects "PretendDeskModel" ⟨"PretendDeskModel", "isSaid", "(III)Z"⟩ ⟨"PretendDeskModel", "isSaid", "(III)Z"⟩) ∈ lw_all := lw_g (lw_at lw_ms 95 rfl) rfl
theorem qs96 : (Cond.selects "PretendDeskModel" ⟨"PretendDeskModel", "sentences", "(I)I"⟩ ⟨"PretendDeskModel", "sentences", "(I)I"⟩) ∈ lw_all := lw_g (lw_at lw_ms 96 rfl) rfl
theorem qs97 : (Cond.selects "PretendDeskModel" ⟨"PretendDeskModel", "firstOf", "(I)I"⟩ ⟨"PretendDeskModel", "firstOf", "(I)I"⟩) ∈ lw_all := lw_g (lw_at lw_ms 97 rfl) rfl
theorem qs98 : (Cond.selects "PretendDeskModel" ⟨"PretendDeskModel", "unlikeOf", "(II)I"⟩ ⟨"PretendDeskModel", "unlikeOf", "(II)I"⟩) ∈ lw_all := lw_g (lw_at lw_ms 98 rfl) rfl
-- ===== end of PART A; then your names; then what follows =====
