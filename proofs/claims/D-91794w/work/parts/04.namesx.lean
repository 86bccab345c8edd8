/-! PretendDesk -/
set_option maxRecDepth 100000
def RX0 : String := "PretendDesk"
def TX0 : u_T := fun k => match k with
  | 0 => ("PretendDesk", "ruler", "LPretendDesk$Ruler;", true)
  | 1 => ("PretendDesk", "asIs", "[I", true)
  | 2 => ("PretendDesk", "kinds", "[Ljava/lang/String;", true)
  | 3 => ("PretendDesk", "acts", "[Ljava/lang/String;", true)
  | 4 => ("PretendDesk", "desk", "LPretendDesk$Desk;", false)
  | 5 => ("PretendDesk", "images", "[LPretendDesk$Desk;", true)
  | 6 => ("PretendDesk", "spelt", "[I", true)
  | 7 => ("PretendDesk", "look", "LPretendDesk$Look;", true)
  | 8 => ("PretendDesk", "caseLook", "[I", true)
  | 9 => ("PretendDesk", "caseAsk", "[I", true)
  | 10 => ("PretendDesk", "caseAge", "[I", true)
  | 11 => ("PretendDesk", "best", "[I", true)
  | 12 => ("PretendDesk", "tried", "[I", true)
  | 13 => ("PretendDesk", "forger", "LPretendDesk$Forger;", true)
  | 14 => ("PretendDesk", "hands", "I", false)
  | 15 => ("PretendDesk", "stepper", "LPretendDesk$Stepper;", true)
  | _ => ("PretendDesk", "meant", "[I", true)
def tyX0 : Nat → FieldType := fun k => match k with
  | 0 => .object "PretendDesk$Ruler"
  | 1 => .array .int
  | 2 => .array (.object "java/lang/String")
  | 3 => .array (.object "java/lang/String")
  | 4 => .object "PretendDesk$Desk"
  | 5 => .array (.object "PretendDesk$Desk")
  | 6 => .array .int
  | 7 => .object "PretendDesk$Look"
  | 8 => .array .int
  | 9 => .array .int
  | 10 => .array .int
  | 11 => .array .int
  | 12 => .array .int
  | 13 => .object "PretendDesk$Forger"
  | 14 => .int
  | 15 => .object "PretendDesk$Stepper"
  | _ => .array .int
abbrev wsX00 : List Cond := u_ws RX0 TX0 17
set_option maxRecDepth 100000 in
theorem nmX0 : ∀ a, a < 17 → ∀ b, b < 17 → a ≠ b → (TX0 a).2.1 ≠ (TX0 b).2.1 := by decide +kernel
set_option maxRecDepth 100000 in
theorem tyX0_ok : ∀ k, k < 17 → parseFieldDescriptor (TX0 k).2.2.1 = some (tyX0 k) := by decide +kernel
abbrev cX0_init : ByteArray := prog_1_method_4_code
def yX0_init : MethodName := ⟨RX0, "<init>", "()V"⟩
def dkwX0_init_10 : List UInt8 := [16, 14, 162, 0, 16, 42, 180, 0, 22, 27, 2, 79, 132, 1, 1, 167, 255, 240, 177]
abbrev dktX0_init_10 : List UInt8 := dkwX0_init_10 ++ []
def dkwX0_init_9 : List UInt8 := [42, 187, 0, 108, 89, 183, 0, 110, 181, 0, 111, 42, 17, 0, 250, 188, 10, 181, 0, 115, 3, 60, 27]
abbrev dktX0_init_9 : List UInt8 := dkwX0_init_9 ++ dktX0_init_10
def dkwX0_init_8 : List UInt8 := [188, 10, 181, 0, 95, 42, 6, 188, 10, 181, 0, 98, 42, 187, 0, 101, 89, 42, 183, 0, 103, 181, 0, 104]
abbrev dktX0_init_8 : List UInt8 := dkwX0_init_8 ++ dktX0_init_9
def dkwX0_init_7 : List UInt8 := [188, 10, 181, 0, 86, 42, 16, 16, 188, 10, 181, 0, 89, 42, 16, 16, 188, 10, 181, 0, 92, 42, 8]
abbrev dktX0_init_7 : List UInt8 := dkwX0_init_7 ++ dktX0_init_8
def dkwX0_init_6 : List UInt8 := [17, 0, 169, 188, 10, 181, 0, 76, 42, 187, 0, 79, 89, 42, 183, 0, 81, 181, 0, 82, 42, 16, 16]
abbrev dktX0_init_6 : List UInt8 := dkwX0_init_6 ++ dktX0_init_7
def dkwX0_init_5 : List UInt8 := [181, 0, 62, 42, 187, 0, 65, 89, 183, 0, 67, 181, 0, 68, 42, 6, 189, 0, 65, 181, 0, 72, 42]
abbrev dktX0_init_5 : List UInt8 := dkwX0_init_5 ++ dktX0_init_6
def dkwX0_init_4 : List UInt8 := [83, 89, 6, 18, 54, 83, 89, 7, 18, 56, 83, 89, 8, 18, 58, 83, 89, 16, 6, 18, 60, 83]
abbrev dktX0_init_4 : List UInt8 := dkwX0_init_4 ++ dktX0_init_5
def dkwX0_init_3 : List UInt8 := [83, 181, 0, 44, 42, 16, 7, 189, 0, 26, 89, 3, 18, 48, 83, 89, 4, 18, 50, 83, 89, 5, 18, 52]
abbrev dktX0_init_3 : List UInt8 := dkwX0_init_3 ++ dktX0_init_4
def dkwX0_init_2 : List UInt8 := [18, 34, 83, 89, 7, 18, 36, 83, 89, 8, 18, 38, 83, 89, 16, 6, 18, 40, 83, 89, 16, 7, 18, 42]
abbrev dktX0_init_2 : List UInt8 := dkwX0_init_2 ++ dktX0_init_3
def dkwX0_init_1 : List UInt8 := [42, 16, 8, 189, 0, 26, 89, 3, 18, 28, 83, 89, 4, 18, 30, 83, 89, 5, 18, 32, 83, 89, 6]
abbrev dktX0_init_1 : List UInt8 := dkwX0_init_1 ++ dktX0_init_2
def dkwX0_init_0 : List UInt8 := [42, 183, 0, 7, 42, 187, 0, 13, 89, 42, 183, 0, 15, 181, 0, 18, 42, 16, 14, 188, 10, 181, 0, 22]
abbrev dktX0_init_0 : List UInt8 := dkwX0_init_0 ++ dktX0_init_1
theorem dksX0_init_0 : cX0_init.data.toList.drop 0 = dktX0_init_0 := by decide +kernel
theorem dksX0_init_1 : cX0_init.data.toList.drop 24 = dktX0_init_1 := dk_seg dksX0_init_0 24 rfl rfl
theorem dksX0_init_2 : cX0_init.data.toList.drop 47 = dktX0_init_2 := dk_seg dksX0_init_1 23 rfl rfl
theorem dksX0_init_3 : cX0_init.data.toList.drop 71 = dktX0_init_3 := dk_seg dksX0_init_2 24 rfl rfl
theorem dksX0_init_4 : cX0_init.data.toList.drop 95 = dktX0_init_4 := dk_seg dksX0_init_3 24 rfl rfl
theorem dksX0_init_5 : cX0_init.data.toList.drop 117 = dktX0_init_5 := dk_seg dksX0_init_4 22 rfl rfl
theorem dksX0_init_6 : cX0_init.data.toList.drop 140 = dktX0_init_6 := dk_seg dksX0_init_5 23 rfl rfl
theorem dksX0_init_7 : cX0_init.data.toList.drop 163 = dktX0_init_7 := dk_seg dksX0_init_6 23 rfl rfl
theorem dksX0_init_8 : cX0_init.data.toList.drop 186 = dktX0_init_8 := dk_seg dksX0_init_7 23 rfl rfl
theorem dksX0_init_9 : cX0_init.data.toList.drop 210 = dktX0_init_9 := dk_seg dksX0_init_8 24 rfl rfl
theorem dksX0_init_10 : cX0_init.data.toList.drop 233 = dktX0_init_10 := dk_seg dksX0_init_9 23 rfl rfl
theorem dX0_init_0 : decode cX0_init 0 = .ok (.aload_n 0, 1) := dk_42 (dk_at dksX0_init_0 0 rfl rfl)
theorem dX0_init_1 : decode cX0_init 1 = .ok (.invokespecial 7, 3) := dk_183 0 7 (dk_at dksX0_init_0 1 rfl rfl)
theorem dX0_init_4 : decode cX0_init 4 = .ok (.aload_n 0, 1) := dk_42 (dk_at dksX0_init_0 4 rfl rfl)
theorem dX0_init_5 : decode cX0_init 5 = .ok (.new 13, 3) := dk_187 0 13 (dk_at dksX0_init_0 5 rfl rfl)
theorem dX0_init_8 : decode cX0_init 8 = .ok (.dup, 1) := dk_89 (dk_at dksX0_init_0 8 rfl rfl)
theorem dX0_init_9 : decode cX0_init 9 = .ok (.aload_n 0, 1) := dk_42 (dk_at dksX0_init_0 9 rfl rfl)
theorem dX0_init_10 : decode cX0_init 10 = .ok (.invokespecial 15, 3) := dk_183 0 15 (dk_at dksX0_init_0 10 rfl rfl)
theorem dX0_init_13 : decode cX0_init 13 = .ok (.putfield 18, 3) := dk_181 0 18 (dk_at dksX0_init_0 13 rfl rfl)
theorem dX0_init_16 : decode cX0_init 16 = .ok (.aload_n 0, 1) := dk_42 (dk_at dksX0_init_0 16 rfl rfl)
theorem dX0_init_17 : decode cX0_init 17 = .ok (.bipush 14, 2) := dk_16 14 (dk_at dksX0_init_0 17 rfl rfl)
theorem dX0_init_19 : decode cX0_init 19 = .ok (.newarray .int, 2) := dk_188_10 (dk_at dksX0_init_0 19 rfl rfl)
theorem dX0_init_21 : decode cX0_init 21 = .ok (.putfield 22, 3) := dk_181 0 22 (dk_at dksX0_init_0 21 rfl rfl)
theorem dX0_init_24 : decode cX0_init 24 = .ok (.aload_n 0, 1) := dk_42 (dk_at dksX0_init_1 0 rfl rfl)
theorem dX0_init_25 : decode cX0_init 25 = .ok (.bipush 8, 2) := dk_16 8 (dk_at dksX0_init_1 1 rfl rfl)
theorem dX0_init_27 : decode cX0_init 27 = .ok (.anewarray 26, 3) := dk_189 0 26 (dk_at dksX0_init_1 3 rfl rfl)
theorem dX0_init_30 : decode cX0_init 30 = .ok (.dup, 1) := dk_89 (dk_at dksX0_init_1 6 rfl rfl)
theorem dX0_init_31 : decode cX0_init 31 = .ok (.iconst 0, 1) := dk_3 (dk_at dksX0_init_1 7 rfl rfl)
theorem dX0_init_32 : decode cX0_init 32 = .ok (.ldc 28, 2) := dk_18 28 (dk_at dksX0_init_1 8 rfl rfl)
theorem dX0_init_34 : decode cX0_init 34 = .ok (.aastore, 1) := dk_83 (dk_at dksX0_init_1 10 rfl rfl)
theorem dX0_init_35 : decode cX0_init 35 = .ok (.dup, 1) := dk_89 (dk_at dksX0_init_1 11 rfl rfl)
theorem dX0_init_36 : decode cX0_init 36 = .ok (.iconst 1, 1) := dk_4 (dk_at dksX0_init_1 12 rfl rfl)
theorem dX0_init_37 : decode cX0_init 37 = .ok (.ldc 30, 2) := dk_18 30 (dk_at dksX0_init_1 13 rfl rfl)
theorem dX0_init_39 : decode cX0_init 39 = .ok (.aastore, 1) := dk_83 (dk_at dksX0_init_1 15 rfl rfl)
theorem dX0_init_40 : decode cX0_init 40 = .ok (.dup, 1) := dk_89 (dk_at dksX0_init_1 16 rfl rfl)
theorem dX0_init_41 : decode cX0_init 41 = .ok (.iconst 2, 1) := dk_5 (dk_at dksX0_init_1 17 rfl rfl)
theorem dX0_init_42 : decode cX0_init 42 = .ok (.ldc 32, 2) := dk_18 32 (dk_at dksX0_init_1 18 rfl rfl)
theorem dX0_init_44 : decode cX0_init 44 = .ok (.aastore, 1) := dk_83 (dk_at dksX0_init_1 20 rfl rfl)
theorem dX0_init_45 : decode cX0_init 45 = .ok (.dup, 1) := dk_89 (dk_at dksX0_init_1 21 rfl rfl)
theorem dX0_init_46 : decode cX0_init 46 = .ok (.iconst 3, 1) := dk_6 (dk_at dksX0_init_1 22 rfl rfl)
theorem dX0_init_47 : decode cX0_init 47 = .ok (.ldc 34, 2) := dk_18 34 (dk_at dksX0_init_2 0 rfl rfl)
theorem dX0_init_49 : decode cX0_init 49 = .ok (.aastore, 1) := dk_83 (dk_at dksX0_init_2 2 rfl rfl)
theorem dX0_init_50 : decode cX0_init 50 = .ok (.dup, 1) := dk_89 (dk_at dksX0_init_2 3 rfl rfl)
theorem dX0_init_51 : decode cX0_init 51 = .ok (.iconst 4, 1) := dk_7 (dk_at dksX0_init_2 4 rfl rfl)
theorem dX0_init_52 : decode cX0_init 52 = .ok (.ldc 36, 2) := dk_18 36 (dk_at dksX0_init_2 5 rfl rfl)
theorem dX0_init_54 : decode cX0_init 54 = .ok (.aastore, 1) := dk_83 (dk_at dksX0_init_2 7 rfl rfl)
theorem dX0_init_55 : decode cX0_init 55 = .ok (.dup, 1) := dk_89 (dk_at dksX0_init_2 8 rfl rfl)
theorem dX0_init_56 : decode cX0_init 56 = .ok (.iconst 5, 1) := dk_8 (dk_at dksX0_init_2 9 rfl rfl)
theorem dX0_init_57 : decode cX0_init 57 = .ok (.ldc 38, 2) := dk_18 38 (dk_at dksX0_init_2 10 rfl rfl)
theorem dX0_init_59 : decode cX0_init 59 = .ok (.aastore, 1) := dk_83 (dk_at dksX0_init_2 12 rfl rfl)
theorem dX0_init_60 : decode cX0_init 60 = .ok (.dup, 1) := dk_89 (dk_at dksX0_init_2 13 rfl rfl)
theorem dX0_init_61 : decode cX0_init 61 = .ok (.bipush 6, 2) := dk_16 6 (dk_at dksX0_init_2 14 rfl rfl)
theorem dX0_init_63 : decode cX0_init 63 = .ok (.ldc 40, 2) := dk_18 40 (dk_at dksX0_init_2 16 rfl rfl)
theorem dX0_init_65 : decode cX0_init 65 = .ok (.aastore, 1) := dk_83 (dk_at dksX0_init_2 18 rfl rfl)
theorem dX0_init_66 : decode cX0_init 66 = .ok (.dup, 1) := dk_89 (dk_at dksX0_init_2 19 rfl rfl)
theorem dX0_init_67 : decode cX0_init 67 = .ok (.bipush 7, 2) := dk_16 7 (dk_at dksX0_init_2 20 rfl rfl)
theorem dX0_init_69 : decode cX0_init 69 = .ok (.ldc 42, 2) := dk_18 42 (dk_at dksX0_init_2 22 rfl rfl)
theorem dX0_init_71 : decode cX0_init 71 = .ok (.aastore, 1) := dk_83 (dk_at dksX0_init_3 0 rfl rfl)
theorem dX0_init_72 : decode cX0_init 72 = .ok (.putfield 44, 3) := dk_181 0 44 (dk_at dksX0_init_3 1 rfl rfl)
theorem dX0_init_75 : decode cX0_init 75 = .ok (.aload_n 0, 1) := dk_42 (dk_at dksX0_init_3 4 rfl rfl)
theorem dX0_init_76 : decode cX0_init 76 = .ok (.bipush 7, 2) := dk_16 7 (dk_at dksX0_init_3 5 rfl rfl)
theorem dX0_init_78 : decode cX0_init 78 = .ok (.anewarray 26, 3) := dk_189 0 26 (dk_at dksX0_init_3 7 rfl rfl)
theorem dX0_init_81 : decode cX0_init 81 = .ok (.dup, 1) := dk_89 (dk_at dksX0_init_3 10 rfl rfl)
theorem dX0_init_82 : decode cX0_init 82 = .ok (.iconst 0, 1) := dk_3 (dk_at dksX0_init_3 11 rfl rfl)
theorem dX0_init_83 : decode cX0_init 83 = .ok (.ldc 48, 2) := dk_18 48 (dk_at dksX0_init_3 12 rfl rfl)
theorem dX0_init_85 : decode cX0_init 85 = .ok (.aastore, 1) := dk_83 (dk_at dksX0_init_3 14 rfl rfl)
theorem dX0_init_86 : decode cX0_init 86 = .ok (.dup, 1) := dk_89 (dk_at dksX0_init_3 15 rfl rfl)
theorem dX0_init_87 : decode cX0_init 87 = .ok (.iconst 1, 1) := dk_4 (dk_at dksX0_init_3 16 rfl rfl)
theorem dX0_init_88 : decode cX0_init 88 = .ok (.ldc 50, 2) := dk_18 50 (dk_at dksX0_init_3 17 rfl rfl)
theorem dX0_init_90 : decode cX0_init 90 = .ok (.aastore, 1) := dk_83 (dk_at dksX0_init_3 19 rfl rfl)
theorem dX0_init_91 : decode cX0_init 91 = .ok (.dup, 1) := dk_89 (dk_at dksX0_init_3 20 rfl rfl)
theorem dX0_init_92 : decode cX0_init 92 = .ok (.iconst 2, 1) := dk_5 (dk_at dksX0_init_3 21 rfl rfl)
theorem dX0_init_93 : decode cX0_init 93 = .ok (.ldc 52, 2) := dk_18 52 (dk_at dksX0_init_3 22 rfl rfl)
theorem dX0_init_95 : decode cX0_init 95 = .ok (.aastore, 1) := dk_83 (dk_at dksX0_init_4 0 rfl rfl)
theorem dX0_init_96 : decode cX0_init 96 = .ok (.dup, 1) := dk_89 (dk_at dksX0_init_4 1 rfl rfl)
theorem dX0_init_97 : decode cX0_init 97 = .ok (.iconst 3, 1) := dk_6 (dk_at dksX0_init_4 2 rfl rfl)
theorem dX0_init_98 : decode cX0_init 98 = .ok (.ldc 54, 2) := dk_18 54 (dk_at dksX0_init_4 3 rfl rfl)
theorem dX0_init_100 : decode cX0_init 100 = .ok (.aastore, 1) := dk_83 (dk_at dksX0_init_4 5 rfl rfl)
theorem dX0_init_101 : decode cX0_init 101 = .ok (.dup, 1) := dk_89 (dk_at dksX0_init_4 6 rfl rfl)
theorem dX0_init_102 : decode cX0_init 102 = .ok (.iconst 4, 1) := dk_7 (dk_at dksX0_init_4 7 rfl rfl)
theorem dX0_init_103 : decode cX0_init 103 = .ok (.ldc 56, 2) := dk_18 56 (dk_at dksX0_init_4 8 rfl rfl)
theorem dX0_init_105 : decode cX0_init 105 = .ok (.aastore, 1) := dk_83 (dk_at dksX0_init_4 10 rfl rfl)
theorem dX0_init_106 : decode cX0_init 106 = .ok (.dup, 1) := dk_89 (dk_at dksX0_init_4 11 rfl rfl)
theorem dX0_init_107 : decode cX0_init 107 = .ok (.iconst 5, 1) := dk_8 (dk_at dksX0_init_4 12 rfl rfl)
theorem dX0_init_108 : decode cX0_init 108 = .ok (.ldc 58, 2) := dk_18 58 (dk_at dksX0_init_4 13 rfl rfl)
theorem dX0_init_110 : decode cX0_init 110 = .ok (.aastore, 1) := dk_83 (dk_at dksX0_init_4 15 rfl rfl)
theorem dX0_init_111 : decode cX0_init 111 = .ok (.dup, 1) := dk_89 (dk_at dksX0_init_4 16 rfl rfl)
theorem dX0_init_112 : decode cX0_init 112 = .ok (.bipush 6, 2) := dk_16 6 (dk_at dksX0_init_4 17 rfl rfl)
theorem dX0_init_114 : decode cX0_init 114 = .ok (.ldc 60, 2) := dk_18 60 (dk_at dksX0_init_4 19 rfl rfl)
theorem dX0_init_116 : decode cX0_init 116 = .ok (.aastore, 1) := dk_83 (dk_at dksX0_init_4 21 rfl rfl)
theorem dX0_init_117 : decode cX0_init 117 = .ok (.putfield 62, 3) := dk_181 0 62 (dk_at dksX0_init_5 0 rfl rfl)
theorem dX0_init_120 : decode cX0_init 120 = .ok (.aload_n 0, 1) := dk_42 (dk_at dksX0_init_5 3 rfl rfl)
theorem dX0_init_121 : decode cX0_init 121 = .ok (.new 65, 3) := dk_187 0 65 (dk_at dksX0_init_5 4 rfl rfl)
theorem dX0_init_124 : decode cX0_init 124 = .ok (.dup, 1) := dk_89 (dk_at dksX0_init_5 7 rfl rfl)
theorem dX0_init_125 : decode cX0_init 125 = .ok (.invokespecial 67, 3) := dk_183 0 67 (dk_at dksX0_init_5 8 rfl rfl)
theorem dX0_init_128 : decode cX0_init 128 = .ok (.putfield 68, 3) := dk_181 0 68 (dk_at dksX0_init_5 11 rfl rfl)
theorem dX0_init_131 : decode cX0_init 131 = .ok (.aload_n 0, 1) := dk_42 (dk_at dksX0_init_5 14 rfl rfl)
theorem dX0_init_132 : decode cX0_init 132 = .ok (.iconst 3, 1) := dk_6 (dk_at dksX0_init_5 15 rfl rfl)
theorem dX0_init_133 : decode cX0_init 133 = .ok (.anewarray 65, 3) := dk_189 0 65 (dk_at dksX0_init_5 16 rfl rfl)
theorem dX0_init_136 : decode cX0_init 136 = .ok (.putfield 72, 3) := dk_181 0 72 (dk_at dksX0_init_5 19 rfl rfl)
theorem dX0_init_139 : decode cX0_init 139 = .ok (.aload_n 0, 1) := dk_42 (dk_at dksX0_init_5 22 rfl rfl)
theorem dX0_init_140 : decode cX0_init 140 = .ok (.sipush 169, 3) := dk_17 0 169 (dk_at dksX0_init_6 0 rfl rfl)
theorem dX0_init_143 : decode cX0_init 143 = .ok (.newarray .int, 2) := dk_188_10 (dk_at dksX0_init_6 3 rfl rfl)
theorem dX0_init_145 : decode cX0_init 145 = .ok (.putfield 76, 3) := dk_181 0 76 (dk_at dksX0_init_6 5 rfl rfl)
theorem dX0_init_148 : decode cX0_init 148 = .ok (.aload_n 0, 1) := dk_42 (dk_at dksX0_init_6 8 rfl rfl)
theorem dX0_init_149 : decode cX0_init 149 = .ok (.new 79, 3) := dk_187 0 79 (dk_at dksX0_init_6 9 rfl rfl)
theorem dX0_init_152 : decode cX0_init 152 = .ok (.dup, 1) := dk_89 (dk_at dksX0_init_6 12 rfl rfl)
theorem dX0_init_153 : decode cX0_init 153 = .ok (.aload_n 0, 1) := dk_42 (dk_at dksX0_init_6 13 rfl rfl)
theorem dX0_init_154 : decode cX0_init 154 = .ok (.invokespecial 81, 3) := dk_183 0 81 (dk_at dksX0_init_6 14 rfl rfl)
theorem dX0_init_157 : decode cX0_init 157 = .ok (.putfield 82, 3) := dk_181 0 82 (dk_at dksX0_init_6 17 rfl rfl)
theorem dX0_init_160 : decode cX0_init 160 = .ok (.aload_n 0, 1) := dk_42 (dk_at dksX0_init_6 20 rfl rfl)
theorem dX0_init_161 : decode cX0_init 161 = .ok (.bipush 16, 2) := dk_16 16 (dk_at dksX0_init_6 21 rfl rfl)
theorem dX0_init_163 : decode cX0_init 163 = .ok (.newarray .int, 2) := dk_188_10 (dk_at dksX0_init_7 0 rfl rfl)
theorem dX0_init_165 : decode cX0_init 165 = .ok (.putfield 86, 3) := dk_181 0 86 (dk_at dksX0_init_7 2 rfl rfl)
theorem dX0_init_168 : decode cX0_init 168 = .ok (.aload_n 0, 1) := dk_42 (dk_at dksX0_init_7 5 rfl rfl)
theorem dX0_init_169 : decode cX0_init 169 = .ok (.bipush 16, 2) := dk_16 16 (dk_at dksX0_init_7 6 rfl rfl)
theorem dX0_init_171 : decode cX0_init 171 = .ok (.newarray .int, 2) := dk_188_10 (dk_at dksX0_init_7 8 rfl rfl)
theorem dX0_init_173 : decode cX0_init 173 = .ok (.putfield 89, 3) := dk_181 0 89 (dk_at dksX0_init_7 10 rfl rfl)
theorem dX0_init_176 : decode cX0_init 176 = .ok (.aload_n 0, 1) := dk_42 (dk_at dksX0_init_7 13 rfl rfl)
theorem dX0_init_177 : decode cX0_init 177 = .ok (.bipush 16, 2) := dk_16 16 (dk_at dksX0_init_7 14 rfl rfl)
theorem dX0_init_179 : decode cX0_init 179 = .ok (.newarray .int, 2) := dk_188_10 (dk_at dksX0_init_7 16 rfl rfl)
theorem dX0_init_181 : decode cX0_init 181 = .ok (.putfield 92, 3) := dk_181 0 92 (dk_at dksX0_init_7 18 rfl rfl)
theorem dX0_init_184 : decode cX0_init 184 = .ok (.aload_n 0, 1) := dk_42 (dk_at dksX0_init_7 21 rfl rfl)
theorem dX0_init_185 : decode cX0_init 185 = .ok (.iconst 5, 1) := dk_8 (dk_at dksX0_init_7 22 rfl rfl)
theorem dX0_init_186 : decode cX0_init 186 = .ok (.newarray .int, 2) := dk_188_10 (dk_at dksX0_init_8 0 rfl rfl)
theorem dX0_init_188 : decode cX0_init 188 = .ok (.putfield 95, 3) := dk_181 0 95 (dk_at dksX0_init_8 2 rfl rfl)
theorem dX0_init_191 : decode cX0_init 191 = .ok (.aload_n 0, 1) := dk_42 (dk_at dksX0_init_8 5 rfl rfl)
theorem dX0_init_192 : decode cX0_init 192 = .ok (.iconst 3, 1) := dk_6 (dk_at dksX0_init_8 6 rfl rfl)
theorem dX0_init_193 : decode cX0_init 193 = .ok (.newarray .int, 2) := dk_188_10 (dk_at dksX0_init_8 7 rfl rfl)
theorem dX0_init_195 : decode cX0_init 195 = .ok (.putfield 98, 3) := dk_181 0 98 (dk_at dksX0_init_8 9 rfl rfl)
theorem dX0_init_198 : decode cX0_init 198 = .ok (.aload_n 0, 1) := dk_42 (dk_at dksX0_init_8 12 rfl rfl)
theorem dX0_init_199 : decode cX0_init 199 = .ok (.new 101, 3) := dk_187 0 101 (dk_at dksX0_init_8 13 rfl rfl)
theorem dX0_init_202 : decode cX0_init 202 = .ok (.dup, 1) := dk_89 (dk_at dksX0_init_8 16 rfl rfl)
theorem dX0_init_203 : decode cX0_init 203 = .ok (.aload_n 0, 1) := dk_42 (dk_at dksX0_init_8 17 rfl rfl)
theorem dX0_init_204 : decode cX0_init 204 = .ok (.invokespecial 103, 3) := dk_183 0 103 (dk_at dksX0_init_8 18 rfl rfl)
theorem dX0_init_207 : decode cX0_init 207 = .ok (.putfield 104, 3) := dk_181 0 104 (dk_at dksX0_init_8 21 rfl rfl)
theorem dX0_init_210 : decode cX0_init 210 = .ok (.aload_n 0, 1) := dk_42 (dk_at dksX0_init_9 0 rfl rfl)
theorem dX0_init_211 : decode cX0_init 211 = .ok (.new 108, 3) := dk_187 0 108 (dk_at dksX0_init_9 1 rfl rfl)
theorem dX0_init_214 : decode cX0_init 214 = .ok (.dup, 1) := dk_89 (dk_at dksX0_init_9 4 rfl rfl)
theorem dX0_init_215 : decode cX0_init 215 = .ok (.invokespecial 110, 3) := dk_183 0 110 (dk_at dksX0_init_9 5 rfl rfl)
theorem dX0_init_218 : decode cX0_init 218 = .ok (.putfield 111, 3) := dk_181 0 111 (dk_at dksX0_init_9 8 rfl rfl)
theorem dX0_init_221 : decode cX0_init 221 = .ok (.aload_n 0, 1) := dk_42 (dk_at dksX0_init_9 11 rfl rfl)
theorem dX0_init_222 : decode cX0_init 222 = .ok (.sipush 250, 3) := dk_17 0 250 (dk_at dksX0_init_9 12 rfl rfl)
theorem dX0_init_225 : decode cX0_init 225 = .ok (.newarray .int, 2) := dk_188_10 (dk_at dksX0_init_9 15 rfl rfl)
theorem dX0_init_227 : decode cX0_init 227 = .ok (.putfield 115, 3) := dk_181 0 115 (dk_at dksX0_init_9 17 rfl rfl)
theorem dX0_init_230 : decode cX0_init 230 = .ok (.iconst 0, 1) := dk_3 (dk_at dksX0_init_9 20 rfl rfl)
theorem dX0_init_231 : decode cX0_init 231 = .ok (.istore_n 1, 1) := dk_60 (dk_at dksX0_init_9 21 rfl rfl)
theorem dX0_init_232 : decode cX0_init 232 = .ok (.iload_n 1, 1) := dk_27 (dk_at dksX0_init_9 22 rfl rfl)
theorem dX0_init_233 : decode cX0_init 233 = .ok (.bipush 14, 2) := dk_16 14 (dk_at dksX0_init_10 0 rfl rfl)
theorem dX0_init_235 : decode cX0_init 235 = .ok (.if_icmp .ge 16, 3) := dk_162 0 16 (dk_at dksX0_init_10 2 rfl rfl)
theorem dX0_init_238 : decode cX0_init 238 = .ok (.aload_n 0, 1) := dk_42 (dk_at dksX0_init_10 5 rfl rfl)
theorem dX0_init_239 : decode cX0_init 239 = .ok (.getfield 22, 3) := dk_180 0 22 (dk_at dksX0_init_10 6 rfl rfl)
theorem dX0_init_242 : decode cX0_init 242 = .ok (.iload_n 1, 1) := dk_27 (dk_at dksX0_init_10 9 rfl rfl)
theorem dX0_init_243 : decode cX0_init 243 = .ok (.iconst (-1), 1) := dk_2 (dk_at dksX0_init_10 10 rfl rfl)
theorem dX0_init_244 : decode cX0_init 244 = .ok (.iastore, 1) := dk_79 (dk_at dksX0_init_10 11 rfl rfl)
theorem dX0_init_245 : decode cX0_init 245 = .ok (.iinc 1 1, 3) := dk_132 1 1 (dk_at dksX0_init_10 12 rfl rfl)
theorem dX0_init_248 : decode cX0_init 248 = .ok (.goto (-16), 3) := dk_167 255 240 (dk_at dksX0_init_10 15 rfl rfl)
theorem dX0_init_251 : decode cX0_init 251 = .ok (.return_, 1) := dk_177 (dk_at dksX0_init_10 18 rfl rfl)
abbrev cX0_feed : ByteArray := prog_1_method_8_code
def yX0_feed : MethodName := ⟨RX0, "feed", "(IIIII)I"⟩
def dkwX0_feed_2 : List UInt8 := [180, 0, 68, 180, 0, 135, 172]
abbrev dktX0_feed_2 : List UInt8 := dkwX0_feed_2 ++ []
def dkwX0_feed_1 : List UInt8 := [28, 182, 0, 138, 42, 29, 182, 0, 138, 42, 21, 4, 182, 0, 138, 42, 21, 5, 182, 0, 138, 42]
abbrev dktX0_feed_1 : List UInt8 := dkwX0_feed_1 ++ dktX0_feed_2
def dkwX0_feed_0 : List UInt8 := [42, 180, 0, 68, 180, 0, 135, 16, 20, 96, 17, 1, 244, 164, 0, 5, 2, 172, 42, 27, 182, 0, 138, 42]
abbrev dktX0_feed_0 : List UInt8 := dkwX0_feed_0 ++ dktX0_feed_1
theorem dksX0_feed_0 : cX0_feed.data.toList.drop 0 = dktX0_feed_0 := by decide +kernel
theorem dksX0_feed_1 : cX0_feed.data.toList.drop 24 = dktX0_feed_1 := dk_seg dksX0_feed_0 24 rfl rfl
theorem dksX0_feed_2 : cX0_feed.data.toList.drop 46 = dktX0_feed_2 := dk_seg dksX0_feed_1 22 rfl rfl
theorem dX0_feed_0 : decode cX0_feed 0 = .ok (.aload_n 0, 1) := dk_42 (dk_at dksX0_feed_0 0 rfl rfl)
theorem dX0_feed_1 : decode cX0_feed 1 = .ok (.getfield 68, 3) := dk_180 0 68 (dk_at dksX0_feed_0 1 rfl rfl)
theorem dX0_feed_4 : decode cX0_feed 4 = .ok (.getfield 135, 3) := dk_180 0 135 (dk_at dksX0_feed_0 4 rfl rfl)
theorem dX0_feed_7 : decode cX0_feed 7 = .ok (.bipush 20, 2) := dk_16 20 (dk_at dksX0_feed_0 7 rfl rfl)
theorem dX0_feed_9 : decode cX0_feed 9 = .ok (.iadd, 1) := dk_96 (dk_at dksX0_feed_0 9 rfl rfl)
theorem dX0_feed_10 : decode cX0_feed 10 = .ok (.sipush 500, 3) := dk_17 1 244 (dk_at dksX0_feed_0 10 rfl rfl)
theorem dX0_feed_13 : decode cX0_feed 13 = .ok (.if_icmp .le 5, 3) := dk_164 0 5 (dk_at dksX0_feed_0 13 rfl rfl)
theorem dX0_feed_16 : decode cX0_feed 16 = .ok (.iconst (-1), 1) := dk_2 (dk_at dksX0_feed_0 16 rfl rfl)
theorem dX0_feed_17 : decode cX0_feed 17 = .ok (.ireturn, 1) := dk_172 (dk_at dksX0_feed_0 17 rfl rfl)
theorem dX0_feed_18 : decode cX0_feed 18 = .ok (.aload_n 0, 1) := dk_42 (dk_at dksX0_feed_0 18 rfl rfl)
theorem dX0_feed_19 : decode cX0_feed 19 = .ok (.iload_n 1, 1) := dk_27 (dk_at dksX0_feed_0 19 rfl rfl)
theorem dX0_feed_20 : decode cX0_feed 20 = .ok (.invokevirtual 138, 3) := dk_182 0 138 (dk_at dksX0_feed_0 20 rfl rfl)
theorem dX0_feed_23 : decode cX0_feed 23 = .ok (.aload_n 0, 1) := dk_42 (dk_at dksX0_feed_0 23 rfl rfl)
theorem dX0_feed_24 : decode cX0_feed 24 = .ok (.iload_n 2, 1) := dk_28 (dk_at dksX0_feed_1 0 rfl rfl)
theorem dX0_feed_25 : decode cX0_feed 25 = .ok (.invokevirtual 138, 3) := dk_182 0 138 (dk_at dksX0_feed_1 1 rfl rfl)
theorem dX0_feed_28 : decode cX0_feed 28 = .ok (.aload_n 0, 1) := dk_42 (dk_at dksX0_feed_1 4 rfl rfl)
theorem dX0_feed_29 : decode cX0_feed 29 = .ok (.iload_n 3, 1) := dk_29 (dk_at dksX0_feed_1 5 rfl rfl)
theorem dX0_feed_30 : decode cX0_feed 30 = .ok (.invokevirtual 138, 3) := dk_182 0 138 (dk_at dksX0_feed_1 6 rfl rfl)
theorem dX0_feed_33 : decode cX0_feed 33 = .ok (.aload_n 0, 1) := dk_42 (dk_at dksX0_feed_1 9 rfl rfl)
theorem dX0_feed_34 : decode cX0_feed 34 = .ok (.iload 4, 2) := dk_21 4 (dk_at dksX0_feed_1 10 rfl rfl)
theorem dX0_feed_36 : decode cX0_feed 36 = .ok (.invokevirtual 138, 3) := dk_182 0 138 (dk_at dksX0_feed_1 12 rfl rfl)
theorem dX0_feed_39 : decode cX0_feed 39 = .ok (.aload_n 0, 1) := dk_42 (dk_at dksX0_feed_1 15 rfl rfl)
theorem dX0_feed_40 : decode cX0_feed 40 = .ok (.iload 5, 2) := dk_21 5 (dk_at dksX0_feed_1 16 rfl rfl)
theorem dX0_feed_42 : decode cX0_feed 42 = .ok (.invokevirtual 138, 3) := dk_182 0 138 (dk_at dksX0_feed_1 18 rfl rfl)
theorem dX0_feed_45 : decode cX0_feed 45 = .ok (.aload_n 0, 1) := dk_42 (dk_at dksX0_feed_1 21 rfl rfl)
theorem dX0_feed_46 : decode cX0_feed 46 = .ok (.getfield 68, 3) := dk_180 0 68 (dk_at dksX0_feed_2 0 rfl rfl)
theorem dX0_feed_49 : decode cX0_feed 49 = .ok (.getfield 135, 3) := dk_180 0 135 (dk_at dksX0_feed_2 3 rfl rfl)
theorem dX0_feed_52 : decode cX0_feed 52 = .ok (.ireturn, 1) := dk_172 (dk_at dksX0_feed_2 6 rfl rfl)
abbrev cX0_four : ByteArray := prog_1_method_9_code
def yX0_four : MethodName := ⟨RX0, "four", "(I)V"⟩
def dkwX0_four_1 : List UInt8 := [145, 84, 42, 180, 0, 68, 89, 180, 0, 135, 4, 96, 181, 0, 135, 132, 2, 248, 167, 255, 217, 177]
abbrev dktX0_four_1 : List UInt8 := dkwX0_four_1 ++ []
def dkwX0_four_0 : List UInt8 := [16, 24, 61, 28, 155, 0, 41, 42, 180, 0, 68, 180, 0, 142, 42, 180, 0, 68, 180, 0, 135, 27, 28, 122]
abbrev dktX0_four_0 : List UInt8 := dkwX0_four_0 ++ dktX0_four_1
theorem dksX0_four_0 : cX0_four.data.toList.drop 0 = dktX0_four_0 := by decide +kernel
theorem dksX0_four_1 : cX0_four.data.toList.drop 24 = dktX0_four_1 := dk_seg dksX0_four_0 24 rfl rfl
theorem dX0_four_0 : decode cX0_four 0 = .ok (.bipush 24, 2) := dk_16 24 (dk_at dksX0_four_0 0 rfl rfl)
theorem dX0_four_2 : decode cX0_four 2 = .ok (.istore_n 2, 1) := dk_61 (dk_at dksX0_four_0 2 rfl rfl)
theorem dX0_four_3 : decode cX0_four 3 = .ok (.iload_n 2, 1) := dk_28 (dk_at dksX0_four_0 3 rfl rfl)
theorem dX0_four_4 : decode cX0_four 4 = .ok (.ifCond .lt 41, 3) := dk_155 0 41 (dk_at dksX0_four_0 4 rfl rfl)
theorem dX0_four_7 : decode cX0_four 7 = .ok (.aload_n 0, 1) := dk_42 (dk_at dksX0_four_0 7 rfl rfl)
theorem dX0_four_8 : decode cX0_four 8 = .ok (.getfield 68, 3) := dk_180 0 68 (dk_at dksX0_four_0 8 rfl rfl)
theorem dX0_four_11 : decode cX0_four 11 = .ok (.getfield 142, 3) := dk_180 0 142 (dk_at dksX0_four_0 11 rfl rfl)
theorem dX0_four_14 : decode cX0_four 14 = .ok (.aload_n 0, 1) := dk_42 (dk_at dksX0_four_0 14 rfl rfl)
theorem dX0_four_15 : decode cX0_four 15 = .ok (.getfield 68, 3) := dk_180 0 68 (dk_at dksX0_four_0 15 rfl rfl)
theorem dX0_four_18 : decode cX0_four 18 = .ok (.getfield 135, 3) := dk_180 0 135 (dk_at dksX0_four_0 18 rfl rfl)
theorem dX0_four_21 : decode cX0_four 21 = .ok (.iload_n 1, 1) := dk_27 (dk_at dksX0_four_0 21 rfl rfl)
theorem dX0_four_22 : decode cX0_four 22 = .ok (.iload_n 2, 1) := dk_28 (dk_at dksX0_four_0 22 rfl rfl)
theorem dX0_four_23 : decode cX0_four 23 = .ok (.ishr, 1) := dk_122 (dk_at dksX0_four_0 23 rfl rfl)
theorem dX0_four_24 : decode cX0_four 24 = .ok (.i2b, 1) := dk_145 (dk_at dksX0_four_1 0 rfl rfl)
theorem dX0_four_25 : decode cX0_four 25 = .ok (.bastore, 1) := dk_84 (dk_at dksX0_four_1 1 rfl rfl)
theorem dX0_four_26 : decode cX0_four 26 = .ok (.aload_n 0, 1) := dk_42 (dk_at dksX0_four_1 2 rfl rfl)
theorem dX0_four_27 : decode cX0_four 27 = .ok (.getfield 68, 3) := dk_180 0 68 (dk_at dksX0_four_1 3 rfl rfl)
theorem dX0_four_30 : decode cX0_four 30 = .ok (.dup, 1) := dk_89 (dk_at dksX0_four_1 6 rfl rfl)
theorem dX0_four_31 : decode cX0_four 31 = .ok (.getfield 135, 3) := dk_180 0 135 (dk_at dksX0_four_1 7 rfl rfl)
theorem dX0_four_34 : decode cX0_four 34 = .ok (.iconst 1, 1) := dk_4 (dk_at dksX0_four_1 10 rfl rfl)
theorem dX0_four_35 : decode cX0_four 35 = .ok (.iadd, 1) := dk_96 (dk_at dksX0_four_1 11 rfl rfl)
theorem dX0_four_36 : decode cX0_four 36 = .ok (.putfield 135, 3) := dk_181 0 135 (dk_at dksX0_four_1 12 rfl rfl)
theorem dX0_four_39 : decode cX0_four 39 = .ok (.iinc 2 (-8), 3) := dk_132 2 248 (dk_at dksX0_four_1 15 rfl rfl)
theorem dX0_four_42 : decode cX0_four 42 = .ok (.goto (-39), 3) := dk_167 255 217 (dk_at dksX0_four_1 18 rfl rfl)
theorem dX0_four_45 : decode cX0_four 45 = .ok (.return_, 1) := dk_177 (dk_at dksX0_four_1 21 rfl rfl)
abbrev cX0_end : ByteArray := prog_1_method_10_code
def yX0_end : MethodName := ⟨RX0, "end", "(I)I"⟩
def dkwX0_end_1 : List UInt8 := [181, 0, 135, 27, 172]
abbrev dktX0_end_1 : List UInt8 := dkwX0_end_1 ++ []
def dkwX0_end_0 : List UInt8 := [27, 3, 42, 180, 0, 68, 180, 0, 135, 184, 0, 3, 154, 0, 5, 2, 172, 42, 180, 0, 68, 27]
abbrev dktX0_end_0 : List UInt8 := dkwX0_end_0 ++ dktX0_end_1
theorem dksX0_end_0 : cX0_end.data.toList.drop 0 = dktX0_end_0 := by decide +kernel
theorem dksX0_end_1 : cX0_end.data.toList.drop 22 = dktX0_end_1 := dk_seg dksX0_end_0 22 rfl rfl
theorem dX0_end_0 : decode cX0_end 0 = .ok (.iload_n 1, 1) := dk_27 (dk_at dksX0_end_0 0 rfl rfl)
theorem dX0_end_1 : decode cX0_end 1 = .ok (.iconst 0, 1) := dk_3 (dk_at dksX0_end_0 1 rfl rfl)
theorem dX0_end_2 : decode cX0_end 2 = .ok (.aload_n 0, 1) := dk_42 (dk_at dksX0_end_0 2 rfl rfl)
theorem dX0_end_3 : decode cX0_end 3 = .ok (.getfield 68, 3) := dk_180 0 68 (dk_at dksX0_end_0 3 rfl rfl)
theorem dX0_end_6 : decode cX0_end 6 = .ok (.getfield 135, 3) := dk_180 0 135 (dk_at dksX0_end_0 6 rfl rfl)
theorem dX0_end_9 : decode cX0_end 9 = .ok (.invokestatic 3, 3) := dk_184 0 3 (dk_at dksX0_end_0 9 rfl rfl)
theorem dX0_end_12 : decode cX0_end 12 = .ok (.ifCond .ne 5, 3) := dk_154 0 5 (dk_at dksX0_end_0 12 rfl rfl)
theorem dX0_end_15 : decode cX0_end 15 = .ok (.iconst (-1), 1) := dk_2 (dk_at dksX0_end_0 15 rfl rfl)
theorem dX0_end_16 : decode cX0_end 16 = .ok (.ireturn, 1) := dk_172 (dk_at dksX0_end_0 16 rfl rfl)
theorem dX0_end_17 : decode cX0_end 17 = .ok (.aload_n 0, 1) := dk_42 (dk_at dksX0_end_0 17 rfl rfl)
theorem dX0_end_18 : decode cX0_end 18 = .ok (.getfield 68, 3) := dk_180 0 68 (dk_at dksX0_end_0 18 rfl rfl)
theorem dX0_end_21 : decode cX0_end 21 = .ok (.iload_n 1, 1) := dk_27 (dk_at dksX0_end_0 21 rfl rfl)
theorem dX0_end_22 : decode cX0_end 22 = .ok (.putfield 135, 3) := dk_181 0 135 (dk_at dksX0_end_1 0 rfl rfl)
theorem dX0_end_25 : decode cX0_end 25 = .ok (.iload_n 1, 1) := dk_27 (dk_at dksX0_end_1 3 rfl rfl)
theorem dX0_end_26 : decode cX0_end 26 = .ok (.ireturn, 1) := dk_172 (dk_at dksX0_end_1 4 rfl rfl)
abbrev cX0_in : ByteArray := prog_1_method_1_code
def yX0_in : MethodName := ⟨RX0, "in", "(III)Z"⟩
def dkwX0_in_0 : List UInt8 := [26, 27, 161, 0, 12, 26, 28, 163, 0, 7, 4, 167, 0, 4, 3, 172]
abbrev dktX0_in_0 : List UInt8 := dkwX0_in_0 ++ []
theorem dksX0_in_0 : cX0_in.data.toList.drop 0 = dktX0_in_0 := by decide +kernel
theorem dX0_in_0 : decode cX0_in 0 = .ok (.iload_n 0, 1) := dk_26 (dk_at dksX0_in_0 0 rfl rfl)
theorem dX0_in_1 : decode cX0_in 1 = .ok (.iload_n 1, 1) := dk_27 (dk_at dksX0_in_0 1 rfl rfl)
theorem dX0_in_2 : decode cX0_in 2 = .ok (.if_icmp .lt 12, 3) := dk_161 0 12 (dk_at dksX0_in_0 2 rfl rfl)
theorem dX0_in_5 : decode cX0_in 5 = .ok (.iload_n 0, 1) := dk_26 (dk_at dksX0_in_0 5 rfl rfl)
theorem dX0_in_6 : decode cX0_in 6 = .ok (.iload_n 2, 1) := dk_28 (dk_at dksX0_in_0 6 rfl rfl)
theorem dX0_in_7 : decode cX0_in 7 = .ok (.if_icmp .gt 7, 3) := dk_163 0 7 (dk_at dksX0_in_0 7 rfl rfl)
theorem dX0_in_10 : decode cX0_in 10 = .ok (.iconst 1, 1) := dk_4 (dk_at dksX0_in_0 10 rfl rfl)
theorem dX0_in_11 : decode cX0_in 11 = .ok (.goto 4, 3) := dk_167 0 4 (dk_at dksX0_in_0 11 rfl rfl)
theorem dX0_in_14 : decode cX0_in 14 = .ok (.iconst 0, 1) := dk_3 (dk_at dksX0_in_0 14 rfl rfl)
theorem dX0_in_15 : decode cX0_in 15 = .ok (.ireturn, 1) := dk_172 (dk_at dksX0_in_0 15 rfl rfl)
abbrev cX0_house : ByteArray := prog_1_method_15_code
def yX0_house : MethodName := ⟨RX0, "house", "()I"⟩
def dkwX0_house_3 : List UInt8 := [180, 0, 118, 4, 100, 172]
abbrev dktX0_house_3 : List UInt8 := dkwX0_house_3 ++ []
def dkwX0_house_2 : List UInt8 := [89, 44, 183, 0, 180, 83, 42, 180, 0, 68, 89, 180, 0, 118, 4, 96, 181, 0, 118, 42, 180, 0, 68]
abbrev dktX0_house_2 : List UInt8 := dkwX0_house_2 ++ dktX0_house_3
def dkwX0_house_1 : List UInt8 := [77, 44, 199, 0, 5, 2, 172, 42, 180, 0, 68, 180, 0, 174, 42, 180, 0, 68, 180, 0, 118, 187, 0, 178]
abbrev dktX0_house_1 : List UInt8 := dkwX0_house_1 ++ dktX0_house_2
def dkwX0_house_0 : List UInt8 := [42, 182, 0, 166, 60, 42, 180, 0, 68, 180, 0, 118, 8, 160, 0, 6, 16, 254, 172, 42, 27, 182, 0, 170]
abbrev dktX0_house_0 : List UInt8 := dkwX0_house_0 ++ dktX0_house_1
theorem dksX0_house_0 : cX0_house.data.toList.drop 0 = dktX0_house_0 := by decide +kernel
theorem dksX0_house_1 : cX0_house.data.toList.drop 24 = dktX0_house_1 := dk_seg dksX0_house_0 24 rfl rfl
theorem dksX0_house_2 : cX0_house.data.toList.drop 48 = dktX0_house_2 := dk_seg dksX0_house_1 24 rfl rfl
theorem dksX0_house_3 : cX0_house.data.toList.drop 71 = dktX0_house_3 := dk_seg dksX0_house_2 23 rfl rfl
theorem dX0_house_0 : decode cX0_house 0 = .ok (.aload_n 0, 1) := dk_42 (dk_at dksX0_house_0 0 rfl rfl)
theorem dX0_house_1 : decode cX0_house 1 = .ok (.invokevirtual 166, 3) := dk_182 0 166 (dk_at dksX0_house_0 1 rfl rfl)
theorem dX0_house_4 : decode cX0_house 4 = .ok (.istore_n 1, 1) := dk_60 (dk_at dksX0_house_0 4 rfl rfl)
theorem dX0_house_5 : decode cX0_house 5 = .ok (.aload_n 0, 1) := dk_42 (dk_at dksX0_house_0 5 rfl rfl)
theorem dX0_house_6 : decode cX0_house 6 = .ok (.getfield 68, 3) := dk_180 0 68 (dk_at dksX0_house_0 6 rfl rfl)
theorem dX0_house_9 : decode cX0_house 9 = .ok (.getfield 118, 3) := dk_180 0 118 (dk_at dksX0_house_0 9 rfl rfl)
theorem dX0_house_12 : decode cX0_house 12 = .ok (.iconst 5, 1) := dk_8 (dk_at dksX0_house_0 12 rfl rfl)
theorem dX0_house_13 : decode cX0_house 13 = .ok (.if_icmp .ne 6, 3) := dk_160 0 6 (dk_at dksX0_house_0 13 rfl rfl)
theorem dX0_house_16 : decode cX0_house 16 = .ok (.bipush (-2), 2) := dk_16 254 (dk_at dksX0_house_0 16 rfl rfl)
theorem dX0_house_18 : decode cX0_house 18 = .ok (.ireturn, 1) := dk_172 (dk_at dksX0_house_0 18 rfl rfl)
theorem dX0_house_19 : decode cX0_house 19 = .ok (.aload_n 0, 1) := dk_42 (dk_at dksX0_house_0 19 rfl rfl)
theorem dX0_house_20 : decode cX0_house 20 = .ok (.iload_n 1, 1) := dk_27 (dk_at dksX0_house_0 20 rfl rfl)
theorem dX0_house_21 : decode cX0_house 21 = .ok (.invokevirtual 170, 3) := dk_182 0 170 (dk_at dksX0_house_0 21 rfl rfl)
theorem dX0_house_24 : decode cX0_house 24 = .ok (.astore_n 2, 1) := dk_77 (dk_at dksX0_house_1 0 rfl rfl)
theorem dX0_house_25 : decode cX0_house 25 = .ok (.aload_n 2, 1) := dk_44 (dk_at dksX0_house_1 1 rfl rfl)
theorem dX0_house_26 : decode cX0_house 26 = .ok (.ifnonnull 5, 3) := dk_199 0 5 (dk_at dksX0_house_1 2 rfl rfl)
theorem dX0_house_29 : decode cX0_house 29 = .ok (.iconst (-1), 1) := dk_2 (dk_at dksX0_house_1 5 rfl rfl)
theorem dX0_house_30 : decode cX0_house 30 = .ok (.ireturn, 1) := dk_172 (dk_at dksX0_house_1 6 rfl rfl)
theorem dX0_house_31 : decode cX0_house 31 = .ok (.aload_n 0, 1) := dk_42 (dk_at dksX0_house_1 7 rfl rfl)
theorem dX0_house_32 : decode cX0_house 32 = .ok (.getfield 68, 3) := dk_180 0 68 (dk_at dksX0_house_1 8 rfl rfl)
theorem dX0_house_35 : decode cX0_house 35 = .ok (.getfield 174, 3) := dk_180 0 174 (dk_at dksX0_house_1 11 rfl rfl)
theorem dX0_house_38 : decode cX0_house 38 = .ok (.aload_n 0, 1) := dk_42 (dk_at dksX0_house_1 14 rfl rfl)
theorem dX0_house_39 : decode cX0_house 39 = .ok (.getfield 68, 3) := dk_180 0 68 (dk_at dksX0_house_1 15 rfl rfl)
theorem dX0_house_42 : decode cX0_house 42 = .ok (.getfield 118, 3) := dk_180 0 118 (dk_at dksX0_house_1 18 rfl rfl)
theorem dX0_house_45 : decode cX0_house 45 = .ok (.new 178, 3) := dk_187 0 178 (dk_at dksX0_house_1 21 rfl rfl)
theorem dX0_house_48 : decode cX0_house 48 = .ok (.dup, 1) := dk_89 (dk_at dksX0_house_2 0 rfl rfl)
theorem dX0_house_49 : decode cX0_house 49 = .ok (.aload_n 2, 1) := dk_44 (dk_at dksX0_house_2 1 rfl rfl)
theorem dX0_house_50 : decode cX0_house 50 = .ok (.invokespecial 180, 3) := dk_183 0 180 (dk_at dksX0_house_2 2 rfl rfl)
theorem dX0_house_53 : decode cX0_house 53 = .ok (.aastore, 1) := dk_83 (dk_at dksX0_house_2 5 rfl rfl)
theorem dX0_house_54 : decode cX0_house 54 = .ok (.aload_n 0, 1) := dk_42 (dk_at dksX0_house_2 6 rfl rfl)
theorem dX0_house_55 : decode cX0_house 55 = .ok (.getfield 68, 3) := dk_180 0 68 (dk_at dksX0_house_2 7 rfl rfl)
theorem dX0_house_58 : decode cX0_house 58 = .ok (.dup, 1) := dk_89 (dk_at dksX0_house_2 10 rfl rfl)
theorem dX0_house_59 : decode cX0_house 59 = .ok (.getfield 118, 3) := dk_180 0 118 (dk_at dksX0_house_2 11 rfl rfl)
theorem dX0_house_62 : decode cX0_house 62 = .ok (.iconst 1, 1) := dk_4 (dk_at dksX0_house_2 14 rfl rfl)
theorem dX0_house_63 : decode cX0_house 63 = .ok (.iadd, 1) := dk_96 (dk_at dksX0_house_2 15 rfl rfl)
theorem dX0_house_64 : decode cX0_house 64 = .ok (.putfield 118, 3) := dk_181 0 118 (dk_at dksX0_house_2 16 rfl rfl)
theorem dX0_house_67 : decode cX0_house 67 = .ok (.aload_n 0, 1) := dk_42 (dk_at dksX0_house_2 19 rfl rfl)
theorem dX0_house_68 : decode cX0_house 68 = .ok (.getfield 68, 3) := dk_180 0 68 (dk_at dksX0_house_2 20 rfl rfl)
theorem dX0_house_71 : decode cX0_house 71 = .ok (.getfield 118, 3) := dk_180 0 118 (dk_at dksX0_house_3 0 rfl rfl)
theorem dX0_house_74 : decode cX0_house 74 = .ok (.iconst 1, 1) := dk_4 (dk_at dksX0_house_3 3 rfl rfl)
theorem dX0_house_75 : decode cX0_house 75 = .ok (.isub, 1) := dk_100 (dk_at dksX0_house_3 4 rfl rfl)
theorem dX0_house_76 : decode cX0_house 76 = .ok (.ireturn, 1) := dk_172 (dk_at dksX0_house_3 5 rfl rfl)
abbrev cX0_take : ByteArray := prog_1_method_12_code
def yX0_take : MethodName := ⟨RX0, "take", "()I"⟩
def dkwX0_take_1 : List UInt8 := [172]
abbrev dktX0_take_1 : List UInt8 := dkwX0_take_1 ++ []
def dkwX0_take_0 : List UInt8 := [42, 180, 0, 68, 180, 0, 135, 60, 42, 180, 0, 68, 3, 181, 0, 135, 42, 3, 2, 182, 0, 152, 87, 27]
abbrev dktX0_take_0 : List UInt8 := dkwX0_take_0 ++ dktX0_take_1
theorem dksX0_take_0 : cX0_take.data.toList.drop 0 = dktX0_take_0 := by decide +kernel
theorem dksX0_take_1 : cX0_take.data.toList.drop 24 = dktX0_take_1 := dk_seg dksX0_take_0 24 rfl rfl
theorem dX0_take_0 : decode cX0_take 0 = .ok (.aload_n 0, 1) := dk_42 (dk_at dksX0_take_0 0 rfl rfl)
theorem dX0_take_1 : decode cX0_take 1 = .ok (.getfield 68, 3) := dk_180 0 68 (dk_at dksX0_take_0 1 rfl rfl)
theorem dX0_take_4 : decode cX0_take 4 = .ok (.getfield 135, 3) := dk_180 0 135 (dk_at dksX0_take_0 4 rfl rfl)
theorem dX0_take_7 : decode cX0_take 7 = .ok (.istore_n 1, 1) := dk_60 (dk_at dksX0_take_0 7 rfl rfl)
theorem dX0_take_8 : decode cX0_take 8 = .ok (.aload_n 0, 1) := dk_42 (dk_at dksX0_take_0 8 rfl rfl)
theorem dX0_take_9 : decode cX0_take 9 = .ok (.getfield 68, 3) := dk_180 0 68 (dk_at dksX0_take_0 9 rfl rfl)
theorem dX0_take_12 : decode cX0_take 12 = .ok (.iconst 0, 1) := dk_3 (dk_at dksX0_take_0 12 rfl rfl)
theorem dX0_take_13 : decode cX0_take 13 = .ok (.putfield 135, 3) := dk_181 0 135 (dk_at dksX0_take_0 13 rfl rfl)
theorem dX0_take_16 : decode cX0_take 16 = .ok (.aload_n 0, 1) := dk_42 (dk_at dksX0_take_0 16 rfl rfl)
theorem dX0_take_17 : decode cX0_take 17 = .ok (.iconst 0, 1) := dk_3 (dk_at dksX0_take_0 17 rfl rfl)
theorem dX0_take_18 : decode cX0_take 18 = .ok (.iconst (-1), 1) := dk_2 (dk_at dksX0_take_0 18 rfl rfl)
theorem dX0_take_19 : decode cX0_take 19 = .ok (.invokevirtual 152, 3) := dk_182 0 152 (dk_at dksX0_take_0 19 rfl rfl)
theorem dX0_take_22 : decode cX0_take 22 = .ok (.pop, 1) := dk_87 (dk_at dksX0_take_0 22 rfl rfl)
theorem dX0_take_23 : decode cX0_take 23 = .ok (.iload_n 1, 1) := dk_27 (dk_at dksX0_take_0 23 rfl rfl)
theorem dX0_take_24 : decode cX0_take 24 = .ok (.ireturn, 1) := dk_172 (dk_at dksX0_take_1 0 rfl rfl)
abbrev cX0_fails : ByteArray := prog_1_method_11_code
def yX0_fails : MethodName := ⟨RX0, "fails", "(II)I"⟩
def dkwX0_fails_0 : List UInt8 := [42, 180, 0, 68, 27, 181, 0, 146, 42, 180, 0, 68, 28, 181, 0, 149, 2, 172]
abbrev dktX0_fails_0 : List UInt8 := dkwX0_fails_0 ++ []
theorem dksX0_fails_0 : cX0_fails.data.toList.drop 0 = dktX0_fails_0 := by decide +kernel
theorem dX0_fails_0 : decode cX0_fails 0 = .ok (.aload_n 0, 1) := dk_42 (dk_at dksX0_fails_0 0 rfl rfl)
theorem dX0_fails_1 : decode cX0_fails 1 = .ok (.getfield 68, 3) := dk_180 0 68 (dk_at dksX0_fails_0 1 rfl rfl)
theorem dX0_fails_4 : decode cX0_fails 4 = .ok (.iload_n 1, 1) := dk_27 (dk_at dksX0_fails_0 4 rfl rfl)
theorem dX0_fails_5 : decode cX0_fails 5 = .ok (.putfield 146, 3) := dk_181 0 146 (dk_at dksX0_fails_0 5 rfl rfl)
theorem dX0_fails_8 : decode cX0_fails 8 = .ok (.aload_n 0, 1) := dk_42 (dk_at dksX0_fails_0 8 rfl rfl)
theorem dX0_fails_9 : decode cX0_fails 9 = .ok (.getfield 68, 3) := dk_180 0 68 (dk_at dksX0_fails_0 9 rfl rfl)
theorem dX0_fails_12 : decode cX0_fails 12 = .ok (.iload_n 2, 1) := dk_28 (dk_at dksX0_fails_0 12 rfl rfl)
theorem dX0_fails_13 : decode cX0_fails 13 = .ok (.putfield 149, 3) := dk_181 0 149 (dk_at dksX0_fails_0 13 rfl rfl)
theorem dX0_fails_16 : decode cX0_fails 16 = .ok (.iconst (-1), 1) := dk_2 (dk_at dksX0_fails_0 16 rfl rfl)
theorem dX0_fails_17 : decode cX0_fails 17 = .ok (.ireturn, 1) := dk_172 (dk_at dksX0_fails_0 17 rfl rfl)
abbrev cX0_readName : ByteArray := prog_1_method_14_code
def yX0_readName : MethodName := ⟨RX0, "readName", "(I)[B"⟩
def dkwX0_readName_4 : List UInt8 := [45, 176]
abbrev dktX0_readName_4 : List UInt8 := dkwX0_readName_4 ++ []
def dkwX0_readName_3 : List UInt8 := [182, 0, 152, 87, 1, 176, 27, 188, 8, 78, 42, 180, 0, 68, 180, 0, 142, 3, 45, 3, 27, 184, 0, 160]
abbrev dktX0_readName_3 : List UInt8 := dkwX0_readName_3 ++ dktX0_readName_4
def dkwX0_readName_2 : List UInt8 := [159, 0, 12, 42, 4, 28, 182, 0, 152, 87, 1, 176, 27, 16, 12, 164, 0, 13, 42, 5, 16, 12]
abbrev dktX0_readName_2 : List UInt8 := dkwX0_readName_2 ++ dktX0_readName_3
def dkwX0_readName_1 : List UInt8 := [180, 0, 142, 29, 51, 184, 0, 156, 2, 160, 0, 5, 29, 61, 132, 3, 255, 167, 255, 231, 28, 2]
abbrev dktX0_readName_1 : List UInt8 := dkwX0_readName_1 ++ dktX0_readName_2
def dkwX0_readName_0 : List UInt8 := [27, 154, 0, 7, 3, 167, 0, 4, 2, 61, 27, 4, 100, 62, 29, 155, 0, 27, 42, 180, 0, 68]
abbrev dktX0_readName_0 : List UInt8 := dkwX0_readName_0 ++ dktX0_readName_1
theorem dksX0_readName_0 : cX0_readName.data.toList.drop 0 = dktX0_readName_0 := by decide +kernel
theorem dksX0_readName_1 : cX0_readName.data.toList.drop 22 = dktX0_readName_1 := dk_seg dksX0_readName_0 22 rfl rfl
theorem dksX0_readName_2 : cX0_readName.data.toList.drop 44 = dktX0_readName_2 := dk_seg dksX0_readName_1 22 rfl rfl
theorem dksX0_readName_3 : cX0_readName.data.toList.drop 66 = dktX0_readName_3 := dk_seg dksX0_readName_2 22 rfl rfl
theorem dksX0_readName_4 : cX0_readName.data.toList.drop 90 = dktX0_readName_4 := dk_seg dksX0_readName_3 24 rfl rfl
theorem dX0_readName_0 : decode cX0_readName 0 = .ok (.iload_n 1, 1) := dk_27 (dk_at dksX0_readName_0 0 rfl rfl)
theorem dX0_readName_1 : decode cX0_readName 1 = .ok (.ifCond .ne 7, 3) := dk_154 0 7 (dk_at dksX0_readName_0 1 rfl rfl)
theorem dX0_readName_4 : decode cX0_readName 4 = .ok (.iconst 0, 1) := dk_3 (dk_at dksX0_readName_0 4 rfl rfl)
theorem dX0_readName_5 : decode cX0_readName 5 = .ok (.goto 4, 3) := dk_167 0 4 (dk_at dksX0_readName_0 5 rfl rfl)
theorem dX0_readName_8 : decode cX0_readName 8 = .ok (.iconst (-1), 1) := dk_2 (dk_at dksX0_readName_0 8 rfl rfl)
theorem dX0_readName_9 : decode cX0_readName 9 = .ok (.istore_n 2, 1) := dk_61 (dk_at dksX0_readName_0 9 rfl rfl)
theorem dX0_readName_10 : decode cX0_readName 10 = .ok (.iload_n 1, 1) := dk_27 (dk_at dksX0_readName_0 10 rfl rfl)
theorem dX0_readName_11 : decode cX0_readName 11 = .ok (.iconst 1, 1) := dk_4 (dk_at dksX0_readName_0 11 rfl rfl)
theorem dX0_readName_12 : decode cX0_readName 12 = .ok (.isub, 1) := dk_100 (dk_at dksX0_readName_0 12 rfl rfl)
theorem dX0_readName_13 : decode cX0_readName 13 = .ok (.istore_n 3, 1) := dk_62 (dk_at dksX0_readName_0 13 rfl rfl)
theorem dX0_readName_14 : decode cX0_readName 14 = .ok (.iload_n 3, 1) := dk_29 (dk_at dksX0_readName_0 14 rfl rfl)
theorem dX0_readName_15 : decode cX0_readName 15 = .ok (.ifCond .lt 27, 3) := dk_155 0 27 (dk_at dksX0_readName_0 15 rfl rfl)
theorem dX0_readName_18 : decode cX0_readName 18 = .ok (.aload_n 0, 1) := dk_42 (dk_at dksX0_readName_0 18 rfl rfl)
theorem dX0_readName_19 : decode cX0_readName 19 = .ok (.getfield 68, 3) := dk_180 0 68 (dk_at dksX0_readName_0 19 rfl rfl)
theorem dX0_readName_22 : decode cX0_readName 22 = .ok (.getfield 142, 3) := dk_180 0 142 (dk_at dksX0_readName_1 0 rfl rfl)
theorem dX0_readName_25 : decode cX0_readName 25 = .ok (.iload_n 3, 1) := dk_29 (dk_at dksX0_readName_1 3 rfl rfl)
theorem dX0_readName_26 : decode cX0_readName 26 = .ok (.baload, 1) := dk_51 (dk_at dksX0_readName_1 4 rfl rfl)
theorem dX0_readName_27 : decode cX0_readName 27 = .ok (.invokestatic 156, 3) := dk_184 0 156 (dk_at dksX0_readName_1 5 rfl rfl)
theorem dX0_readName_30 : decode cX0_readName 30 = .ok (.iconst (-1), 1) := dk_2 (dk_at dksX0_readName_1 8 rfl rfl)
theorem dX0_readName_31 : decode cX0_readName 31 = .ok (.if_icmp .ne 5, 3) := dk_160 0 5 (dk_at dksX0_readName_1 9 rfl rfl)
theorem dX0_readName_34 : decode cX0_readName 34 = .ok (.iload_n 3, 1) := dk_29 (dk_at dksX0_readName_1 12 rfl rfl)
theorem dX0_readName_35 : decode cX0_readName 35 = .ok (.istore_n 2, 1) := dk_61 (dk_at dksX0_readName_1 13 rfl rfl)
theorem dX0_readName_36 : decode cX0_readName 36 = .ok (.iinc 3 (-1), 3) := dk_132 3 255 (dk_at dksX0_readName_1 14 rfl rfl)
theorem dX0_readName_39 : decode cX0_readName 39 = .ok (.goto (-25), 3) := dk_167 255 231 (dk_at dksX0_readName_1 17 rfl rfl)
theorem dX0_readName_42 : decode cX0_readName 42 = .ok (.iload_n 2, 1) := dk_28 (dk_at dksX0_readName_1 20 rfl rfl)
theorem dX0_readName_43 : decode cX0_readName 43 = .ok (.iconst (-1), 1) := dk_2 (dk_at dksX0_readName_1 21 rfl rfl)
theorem dX0_readName_44 : decode cX0_readName 44 = .ok (.if_icmp .eq 12, 3) := dk_159 0 12 (dk_at dksX0_readName_2 0 rfl rfl)
theorem dX0_readName_47 : decode cX0_readName 47 = .ok (.aload_n 0, 1) := dk_42 (dk_at dksX0_readName_2 3 rfl rfl)
theorem dX0_readName_48 : decode cX0_readName 48 = .ok (.iconst 1, 1) := dk_4 (dk_at dksX0_readName_2 4 rfl rfl)
theorem dX0_readName_49 : decode cX0_readName 49 = .ok (.iload_n 2, 1) := dk_28 (dk_at dksX0_readName_2 5 rfl rfl)
theorem dX0_readName_50 : decode cX0_readName 50 = .ok (.invokevirtual 152, 3) := dk_182 0 152 (dk_at dksX0_readName_2 6 rfl rfl)
theorem dX0_readName_53 : decode cX0_readName 53 = .ok (.pop, 1) := dk_87 (dk_at dksX0_readName_2 9 rfl rfl)
theorem dX0_readName_54 : decode cX0_readName 54 = .ok (.aconst_null, 1) := dk_1 (dk_at dksX0_readName_2 10 rfl rfl)
theorem dX0_readName_55 : decode cX0_readName 55 = .ok (.areturn, 1) := dk_176 (dk_at dksX0_readName_2 11 rfl rfl)
theorem dX0_readName_56 : decode cX0_readName 56 = .ok (.iload_n 1, 1) := dk_27 (dk_at dksX0_readName_2 12 rfl rfl)
theorem dX0_readName_57 : decode cX0_readName 57 = .ok (.bipush 12, 2) := dk_16 12 (dk_at dksX0_readName_2 13 rfl rfl)
theorem dX0_readName_59 : decode cX0_readName 59 = .ok (.if_icmp .le 13, 3) := dk_164 0 13 (dk_at dksX0_readName_2 15 rfl rfl)
theorem dX0_readName_62 : decode cX0_readName 62 = .ok (.aload_n 0, 1) := dk_42 (dk_at dksX0_readName_2 18 rfl rfl)
theorem dX0_readName_63 : decode cX0_readName 63 = .ok (.iconst 2, 1) := dk_5 (dk_at dksX0_readName_2 19 rfl rfl)
theorem dX0_readName_64 : decode cX0_readName 64 = .ok (.bipush 12, 2) := dk_16 12 (dk_at dksX0_readName_2 20 rfl rfl)
theorem dX0_readName_66 : decode cX0_readName 66 = .ok (.invokevirtual 152, 3) := dk_182 0 152 (dk_at dksX0_readName_3 0 rfl rfl)
theorem dX0_readName_69 : decode cX0_readName 69 = .ok (.pop, 1) := dk_87 (dk_at dksX0_readName_3 3 rfl rfl)
theorem dX0_readName_70 : decode cX0_readName 70 = .ok (.aconst_null, 1) := dk_1 (dk_at dksX0_readName_3 4 rfl rfl)
theorem dX0_readName_71 : decode cX0_readName 71 = .ok (.areturn, 1) := dk_176 (dk_at dksX0_readName_3 5 rfl rfl)
theorem dX0_readName_72 : decode cX0_readName 72 = .ok (.iload_n 1, 1) := dk_27 (dk_at dksX0_readName_3 6 rfl rfl)
theorem dX0_readName_73 : decode cX0_readName 73 = .ok (.newarray .byte, 2) := dk_188_8 (dk_at dksX0_readName_3 7 rfl rfl)
theorem dX0_readName_75 : decode cX0_readName 75 = .ok (.astore_n 3, 1) := dk_78 (dk_at dksX0_readName_3 9 rfl rfl)
theorem dX0_readName_76 : decode cX0_readName 76 = .ok (.aload_n 0, 1) := dk_42 (dk_at dksX0_readName_3 10 rfl rfl)
theorem dX0_readName_77 : decode cX0_readName 77 = .ok (.getfield 68, 3) := dk_180 0 68 (dk_at dksX0_readName_3 11 rfl rfl)
theorem dX0_readName_80 : decode cX0_readName 80 = .ok (.getfield 142, 3) := dk_180 0 142 (dk_at dksX0_readName_3 14 rfl rfl)
theorem dX0_readName_83 : decode cX0_readName 83 = .ok (.iconst 0, 1) := dk_3 (dk_at dksX0_readName_3 17 rfl rfl)
theorem dX0_readName_84 : decode cX0_readName 84 = .ok (.aload_n 3, 1) := dk_45 (dk_at dksX0_readName_3 18 rfl rfl)
theorem dX0_readName_85 : decode cX0_readName 85 = .ok (.iconst 0, 1) := dk_3 (dk_at dksX0_readName_3 19 rfl rfl)
theorem dX0_readName_86 : decode cX0_readName 86 = .ok (.iload_n 1, 1) := dk_27 (dk_at dksX0_readName_3 20 rfl rfl)
theorem dX0_readName_87 : decode cX0_readName 87 = .ok (.invokestatic 160, 3) := dk_184 0 160 (dk_at dksX0_readName_3 21 rfl rfl)
theorem dX0_readName_90 : decode cX0_readName 90 = .ok (.aload_n 3, 1) := dk_45 (dk_at dksX0_readName_4 0 rfl rfl)
theorem dX0_readName_91 : decode cX0_readName 91 = .ok (.areturn, 1) := dk_176 (dk_at dksX0_readName_4 1 rfl rfl)
abbrev cX0_sign : ByteArray := prog_1_method_13_code
def yX0_sign : MethodName := ⟨RX0, "sign", "(I)I"⟩
def dkwX0_sign_1 : List UInt8 := [184, 0, 3, 153, 0, 13, 26, 16, 48, 100, 16, 26, 96, 167, 0, 4, 2, 172]
abbrev dktX0_sign_1 : List UInt8 := dkwX0_sign_1 ++ []
def dkwX0_sign_0 : List UInt8 := [26, 16, 97, 16, 122, 184, 0, 3, 153, 0, 10, 26, 16, 97, 100, 167, 0, 25, 26, 16, 48, 16, 57]
abbrev dktX0_sign_0 : List UInt8 := dkwX0_sign_0 ++ dktX0_sign_1
theorem dksX0_sign_0 : cX0_sign.data.toList.drop 0 = dktX0_sign_0 := by decide +kernel
theorem dksX0_sign_1 : cX0_sign.data.toList.drop 23 = dktX0_sign_1 := dk_seg dksX0_sign_0 23 rfl rfl
theorem dX0_sign_0 : decode cX0_sign 0 = .ok (.iload_n 0, 1) := dk_26 (dk_at dksX0_sign_0 0 rfl rfl)
theorem dX0_sign_1 : decode cX0_sign 1 = .ok (.bipush 97, 2) := dk_16 97 (dk_at dksX0_sign_0 1 rfl rfl)
theorem dX0_sign_3 : decode cX0_sign 3 = .ok (.bipush 122, 2) := dk_16 122 (dk_at dksX0_sign_0 3 rfl rfl)
theorem dX0_sign_5 : decode cX0_sign 5 = .ok (.invokestatic 3, 3) := dk_184 0 3 (dk_at dksX0_sign_0 5 rfl rfl)
theorem dX0_sign_8 : decode cX0_sign 8 = .ok (.ifCond .eq 10, 3) := dk_153 0 10 (dk_at dksX0_sign_0 8 rfl rfl)
theorem dX0_sign_11 : decode cX0_sign 11 = .ok (.iload_n 0, 1) := dk_26 (dk_at dksX0_sign_0 11 rfl rfl)
theorem dX0_sign_12 : decode cX0_sign 12 = .ok (.bipush 97, 2) := dk_16 97 (dk_at dksX0_sign_0 12 rfl rfl)
theorem dX0_sign_14 : decode cX0_sign 14 = .ok (.isub, 1) := dk_100 (dk_at dksX0_sign_0 14 rfl rfl)
theorem dX0_sign_15 : decode cX0_sign 15 = .ok (.goto 25, 3) := dk_167 0 25 (dk_at dksX0_sign_0 15 rfl rfl)
theorem dX0_sign_18 : decode cX0_sign 18 = .ok (.iload_n 0, 1) := dk_26 (dk_at dksX0_sign_0 18 rfl rfl)
theorem dX0_sign_19 : decode cX0_sign 19 = .ok (.bipush 48, 2) := dk_16 48 (dk_at dksX0_sign_0 19 rfl rfl)
theorem dX0_sign_21 : decode cX0_sign 21 = .ok (.bipush 57, 2) := dk_16 57 (dk_at dksX0_sign_0 21 rfl rfl)
theorem dX0_sign_23 : decode cX0_sign 23 = .ok (.invokestatic 3, 3) := dk_184 0 3 (dk_at dksX0_sign_1 0 rfl rfl)
theorem dX0_sign_26 : decode cX0_sign 26 = .ok (.ifCond .eq 13, 3) := dk_153 0 13 (dk_at dksX0_sign_1 3 rfl rfl)
theorem dX0_sign_29 : decode cX0_sign 29 = .ok (.iload_n 0, 1) := dk_26 (dk_at dksX0_sign_1 6 rfl rfl)
theorem dX0_sign_30 : decode cX0_sign 30 = .ok (.bipush 48, 2) := dk_16 48 (dk_at dksX0_sign_1 7 rfl rfl)
theorem dX0_sign_32 : decode cX0_sign 32 = .ok (.isub, 1) := dk_100 (dk_at dksX0_sign_1 9 rfl rfl)
theorem dX0_sign_33 : decode cX0_sign 33 = .ok (.bipush 26, 2) := dk_16 26 (dk_at dksX0_sign_1 10 rfl rfl)
theorem dX0_sign_35 : decode cX0_sign 35 = .ok (.iadd, 1) := dk_96 (dk_at dksX0_sign_1 12 rfl rfl)
theorem dX0_sign_36 : decode cX0_sign 36 = .ok (.goto 4, 3) := dk_167 0 4 (dk_at dksX0_sign_1 13 rfl rfl)
theorem dX0_sign_39 : decode cX0_sign 39 = .ok (.iconst (-1), 1) := dk_2 (dk_at dksX0_sign_1 16 rfl rfl)
theorem dX0_sign_40 : decode cX0_sign 40 = .ok (.ireturn, 1) := dk_172 (dk_at dksX0_sign_1 17 rfl rfl)
abbrev cX0_name : ByteArray := prog_1_method_16_code
def yX0_name : MethodName := ⟨RX0, "name", "(I)Z"⟩
def dkwX0_name_1 : List UInt8 := [199, 0, 5, 3, 172, 42, 180, 0, 68, 180, 0, 183, 27, 50, 45, 181, 0, 187, 4, 172]
abbrev dktX0_name_1 : List UInt8 := dkwX0_name_1 ++ []
def dkwX0_name_0 : List UInt8 := [42, 182, 0, 166, 61, 42, 27, 182, 0, 125, 154, 0, 5, 3, 172, 42, 28, 182, 0, 170, 78, 45]
abbrev dktX0_name_0 : List UInt8 := dkwX0_name_0 ++ dktX0_name_1
theorem dksX0_name_0 : cX0_name.data.toList.drop 0 = dktX0_name_0 := by decide +kernel
theorem dksX0_name_1 : cX0_name.data.toList.drop 22 = dktX0_name_1 := dk_seg dksX0_name_0 22 rfl rfl
theorem dX0_name_0 : decode cX0_name 0 = .ok (.aload_n 0, 1) := dk_42 (dk_at dksX0_name_0 0 rfl rfl)
theorem dX0_name_1 : decode cX0_name 1 = .ok (.invokevirtual 166, 3) := dk_182 0 166 (dk_at dksX0_name_0 1 rfl rfl)
theorem dX0_name_4 : decode cX0_name 4 = .ok (.istore_n 2, 1) := dk_61 (dk_at dksX0_name_0 4 rfl rfl)
theorem dX0_name_5 : decode cX0_name 5 = .ok (.aload_n 0, 1) := dk_42 (dk_at dksX0_name_0 5 rfl rfl)
theorem dX0_name_6 : decode cX0_name 6 = .ok (.iload_n 1, 1) := dk_27 (dk_at dksX0_name_0 6 rfl rfl)
theorem dX0_name_7 : decode cX0_name 7 = .ok (.invokevirtual 125, 3) := dk_182 0 125 (dk_at dksX0_name_0 7 rfl rfl)
theorem dX0_name_10 : decode cX0_name 10 = .ok (.ifCond .ne 5, 3) := dk_154 0 5 (dk_at dksX0_name_0 10 rfl rfl)
theorem dX0_name_13 : decode cX0_name 13 = .ok (.iconst 0, 1) := dk_3 (dk_at dksX0_name_0 13 rfl rfl)
theorem dX0_name_14 : decode cX0_name 14 = .ok (.ireturn, 1) := dk_172 (dk_at dksX0_name_0 14 rfl rfl)
theorem dX0_name_15 : decode cX0_name 15 = .ok (.aload_n 0, 1) := dk_42 (dk_at dksX0_name_0 15 rfl rfl)
theorem dX0_name_16 : decode cX0_name 16 = .ok (.iload_n 2, 1) := dk_28 (dk_at dksX0_name_0 16 rfl rfl)
theorem dX0_name_17 : decode cX0_name 17 = .ok (.invokevirtual 170, 3) := dk_182 0 170 (dk_at dksX0_name_0 17 rfl rfl)
theorem dX0_name_20 : decode cX0_name 20 = .ok (.astore_n 3, 1) := dk_78 (dk_at dksX0_name_0 20 rfl rfl)
theorem dX0_name_21 : decode cX0_name 21 = .ok (.aload_n 3, 1) := dk_45 (dk_at dksX0_name_0 21 rfl rfl)
theorem dX0_name_22 : decode cX0_name 22 = .ok (.ifnonnull 5, 3) := dk_199 0 5 (dk_at dksX0_name_1 0 rfl rfl)
theorem dX0_name_25 : decode cX0_name 25 = .ok (.iconst 0, 1) := dk_3 (dk_at dksX0_name_1 3 rfl rfl)
theorem dX0_name_26 : decode cX0_name 26 = .ok (.ireturn, 1) := dk_172 (dk_at dksX0_name_1 4 rfl rfl)
theorem dX0_name_27 : decode cX0_name 27 = .ok (.aload_n 0, 1) := dk_42 (dk_at dksX0_name_1 5 rfl rfl)
theorem dX0_name_28 : decode cX0_name 28 = .ok (.getfield 68, 3) := dk_180 0 68 (dk_at dksX0_name_1 6 rfl rfl)
theorem dX0_name_31 : decode cX0_name 31 = .ok (.getfield 183, 3) := dk_180 0 183 (dk_at dksX0_name_1 9 rfl rfl)
theorem dX0_name_34 : decode cX0_name 34 = .ok (.iload_n 1, 1) := dk_27 (dk_at dksX0_name_1 12 rfl rfl)
theorem dX0_name_35 : decode cX0_name 35 = .ok (.aaload, 1) := dk_50 (dk_at dksX0_name_1 13 rfl rfl)
theorem dX0_name_36 : decode cX0_name 36 = .ok (.aload_n 3, 1) := dk_45 (dk_at dksX0_name_1 14 rfl rfl)
theorem dX0_name_37 : decode cX0_name 37 = .ok (.putfield 187, 3) := dk_181 0 187 (dk_at dksX0_name_1 15 rfl rfl)
theorem dX0_name_40 : decode cX0_name 40 = .ok (.iconst 1, 1) := dk_4 (dk_at dksX0_name_1 18 rfl rfl)
theorem dX0_name_41 : decode cX0_name 41 = .ok (.ireturn, 1) := dk_172 (dk_at dksX0_name_1 19 rfl rfl)
abbrev cX0_isPage : ByteArray := prog_1_method_6_code
def yX0_isPage : MethodName := ⟨RX0, "isPage", "(I)Z"⟩
def dkwX0_isPage_0 : List UInt8 := [27, 3, 42, 180, 0, 68, 180, 0, 122, 4, 100, 184, 0, 3, 172]
abbrev dktX0_isPage_0 : List UInt8 := dkwX0_isPage_0 ++ []
theorem dksX0_isPage_0 : cX0_isPage.data.toList.drop 0 = dktX0_isPage_0 := by decide +kernel
theorem dX0_isPage_0 : decode cX0_isPage 0 = .ok (.iload_n 1, 1) := dk_27 (dk_at dksX0_isPage_0 0 rfl rfl)
theorem dX0_isPage_1 : decode cX0_isPage 1 = .ok (.iconst 0, 1) := dk_3 (dk_at dksX0_isPage_0 1 rfl rfl)
theorem dX0_isPage_2 : decode cX0_isPage 2 = .ok (.aload_n 0, 1) := dk_42 (dk_at dksX0_isPage_0 2 rfl rfl)
theorem dX0_isPage_3 : decode cX0_isPage 3 = .ok (.getfield 68, 3) := dk_180 0 68 (dk_at dksX0_isPage_0 3 rfl rfl)
theorem dX0_isPage_6 : decode cX0_isPage 6 = .ok (.getfield 122, 3) := dk_180 0 122 (dk_at dksX0_isPage_0 6 rfl rfl)
theorem dX0_isPage_9 : decode cX0_isPage 9 = .ok (.iconst 1, 1) := dk_4 (dk_at dksX0_isPage_0 9 rfl rfl)
theorem dX0_isPage_10 : decode cX0_isPage 10 = .ok (.isub, 1) := dk_100 (dk_at dksX0_isPage_0 10 rfl rfl)
theorem dX0_isPage_11 : decode cX0_isPage 11 = .ok (.invokestatic 3, 3) := dk_184 0 3 (dk_at dksX0_isPage_0 11 rfl rfl)
theorem dX0_isPage_14 : decode cX0_isPage 14 = .ok (.ireturn, 1) := dk_172 (dk_at dksX0_isPage_0 14 rfl rfl)
abbrev cX0_own : ByteArray := prog_1_method_18_code
def yX0_own : MethodName := ⟨RX0, "own", "(I)I"⟩
def dkwX0_own_3 : List UInt8 := [89, 180, 0, 216, 4, 96, 181, 0, 216, 25, 4, 180, 0, 216, 172]
abbrev dktX0_own_3 : List UInt8 := dkwX0_own_3 ++ []
def dkwX0_own_2 : List UInt8 := [180, 0, 68, 180, 0, 174, 27, 50, 58, 4, 25, 4, 180, 0, 221, 25, 4, 180, 0, 216, 45, 83, 25, 4]
abbrev dktX0_own_2 : List UInt8 := dkwX0_own_2 ++ dktX0_own_3
def dkwX0_own_1 : List UInt8 := [180, 0, 216, 5, 160, 0, 6, 16, 254, 172, 42, 28, 182, 0, 217, 78, 45, 199, 0, 5, 2, 172, 42]
abbrev dktX0_own_1 : List UInt8 := dkwX0_own_1 ++ dktX0_own_2
def dkwX0_own_0 : List UInt8 := [42, 182, 0, 166, 61, 42, 27, 182, 0, 213, 153, 0, 19, 42, 180, 0, 68, 180, 0, 174, 27, 50]
abbrev dktX0_own_0 : List UInt8 := dkwX0_own_0 ++ dktX0_own_1
theorem dksX0_own_0 : cX0_own.data.toList.drop 0 = dktX0_own_0 := by decide +kernel
theorem dksX0_own_1 : cX0_own.data.toList.drop 22 = dktX0_own_1 := dk_seg dksX0_own_0 22 rfl rfl
theorem dksX0_own_2 : cX0_own.data.toList.drop 45 = dktX0_own_2 := dk_seg dksX0_own_1 23 rfl rfl
theorem dksX0_own_3 : cX0_own.data.toList.drop 69 = dktX0_own_3 := dk_seg dksX0_own_2 24 rfl rfl
theorem dX0_own_0 : decode cX0_own 0 = .ok (.aload_n 0, 1) := dk_42 (dk_at dksX0_own_0 0 rfl rfl)
theorem dX0_own_1 : decode cX0_own 1 = .ok (.invokevirtual 166, 3) := dk_182 0 166 (dk_at dksX0_own_0 1 rfl rfl)
theorem dX0_own_4 : decode cX0_own 4 = .ok (.istore_n 2, 1) := dk_61 (dk_at dksX0_own_0 4 rfl rfl)
theorem dX0_own_5 : decode cX0_own 5 = .ok (.aload_n 0, 1) := dk_42 (dk_at dksX0_own_0 5 rfl rfl)
theorem dX0_own_6 : decode cX0_own 6 = .ok (.iload_n 1, 1) := dk_27 (dk_at dksX0_own_0 6 rfl rfl)
theorem dX0_own_7 : decode cX0_own 7 = .ok (.invokevirtual 213, 3) := dk_182 0 213 (dk_at dksX0_own_0 7 rfl rfl)
theorem dX0_own_10 : decode cX0_own 10 = .ok (.ifCond .eq 19, 3) := dk_153 0 19 (dk_at dksX0_own_0 10 rfl rfl)
theorem dX0_own_13 : decode cX0_own 13 = .ok (.aload_n 0, 1) := dk_42 (dk_at dksX0_own_0 13 rfl rfl)
theorem dX0_own_14 : decode cX0_own 14 = .ok (.getfield 68, 3) := dk_180 0 68 (dk_at dksX0_own_0 14 rfl rfl)
theorem dX0_own_17 : decode cX0_own 17 = .ok (.getfield 174, 3) := dk_180 0 174 (dk_at dksX0_own_0 17 rfl rfl)
theorem dX0_own_20 : decode cX0_own 20 = .ok (.iload_n 1, 1) := dk_27 (dk_at dksX0_own_0 20 rfl rfl)
theorem dX0_own_21 : decode cX0_own 21 = .ok (.aaload, 1) := dk_50 (dk_at dksX0_own_0 21 rfl rfl)
theorem dX0_own_22 : decode cX0_own 22 = .ok (.getfield 216, 3) := dk_180 0 216 (dk_at dksX0_own_1 0 rfl rfl)
theorem dX0_own_25 : decode cX0_own 25 = .ok (.iconst 2, 1) := dk_5 (dk_at dksX0_own_1 3 rfl rfl)
theorem dX0_own_26 : decode cX0_own 26 = .ok (.if_icmp .ne 6, 3) := dk_160 0 6 (dk_at dksX0_own_1 4 rfl rfl)
theorem dX0_own_29 : decode cX0_own 29 = .ok (.bipush (-2), 2) := dk_16 254 (dk_at dksX0_own_1 7 rfl rfl)
theorem dX0_own_31 : decode cX0_own 31 = .ok (.ireturn, 1) := dk_172 (dk_at dksX0_own_1 9 rfl rfl)
theorem dX0_own_32 : decode cX0_own 32 = .ok (.aload_n 0, 1) := dk_42 (dk_at dksX0_own_1 10 rfl rfl)
theorem dX0_own_33 : decode cX0_own 33 = .ok (.iload_n 2, 1) := dk_28 (dk_at dksX0_own_1 11 rfl rfl)
theorem dX0_own_34 : decode cX0_own 34 = .ok (.invokevirtual 217, 3) := dk_182 0 217 (dk_at dksX0_own_1 12 rfl rfl)
theorem dX0_own_37 : decode cX0_own 37 = .ok (.astore_n 3, 1) := dk_78 (dk_at dksX0_own_1 15 rfl rfl)
theorem dX0_own_38 : decode cX0_own 38 = .ok (.aload_n 3, 1) := dk_45 (dk_at dksX0_own_1 16 rfl rfl)
theorem dX0_own_39 : decode cX0_own 39 = .ok (.ifnonnull 5, 3) := dk_199 0 5 (dk_at dksX0_own_1 17 rfl rfl)
theorem dX0_own_42 : decode cX0_own 42 = .ok (.iconst (-1), 1) := dk_2 (dk_at dksX0_own_1 20 rfl rfl)
theorem dX0_own_43 : decode cX0_own 43 = .ok (.ireturn, 1) := dk_172 (dk_at dksX0_own_1 21 rfl rfl)
theorem dX0_own_44 : decode cX0_own 44 = .ok (.aload_n 0, 1) := dk_42 (dk_at dksX0_own_1 22 rfl rfl)
theorem dX0_own_45 : decode cX0_own 45 = .ok (.getfield 68, 3) := dk_180 0 68 (dk_at dksX0_own_2 0 rfl rfl)
theorem dX0_own_48 : decode cX0_own 48 = .ok (.getfield 174, 3) := dk_180 0 174 (dk_at dksX0_own_2 3 rfl rfl)
theorem dX0_own_51 : decode cX0_own 51 = .ok (.iload_n 1, 1) := dk_27 (dk_at dksX0_own_2 6 rfl rfl)
theorem dX0_own_52 : decode cX0_own 52 = .ok (.aaload, 1) := dk_50 (dk_at dksX0_own_2 7 rfl rfl)
theorem dX0_own_53 : decode cX0_own 53 = .ok (.astore 4, 2) := dk_58 4 (dk_at dksX0_own_2 8 rfl rfl)
theorem dX0_own_55 : decode cX0_own 55 = .ok (.aload 4, 2) := dk_25 4 (dk_at dksX0_own_2 10 rfl rfl)
theorem dX0_own_57 : decode cX0_own 57 = .ok (.getfield 221, 3) := dk_180 0 221 (dk_at dksX0_own_2 12 rfl rfl)
theorem dX0_own_60 : decode cX0_own 60 = .ok (.aload 4, 2) := dk_25 4 (dk_at dksX0_own_2 15 rfl rfl)
theorem dX0_own_62 : decode cX0_own 62 = .ok (.getfield 216, 3) := dk_180 0 216 (dk_at dksX0_own_2 17 rfl rfl)
theorem dX0_own_65 : decode cX0_own 65 = .ok (.aload_n 3, 1) := dk_45 (dk_at dksX0_own_2 20 rfl rfl)
theorem dX0_own_66 : decode cX0_own 66 = .ok (.aastore, 1) := dk_83 (dk_at dksX0_own_2 21 rfl rfl)
theorem dX0_own_67 : decode cX0_own 67 = .ok (.aload 4, 2) := dk_25 4 (dk_at dksX0_own_2 22 rfl rfl)
theorem dX0_own_69 : decode cX0_own 69 = .ok (.dup, 1) := dk_89 (dk_at dksX0_own_3 0 rfl rfl)
theorem dX0_own_70 : decode cX0_own 70 = .ok (.getfield 216, 3) := dk_180 0 216 (dk_at dksX0_own_3 1 rfl rfl)
theorem dX0_own_73 : decode cX0_own 73 = .ok (.iconst 1, 1) := dk_4 (dk_at dksX0_own_3 4 rfl rfl)
theorem dX0_own_74 : decode cX0_own 74 = .ok (.iadd, 1) := dk_96 (dk_at dksX0_own_3 5 rfl rfl)
theorem dX0_own_75 : decode cX0_own 75 = .ok (.putfield 216, 3) := dk_181 0 216 (dk_at dksX0_own_3 6 rfl rfl)
theorem dX0_own_78 : decode cX0_own 78 = .ok (.aload 4, 2) := dk_25 4 (dk_at dksX0_own_3 9 rfl rfl)
theorem dX0_own_80 : decode cX0_own 80 = .ok (.getfield 216, 3) := dk_180 0 216 (dk_at dksX0_own_3 11 rfl rfl)
theorem dX0_own_83 : decode cX0_own 83 = .ok (.ireturn, 1) := dk_172 (dk_at dksX0_own_3 14 rfl rfl)
abbrev cX0_isHouse : ByteArray := prog_1_method_5_code
def yX0_isHouse : MethodName := ⟨RX0, "isHouse", "(I)Z"⟩
def dkwX0_isHouse_0 : List UInt8 := [27, 3, 42, 180, 0, 68, 180, 0, 118, 4, 100, 184, 0, 3, 172]
abbrev dktX0_isHouse_0 : List UInt8 := dkwX0_isHouse_0 ++ []
theorem dksX0_isHouse_0 : cX0_isHouse.data.toList.drop 0 = dktX0_isHouse_0 := by decide +kernel
theorem dX0_isHouse_0 : decode cX0_isHouse 0 = .ok (.iload_n 1, 1) := dk_27 (dk_at dksX0_isHouse_0 0 rfl rfl)
theorem dX0_isHouse_1 : decode cX0_isHouse 1 = .ok (.iconst 0, 1) := dk_3 (dk_at dksX0_isHouse_0 1 rfl rfl)
theorem dX0_isHouse_2 : decode cX0_isHouse 2 = .ok (.aload_n 0, 1) := dk_42 (dk_at dksX0_isHouse_0 2 rfl rfl)
theorem dX0_isHouse_3 : decode cX0_isHouse 3 = .ok (.getfield 68, 3) := dk_180 0 68 (dk_at dksX0_isHouse_0 3 rfl rfl)
theorem dX0_isHouse_6 : decode cX0_isHouse 6 = .ok (.getfield 118, 3) := dk_180 0 118 (dk_at dksX0_isHouse_0 6 rfl rfl)
theorem dX0_isHouse_9 : decode cX0_isHouse 9 = .ok (.iconst 1, 1) := dk_4 (dk_at dksX0_isHouse_0 9 rfl rfl)
theorem dX0_isHouse_10 : decode cX0_isHouse 10 = .ok (.isub, 1) := dk_100 (dk_at dksX0_isHouse_0 10 rfl rfl)
theorem dX0_isHouse_11 : decode cX0_isHouse 11 = .ok (.invokestatic 3, 3) := dk_184 0 3 (dk_at dksX0_isHouse_0 11 rfl rfl)
theorem dX0_isHouse_14 : decode cX0_isHouse 14 = .ok (.ireturn, 1) := dk_172 (dk_at dksX0_isHouse_0 14 rfl rfl)
abbrev cX0_readPage : ByteArray := prog_1_method_17_code
def yX0_readPage : MethodName := ⟨RX0, "readPage", "(I)LPretendDesk$Page;"⟩
def dkwX0_readPage_2 : List UInt8 := [180, 0, 210, 182, 0, 152, 87, 1, 176]
abbrev dktX0_readPage_2 : List UInt8 := dkwX0_readPage_2 ++ []
def dkwX0_readPage_1 : List UInt8 := [182, 0, 152, 87, 1, 176, 44, 180, 0, 204, 154, 0, 8, 44, 180, 0, 207, 176, 42, 44, 180, 0, 204, 44]
abbrev dktX0_readPage_1 : List UInt8 := dkwX0_readPage_1 ++ dktX0_readPage_2
def dkwX0_readPage_0 : List UInt8 := [187, 0, 192, 89, 42, 27, 183, 0, 194, 77, 44, 182, 0, 197, 167, 0, 16, 78, 42, 4, 45, 180, 0, 201]
abbrev dktX0_readPage_0 : List UInt8 := dkwX0_readPage_0 ++ dktX0_readPage_1
theorem dksX0_readPage_0 : cX0_readPage.data.toList.drop 0 = dktX0_readPage_0 := by decide +kernel
theorem dksX0_readPage_1 : cX0_readPage.data.toList.drop 24 = dktX0_readPage_1 := dk_seg dksX0_readPage_0 24 rfl rfl
theorem dksX0_readPage_2 : cX0_readPage.data.toList.drop 48 = dktX0_readPage_2 := dk_seg dksX0_readPage_1 24 rfl rfl
theorem dX0_readPage_0 : decode cX0_readPage 0 = .ok (.new 192, 3) := dk_187 0 192 (dk_at dksX0_readPage_0 0 rfl rfl)
theorem dX0_readPage_3 : decode cX0_readPage 3 = .ok (.dup, 1) := dk_89 (dk_at dksX0_readPage_0 3 rfl rfl)
theorem dX0_readPage_4 : decode cX0_readPage 4 = .ok (.aload_n 0, 1) := dk_42 (dk_at dksX0_readPage_0 4 rfl rfl)
theorem dX0_readPage_5 : decode cX0_readPage 5 = .ok (.iload_n 1, 1) := dk_27 (dk_at dksX0_readPage_0 5 rfl rfl)
theorem dX0_readPage_6 : decode cX0_readPage 6 = .ok (.invokespecial 194, 3) := dk_183 0 194 (dk_at dksX0_readPage_0 6 rfl rfl)
theorem dX0_readPage_9 : decode cX0_readPage 9 = .ok (.astore_n 2, 1) := dk_77 (dk_at dksX0_readPage_0 9 rfl rfl)
theorem dX0_readPage_10 : decode cX0_readPage 10 = .ok (.aload_n 2, 1) := dk_44 (dk_at dksX0_readPage_0 10 rfl rfl)
theorem dX0_readPage_11 : decode cX0_readPage 11 = .ok (.invokevirtual 197, 3) := dk_182 0 197 (dk_at dksX0_readPage_0 11 rfl rfl)
theorem dX0_readPage_14 : decode cX0_readPage 14 = .ok (.goto 16, 3) := dk_167 0 16 (dk_at dksX0_readPage_0 14 rfl rfl)
theorem dX0_readPage_17 : decode cX0_readPage 17 = .ok (.astore_n 3, 1) := dk_78 (dk_at dksX0_readPage_0 17 rfl rfl)
theorem dX0_readPage_18 : decode cX0_readPage 18 = .ok (.aload_n 0, 1) := dk_42 (dk_at dksX0_readPage_0 18 rfl rfl)
theorem dX0_readPage_19 : decode cX0_readPage 19 = .ok (.iconst 1, 1) := dk_4 (dk_at dksX0_readPage_0 19 rfl rfl)
theorem dX0_readPage_20 : decode cX0_readPage 20 = .ok (.aload_n 3, 1) := dk_45 (dk_at dksX0_readPage_0 20 rfl rfl)
theorem dX0_readPage_21 : decode cX0_readPage 21 = .ok (.getfield 201, 3) := dk_180 0 201 (dk_at dksX0_readPage_0 21 rfl rfl)
theorem dX0_readPage_24 : decode cX0_readPage 24 = .ok (.invokevirtual 152, 3) := dk_182 0 152 (dk_at dksX0_readPage_1 0 rfl rfl)
theorem dX0_readPage_27 : decode cX0_readPage 27 = .ok (.pop, 1) := dk_87 (dk_at dksX0_readPage_1 3 rfl rfl)
theorem dX0_readPage_28 : decode cX0_readPage 28 = .ok (.aconst_null, 1) := dk_1 (dk_at dksX0_readPage_1 4 rfl rfl)
theorem dX0_readPage_29 : decode cX0_readPage 29 = .ok (.areturn, 1) := dk_176 (dk_at dksX0_readPage_1 5 rfl rfl)
theorem dX0_readPage_30 : decode cX0_readPage 30 = .ok (.aload_n 2, 1) := dk_44 (dk_at dksX0_readPage_1 6 rfl rfl)
theorem dX0_readPage_31 : decode cX0_readPage 31 = .ok (.getfield 204, 3) := dk_180 0 204 (dk_at dksX0_readPage_1 7 rfl rfl)
theorem dX0_readPage_34 : decode cX0_readPage 34 = .ok (.ifCond .ne 8, 3) := dk_154 0 8 (dk_at dksX0_readPage_1 10 rfl rfl)
theorem dX0_readPage_37 : decode cX0_readPage 37 = .ok (.aload_n 2, 1) := dk_44 (dk_at dksX0_readPage_1 13 rfl rfl)
theorem dX0_readPage_38 : decode cX0_readPage 38 = .ok (.getfield 207, 3) := dk_180 0 207 (dk_at dksX0_readPage_1 14 rfl rfl)
theorem dX0_readPage_41 : decode cX0_readPage 41 = .ok (.areturn, 1) := dk_176 (dk_at dksX0_readPage_1 17 rfl rfl)
theorem dX0_readPage_42 : decode cX0_readPage 42 = .ok (.aload_n 0, 1) := dk_42 (dk_at dksX0_readPage_1 18 rfl rfl)
theorem dX0_readPage_43 : decode cX0_readPage 43 = .ok (.aload_n 2, 1) := dk_44 (dk_at dksX0_readPage_1 19 rfl rfl)
theorem dX0_readPage_44 : decode cX0_readPage 44 = .ok (.getfield 204, 3) := dk_180 0 204 (dk_at dksX0_readPage_1 20 rfl rfl)
theorem dX0_readPage_47 : decode cX0_readPage 47 = .ok (.aload_n 2, 1) := dk_44 (dk_at dksX0_readPage_1 23 rfl rfl)
theorem dX0_readPage_48 : decode cX0_readPage 48 = .ok (.getfield 210, 3) := dk_180 0 210 (dk_at dksX0_readPage_2 0 rfl rfl)
theorem dX0_readPage_51 : decode cX0_readPage 51 = .ok (.invokevirtual 152, 3) := dk_182 0 152 (dk_at dksX0_readPage_2 3 rfl rfl)
theorem dX0_readPage_54 : decode cX0_readPage 54 = .ok (.pop, 1) := dk_87 (dk_at dksX0_readPage_2 6 rfl rfl)
theorem dX0_readPage_55 : decode cX0_readPage 55 = .ok (.aconst_null, 1) := dk_1 (dk_at dksX0_readPage_2 7 rfl rfl)
theorem dX0_readPage_56 : decode cX0_readPage 56 = .ok (.areturn, 1) := dk_176 (dk_at dksX0_readPage_2 8 rfl rfl)
abbrev cX0_page : ByteArray := prog_1_method_19_code
def yX0_page : MethodName := ⟨RX0, "page", "()I"⟩
def dkwX0_page_3 : List UInt8 := [180, 0, 68, 180, 0, 122, 4, 100, 172]
abbrev dktX0_page_3 : List UInt8 := dkwX0_page_3 ++ []
def dkwX0_page_2 : List UInt8 := [187, 0, 188, 89, 44, 183, 0, 225, 83, 42, 180, 0, 68, 89, 180, 0, 122, 4, 96, 181, 0, 122, 42]
abbrev dktX0_page_2 : List UInt8 := dkwX0_page_2 ++ dktX0_page_3
def dkwX0_page_1 : List UInt8 := [182, 0, 217, 77, 44, 199, 0, 5, 2, 172, 42, 180, 0, 68, 180, 0, 183, 42, 180, 0, 68, 180, 0, 122]
abbrev dktX0_page_1 : List UInt8 := dkwX0_page_1 ++ dktX0_page_2
def dkwX0_page_0 : List UInt8 := [42, 182, 0, 166, 60, 42, 180, 0, 68, 180, 0, 122, 16, 10, 160, 0, 6, 16, 254, 172, 42, 27]
abbrev dktX0_page_0 : List UInt8 := dkwX0_page_0 ++ dktX0_page_1
theorem dksX0_page_0 : cX0_page.data.toList.drop 0 = dktX0_page_0 := by decide +kernel
theorem dksX0_page_1 : cX0_page.data.toList.drop 22 = dktX0_page_1 := dk_seg dksX0_page_0 22 rfl rfl
theorem dksX0_page_2 : cX0_page.data.toList.drop 46 = dktX0_page_2 := dk_seg dksX0_page_1 24 rfl rfl
theorem dksX0_page_3 : cX0_page.data.toList.drop 69 = dktX0_page_3 := dk_seg dksX0_page_2 23 rfl rfl
theorem dX0_page_0 : decode cX0_page 0 = .ok (.aload_n 0, 1) := dk_42 (dk_at dksX0_page_0 0 rfl rfl)
theorem dX0_page_1 : decode cX0_page 1 = .ok (.invokevirtual 166, 3) := dk_182 0 166 (dk_at dksX0_page_0 1 rfl rfl)
theorem dX0_page_4 : decode cX0_page 4 = .ok (.istore_n 1, 1) := dk_60 (dk_at dksX0_page_0 4 rfl rfl)
theorem dX0_page_5 : decode cX0_page 5 = .ok (.aload_n 0, 1) := dk_42 (dk_at dksX0_page_0 5 rfl rfl)
theorem dX0_page_6 : decode cX0_page 6 = .ok (.getfield 68, 3) := dk_180 0 68 (dk_at dksX0_page_0 6 rfl rfl)
theorem dX0_page_9 : decode cX0_page 9 = .ok (.getfield 122, 3) := dk_180 0 122 (dk_at dksX0_page_0 9 rfl rfl)
theorem dX0_page_12 : decode cX0_page 12 = .ok (.bipush 10, 2) := dk_16 10 (dk_at dksX0_page_0 12 rfl rfl)
theorem dX0_page_14 : decode cX0_page 14 = .ok (.if_icmp .ne 6, 3) := dk_160 0 6 (dk_at dksX0_page_0 14 rfl rfl)
theorem dX0_page_17 : decode cX0_page 17 = .ok (.bipush (-2), 2) := dk_16 254 (dk_at dksX0_page_0 17 rfl rfl)
theorem dX0_page_19 : decode cX0_page 19 = .ok (.ireturn, 1) := dk_172 (dk_at dksX0_page_0 19 rfl rfl)
theorem dX0_page_20 : decode cX0_page 20 = .ok (.aload_n 0, 1) := dk_42 (dk_at dksX0_page_0 20 rfl rfl)
theorem dX0_page_21 : decode cX0_page 21 = .ok (.iload_n 1, 1) := dk_27 (dk_at dksX0_page_0 21 rfl rfl)
theorem dX0_page_22 : decode cX0_page 22 = .ok (.invokevirtual 217, 3) := dk_182 0 217 (dk_at dksX0_page_1 0 rfl rfl)
theorem dX0_page_25 : decode cX0_page 25 = .ok (.astore_n 2, 1) := dk_77 (dk_at dksX0_page_1 3 rfl rfl)
theorem dX0_page_26 : decode cX0_page 26 = .ok (.aload_n 2, 1) := dk_44 (dk_at dksX0_page_1 4 rfl rfl)
theorem dX0_page_27 : decode cX0_page 27 = .ok (.ifnonnull 5, 3) := dk_199 0 5 (dk_at dksX0_page_1 5 rfl rfl)
theorem dX0_page_30 : decode cX0_page 30 = .ok (.iconst (-1), 1) := dk_2 (dk_at dksX0_page_1 8 rfl rfl)
theorem dX0_page_31 : decode cX0_page 31 = .ok (.ireturn, 1) := dk_172 (dk_at dksX0_page_1 9 rfl rfl)
theorem dX0_page_32 : decode cX0_page 32 = .ok (.aload_n 0, 1) := dk_42 (dk_at dksX0_page_1 10 rfl rfl)
theorem dX0_page_33 : decode cX0_page 33 = .ok (.getfield 68, 3) := dk_180 0 68 (dk_at dksX0_page_1 11 rfl rfl)
theorem dX0_page_36 : decode cX0_page 36 = .ok (.getfield 183, 3) := dk_180 0 183 (dk_at dksX0_page_1 14 rfl rfl)
theorem dX0_page_39 : decode cX0_page 39 = .ok (.aload_n 0, 1) := dk_42 (dk_at dksX0_page_1 17 rfl rfl)
theorem dX0_page_40 : decode cX0_page 40 = .ok (.getfield 68, 3) := dk_180 0 68 (dk_at dksX0_page_1 18 rfl rfl)
theorem dX0_page_43 : decode cX0_page 43 = .ok (.getfield 122, 3) := dk_180 0 122 (dk_at dksX0_page_1 21 rfl rfl)
theorem dX0_page_46 : decode cX0_page 46 = .ok (.new 188, 3) := dk_187 0 188 (dk_at dksX0_page_2 0 rfl rfl)
theorem dX0_page_49 : decode cX0_page 49 = .ok (.dup, 1) := dk_89 (dk_at dksX0_page_2 3 rfl rfl)
theorem dX0_page_50 : decode cX0_page 50 = .ok (.aload_n 2, 1) := dk_44 (dk_at dksX0_page_2 4 rfl rfl)
theorem dX0_page_51 : decode cX0_page 51 = .ok (.invokespecial 225, 3) := dk_183 0 225 (dk_at dksX0_page_2 5 rfl rfl)
theorem dX0_page_54 : decode cX0_page 54 = .ok (.aastore, 1) := dk_83 (dk_at dksX0_page_2 8 rfl rfl)
theorem dX0_page_55 : decode cX0_page 55 = .ok (.aload_n 0, 1) := dk_42 (dk_at dksX0_page_2 9 rfl rfl)
theorem dX0_page_56 : decode cX0_page 56 = .ok (.getfield 68, 3) := dk_180 0 68 (dk_at dksX0_page_2 10 rfl rfl)
theorem dX0_page_59 : decode cX0_page 59 = .ok (.dup, 1) := dk_89 (dk_at dksX0_page_2 13 rfl rfl)
theorem dX0_page_60 : decode cX0_page 60 = .ok (.getfield 122, 3) := dk_180 0 122 (dk_at dksX0_page_2 14 rfl rfl)
theorem dX0_page_63 : decode cX0_page 63 = .ok (.iconst 1, 1) := dk_4 (dk_at dksX0_page_2 17 rfl rfl)
theorem dX0_page_64 : decode cX0_page 64 = .ok (.iadd, 1) := dk_96 (dk_at dksX0_page_2 18 rfl rfl)
theorem dX0_page_65 : decode cX0_page 65 = .ok (.putfield 122, 3) := dk_181 0 122 (dk_at dksX0_page_2 19 rfl rfl)
theorem dX0_page_68 : decode cX0_page 68 = .ok (.aload_n 0, 1) := dk_42 (dk_at dksX0_page_2 22 rfl rfl)
theorem dX0_page_69 : decode cX0_page 69 = .ok (.getfield 68, 3) := dk_180 0 68 (dk_at dksX0_page_3 0 rfl rfl)
theorem dX0_page_72 : decode cX0_page 72 = .ok (.getfield 122, 3) := dk_180 0 122 (dk_at dksX0_page_3 3 rfl rfl)
theorem dX0_page_75 : decode cX0_page 75 = .ok (.iconst 1, 1) := dk_4 (dk_at dksX0_page_3 6 rfl rfl)
theorem dX0_page_76 : decode cX0_page 76 = .ok (.isub, 1) := dk_100 (dk_at dksX0_page_3 7 rfl rfl)
theorem dX0_page_77 : decode cX0_page 77 = .ok (.ireturn, 1) := dk_172 (dk_at dksX0_page_3 8 rfl rfl)
abbrev cX0_fault : ByteArray := prog_1_method_20_code
def yX0_fault : MethodName := ⟨RX0, "fault", "(I)I"⟩
def dkwX0_fault_1 : List UInt8 := [180, 0, 149, 167, 0, 4, 2, 172]
abbrev dktX0_fault_1 : List UInt8 := dkwX0_fault_1 ++ []
def dkwX0_fault_0 : List UInt8 := [27, 154, 0, 13, 42, 180, 0, 68, 180, 0, 146, 167, 0, 19, 27, 4, 160, 0, 13, 42, 180, 0, 68]
abbrev dktX0_fault_0 : List UInt8 := dkwX0_fault_0 ++ dktX0_fault_1
theorem dksX0_fault_0 : cX0_fault.data.toList.drop 0 = dktX0_fault_0 := by decide +kernel
theorem dksX0_fault_1 : cX0_fault.data.toList.drop 23 = dktX0_fault_1 := dk_seg dksX0_fault_0 23 rfl rfl
theorem dX0_fault_0 : decode cX0_fault 0 = .ok (.iload_n 1, 1) := dk_27 (dk_at dksX0_fault_0 0 rfl rfl)
theorem dX0_fault_1 : decode cX0_fault 1 = .ok (.ifCond .ne 13, 3) := dk_154 0 13 (dk_at dksX0_fault_0 1 rfl rfl)
theorem dX0_fault_4 : decode cX0_fault 4 = .ok (.aload_n 0, 1) := dk_42 (dk_at dksX0_fault_0 4 rfl rfl)
theorem dX0_fault_5 : decode cX0_fault 5 = .ok (.getfield 68, 3) := dk_180 0 68 (dk_at dksX0_fault_0 5 rfl rfl)
theorem dX0_fault_8 : decode cX0_fault 8 = .ok (.getfield 146, 3) := dk_180 0 146 (dk_at dksX0_fault_0 8 rfl rfl)
theorem dX0_fault_11 : decode cX0_fault 11 = .ok (.goto 19, 3) := dk_167 0 19 (dk_at dksX0_fault_0 11 rfl rfl)
theorem dX0_fault_14 : decode cX0_fault 14 = .ok (.iload_n 1, 1) := dk_27 (dk_at dksX0_fault_0 14 rfl rfl)
theorem dX0_fault_15 : decode cX0_fault 15 = .ok (.iconst 1, 1) := dk_4 (dk_at dksX0_fault_0 15 rfl rfl)
theorem dX0_fault_16 : decode cX0_fault 16 = .ok (.if_icmp .ne 13, 3) := dk_160 0 13 (dk_at dksX0_fault_0 16 rfl rfl)
theorem dX0_fault_19 : decode cX0_fault 19 = .ok (.aload_n 0, 1) := dk_42 (dk_at dksX0_fault_0 19 rfl rfl)
theorem dX0_fault_20 : decode cX0_fault 20 = .ok (.getfield 68, 3) := dk_180 0 68 (dk_at dksX0_fault_0 20 rfl rfl)
theorem dX0_fault_23 : decode cX0_fault 23 = .ok (.getfield 149, 3) := dk_180 0 149 (dk_at dksX0_fault_1 0 rfl rfl)
theorem dX0_fault_26 : decode cX0_fault 26 = .ok (.goto 4, 3) := dk_167 0 4 (dk_at dksX0_fault_1 3 rfl rfl)
theorem dX0_fault_29 : decode cX0_fault 29 = .ok (.iconst (-1), 1) := dk_2 (dk_at dksX0_fault_1 6 rfl rfl)
theorem dX0_fault_30 : decode cX0_fault 30 = .ok (.ireturn, 1) := dk_172 (dk_at dksX0_fault_1 7 rfl rfl)
abbrev cX0_alike : ByteArray := prog_1_method_21_code
def yX0_alike : MethodName := ⟨RX0, "alike", "(III)Z"⟩
def dkwX0_alike_3 : List UInt8 := [21, 5, 104, 21, 4, 96, 29, 145, 84, 4, 172]
abbrev dktX0_alike_3 : List UInt8 := dkwX0_alike_3 ++ []
def dkwX0_alike_2 : List UInt8 := [180, 0, 228, 16, 36, 21, 4, 104, 21, 5, 96, 29, 145, 84, 42, 180, 0, 68, 180, 0, 228, 16, 36]
abbrev dktX0_alike_2 : List UInt8 := dkwX0_alike_2 ++ dktX0_alike_3
def dkwX0_alike_1 : List UInt8 := [21, 4, 21, 5, 159, 0, 13, 29, 4, 16, 6, 184, 0, 3, 154, 0, 5, 3, 172, 42, 180, 0, 68]
abbrev dktX0_alike_1 : List UInt8 := dkwX0_alike_1 ++ dktX0_alike_2
def dkwX0_alike_0 : List UInt8 := [27, 184, 0, 156, 54, 4, 28, 184, 0, 156, 54, 5, 21, 4, 2, 159, 0, 26, 21, 5, 2, 159, 0, 20]
abbrev dktX0_alike_0 : List UInt8 := dkwX0_alike_0 ++ dktX0_alike_1
theorem dksX0_alike_0 : cX0_alike.data.toList.drop 0 = dktX0_alike_0 := by decide +kernel
theorem dksX0_alike_1 : cX0_alike.data.toList.drop 24 = dktX0_alike_1 := dk_seg dksX0_alike_0 24 rfl rfl
theorem dksX0_alike_2 : cX0_alike.data.toList.drop 47 = dktX0_alike_2 := dk_seg dksX0_alike_1 23 rfl rfl
theorem dksX0_alike_3 : cX0_alike.data.toList.drop 70 = dktX0_alike_3 := dk_seg dksX0_alike_2 23 rfl rfl
theorem dX0_alike_0 : decode cX0_alike 0 = .ok (.iload_n 1, 1) := dk_27 (dk_at dksX0_alike_0 0 rfl rfl)
theorem dX0_alike_1 : decode cX0_alike 1 = .ok (.invokestatic 156, 3) := dk_184 0 156 (dk_at dksX0_alike_0 1 rfl rfl)
theorem dX0_alike_4 : decode cX0_alike 4 = .ok (.istore 4, 2) := dk_54 4 (dk_at dksX0_alike_0 4 rfl rfl)
theorem dX0_alike_6 : decode cX0_alike 6 = .ok (.iload_n 2, 1) := dk_28 (dk_at dksX0_alike_0 6 rfl rfl)
theorem dX0_alike_7 : decode cX0_alike 7 = .ok (.invokestatic 156, 3) := dk_184 0 156 (dk_at dksX0_alike_0 7 rfl rfl)
theorem dX0_alike_10 : decode cX0_alike 10 = .ok (.istore 5, 2) := dk_54 5 (dk_at dksX0_alike_0 10 rfl rfl)
theorem dX0_alike_12 : decode cX0_alike 12 = .ok (.iload 4, 2) := dk_21 4 (dk_at dksX0_alike_0 12 rfl rfl)
theorem dX0_alike_14 : decode cX0_alike 14 = .ok (.iconst (-1), 1) := dk_2 (dk_at dksX0_alike_0 14 rfl rfl)
theorem dX0_alike_15 : decode cX0_alike 15 = .ok (.if_icmp .eq 26, 3) := dk_159 0 26 (dk_at dksX0_alike_0 15 rfl rfl)
theorem dX0_alike_18 : decode cX0_alike 18 = .ok (.iload 5, 2) := dk_21 5 (dk_at dksX0_alike_0 18 rfl rfl)
theorem dX0_alike_20 : decode cX0_alike 20 = .ok (.iconst (-1), 1) := dk_2 (dk_at dksX0_alike_0 20 rfl rfl)
theorem dX0_alike_21 : decode cX0_alike 21 = .ok (.if_icmp .eq 20, 3) := dk_159 0 20 (dk_at dksX0_alike_0 21 rfl rfl)
theorem dX0_alike_24 : decode cX0_alike 24 = .ok (.iload 4, 2) := dk_21 4 (dk_at dksX0_alike_1 0 rfl rfl)
theorem dX0_alike_26 : decode cX0_alike 26 = .ok (.iload 5, 2) := dk_21 5 (dk_at dksX0_alike_1 2 rfl rfl)
theorem dX0_alike_28 : decode cX0_alike 28 = .ok (.if_icmp .eq 13, 3) := dk_159 0 13 (dk_at dksX0_alike_1 4 rfl rfl)
theorem dX0_alike_31 : decode cX0_alike 31 = .ok (.iload_n 3, 1) := dk_29 (dk_at dksX0_alike_1 7 rfl rfl)
theorem dX0_alike_32 : decode cX0_alike 32 = .ok (.iconst 1, 1) := dk_4 (dk_at dksX0_alike_1 8 rfl rfl)
theorem dX0_alike_33 : decode cX0_alike 33 = .ok (.bipush 6, 2) := dk_16 6 (dk_at dksX0_alike_1 9 rfl rfl)
theorem dX0_alike_35 : decode cX0_alike 35 = .ok (.invokestatic 3, 3) := dk_184 0 3 (dk_at dksX0_alike_1 11 rfl rfl)
theorem dX0_alike_38 : decode cX0_alike 38 = .ok (.ifCond .ne 5, 3) := dk_154 0 5 (dk_at dksX0_alike_1 14 rfl rfl)
theorem dX0_alike_41 : decode cX0_alike 41 = .ok (.iconst 0, 1) := dk_3 (dk_at dksX0_alike_1 17 rfl rfl)
theorem dX0_alike_42 : decode cX0_alike 42 = .ok (.ireturn, 1) := dk_172 (dk_at dksX0_alike_1 18 rfl rfl)
theorem dX0_alike_43 : decode cX0_alike 43 = .ok (.aload_n 0, 1) := dk_42 (dk_at dksX0_alike_1 19 rfl rfl)
theorem dX0_alike_44 : decode cX0_alike 44 = .ok (.getfield 68, 3) := dk_180 0 68 (dk_at dksX0_alike_1 20 rfl rfl)
theorem dX0_alike_47 : decode cX0_alike 47 = .ok (.getfield 228, 3) := dk_180 0 228 (dk_at dksX0_alike_2 0 rfl rfl)
theorem dX0_alike_50 : decode cX0_alike 50 = .ok (.bipush 36, 2) := dk_16 36 (dk_at dksX0_alike_2 3 rfl rfl)
theorem dX0_alike_52 : decode cX0_alike 52 = .ok (.iload 4, 2) := dk_21 4 (dk_at dksX0_alike_2 5 rfl rfl)
theorem dX0_alike_54 : decode cX0_alike 54 = .ok (.imul, 1) := dk_104 (dk_at dksX0_alike_2 7 rfl rfl)
theorem dX0_alike_55 : decode cX0_alike 55 = .ok (.iload 5, 2) := dk_21 5 (dk_at dksX0_alike_2 8 rfl rfl)
theorem dX0_alike_57 : decode cX0_alike 57 = .ok (.iadd, 1) := dk_96 (dk_at dksX0_alike_2 10 rfl rfl)
theorem dX0_alike_58 : decode cX0_alike 58 = .ok (.iload_n 3, 1) := dk_29 (dk_at dksX0_alike_2 11 rfl rfl)
theorem dX0_alike_59 : decode cX0_alike 59 = .ok (.i2b, 1) := dk_145 (dk_at dksX0_alike_2 12 rfl rfl)
theorem dX0_alike_60 : decode cX0_alike 60 = .ok (.bastore, 1) := dk_84 (dk_at dksX0_alike_2 13 rfl rfl)
theorem dX0_alike_61 : decode cX0_alike 61 = .ok (.aload_n 0, 1) := dk_42 (dk_at dksX0_alike_2 14 rfl rfl)
theorem dX0_alike_62 : decode cX0_alike 62 = .ok (.getfield 68, 3) := dk_180 0 68 (dk_at dksX0_alike_2 15 rfl rfl)
theorem dX0_alike_65 : decode cX0_alike 65 = .ok (.getfield 228, 3) := dk_180 0 228 (dk_at dksX0_alike_2 18 rfl rfl)
theorem dX0_alike_68 : decode cX0_alike 68 = .ok (.bipush 36, 2) := dk_16 36 (dk_at dksX0_alike_2 21 rfl rfl)
theorem dX0_alike_70 : decode cX0_alike 70 = .ok (.iload 5, 2) := dk_21 5 (dk_at dksX0_alike_3 0 rfl rfl)
theorem dX0_alike_72 : decode cX0_alike 72 = .ok (.imul, 1) := dk_104 (dk_at dksX0_alike_3 2 rfl rfl)
theorem dX0_alike_73 : decode cX0_alike 73 = .ok (.iload 4, 2) := dk_21 4 (dk_at dksX0_alike_3 3 rfl rfl)
theorem dX0_alike_75 : decode cX0_alike 75 = .ok (.iadd, 1) := dk_96 (dk_at dksX0_alike_3 5 rfl rfl)
theorem dX0_alike_76 : decode cX0_alike 76 = .ok (.iload_n 3, 1) := dk_29 (dk_at dksX0_alike_3 6 rfl rfl)
theorem dX0_alike_77 : decode cX0_alike 77 = .ok (.i2b, 1) := dk_145 (dk_at dksX0_alike_3 7 rfl rfl)
theorem dX0_alike_78 : decode cX0_alike 78 = .ok (.bastore, 1) := dk_84 (dk_at dksX0_alike_3 8 rfl rfl)
theorem dX0_alike_79 : decode cX0_alike 79 = .ok (.iconst 1, 1) := dk_4 (dk_at dksX0_alike_3 9 rfl rfl)
theorem dX0_alike_80 : decode cX0_alike 80 = .ok (.ireturn, 1) := dk_172 (dk_at dksX0_alike_3 10 rfl rfl)
abbrev cX0_spell : ByteArray := prog_1_method_24_code
def yX0_spell : MethodName := ⟨RX0, "spell", "(II)I"⟩
def dkwX0_spell_2 : List UInt8 := [180, 0, 68, 180, 0, 174, 28, 50, 180, 0, 241, 182, 0, 242, 172]
abbrev dktX0_spell_2 : List UInt8 := dkwX0_spell_2 ++ []
def dkwX0_spell_1 : List UInt8 := [50, 180, 0, 187, 190, 154, 0, 5, 2, 172, 42, 42, 180, 0, 68, 180, 0, 183, 27, 50, 180, 0, 187, 42]
abbrev dktX0_spell_1 : List UInt8 := dkwX0_spell_1 ++ dktX0_spell_2
def dkwX0_spell_0 : List UInt8 := [42, 27, 182, 0, 125, 153, 0, 27, 42, 28, 182, 0, 213, 153, 0, 19, 42, 180, 0, 68, 180, 0, 183, 27]
abbrev dktX0_spell_0 : List UInt8 := dkwX0_spell_0 ++ dktX0_spell_1
theorem dksX0_spell_0 : cX0_spell.data.toList.drop 0 = dktX0_spell_0 := by decide +kernel
theorem dksX0_spell_1 : cX0_spell.data.toList.drop 24 = dktX0_spell_1 := dk_seg dksX0_spell_0 24 rfl rfl
theorem dksX0_spell_2 : cX0_spell.data.toList.drop 48 = dktX0_spell_2 := dk_seg dksX0_spell_1 24 rfl rfl
theorem dX0_spell_0 : decode cX0_spell 0 = .ok (.aload_n 0, 1) := dk_42 (dk_at dksX0_spell_0 0 rfl rfl)
theorem dX0_spell_1 : decode cX0_spell 1 = .ok (.iload_n 1, 1) := dk_27 (dk_at dksX0_spell_0 1 rfl rfl)
theorem dX0_spell_2 : decode cX0_spell 2 = .ok (.invokevirtual 125, 3) := dk_182 0 125 (dk_at dksX0_spell_0 2 rfl rfl)
theorem dX0_spell_5 : decode cX0_spell 5 = .ok (.ifCond .eq 27, 3) := dk_153 0 27 (dk_at dksX0_spell_0 5 rfl rfl)
theorem dX0_spell_8 : decode cX0_spell 8 = .ok (.aload_n 0, 1) := dk_42 (dk_at dksX0_spell_0 8 rfl rfl)
theorem dX0_spell_9 : decode cX0_spell 9 = .ok (.iload_n 2, 1) := dk_28 (dk_at dksX0_spell_0 9 rfl rfl)
theorem dX0_spell_10 : decode cX0_spell 10 = .ok (.invokevirtual 213, 3) := dk_182 0 213 (dk_at dksX0_spell_0 10 rfl rfl)
theorem dX0_spell_13 : decode cX0_spell 13 = .ok (.ifCond .eq 19, 3) := dk_153 0 19 (dk_at dksX0_spell_0 13 rfl rfl)
theorem dX0_spell_16 : decode cX0_spell 16 = .ok (.aload_n 0, 1) := dk_42 (dk_at dksX0_spell_0 16 rfl rfl)
theorem dX0_spell_17 : decode cX0_spell 17 = .ok (.getfield 68, 3) := dk_180 0 68 (dk_at dksX0_spell_0 17 rfl rfl)
theorem dX0_spell_20 : decode cX0_spell 20 = .ok (.getfield 183, 3) := dk_180 0 183 (dk_at dksX0_spell_0 20 rfl rfl)
theorem dX0_spell_23 : decode cX0_spell 23 = .ok (.iload_n 1, 1) := dk_27 (dk_at dksX0_spell_0 23 rfl rfl)
theorem dX0_spell_24 : decode cX0_spell 24 = .ok (.aaload, 1) := dk_50 (dk_at dksX0_spell_1 0 rfl rfl)
theorem dX0_spell_25 : decode cX0_spell 25 = .ok (.getfield 187, 3) := dk_180 0 187 (dk_at dksX0_spell_1 1 rfl rfl)
theorem dX0_spell_28 : decode cX0_spell 28 = .ok (.arraylength, 1) := dk_190 (dk_at dksX0_spell_1 4 rfl rfl)
theorem dX0_spell_29 : decode cX0_spell 29 = .ok (.ifCond .ne 5, 3) := dk_154 0 5 (dk_at dksX0_spell_1 5 rfl rfl)
theorem dX0_spell_32 : decode cX0_spell 32 = .ok (.iconst (-1), 1) := dk_2 (dk_at dksX0_spell_1 8 rfl rfl)
theorem dX0_spell_33 : decode cX0_spell 33 = .ok (.ireturn, 1) := dk_172 (dk_at dksX0_spell_1 9 rfl rfl)
theorem dX0_spell_34 : decode cX0_spell 34 = .ok (.aload_n 0, 1) := dk_42 (dk_at dksX0_spell_1 10 rfl rfl)
theorem dX0_spell_35 : decode cX0_spell 35 = .ok (.aload_n 0, 1) := dk_42 (dk_at dksX0_spell_1 11 rfl rfl)
theorem dX0_spell_36 : decode cX0_spell 36 = .ok (.getfield 68, 3) := dk_180 0 68 (dk_at dksX0_spell_1 12 rfl rfl)
theorem dX0_spell_39 : decode cX0_spell 39 = .ok (.getfield 183, 3) := dk_180 0 183 (dk_at dksX0_spell_1 15 rfl rfl)
theorem dX0_spell_42 : decode cX0_spell 42 = .ok (.iload_n 1, 1) := dk_27 (dk_at dksX0_spell_1 18 rfl rfl)
theorem dX0_spell_43 : decode cX0_spell 43 = .ok (.aaload, 1) := dk_50 (dk_at dksX0_spell_1 19 rfl rfl)
theorem dX0_spell_44 : decode cX0_spell 44 = .ok (.getfield 187, 3) := dk_180 0 187 (dk_at dksX0_spell_1 20 rfl rfl)
theorem dX0_spell_47 : decode cX0_spell 47 = .ok (.aload_n 0, 1) := dk_42 (dk_at dksX0_spell_1 23 rfl rfl)
theorem dX0_spell_48 : decode cX0_spell 48 = .ok (.getfield 68, 3) := dk_180 0 68 (dk_at dksX0_spell_2 0 rfl rfl)
theorem dX0_spell_51 : decode cX0_spell 51 = .ok (.getfield 174, 3) := dk_180 0 174 (dk_at dksX0_spell_2 3 rfl rfl)
theorem dX0_spell_54 : decode cX0_spell 54 = .ok (.iload_n 2, 1) := dk_28 (dk_at dksX0_spell_2 6 rfl rfl)
theorem dX0_spell_55 : decode cX0_spell 55 = .ok (.aaload, 1) := dk_50 (dk_at dksX0_spell_2 7 rfl rfl)
theorem dX0_spell_56 : decode cX0_spell 56 = .ok (.getfield 241, 3) := dk_180 0 241 (dk_at dksX0_spell_2 8 rfl rfl)
theorem dX0_spell_59 : decode cX0_spell 59 = .ok (.invokevirtual 242, 3) := dk_182 0 242 (dk_at dksX0_spell_2 11 rfl rfl)
theorem dX0_spell_62 : decode cX0_spell 62 = .ok (.ireturn, 1) := dk_172 (dk_at dksX0_spell_2 14 rfl rfl)
abbrev cX0_spellOf : ByteArray := prog_1_method_23_code
def yX0_spellOf : MethodName := ⟨RX0, "spellOf", "([B[B)I"⟩
def dkwX0_spellOf_10 : List UInt8 := [172]
abbrev dktX0_spellOf_10 : List UInt8 := dkwX0_spellOf_10 ++ []
def dkwX0_spellOf_9 : List UInt8 := [132, 5, 1, 167, 255, 57, 132, 4, 1, 167, 255, 41, 42, 180, 0, 76, 29, 43, 190, 104, 44, 190, 96, 46]
abbrev dktX0_spellOf_9 : List UInt8 := dkwX0_spellOf_9 ++ dktX0_spellOf_10
def dkwX0_spellOf_8 : List UInt8 := [29, 104, 100, 5, 100, 46, 6, 96, 184, 0, 232, 54, 7, 42, 180, 0, 76, 21, 6, 21, 7, 79]
abbrev dktX0_spellOf_8 : List UInt8 := dkwX0_spellOf_8 ++ dktX0_spellOf_9
def dkwX0_spellOf_7 : List UInt8 := [43, 21, 4, 5, 100, 51, 44, 21, 5, 4, 100, 51, 160, 0, 25, 21, 7, 42, 180, 0, 76, 21, 6, 5]
abbrev dktX0_spellOf_7 : List UInt8 := dkwX0_spellOf_7 ++ dktX0_spellOf_8
def dkwX0_spellOf_6 : List UInt8 := [164, 0, 61, 21, 5, 4, 164, 0, 55, 43, 21, 4, 4, 100, 51, 44, 21, 5, 5, 100, 51, 160, 0, 40]
abbrev dktX0_spellOf_6 : List UInt8 := dkwX0_spellOf_6 ++ dktX0_spellOf_7
def dkwX0_spellOf_5 : List UInt8 := [43, 21, 4, 4, 100, 51, 44, 21, 5, 4, 100, 51, 182, 0, 237, 96, 184, 0, 232, 54, 7, 21, 4, 4]
abbrev dktX0_spellOf_5 : List UInt8 := dkwX0_spellOf_5 ++ dktX0_spellOf_6
def dkwX0_spellOf_4 : List UInt8 := [21, 4, 158, 0, 43, 21, 5, 158, 0, 38, 21, 7, 42, 180, 0, 76, 21, 6, 29, 100, 4, 100, 46, 42]
abbrev dktX0_spellOf_4 : List UInt8 := dkwX0_spellOf_4 ++ dktX0_spellOf_5
def dkwX0_spellOf_3 : List UInt8 := [21, 5, 158, 0, 21, 21, 7, 42, 180, 0, 76, 21, 6, 4, 100, 46, 7, 96, 184, 0, 232, 54, 7]
abbrev dktX0_spellOf_3 : List UInt8 := dkwX0_spellOf_3 ++ dktX0_spellOf_4
def dkwX0_spellOf_2 : List UInt8 := [21, 4, 158, 0, 21, 21, 7, 42, 180, 0, 76, 21, 6, 29, 100, 46, 7, 96, 184, 0, 232, 54, 7]
abbrev dktX0_spellOf_2 : List UInt8 := dkwX0_spellOf_2 ++ dktX0_spellOf_3
def dkwX0_spellOf_1 : List UInt8 := [21, 4, 104, 21, 5, 96, 54, 6, 21, 4, 21, 5, 96, 154, 0, 7, 3, 167, 0, 5, 18, 231, 54, 7]
abbrev dktX0_spellOf_1 : List UInt8 := dkwX0_spellOf_1 ++ dktX0_spellOf_2
def dkwX0_spellOf_0 : List UInt8 := [16, 13, 62, 3, 54, 4, 21, 4, 43, 190, 163, 0, 214, 3, 54, 5, 21, 5, 44, 190, 163, 0, 198, 29]
abbrev dktX0_spellOf_0 : List UInt8 := dkwX0_spellOf_0 ++ dktX0_spellOf_1
theorem dksX0_spellOf_0 : cX0_spellOf.data.toList.drop 0 = dktX0_spellOf_0 := by decide +kernel
theorem dksX0_spellOf_1 : cX0_spellOf.data.toList.drop 24 = dktX0_spellOf_1 := dk_seg dksX0_spellOf_0 24 rfl rfl
theorem dksX0_spellOf_2 : cX0_spellOf.data.toList.drop 48 = dktX0_spellOf_2 := dk_seg dksX0_spellOf_1 24 rfl rfl
theorem dksX0_spellOf_3 : cX0_spellOf.data.toList.drop 71 = dktX0_spellOf_3 := dk_seg dksX0_spellOf_2 23 rfl rfl
theorem dksX0_spellOf_4 : cX0_spellOf.data.toList.drop 94 = dktX0_spellOf_4 := dk_seg dksX0_spellOf_3 23 rfl rfl
theorem dksX0_spellOf_5 : cX0_spellOf.data.toList.drop 118 = dktX0_spellOf_5 := dk_seg dksX0_spellOf_4 24 rfl rfl
theorem dksX0_spellOf_6 : cX0_spellOf.data.toList.drop 142 = dktX0_spellOf_6 := dk_seg dksX0_spellOf_5 24 rfl rfl
theorem dksX0_spellOf_7 : cX0_spellOf.data.toList.drop 166 = dktX0_spellOf_7 := dk_seg dksX0_spellOf_6 24 rfl rfl
theorem dksX0_spellOf_8 : cX0_spellOf.data.toList.drop 190 = dktX0_spellOf_8 := dk_seg dksX0_spellOf_7 24 rfl rfl
theorem dksX0_spellOf_9 : cX0_spellOf.data.toList.drop 212 = dktX0_spellOf_9 := dk_seg dksX0_spellOf_8 22 rfl rfl
theorem dksX0_spellOf_10 : cX0_spellOf.data.toList.drop 236 = dktX0_spellOf_10 := dk_seg dksX0_spellOf_9 24 rfl rfl
theorem dX0_spellOf_0 : decode cX0_spellOf 0 = .ok (.bipush 13, 2) := dk_16 13 (dk_at dksX0_spellOf_0 0 rfl rfl)
theorem dX0_spellOf_2 : decode cX0_spellOf 2 = .ok (.istore_n 3, 1) := dk_62 (dk_at dksX0_spellOf_0 2 rfl rfl)
theorem dX0_spellOf_3 : decode cX0_spellOf 3 = .ok (.iconst 0, 1) := dk_3 (dk_at dksX0_spellOf_0 3 rfl rfl)
theorem dX0_spellOf_4 : decode cX0_spellOf 4 = .ok (.istore 4, 2) := dk_54 4 (dk_at dksX0_spellOf_0 4 rfl rfl)
theorem dX0_spellOf_6 : decode cX0_spellOf 6 = .ok (.iload 4, 2) := dk_21 4 (dk_at dksX0_spellOf_0 6 rfl rfl)
theorem dX0_spellOf_8 : decode cX0_spellOf 8 = .ok (.aload_n 1, 1) := dk_43 (dk_at dksX0_spellOf_0 8 rfl rfl)
theorem dX0_spellOf_9 : decode cX0_spellOf 9 = .ok (.arraylength, 1) := dk_190 (dk_at dksX0_spellOf_0 9 rfl rfl)
theorem dX0_spellOf_10 : decode cX0_spellOf 10 = .ok (.if_icmp .gt 214, 3) := dk_163 0 214 (dk_at dksX0_spellOf_0 10 rfl rfl)
theorem dX0_spellOf_13 : decode cX0_spellOf 13 = .ok (.iconst 0, 1) := dk_3 (dk_at dksX0_spellOf_0 13 rfl rfl)
theorem dX0_spellOf_14 : decode cX0_spellOf 14 = .ok (.istore 5, 2) := dk_54 5 (dk_at dksX0_spellOf_0 14 rfl rfl)
theorem dX0_spellOf_16 : decode cX0_spellOf 16 = .ok (.iload 5, 2) := dk_21 5 (dk_at dksX0_spellOf_0 16 rfl rfl)
theorem dX0_spellOf_18 : decode cX0_spellOf 18 = .ok (.aload_n 2, 1) := dk_44 (dk_at dksX0_spellOf_0 18 rfl rfl)
theorem dX0_spellOf_19 : decode cX0_spellOf 19 = .ok (.arraylength, 1) := dk_190 (dk_at dksX0_spellOf_0 19 rfl rfl)
theorem dX0_spellOf_20 : decode cX0_spellOf 20 = .ok (.if_icmp .gt 198, 3) := dk_163 0 198 (dk_at dksX0_spellOf_0 20 rfl rfl)
theorem dX0_spellOf_23 : decode cX0_spellOf 23 = .ok (.iload_n 3, 1) := dk_29 (dk_at dksX0_spellOf_0 23 rfl rfl)
theorem dX0_spellOf_24 : decode cX0_spellOf 24 = .ok (.iload 4, 2) := dk_21 4 (dk_at dksX0_spellOf_1 0 rfl rfl)
theorem dX0_spellOf_26 : decode cX0_spellOf 26 = .ok (.imul, 1) := dk_104 (dk_at dksX0_spellOf_1 2 rfl rfl)
theorem dX0_spellOf_27 : decode cX0_spellOf 27 = .ok (.iload 5, 2) := dk_21 5 (dk_at dksX0_spellOf_1 3 rfl rfl)
theorem dX0_spellOf_29 : decode cX0_spellOf 29 = .ok (.iadd, 1) := dk_96 (dk_at dksX0_spellOf_1 5 rfl rfl)
theorem dX0_spellOf_30 : decode cX0_spellOf 30 = .ok (.istore 6, 2) := dk_54 6 (dk_at dksX0_spellOf_1 6 rfl rfl)
theorem dX0_spellOf_32 : decode cX0_spellOf 32 = .ok (.iload 4, 2) := dk_21 4 (dk_at dksX0_spellOf_1 8 rfl rfl)
theorem dX0_spellOf_34 : decode cX0_spellOf 34 = .ok (.iload 5, 2) := dk_21 5 (dk_at dksX0_spellOf_1 10 rfl rfl)
theorem dX0_spellOf_36 : decode cX0_spellOf 36 = .ok (.iadd, 1) := dk_96 (dk_at dksX0_spellOf_1 12 rfl rfl)
theorem dX0_spellOf_37 : decode cX0_spellOf 37 = .ok (.ifCond .ne 7, 3) := dk_154 0 7 (dk_at dksX0_spellOf_1 13 rfl rfl)
theorem dX0_spellOf_40 : decode cX0_spellOf 40 = .ok (.iconst 0, 1) := dk_3 (dk_at dksX0_spellOf_1 16 rfl rfl)
theorem dX0_spellOf_41 : decode cX0_spellOf 41 = .ok (.goto 5, 3) := dk_167 0 5 (dk_at dksX0_spellOf_1 17 rfl rfl)
theorem dX0_spellOf_44 : decode cX0_spellOf 44 = .ok (.ldc 231, 2) := dk_18 231 (dk_at dksX0_spellOf_1 20 rfl rfl)
theorem dX0_spellOf_46 : decode cX0_spellOf 46 = .ok (.istore 7, 2) := dk_54 7 (dk_at dksX0_spellOf_1 22 rfl rfl)
theorem dX0_spellOf_48 : decode cX0_spellOf 48 = .ok (.iload 4, 2) := dk_21 4 (dk_at dksX0_spellOf_2 0 rfl rfl)
theorem dX0_spellOf_50 : decode cX0_spellOf 50 = .ok (.ifCond .le 21, 3) := dk_158 0 21 (dk_at dksX0_spellOf_2 2 rfl rfl)
theorem dX0_spellOf_53 : decode cX0_spellOf 53 = .ok (.iload 7, 2) := dk_21 7 (dk_at dksX0_spellOf_2 5 rfl rfl)
theorem dX0_spellOf_55 : decode cX0_spellOf 55 = .ok (.aload_n 0, 1) := dk_42 (dk_at dksX0_spellOf_2 7 rfl rfl)
theorem dX0_spellOf_56 : decode cX0_spellOf 56 = .ok (.getfield 76, 3) := dk_180 0 76 (dk_at dksX0_spellOf_2 8 rfl rfl)
theorem dX0_spellOf_59 : decode cX0_spellOf 59 = .ok (.iload 6, 2) := dk_21 6 (dk_at dksX0_spellOf_2 11 rfl rfl)
theorem dX0_spellOf_61 : decode cX0_spellOf 61 = .ok (.iload_n 3, 1) := dk_29 (dk_at dksX0_spellOf_2 13 rfl rfl)
theorem dX0_spellOf_62 : decode cX0_spellOf 62 = .ok (.isub, 1) := dk_100 (dk_at dksX0_spellOf_2 14 rfl rfl)
theorem dX0_spellOf_63 : decode cX0_spellOf 63 = .ok (.iaload, 1) := dk_46 (dk_at dksX0_spellOf_2 15 rfl rfl)
theorem dX0_spellOf_64 : decode cX0_spellOf 64 = .ok (.iconst 4, 1) := dk_7 (dk_at dksX0_spellOf_2 16 rfl rfl)
theorem dX0_spellOf_65 : decode cX0_spellOf 65 = .ok (.iadd, 1) := dk_96 (dk_at dksX0_spellOf_2 17 rfl rfl)
theorem dX0_spellOf_66 : decode cX0_spellOf 66 = .ok (.invokestatic 232, 3) := dk_184 0 232 (dk_at dksX0_spellOf_2 18 rfl rfl)
theorem dX0_spellOf_69 : decode cX0_spellOf 69 = .ok (.istore 7, 2) := dk_54 7 (dk_at dksX0_spellOf_2 21 rfl rfl)
theorem dX0_spellOf_71 : decode cX0_spellOf 71 = .ok (.iload 5, 2) := dk_21 5 (dk_at dksX0_spellOf_3 0 rfl rfl)
theorem dX0_spellOf_73 : decode cX0_spellOf 73 = .ok (.ifCond .le 21, 3) := dk_158 0 21 (dk_at dksX0_spellOf_3 2 rfl rfl)
theorem dX0_spellOf_76 : decode cX0_spellOf 76 = .ok (.iload 7, 2) := dk_21 7 (dk_at dksX0_spellOf_3 5 rfl rfl)
theorem dX0_spellOf_78 : decode cX0_spellOf 78 = .ok (.aload_n 0, 1) := dk_42 (dk_at dksX0_spellOf_3 7 rfl rfl)
theorem dX0_spellOf_79 : decode cX0_spellOf 79 = .ok (.getfield 76, 3) := dk_180 0 76 (dk_at dksX0_spellOf_3 8 rfl rfl)
theorem dX0_spellOf_82 : decode cX0_spellOf 82 = .ok (.iload 6, 2) := dk_21 6 (dk_at dksX0_spellOf_3 11 rfl rfl)
theorem dX0_spellOf_84 : decode cX0_spellOf 84 = .ok (.iconst 1, 1) := dk_4 (dk_at dksX0_spellOf_3 13 rfl rfl)
theorem dX0_spellOf_85 : decode cX0_spellOf 85 = .ok (.isub, 1) := dk_100 (dk_at dksX0_spellOf_3 14 rfl rfl)
theorem dX0_spellOf_86 : decode cX0_spellOf 86 = .ok (.iaload, 1) := dk_46 (dk_at dksX0_spellOf_3 15 rfl rfl)
theorem dX0_spellOf_87 : decode cX0_spellOf 87 = .ok (.iconst 4, 1) := dk_7 (dk_at dksX0_spellOf_3 16 rfl rfl)
theorem dX0_spellOf_88 : decode cX0_spellOf 88 = .ok (.iadd, 1) := dk_96 (dk_at dksX0_spellOf_3 17 rfl rfl)
theorem dX0_spellOf_89 : decode cX0_spellOf 89 = .ok (.invokestatic 232, 3) := dk_184 0 232 (dk_at dksX0_spellOf_3 18 rfl rfl)
theorem dX0_spellOf_92 : decode cX0_spellOf 92 = .ok (.istore 7, 2) := dk_54 7 (dk_at dksX0_spellOf_3 21 rfl rfl)
theorem dX0_spellOf_94 : decode cX0_spellOf 94 = .ok (.iload 4, 2) := dk_21 4 (dk_at dksX0_spellOf_4 0 rfl rfl)
theorem dX0_spellOf_96 : decode cX0_spellOf 96 = .ok (.ifCond .le 43, 3) := dk_158 0 43 (dk_at dksX0_spellOf_4 2 rfl rfl)
theorem dX0_spellOf_99 : decode cX0_spellOf 99 = .ok (.iload 5, 2) := dk_21 5 (dk_at dksX0_spellOf_4 5 rfl rfl)
theorem dX0_spellOf_101 : decode cX0_spellOf 101 = .ok (.ifCond .le 38, 3) := dk_158 0 38 (dk_at dksX0_spellOf_4 7 rfl rfl)
theorem dX0_spellOf_104 : decode cX0_spellOf 104 = .ok (.iload 7, 2) := dk_21 7 (dk_at dksX0_spellOf_4 10 rfl rfl)
theorem dX0_spellOf_106 : decode cX0_spellOf 106 = .ok (.aload_n 0, 1) := dk_42 (dk_at dksX0_spellOf_4 12 rfl rfl)
theorem dX0_spellOf_107 : decode cX0_spellOf 107 = .ok (.getfield 76, 3) := dk_180 0 76 (dk_at dksX0_spellOf_4 13 rfl rfl)
theorem dX0_spellOf_110 : decode cX0_spellOf 110 = .ok (.iload 6, 2) := dk_21 6 (dk_at dksX0_spellOf_4 16 rfl rfl)
theorem dX0_spellOf_112 : decode cX0_spellOf 112 = .ok (.iload_n 3, 1) := dk_29 (dk_at dksX0_spellOf_4 18 rfl rfl)
theorem dX0_spellOf_113 : decode cX0_spellOf 113 = .ok (.isub, 1) := dk_100 (dk_at dksX0_spellOf_4 19 rfl rfl)
theorem dX0_spellOf_114 : decode cX0_spellOf 114 = .ok (.iconst 1, 1) := dk_4 (dk_at dksX0_spellOf_4 20 rfl rfl)
theorem dX0_spellOf_115 : decode cX0_spellOf 115 = .ok (.isub, 1) := dk_100 (dk_at dksX0_spellOf_4 21 rfl rfl)
theorem dX0_spellOf_116 : decode cX0_spellOf 116 = .ok (.iaload, 1) := dk_46 (dk_at dksX0_spellOf_4 22 rfl rfl)
theorem dX0_spellOf_117 : decode cX0_spellOf 117 = .ok (.aload_n 0, 1) := dk_42 (dk_at dksX0_spellOf_4 23 rfl rfl)
theorem dX0_spellOf_118 : decode cX0_spellOf 118 = .ok (.aload_n 1, 1) := dk_43 (dk_at dksX0_spellOf_5 0 rfl rfl)
theorem dX0_spellOf_119 : decode cX0_spellOf 119 = .ok (.iload 4, 2) := dk_21 4 (dk_at dksX0_spellOf_5 1 rfl rfl)
theorem dX0_spellOf_121 : decode cX0_spellOf 121 = .ok (.iconst 1, 1) := dk_4 (dk_at dksX0_spellOf_5 3 rfl rfl)
theorem dX0_spellOf_122 : decode cX0_spellOf 122 = .ok (.isub, 1) := dk_100 (dk_at dksX0_spellOf_5 4 rfl rfl)
theorem dX0_spellOf_123 : decode cX0_spellOf 123 = .ok (.baload, 1) := dk_51 (dk_at dksX0_spellOf_5 5 rfl rfl)
theorem dX0_spellOf_124 : decode cX0_spellOf 124 = .ok (.aload_n 2, 1) := dk_44 (dk_at dksX0_spellOf_5 6 rfl rfl)
theorem dX0_spellOf_125 : decode cX0_spellOf 125 = .ok (.iload 5, 2) := dk_21 5 (dk_at dksX0_spellOf_5 7 rfl rfl)
theorem dX0_spellOf_127 : decode cX0_spellOf 127 = .ok (.iconst 1, 1) := dk_4 (dk_at dksX0_spellOf_5 9 rfl rfl)
theorem dX0_spellOf_128 : decode cX0_spellOf 128 = .ok (.isub, 1) := dk_100 (dk_at dksX0_spellOf_5 10 rfl rfl)
theorem dX0_spellOf_129 : decode cX0_spellOf 129 = .ok (.baload, 1) := dk_51 (dk_at dksX0_spellOf_5 11 rfl rfl)
theorem dX0_spellOf_130 : decode cX0_spellOf 130 = .ok (.invokevirtual 237, 3) := dk_182 0 237 (dk_at dksX0_spellOf_5 12 rfl rfl)
theorem dX0_spellOf_133 : decode cX0_spellOf 133 = .ok (.iadd, 1) := dk_96 (dk_at dksX0_spellOf_5 15 rfl rfl)
theorem dX0_spellOf_134 : decode cX0_spellOf 134 = .ok (.invokestatic 232, 3) := dk_184 0 232 (dk_at dksX0_spellOf_5 16 rfl rfl)
theorem dX0_spellOf_137 : decode cX0_spellOf 137 = .ok (.istore 7, 2) := dk_54 7 (dk_at dksX0_spellOf_5 19 rfl rfl)
theorem dX0_spellOf_139 : decode cX0_spellOf 139 = .ok (.iload 4, 2) := dk_21 4 (dk_at dksX0_spellOf_5 21 rfl rfl)
theorem dX0_spellOf_141 : decode cX0_spellOf 141 = .ok (.iconst 1, 1) := dk_4 (dk_at dksX0_spellOf_5 23 rfl rfl)
theorem dX0_spellOf_142 : decode cX0_spellOf 142 = .ok (.if_icmp .le 61, 3) := dk_164 0 61 (dk_at dksX0_spellOf_6 0 rfl rfl)
theorem dX0_spellOf_145 : decode cX0_spellOf 145 = .ok (.iload 5, 2) := dk_21 5 (dk_at dksX0_spellOf_6 3 rfl rfl)
theorem dX0_spellOf_147 : decode cX0_spellOf 147 = .ok (.iconst 1, 1) := dk_4 (dk_at dksX0_spellOf_6 5 rfl rfl)
theorem dX0_spellOf_148 : decode cX0_spellOf 148 = .ok (.if_icmp .le 55, 3) := dk_164 0 55 (dk_at dksX0_spellOf_6 6 rfl rfl)
theorem dX0_spellOf_151 : decode cX0_spellOf 151 = .ok (.aload_n 1, 1) := dk_43 (dk_at dksX0_spellOf_6 9 rfl rfl)
theorem dX0_spellOf_152 : decode cX0_spellOf 152 = .ok (.iload 4, 2) := dk_21 4 (dk_at dksX0_spellOf_6 10 rfl rfl)
theorem dX0_spellOf_154 : decode cX0_spellOf 154 = .ok (.iconst 1, 1) := dk_4 (dk_at dksX0_spellOf_6 12 rfl rfl)
theorem dX0_spellOf_155 : decode cX0_spellOf 155 = .ok (.isub, 1) := dk_100 (dk_at dksX0_spellOf_6 13 rfl rfl)
theorem dX0_spellOf_156 : decode cX0_spellOf 156 = .ok (.baload, 1) := dk_51 (dk_at dksX0_spellOf_6 14 rfl rfl)
theorem dX0_spellOf_157 : decode cX0_spellOf 157 = .ok (.aload_n 2, 1) := dk_44 (dk_at dksX0_spellOf_6 15 rfl rfl)
theorem dX0_spellOf_158 : decode cX0_spellOf 158 = .ok (.iload 5, 2) := dk_21 5 (dk_at dksX0_spellOf_6 16 rfl rfl)
theorem dX0_spellOf_160 : decode cX0_spellOf 160 = .ok (.iconst 2, 1) := dk_5 (dk_at dksX0_spellOf_6 18 rfl rfl)
theorem dX0_spellOf_161 : decode cX0_spellOf 161 = .ok (.isub, 1) := dk_100 (dk_at dksX0_spellOf_6 19 rfl rfl)
theorem dX0_spellOf_162 : decode cX0_spellOf 162 = .ok (.baload, 1) := dk_51 (dk_at dksX0_spellOf_6 20 rfl rfl)
theorem dX0_spellOf_163 : decode cX0_spellOf 163 = .ok (.if_icmp .ne 40, 3) := dk_160 0 40 (dk_at dksX0_spellOf_6 21 rfl rfl)
theorem dX0_spellOf_166 : decode cX0_spellOf 166 = .ok (.aload_n 1, 1) := dk_43 (dk_at dksX0_spellOf_7 0 rfl rfl)
theorem dX0_spellOf_167 : decode cX0_spellOf 167 = .ok (.iload 4, 2) := dk_21 4 (dk_at dksX0_spellOf_7 1 rfl rfl)
theorem dX0_spellOf_169 : decode cX0_spellOf 169 = .ok (.iconst 2, 1) := dk_5 (dk_at dksX0_spellOf_7 3 rfl rfl)
theorem dX0_spellOf_170 : decode cX0_spellOf 170 = .ok (.isub, 1) := dk_100 (dk_at dksX0_spellOf_7 4 rfl rfl)
theorem dX0_spellOf_171 : decode cX0_spellOf 171 = .ok (.baload, 1) := dk_51 (dk_at dksX0_spellOf_7 5 rfl rfl)
theorem dX0_spellOf_172 : decode cX0_spellOf 172 = .ok (.aload_n 2, 1) := dk_44 (dk_at dksX0_spellOf_7 6 rfl rfl)
theorem dX0_spellOf_173 : decode cX0_spellOf 173 = .ok (.iload 5, 2) := dk_21 5 (dk_at dksX0_spellOf_7 7 rfl rfl)
theorem dX0_spellOf_175 : decode cX0_spellOf 175 = .ok (.iconst 1, 1) := dk_4 (dk_at dksX0_spellOf_7 9 rfl rfl)
theorem dX0_spellOf_176 : decode cX0_spellOf 176 = .ok (.isub, 1) := dk_100 (dk_at dksX0_spellOf_7 10 rfl rfl)
theorem dX0_spellOf_177 : decode cX0_spellOf 177 = .ok (.baload, 1) := dk_51 (dk_at dksX0_spellOf_7 11 rfl rfl)
theorem dX0_spellOf_178 : decode cX0_spellOf 178 = .ok (.if_icmp .ne 25, 3) := dk_160 0 25 (dk_at dksX0_spellOf_7 12 rfl rfl)
theorem dX0_spellOf_181 : decode cX0_spellOf 181 = .ok (.iload 7, 2) := dk_21 7 (dk_at dksX0_spellOf_7 15 rfl rfl)
theorem dX0_spellOf_183 : decode cX0_spellOf 183 = .ok (.aload_n 0, 1) := dk_42 (dk_at dksX0_spellOf_7 17 rfl rfl)
theorem dX0_spellOf_184 : decode cX0_spellOf 184 = .ok (.getfield 76, 3) := dk_180 0 76 (dk_at dksX0_spellOf_7 18 rfl rfl)
theorem dX0_spellOf_187 : decode cX0_spellOf 187 = .ok (.iload 6, 2) := dk_21 6 (dk_at dksX0_spellOf_7 21 rfl rfl)
theorem dX0_spellOf_189 : decode cX0_spellOf 189 = .ok (.iconst 2, 1) := dk_5 (dk_at dksX0_spellOf_7 23 rfl rfl)
theorem dX0_spellOf_190 : decode cX0_spellOf 190 = .ok (.iload_n 3, 1) := dk_29 (dk_at dksX0_spellOf_8 0 rfl rfl)
theorem dX0_spellOf_191 : decode cX0_spellOf 191 = .ok (.imul, 1) := dk_104 (dk_at dksX0_spellOf_8 1 rfl rfl)
theorem dX0_spellOf_192 : decode cX0_spellOf 192 = .ok (.isub, 1) := dk_100 (dk_at dksX0_spellOf_8 2 rfl rfl)
theorem dX0_spellOf_193 : decode cX0_spellOf 193 = .ok (.iconst 2, 1) := dk_5 (dk_at dksX0_spellOf_8 3 rfl rfl)
theorem dX0_spellOf_194 : decode cX0_spellOf 194 = .ok (.isub, 1) := dk_100 (dk_at dksX0_spellOf_8 4 rfl rfl)
theorem dX0_spellOf_195 : decode cX0_spellOf 195 = .ok (.iaload, 1) := dk_46 (dk_at dksX0_spellOf_8 5 rfl rfl)
theorem dX0_spellOf_196 : decode cX0_spellOf 196 = .ok (.iconst 3, 1) := dk_6 (dk_at dksX0_spellOf_8 6 rfl rfl)
theorem dX0_spellOf_197 : decode cX0_spellOf 197 = .ok (.iadd, 1) := dk_96 (dk_at dksX0_spellOf_8 7 rfl rfl)
theorem dX0_spellOf_198 : decode cX0_spellOf 198 = .ok (.invokestatic 232, 3) := dk_184 0 232 (dk_at dksX0_spellOf_8 8 rfl rfl)
theorem dX0_spellOf_201 : decode cX0_spellOf 201 = .ok (.istore 7, 2) := dk_54 7 (dk_at dksX0_spellOf_8 11 rfl rfl)
theorem dX0_spellOf_203 : decode cX0_spellOf 203 = .ok (.aload_n 0, 1) := dk_42 (dk_at dksX0_spellOf_8 13 rfl rfl)
theorem dX0_spellOf_204 : decode cX0_spellOf 204 = .ok (.getfield 76, 3) := dk_180 0 76 (dk_at dksX0_spellOf_8 14 rfl rfl)
theorem dX0_spellOf_207 : decode cX0_spellOf 207 = .ok (.iload 6, 2) := dk_21 6 (dk_at dksX0_spellOf_8 17 rfl rfl)
theorem dX0_spellOf_209 : decode cX0_spellOf 209 = .ok (.iload 7, 2) := dk_21 7 (dk_at dksX0_spellOf_8 19 rfl rfl)
theorem dX0_spellOf_211 : decode cX0_spellOf 211 = .ok (.iastore, 1) := dk_79 (dk_at dksX0_spellOf_8 21 rfl rfl)
theorem dX0_spellOf_212 : decode cX0_spellOf 212 = .ok (.iinc 5 1, 3) := dk_132 5 1 (dk_at dksX0_spellOf_9 0 rfl rfl)
theorem dX0_spellOf_215 : decode cX0_spellOf 215 = .ok (.goto (-199), 3) := dk_167 255 57 (dk_at dksX0_spellOf_9 3 rfl rfl)
theorem dX0_spellOf_218 : decode cX0_spellOf 218 = .ok (.iinc 4 1, 3) := dk_132 4 1 (dk_at dksX0_spellOf_9 6 rfl rfl)
theorem dX0_spellOf_221 : decode cX0_spellOf 221 = .ok (.goto (-215), 3) := dk_167 255 41 (dk_at dksX0_spellOf_9 9 rfl rfl)
theorem dX0_spellOf_224 : decode cX0_spellOf 224 = .ok (.aload_n 0, 1) := dk_42 (dk_at dksX0_spellOf_9 12 rfl rfl)
theorem dX0_spellOf_225 : decode cX0_spellOf 225 = .ok (.getfield 76, 3) := dk_180 0 76 (dk_at dksX0_spellOf_9 13 rfl rfl)
theorem dX0_spellOf_228 : decode cX0_spellOf 228 = .ok (.iload_n 3, 1) := dk_29 (dk_at dksX0_spellOf_9 16 rfl rfl)
theorem dX0_spellOf_229 : decode cX0_spellOf 229 = .ok (.aload_n 1, 1) := dk_43 (dk_at dksX0_spellOf_9 17 rfl rfl)
theorem dX0_spellOf_230 : decode cX0_spellOf 230 = .ok (.arraylength, 1) := dk_190 (dk_at dksX0_spellOf_9 18 rfl rfl)
theorem dX0_spellOf_231 : decode cX0_spellOf 231 = .ok (.imul, 1) := dk_104 (dk_at dksX0_spellOf_9 19 rfl rfl)
theorem dX0_spellOf_232 : decode cX0_spellOf 232 = .ok (.aload_n 2, 1) := dk_44 (dk_at dksX0_spellOf_9 20 rfl rfl)
theorem dX0_spellOf_233 : decode cX0_spellOf 233 = .ok (.arraylength, 1) := dk_190 (dk_at dksX0_spellOf_9 21 rfl rfl)
theorem dX0_spellOf_234 : decode cX0_spellOf 234 = .ok (.iadd, 1) := dk_96 (dk_at dksX0_spellOf_9 22 rfl rfl)
theorem dX0_spellOf_235 : decode cX0_spellOf 235 = .ok (.iaload, 1) := dk_46 (dk_at dksX0_spellOf_9 23 rfl rfl)
theorem dX0_spellOf_236 : decode cX0_spellOf 236 = .ok (.ireturn, 1) := dk_172 (dk_at dksX0_spellOf_10 0 rfl rfl)
abbrev cX0_turn : ByteArray := prog_1_method_22_code
def yX0_turn : MethodName := ⟨RX0, "turn", "(BB)I"⟩
def dkwX0_turn_1 : List UInt8 := [184, 0, 156, 96, 51, 62, 29, 154, 0, 8, 16, 6, 167, 0, 4, 29, 172]
abbrev dktX0_turn_1 : List UInt8 := dkwX0_turn_1 ++ []
def dkwX0_turn_0 : List UInt8 := [27, 28, 160, 0, 5, 3, 172, 42, 180, 0, 68, 180, 0, 228, 16, 36, 27, 184, 0, 156, 104, 28]
abbrev dktX0_turn_0 : List UInt8 := dkwX0_turn_0 ++ dktX0_turn_1
theorem dksX0_turn_0 : cX0_turn.data.toList.drop 0 = dktX0_turn_0 := by decide +kernel
theorem dksX0_turn_1 : cX0_turn.data.toList.drop 22 = dktX0_turn_1 := dk_seg dksX0_turn_0 22 rfl rfl
theorem dX0_turn_0 : decode cX0_turn 0 = .ok (.iload_n 1, 1) := dk_27 (dk_at dksX0_turn_0 0 rfl rfl)
theorem dX0_turn_1 : decode cX0_turn 1 = .ok (.iload_n 2, 1) := dk_28 (dk_at dksX0_turn_0 1 rfl rfl)
theorem dX0_turn_2 : decode cX0_turn 2 = .ok (.if_icmp .ne 5, 3) := dk_160 0 5 (dk_at dksX0_turn_0 2 rfl rfl)
theorem dX0_turn_5 : decode cX0_turn 5 = .ok (.iconst 0, 1) := dk_3 (dk_at dksX0_turn_0 5 rfl rfl)
theorem dX0_turn_6 : decode cX0_turn 6 = .ok (.ireturn, 1) := dk_172 (dk_at dksX0_turn_0 6 rfl rfl)
theorem dX0_turn_7 : decode cX0_turn 7 = .ok (.aload_n 0, 1) := dk_42 (dk_at dksX0_turn_0 7 rfl rfl)
theorem dX0_turn_8 : decode cX0_turn 8 = .ok (.getfield 68, 3) := dk_180 0 68 (dk_at dksX0_turn_0 8 rfl rfl)
theorem dX0_turn_11 : decode cX0_turn 11 = .ok (.getfield 228, 3) := dk_180 0 228 (dk_at dksX0_turn_0 11 rfl rfl)
theorem dX0_turn_14 : decode cX0_turn 14 = .ok (.bipush 36, 2) := dk_16 36 (dk_at dksX0_turn_0 14 rfl rfl)
theorem dX0_turn_16 : decode cX0_turn 16 = .ok (.iload_n 1, 1) := dk_27 (dk_at dksX0_turn_0 16 rfl rfl)
theorem dX0_turn_17 : decode cX0_turn 17 = .ok (.invokestatic 156, 3) := dk_184 0 156 (dk_at dksX0_turn_0 17 rfl rfl)
theorem dX0_turn_20 : decode cX0_turn 20 = .ok (.imul, 1) := dk_104 (dk_at dksX0_turn_0 20 rfl rfl)
theorem dX0_turn_21 : decode cX0_turn 21 = .ok (.iload_n 2, 1) := dk_28 (dk_at dksX0_turn_0 21 rfl rfl)
theorem dX0_turn_22 : decode cX0_turn 22 = .ok (.invokestatic 156, 3) := dk_184 0 156 (dk_at dksX0_turn_1 0 rfl rfl)
theorem dX0_turn_25 : decode cX0_turn 25 = .ok (.iadd, 1) := dk_96 (dk_at dksX0_turn_1 3 rfl rfl)
theorem dX0_turn_26 : decode cX0_turn 26 = .ok (.baload, 1) := dk_51 (dk_at dksX0_turn_1 4 rfl rfl)
theorem dX0_turn_27 : decode cX0_turn 27 = .ok (.istore_n 3, 1) := dk_62 (dk_at dksX0_turn_1 5 rfl rfl)
theorem dX0_turn_28 : decode cX0_turn 28 = .ok (.iload_n 3, 1) := dk_29 (dk_at dksX0_turn_1 6 rfl rfl)
theorem dX0_turn_29 : decode cX0_turn 29 = .ok (.ifCond .ne 8, 3) := dk_154 0 8 (dk_at dksX0_turn_1 7 rfl rfl)
theorem dX0_turn_32 : decode cX0_turn 32 = .ok (.bipush 6, 2) := dk_16 6 (dk_at dksX0_turn_1 10 rfl rfl)
theorem dX0_turn_34 : decode cX0_turn 34 = .ok (.goto 4, 3) := dk_167 0 4 (dk_at dksX0_turn_1 12 rfl rfl)
theorem dX0_turn_37 : decode cX0_turn 37 = .ok (.iload_n 3, 1) := dk_29 (dk_at dksX0_turn_1 15 rfl rfl)
theorem dX0_turn_38 : decode cX0_turn 38 = .ok (.ireturn, 1) := dk_172 (dk_at dksX0_turn_1 16 rfl rfl)
abbrev cX0_stands : ByteArray := prog_1_method_26_code
def yX0_stands : MethodName := ⟨RX0, "stands", "(III)Z"⟩
def dkwX0_stands_2 : List UInt8 := [180, 0, 183, 27, 50, 29, 181, 0, 250, 4, 172]
abbrev dktX0_stands_2 : List UInt8 := dkwX0_stands_2 ++ []
def dkwX0_stands_1 : List UInt8 := [154, 0, 5, 3, 172, 42, 180, 0, 68, 180, 0, 183, 27, 50, 28, 181, 0, 247, 42, 180, 0, 68]
abbrev dktX0_stands_1 : List UInt8 := dkwX0_stands_1 ++ dktX0_stands_2
def dkwX0_stands_0 : List UInt8 := [42, 27, 182, 0, 125, 153, 0, 20, 28, 184, 0, 132, 153, 0, 13, 29, 3, 18, 246, 184, 0, 3]
abbrev dktX0_stands_0 : List UInt8 := dkwX0_stands_0 ++ dktX0_stands_1
theorem dksX0_stands_0 : cX0_stands.data.toList.drop 0 = dktX0_stands_0 := by decide +kernel
theorem dksX0_stands_1 : cX0_stands.data.toList.drop 22 = dktX0_stands_1 := dk_seg dksX0_stands_0 22 rfl rfl
theorem dksX0_stands_2 : cX0_stands.data.toList.drop 44 = dktX0_stands_2 := dk_seg dksX0_stands_1 22 rfl rfl
theorem dX0_stands_0 : decode cX0_stands 0 = .ok (.aload_n 0, 1) := dk_42 (dk_at dksX0_stands_0 0 rfl rfl)
theorem dX0_stands_1 : decode cX0_stands 1 = .ok (.iload_n 1, 1) := dk_27 (dk_at dksX0_stands_0 1 rfl rfl)
theorem dX0_stands_2 : decode cX0_stands 2 = .ok (.invokevirtual 125, 3) := dk_182 0 125 (dk_at dksX0_stands_0 2 rfl rfl)
theorem dX0_stands_5 : decode cX0_stands 5 = .ok (.ifCond .eq 20, 3) := dk_153 0 20 (dk_at dksX0_stands_0 5 rfl rfl)
theorem dX0_stands_8 : decode cX0_stands 8 = .ok (.iload_n 2, 1) := dk_28 (dk_at dksX0_stands_0 8 rfl rfl)
theorem dX0_stands_9 : decode cX0_stands 9 = .ok (.invokestatic 132, 3) := dk_184 0 132 (dk_at dksX0_stands_0 9 rfl rfl)
theorem dX0_stands_12 : decode cX0_stands 12 = .ok (.ifCond .eq 13, 3) := dk_153 0 13 (dk_at dksX0_stands_0 12 rfl rfl)
theorem dX0_stands_15 : decode cX0_stands 15 = .ok (.iload_n 3, 1) := dk_29 (dk_at dksX0_stands_0 15 rfl rfl)
theorem dX0_stands_16 : decode cX0_stands 16 = .ok (.iconst 0, 1) := dk_3 (dk_at dksX0_stands_0 16 rfl rfl)
theorem dX0_stands_17 : decode cX0_stands 17 = .ok (.ldc 246, 2) := dk_18 246 (dk_at dksX0_stands_0 17 rfl rfl)
theorem dX0_stands_19 : decode cX0_stands 19 = .ok (.invokestatic 3, 3) := dk_184 0 3 (dk_at dksX0_stands_0 19 rfl rfl)
theorem dX0_stands_22 : decode cX0_stands 22 = .ok (.ifCond .ne 5, 3) := dk_154 0 5 (dk_at dksX0_stands_1 0 rfl rfl)
theorem dX0_stands_25 : decode cX0_stands 25 = .ok (.iconst 0, 1) := dk_3 (dk_at dksX0_stands_1 3 rfl rfl)
theorem dX0_stands_26 : decode cX0_stands 26 = .ok (.ireturn, 1) := dk_172 (dk_at dksX0_stands_1 4 rfl rfl)
theorem dX0_stands_27 : decode cX0_stands 27 = .ok (.aload_n 0, 1) := dk_42 (dk_at dksX0_stands_1 5 rfl rfl)
theorem dX0_stands_28 : decode cX0_stands 28 = .ok (.getfield 68, 3) := dk_180 0 68 (dk_at dksX0_stands_1 6 rfl rfl)
theorem dX0_stands_31 : decode cX0_stands 31 = .ok (.getfield 183, 3) := dk_180 0 183 (dk_at dksX0_stands_1 9 rfl rfl)
theorem dX0_stands_34 : decode cX0_stands 34 = .ok (.iload_n 1, 1) := dk_27 (dk_at dksX0_stands_1 12 rfl rfl)
theorem dX0_stands_35 : decode cX0_stands 35 = .ok (.aaload, 1) := dk_50 (dk_at dksX0_stands_1 13 rfl rfl)
theorem dX0_stands_36 : decode cX0_stands 36 = .ok (.iload_n 2, 1) := dk_28 (dk_at dksX0_stands_1 14 rfl rfl)
theorem dX0_stands_37 : decode cX0_stands 37 = .ok (.putfield 247, 3) := dk_181 0 247 (dk_at dksX0_stands_1 15 rfl rfl)
theorem dX0_stands_40 : decode cX0_stands 40 = .ok (.aload_n 0, 1) := dk_42 (dk_at dksX0_stands_1 18 rfl rfl)
theorem dX0_stands_41 : decode cX0_stands 41 = .ok (.getfield 68, 3) := dk_180 0 68 (dk_at dksX0_stands_1 19 rfl rfl)
theorem dX0_stands_44 : decode cX0_stands 44 = .ok (.getfield 183, 3) := dk_180 0 183 (dk_at dksX0_stands_2 0 rfl rfl)
theorem dX0_stands_47 : decode cX0_stands 47 = .ok (.iload_n 1, 1) := dk_27 (dk_at dksX0_stands_2 3 rfl rfl)
theorem dX0_stands_48 : decode cX0_stands 48 = .ok (.aaload, 1) := dk_50 (dk_at dksX0_stands_2 4 rfl rfl)
theorem dX0_stands_49 : decode cX0_stands 49 = .ok (.iload_n 3, 1) := dk_29 (dk_at dksX0_stands_2 5 rfl rfl)
theorem dX0_stands_50 : decode cX0_stands 50 = .ok (.putfield 250, 3) := dk_181 0 250 (dk_at dksX0_stands_2 6 rfl rfl)
theorem dX0_stands_53 : decode cX0_stands 53 = .ok (.iconst 1, 1) := dk_4 (dk_at dksX0_stands_2 9 rfl rfl)
theorem dX0_stands_54 : decode cX0_stands 54 = .ok (.ireturn, 1) := dk_172 (dk_at dksX0_stands_2 10 rfl rfl)
abbrev cX0_isDay : ByteArray := prog_1_method_3_code
def yX0_isDay : MethodName := ⟨RX0, "isDay", "(I)Z"⟩
def dkwX0_isDay_0 : List UInt8 := [26, 3, 16, 99, 184, 0, 3, 172]
abbrev dktX0_isDay_0 : List UInt8 := dkwX0_isDay_0 ++ []
theorem dksX0_isDay_0 : cX0_isDay.data.toList.drop 0 = dktX0_isDay_0 := by decide +kernel
theorem dX0_isDay_0 : decode cX0_isDay 0 = .ok (.iload_n 0, 1) := dk_26 (dk_at dksX0_isDay_0 0 rfl rfl)
theorem dX0_isDay_1 : decode cX0_isDay 1 = .ok (.iconst 0, 1) := dk_3 (dk_at dksX0_isDay_0 1 rfl rfl)
theorem dX0_isDay_2 : decode cX0_isDay 2 = .ok (.bipush 99, 2) := dk_16 99 (dk_at dksX0_isDay_0 2 rfl rfl)
theorem dX0_isDay_4 : decode cX0_isDay 4 = .ok (.invokestatic 3, 3) := dk_184 0 3 (dk_at dksX0_isDay_0 4 rfl rfl)
theorem dX0_isDay_7 : decode cX0_isDay 7 = .ok (.ireturn, 1) := dk_172 (dk_at dksX0_isDay_0 7 rfl rfl)
abbrev cX0_worth : ByteArray := prog_1_method_27_code
def yX0_worth : MethodName := ⟨RX0, "worth", "(II)Z"⟩
def dkwX0_worth_1 : List UInt8 := [180, 0, 68, 180, 0, 253, 27, 28, 79, 4, 172]
abbrev dktX0_worth_1 : List UInt8 := dkwX0_worth_1 ++ []
def dkwX0_worth_0 : List UInt8 := [27, 3, 16, 7, 184, 0, 3, 153, 0, 13, 28, 3, 16, 99, 184, 0, 3, 154, 0, 5, 3, 172, 42]
abbrev dktX0_worth_0 : List UInt8 := dkwX0_worth_0 ++ dktX0_worth_1
theorem dksX0_worth_0 : cX0_worth.data.toList.drop 0 = dktX0_worth_0 := by decide +kernel
theorem dksX0_worth_1 : cX0_worth.data.toList.drop 23 = dktX0_worth_1 := dk_seg dksX0_worth_0 23 rfl rfl
theorem dX0_worth_0 : decode cX0_worth 0 = .ok (.iload_n 1, 1) := dk_27 (dk_at dksX0_worth_0 0 rfl rfl)
theorem dX0_worth_1 : decode cX0_worth 1 = .ok (.iconst 0, 1) := dk_3 (dk_at dksX0_worth_0 1 rfl rfl)
theorem dX0_worth_2 : decode cX0_worth 2 = .ok (.bipush 7, 2) := dk_16 7 (dk_at dksX0_worth_0 2 rfl rfl)
theorem dX0_worth_4 : decode cX0_worth 4 = .ok (.invokestatic 3, 3) := dk_184 0 3 (dk_at dksX0_worth_0 4 rfl rfl)
theorem dX0_worth_7 : decode cX0_worth 7 = .ok (.ifCond .eq 13, 3) := dk_153 0 13 (dk_at dksX0_worth_0 7 rfl rfl)
theorem dX0_worth_10 : decode cX0_worth 10 = .ok (.iload_n 2, 1) := dk_28 (dk_at dksX0_worth_0 10 rfl rfl)
theorem dX0_worth_11 : decode cX0_worth 11 = .ok (.iconst 0, 1) := dk_3 (dk_at dksX0_worth_0 11 rfl rfl)
theorem dX0_worth_12 : decode cX0_worth 12 = .ok (.bipush 99, 2) := dk_16 99 (dk_at dksX0_worth_0 12 rfl rfl)
theorem dX0_worth_14 : decode cX0_worth 14 = .ok (.invokestatic 3, 3) := dk_184 0 3 (dk_at dksX0_worth_0 14 rfl rfl)
theorem dX0_worth_17 : decode cX0_worth 17 = .ok (.ifCond .ne 5, 3) := dk_154 0 5 (dk_at dksX0_worth_0 17 rfl rfl)
theorem dX0_worth_20 : decode cX0_worth 20 = .ok (.iconst 0, 1) := dk_3 (dk_at dksX0_worth_0 20 rfl rfl)
theorem dX0_worth_21 : decode cX0_worth 21 = .ok (.ireturn, 1) := dk_172 (dk_at dksX0_worth_0 21 rfl rfl)
theorem dX0_worth_22 : decode cX0_worth 22 = .ok (.aload_n 0, 1) := dk_42 (dk_at dksX0_worth_0 22 rfl rfl)
theorem dX0_worth_23 : decode cX0_worth 23 = .ok (.getfield 68, 3) := dk_180 0 68 (dk_at dksX0_worth_1 0 rfl rfl)
theorem dX0_worth_26 : decode cX0_worth 26 = .ok (.getfield 253, 3) := dk_180 0 253 (dk_at dksX0_worth_1 3 rfl rfl)
theorem dX0_worth_29 : decode cX0_worth 29 = .ok (.iload_n 1, 1) := dk_27 (dk_at dksX0_worth_1 6 rfl rfl)
theorem dX0_worth_30 : decode cX0_worth 30 = .ok (.iload_n 2, 1) := dk_28 (dk_at dksX0_worth_1 7 rfl rfl)
theorem dX0_worth_31 : decode cX0_worth 31 = .ok (.iastore, 1) := dk_79 (dk_at dksX0_worth_1 8 rfl rfl)
theorem dX0_worth_32 : decode cX0_worth 32 = .ok (.iconst 1, 1) := dk_4 (dk_at dksX0_worth_1 9 rfl rfl)
theorem dX0_worth_33 : decode cX0_worth 33 = .ok (.ireturn, 1) := dk_172 (dk_at dksX0_worth_1 10 rfl rfl)
abbrev cX0_boxes : ByteArray := prog_1_method_28_code
def yX0_boxes : MethodName := ⟨RX0, "boxes", "(III)I"⟩
def dkwX0_boxes_1 : List UInt8 := [27, 50, 180, 1, 7, 28, 29, 3, 42, 180, 0, 22, 182, 1, 8, 180, 1, 14, 167, 0, 4, 2, 172]
abbrev dktX0_boxes_1 : List UInt8 := dkwX0_boxes_1 ++ []
def dkwX0_boxes_0 : List UInt8 := [42, 27, 28, 29, 182, 1, 0, 153, 0, 38, 42, 180, 0, 18, 180, 1, 3, 42, 180, 0, 68, 180, 0, 183]
abbrev dktX0_boxes_0 : List UInt8 := dkwX0_boxes_0 ++ dktX0_boxes_1
theorem dksX0_boxes_0 : cX0_boxes.data.toList.drop 0 = dktX0_boxes_0 := by decide +kernel
theorem dksX0_boxes_1 : cX0_boxes.data.toList.drop 24 = dktX0_boxes_1 := dk_seg dksX0_boxes_0 24 rfl rfl
theorem dX0_boxes_0 : decode cX0_boxes 0 = .ok (.aload_n 0, 1) := dk_42 (dk_at dksX0_boxes_0 0 rfl rfl)
theorem dX0_boxes_1 : decode cX0_boxes 1 = .ok (.iload_n 1, 1) := dk_27 (dk_at dksX0_boxes_0 1 rfl rfl)
theorem dX0_boxes_2 : decode cX0_boxes 2 = .ok (.iload_n 2, 1) := dk_28 (dk_at dksX0_boxes_0 2 rfl rfl)
theorem dX0_boxes_3 : decode cX0_boxes 3 = .ok (.iload_n 3, 1) := dk_29 (dk_at dksX0_boxes_0 3 rfl rfl)
theorem dX0_boxes_4 : decode cX0_boxes 4 = .ok (.invokevirtual 256, 3) := dk_182 1 0 (dk_at dksX0_boxes_0 4 rfl rfl)
theorem dX0_boxes_7 : decode cX0_boxes 7 = .ok (.ifCond .eq 38, 3) := dk_153 0 38 (dk_at dksX0_boxes_0 7 rfl rfl)
theorem dX0_boxes_10 : decode cX0_boxes 10 = .ok (.aload_n 0, 1) := dk_42 (dk_at dksX0_boxes_0 10 rfl rfl)
theorem dX0_boxes_11 : decode cX0_boxes 11 = .ok (.getfield 18, 3) := dk_180 0 18 (dk_at dksX0_boxes_0 11 rfl rfl)
theorem dX0_boxes_14 : decode cX0_boxes 14 = .ok (.getfield 259, 3) := dk_180 1 3 (dk_at dksX0_boxes_0 14 rfl rfl)
theorem dX0_boxes_17 : decode cX0_boxes 17 = .ok (.aload_n 0, 1) := dk_42 (dk_at dksX0_boxes_0 17 rfl rfl)
theorem dX0_boxes_18 : decode cX0_boxes 18 = .ok (.getfield 68, 3) := dk_180 0 68 (dk_at dksX0_boxes_0 18 rfl rfl)
theorem dX0_boxes_21 : decode cX0_boxes 21 = .ok (.getfield 183, 3) := dk_180 0 183 (dk_at dksX0_boxes_0 21 rfl rfl)
theorem dX0_boxes_24 : decode cX0_boxes 24 = .ok (.iload_n 1, 1) := dk_27 (dk_at dksX0_boxes_1 0 rfl rfl)
theorem dX0_boxes_25 : decode cX0_boxes 25 = .ok (.aaload, 1) := dk_50 (dk_at dksX0_boxes_1 1 rfl rfl)
theorem dX0_boxes_26 : decode cX0_boxes 26 = .ok (.getfield 263, 3) := dk_180 1 7 (dk_at dksX0_boxes_1 2 rfl rfl)
theorem dX0_boxes_29 : decode cX0_boxes 29 = .ok (.iload_n 2, 1) := dk_28 (dk_at dksX0_boxes_1 5 rfl rfl)
theorem dX0_boxes_30 : decode cX0_boxes 30 = .ok (.iload_n 3, 1) := dk_29 (dk_at dksX0_boxes_1 6 rfl rfl)
theorem dX0_boxes_31 : decode cX0_boxes 31 = .ok (.iconst 0, 1) := dk_3 (dk_at dksX0_boxes_1 7 rfl rfl)
theorem dX0_boxes_32 : decode cX0_boxes 32 = .ok (.aload_n 0, 1) := dk_42 (dk_at dksX0_boxes_1 8 rfl rfl)
theorem dX0_boxes_33 : decode cX0_boxes 33 = .ok (.getfield 22, 3) := dk_180 0 22 (dk_at dksX0_boxes_1 9 rfl rfl)
theorem dX0_boxes_36 : decode cX0_boxes 36 = .ok (.invokevirtual 264, 3) := dk_182 1 8 (dk_at dksX0_boxes_1 12 rfl rfl)
theorem dX0_boxes_39 : decode cX0_boxes 39 = .ok (.getfield 270, 3) := dk_180 1 14 (dk_at dksX0_boxes_1 15 rfl rfl)
theorem dX0_boxes_42 : decode cX0_boxes 42 = .ok (.goto 4, 3) := dk_167 0 4 (dk_at dksX0_boxes_1 18 rfl rfl)
theorem dX0_boxes_45 : decode cX0_boxes 45 = .ok (.iconst (-1), 1) := dk_2 (dk_at dksX0_boxes_1 21 rfl rfl)
theorem dX0_boxes_46 : decode cX0_boxes 46 = .ok (.ireturn, 1) := dk_172 (dk_at dksX0_boxes_1 22 rfl rfl)
abbrev cX0_isSeen : ByteArray := prog_1_method_7_code
def yX0_isSeen : MethodName := ⟨RX0, "isSeen", "(III)Z"⟩
def dkwX0_isSeen_1 : List UInt8 := [167, 0, 4, 3, 172]
abbrev dktX0_isSeen_1 : List UInt8 := dkwX0_isSeen_1 ++ []
def dkwX0_isSeen_0 : List UInt8 := [42, 27, 182, 0, 125, 153, 0, 21, 28, 184, 0, 129, 153, 0, 14, 29, 184, 0, 132, 153, 0, 7, 4]
abbrev dktX0_isSeen_0 : List UInt8 := dkwX0_isSeen_0 ++ dktX0_isSeen_1
theorem dksX0_isSeen_0 : cX0_isSeen.data.toList.drop 0 = dktX0_isSeen_0 := by decide +kernel
theorem dksX0_isSeen_1 : cX0_isSeen.data.toList.drop 23 = dktX0_isSeen_1 := dk_seg dksX0_isSeen_0 23 rfl rfl
theorem dX0_isSeen_0 : decode cX0_isSeen 0 = .ok (.aload_n 0, 1) := dk_42 (dk_at dksX0_isSeen_0 0 rfl rfl)
theorem dX0_isSeen_1 : decode cX0_isSeen 1 = .ok (.iload_n 1, 1) := dk_27 (dk_at dksX0_isSeen_0 1 rfl rfl)
theorem dX0_isSeen_2 : decode cX0_isSeen 2 = .ok (.invokevirtual 125, 3) := dk_182 0 125 (dk_at dksX0_isSeen_0 2 rfl rfl)
theorem dX0_isSeen_5 : decode cX0_isSeen 5 = .ok (.ifCond .eq 21, 3) := dk_153 0 21 (dk_at dksX0_isSeen_0 5 rfl rfl)
theorem dX0_isSeen_8 : decode cX0_isSeen 8 = .ok (.iload_n 2, 1) := dk_28 (dk_at dksX0_isSeen_0 8 rfl rfl)
theorem dX0_isSeen_9 : decode cX0_isSeen 9 = .ok (.invokestatic 129, 3) := dk_184 0 129 (dk_at dksX0_isSeen_0 9 rfl rfl)
theorem dX0_isSeen_12 : decode cX0_isSeen 12 = .ok (.ifCond .eq 14, 3) := dk_153 0 14 (dk_at dksX0_isSeen_0 12 rfl rfl)
theorem dX0_isSeen_15 : decode cX0_isSeen 15 = .ok (.iload_n 3, 1) := dk_29 (dk_at dksX0_isSeen_0 15 rfl rfl)
theorem dX0_isSeen_16 : decode cX0_isSeen 16 = .ok (.invokestatic 132, 3) := dk_184 0 132 (dk_at dksX0_isSeen_0 16 rfl rfl)
theorem dX0_isSeen_19 : decode cX0_isSeen 19 = .ok (.ifCond .eq 7, 3) := dk_153 0 7 (dk_at dksX0_isSeen_0 19 rfl rfl)
theorem dX0_isSeen_22 : decode cX0_isSeen 22 = .ok (.iconst 1, 1) := dk_4 (dk_at dksX0_isSeen_0 22 rfl rfl)
theorem dX0_isSeen_23 : decode cX0_isSeen 23 = .ok (.goto 4, 3) := dk_167 0 4 (dk_at dksX0_isSeen_1 0 rfl rfl)
theorem dX0_isSeen_26 : decode cX0_isSeen 26 = .ok (.iconst 0, 1) := dk_3 (dk_at dksX0_isSeen_1 3 rfl rfl)
theorem dX0_isSeen_27 : decode cX0_isSeen 27 = .ok (.ireturn, 1) := dk_172 (dk_at dksX0_isSeen_1 4 rfl rfl)
abbrev cX0_isLand : ByteArray := prog_1_method_2_code
def yX0_isLand : MethodName := ⟨RX0, "isLand", "(I)Z"⟩
def dkwX0_isLand_0 : List UInt8 := [26, 3, 6, 184, 0, 3, 172]
abbrev dktX0_isLand_0 : List UInt8 := dkwX0_isLand_0 ++ []
theorem dksX0_isLand_0 : cX0_isLand.data.toList.drop 0 = dktX0_isLand_0 := by decide +kernel
theorem dX0_isLand_0 : decode cX0_isLand 0 = .ok (.iload_n 0, 1) := dk_26 (dk_at dksX0_isLand_0 0 rfl rfl)
theorem dX0_isLand_1 : decode cX0_isLand 1 = .ok (.iconst 0, 1) := dk_3 (dk_at dksX0_isLand_0 1 rfl rfl)
theorem dX0_isLand_2 : decode cX0_isLand 2 = .ok (.iconst 3, 1) := dk_6 (dk_at dksX0_isLand_0 2 rfl rfl)
theorem dX0_isLand_3 : decode cX0_isLand 3 = .ok (.invokestatic 3, 3) := dk_184 0 3 (dk_at dksX0_isLand_0 3 rfl rfl)
theorem dX0_isLand_6 : decode cX0_isLand 6 = .ok (.ireturn, 1) := dk_172 (dk_at dksX0_isLand_0 6 rfl rfl)
abbrev cX0_box : ByteArray := prog_1_method_29_code
def yX0_box : MethodName := ⟨RX0, "box", "(III)I"⟩
def dkwX0_box_5 : List UInt8 := [25, 4, 180, 1, 39, 172, 16, 254, 172]
abbrev dktX0_box_5 : List UInt8 := dkwX0_box_5 ++ []
def dkwX0_box_4 : List UInt8 := [25, 4, 180, 1, 25, 172, 25, 4, 180, 1, 30, 172, 25, 4, 180, 1, 33, 172, 25, 4, 180, 1, 36, 172]
abbrev dktX0_box_4 : List UInt8 := dkwX0_box_4 ++ dktX0_box_5
def dkwX0_box_3 : List UInt8 := [170, 0, 0, 0, 0, 0, 0, 66, 0, 0, 0, 0, 0, 0, 0, 4, 0, 0, 0, 36, 0, 0, 0, 42, 0, 0, 0, 48, 0, 0, 0, 54, 0, 0, 0, 60]
abbrev dktX0_box_3 : List UInt8 := dkwX0_box_3 ++ dktX0_box_4
def dkwX0_box_2 : List UInt8 := [180, 1, 7, 180, 1, 22, 28, 50, 58, 4, 29]
abbrev dktX0_box_2 : List UInt8 := dkwX0_box_2 ++ dktX0_box_3
def dkwX0_box_1 : List UInt8 := [180, 1, 17, 4, 100, 184, 0, 3, 154, 0, 6, 16, 254, 172, 42, 180, 0, 68, 180, 0, 183, 27, 50]
abbrev dktX0_box_1 : List UInt8 := dkwX0_box_1 ++ dktX0_box_2
def dkwX0_box_0 : List UInt8 := [42, 27, 182, 0, 125, 153, 0, 28, 28, 3, 42, 180, 0, 68, 180, 0, 183, 27, 50, 180, 1, 7]
abbrev dktX0_box_0 : List UInt8 := dkwX0_box_0 ++ dktX0_box_1
theorem dksX0_box_0 : cX0_box.data.toList.drop 0 = dktX0_box_0 := by decide +kernel
theorem dksX0_box_1 : cX0_box.data.toList.drop 22 = dktX0_box_1 := dk_seg dksX0_box_0 22 rfl rfl
theorem dksX0_box_2 : cX0_box.data.toList.drop 45 = dktX0_box_2 := dk_seg dksX0_box_1 23 rfl rfl
theorem dksX0_box_3 : cX0_box.data.toList.drop 56 = dktX0_box_3 := dk_seg dksX0_box_2 11 rfl rfl
theorem dksX0_box_4 : cX0_box.data.toList.drop 92 = dktX0_box_4 := dk_seg dksX0_box_3 36 rfl rfl
theorem dksX0_box_5 : cX0_box.data.toList.drop 116 = dktX0_box_5 := dk_seg dksX0_box_4 24 rfl rfl
theorem dX0_box_0 : decode cX0_box 0 = .ok (.aload_n 0, 1) := dk_42 (dk_at dksX0_box_0 0 rfl rfl)
theorem dX0_box_1 : decode cX0_box 1 = .ok (.iload_n 1, 1) := dk_27 (dk_at dksX0_box_0 1 rfl rfl)
theorem dX0_box_2 : decode cX0_box 2 = .ok (.invokevirtual 125, 3) := dk_182 0 125 (dk_at dksX0_box_0 2 rfl rfl)
theorem dX0_box_5 : decode cX0_box 5 = .ok (.ifCond .eq 28, 3) := dk_153 0 28 (dk_at dksX0_box_0 5 rfl rfl)
theorem dX0_box_8 : decode cX0_box 8 = .ok (.iload_n 2, 1) := dk_28 (dk_at dksX0_box_0 8 rfl rfl)
theorem dX0_box_9 : decode cX0_box 9 = .ok (.iconst 0, 1) := dk_3 (dk_at dksX0_box_0 9 rfl rfl)
theorem dX0_box_10 : decode cX0_box 10 = .ok (.aload_n 0, 1) := dk_42 (dk_at dksX0_box_0 10 rfl rfl)
theorem dX0_box_11 : decode cX0_box 11 = .ok (.getfield 68, 3) := dk_180 0 68 (dk_at dksX0_box_0 11 rfl rfl)
theorem dX0_box_14 : decode cX0_box 14 = .ok (.getfield 183, 3) := dk_180 0 183 (dk_at dksX0_box_0 14 rfl rfl)
theorem dX0_box_17 : decode cX0_box 17 = .ok (.iload_n 1, 1) := dk_27 (dk_at dksX0_box_0 17 rfl rfl)
theorem dX0_box_18 : decode cX0_box 18 = .ok (.aaload, 1) := dk_50 (dk_at dksX0_box_0 18 rfl rfl)
theorem dX0_box_19 : decode cX0_box 19 = .ok (.getfield 263, 3) := dk_180 1 7 (dk_at dksX0_box_0 19 rfl rfl)
theorem dX0_box_22 : decode cX0_box 22 = .ok (.getfield 273, 3) := dk_180 1 17 (dk_at dksX0_box_1 0 rfl rfl)
theorem dX0_box_25 : decode cX0_box 25 = .ok (.iconst 1, 1) := dk_4 (dk_at dksX0_box_1 3 rfl rfl)
theorem dX0_box_26 : decode cX0_box 26 = .ok (.isub, 1) := dk_100 (dk_at dksX0_box_1 4 rfl rfl)
theorem dX0_box_27 : decode cX0_box 27 = .ok (.invokestatic 3, 3) := dk_184 0 3 (dk_at dksX0_box_1 5 rfl rfl)
theorem dX0_box_30 : decode cX0_box 30 = .ok (.ifCond .ne 6, 3) := dk_154 0 6 (dk_at dksX0_box_1 8 rfl rfl)
theorem dX0_box_33 : decode cX0_box 33 = .ok (.bipush (-2), 2) := dk_16 254 (dk_at dksX0_box_1 11 rfl rfl)
theorem dX0_box_35 : decode cX0_box 35 = .ok (.ireturn, 1) := dk_172 (dk_at dksX0_box_1 13 rfl rfl)
theorem dX0_box_36 : decode cX0_box 36 = .ok (.aload_n 0, 1) := dk_42 (dk_at dksX0_box_1 14 rfl rfl)
theorem dX0_box_37 : decode cX0_box 37 = .ok (.getfield 68, 3) := dk_180 0 68 (dk_at dksX0_box_1 15 rfl rfl)
theorem dX0_box_40 : decode cX0_box 40 = .ok (.getfield 183, 3) := dk_180 0 183 (dk_at dksX0_box_1 18 rfl rfl)
theorem dX0_box_43 : decode cX0_box 43 = .ok (.iload_n 1, 1) := dk_27 (dk_at dksX0_box_1 21 rfl rfl)
theorem dX0_box_44 : decode cX0_box 44 = .ok (.aaload, 1) := dk_50 (dk_at dksX0_box_1 22 rfl rfl)
theorem dX0_box_45 : decode cX0_box 45 = .ok (.getfield 263, 3) := dk_180 1 7 (dk_at dksX0_box_2 0 rfl rfl)
theorem dX0_box_48 : decode cX0_box 48 = .ok (.getfield 278, 3) := dk_180 1 22 (dk_at dksX0_box_2 3 rfl rfl)
theorem dX0_box_51 : decode cX0_box 51 = .ok (.iload_n 2, 1) := dk_28 (dk_at dksX0_box_2 6 rfl rfl)
theorem dX0_box_52 : decode cX0_box 52 = .ok (.aaload, 1) := dk_50 (dk_at dksX0_box_2 7 rfl rfl)
theorem dX0_box_53 : decode cX0_box 53 = .ok (.astore 4, 2) := dk_58 4 (dk_at dksX0_box_2 8 rfl rfl)
theorem dX0_box_55 : decode cX0_box 55 = .ok (.iload_n 3, 1) := dk_29 (dk_at dksX0_box_2 10 rfl rfl)
theorem dX0_box_56 : decode cX0_box 56 = .ok (.tableswitch 66 0 4 #[36, 42, 48, 54, 60], 36) := by decide +kernel
theorem dX0_box_92 : decode cX0_box 92 = .ok (.aload 4, 2) := dk_25 4 (dk_at dksX0_box_4 0 rfl rfl)
theorem dX0_box_94 : decode cX0_box 94 = .ok (.getfield 281, 3) := dk_180 1 25 (dk_at dksX0_box_4 2 rfl rfl)
theorem dX0_box_97 : decode cX0_box 97 = .ok (.ireturn, 1) := dk_172 (dk_at dksX0_box_4 5 rfl rfl)
theorem dX0_box_98 : decode cX0_box 98 = .ok (.aload 4, 2) := dk_25 4 (dk_at dksX0_box_4 6 rfl rfl)
theorem dX0_box_100 : decode cX0_box 100 = .ok (.getfield 286, 3) := dk_180 1 30 (dk_at dksX0_box_4 8 rfl rfl)
theorem dX0_box_103 : decode cX0_box 103 = .ok (.ireturn, 1) := dk_172 (dk_at dksX0_box_4 11 rfl rfl)
theorem dX0_box_104 : decode cX0_box 104 = .ok (.aload 4, 2) := dk_25 4 (dk_at dksX0_box_4 12 rfl rfl)
theorem dX0_box_106 : decode cX0_box 106 = .ok (.getfield 289, 3) := dk_180 1 33 (dk_at dksX0_box_4 14 rfl rfl)
theorem dX0_box_109 : decode cX0_box 109 = .ok (.ireturn, 1) := dk_172 (dk_at dksX0_box_4 17 rfl rfl)
theorem dX0_box_110 : decode cX0_box 110 = .ok (.aload 4, 2) := dk_25 4 (dk_at dksX0_box_4 18 rfl rfl)
theorem dX0_box_112 : decode cX0_box 112 = .ok (.getfield 292, 3) := dk_180 1 36 (dk_at dksX0_box_4 20 rfl rfl)
theorem dX0_box_115 : decode cX0_box 115 = .ok (.ireturn, 1) := dk_172 (dk_at dksX0_box_4 23 rfl rfl)
theorem dX0_box_116 : decode cX0_box 116 = .ok (.aload 4, 2) := dk_25 4 (dk_at dksX0_box_5 0 rfl rfl)
theorem dX0_box_118 : decode cX0_box 118 = .ok (.getfield 295, 3) := dk_180 1 39 (dk_at dksX0_box_5 2 rfl rfl)
theorem dX0_box_121 : decode cX0_box 121 = .ok (.ireturn, 1) := dk_172 (dk_at dksX0_box_5 5 rfl rfl)
theorem dX0_box_122 : decode cX0_box 122 = .ok (.bipush (-2), 2) := dk_16 254 (dk_at dksX0_box_5 6 rfl rfl)
theorem dX0_box_124 : decode cX0_box 124 = .ok (.ireturn, 1) := dk_172 (dk_at dksX0_box_5 8 rfl rfl)
abbrev cX0_far : ByteArray := prog_1_method_30_code
def yX0_far : MethodName := ⟨RX0, "far", "(IIII)I"⟩
def dkwX0_far_3 : List UInt8 := [180, 1, 7, 29, 21, 4, 3, 42, 180, 0, 22, 182, 1, 8, 87, 42, 180, 0, 18, 182, 1, 45, 172]
abbrev dktX0_far_3 : List UInt8 := dkwX0_far_3 ++ []
def dkwX0_far_2 : List UInt8 := [180, 0, 22, 182, 1, 8, 87, 42, 180, 0, 18, 180, 1, 42, 42, 180, 0, 68, 180, 0, 183, 28, 50]
abbrev dktX0_far_2 : List UInt8 := dkwX0_far_2 ++ dktX0_far_3
def dkwX0_far_1 : List UInt8 := [180, 0, 18, 180, 1, 3, 42, 180, 0, 68, 180, 0, 183, 27, 50, 180, 1, 7, 29, 21, 4, 3, 42]
abbrev dktX0_far_1 : List UInt8 := dkwX0_far_1 ++ dktX0_far_2
def dkwX0_far_0 : List UInt8 := [42, 27, 29, 21, 4, 182, 1, 0, 153, 0, 11, 42, 28, 182, 0, 125, 154, 0, 5, 2, 172, 42]
abbrev dktX0_far_0 : List UInt8 := dkwX0_far_0 ++ dktX0_far_1
theorem dksX0_far_0 : cX0_far.data.toList.drop 0 = dktX0_far_0 := by decide +kernel
theorem dksX0_far_1 : cX0_far.data.toList.drop 22 = dktX0_far_1 := dk_seg dksX0_far_0 22 rfl rfl
theorem dksX0_far_2 : cX0_far.data.toList.drop 45 = dktX0_far_2 := dk_seg dksX0_far_1 23 rfl rfl
theorem dksX0_far_3 : cX0_far.data.toList.drop 68 = dktX0_far_3 := dk_seg dksX0_far_2 23 rfl rfl
theorem dX0_far_0 : decode cX0_far 0 = .ok (.aload_n 0, 1) := dk_42 (dk_at dksX0_far_0 0 rfl rfl)
theorem dX0_far_1 : decode cX0_far 1 = .ok (.iload_n 1, 1) := dk_27 (dk_at dksX0_far_0 1 rfl rfl)
theorem dX0_far_2 : decode cX0_far 2 = .ok (.iload_n 3, 1) := dk_29 (dk_at dksX0_far_0 2 rfl rfl)
theorem dX0_far_3 : decode cX0_far 3 = .ok (.iload 4, 2) := dk_21 4 (dk_at dksX0_far_0 3 rfl rfl)
theorem dX0_far_5 : decode cX0_far 5 = .ok (.invokevirtual 256, 3) := dk_182 1 0 (dk_at dksX0_far_0 5 rfl rfl)
theorem dX0_far_8 : decode cX0_far 8 = .ok (.ifCond .eq 11, 3) := dk_153 0 11 (dk_at dksX0_far_0 8 rfl rfl)
theorem dX0_far_11 : decode cX0_far 11 = .ok (.aload_n 0, 1) := dk_42 (dk_at dksX0_far_0 11 rfl rfl)
theorem dX0_far_12 : decode cX0_far 12 = .ok (.iload_n 2, 1) := dk_28 (dk_at dksX0_far_0 12 rfl rfl)
theorem dX0_far_13 : decode cX0_far 13 = .ok (.invokevirtual 125, 3) := dk_182 0 125 (dk_at dksX0_far_0 13 rfl rfl)
theorem dX0_far_16 : decode cX0_far 16 = .ok (.ifCond .ne 5, 3) := dk_154 0 5 (dk_at dksX0_far_0 16 rfl rfl)
theorem dX0_far_19 : decode cX0_far 19 = .ok (.iconst (-1), 1) := dk_2 (dk_at dksX0_far_0 19 rfl rfl)
theorem dX0_far_20 : decode cX0_far 20 = .ok (.ireturn, 1) := dk_172 (dk_at dksX0_far_0 20 rfl rfl)
theorem dX0_far_21 : decode cX0_far 21 = .ok (.aload_n 0, 1) := dk_42 (dk_at dksX0_far_0 21 rfl rfl)
theorem dX0_far_22 : decode cX0_far 22 = .ok (.getfield 18, 3) := dk_180 0 18 (dk_at dksX0_far_1 0 rfl rfl)
theorem dX0_far_25 : decode cX0_far 25 = .ok (.getfield 259, 3) := dk_180 1 3 (dk_at dksX0_far_1 3 rfl rfl)
theorem dX0_far_28 : decode cX0_far 28 = .ok (.aload_n 0, 1) := dk_42 (dk_at dksX0_far_1 6 rfl rfl)
theorem dX0_far_29 : decode cX0_far 29 = .ok (.getfield 68, 3) := dk_180 0 68 (dk_at dksX0_far_1 7 rfl rfl)
theorem dX0_far_32 : decode cX0_far 32 = .ok (.getfield 183, 3) := dk_180 0 183 (dk_at dksX0_far_1 10 rfl rfl)
theorem dX0_far_35 : decode cX0_far 35 = .ok (.iload_n 1, 1) := dk_27 (dk_at dksX0_far_1 13 rfl rfl)
theorem dX0_far_36 : decode cX0_far 36 = .ok (.aaload, 1) := dk_50 (dk_at dksX0_far_1 14 rfl rfl)
theorem dX0_far_37 : decode cX0_far 37 = .ok (.getfield 263, 3) := dk_180 1 7 (dk_at dksX0_far_1 15 rfl rfl)
theorem dX0_far_40 : decode cX0_far 40 = .ok (.iload_n 3, 1) := dk_29 (dk_at dksX0_far_1 18 rfl rfl)
theorem dX0_far_41 : decode cX0_far 41 = .ok (.iload 4, 2) := dk_21 4 (dk_at dksX0_far_1 19 rfl rfl)
theorem dX0_far_43 : decode cX0_far 43 = .ok (.iconst 0, 1) := dk_3 (dk_at dksX0_far_1 21 rfl rfl)
theorem dX0_far_44 : decode cX0_far 44 = .ok (.aload_n 0, 1) := dk_42 (dk_at dksX0_far_1 22 rfl rfl)
theorem dX0_far_45 : decode cX0_far 45 = .ok (.getfield 22, 3) := dk_180 0 22 (dk_at dksX0_far_2 0 rfl rfl)
theorem dX0_far_48 : decode cX0_far 48 = .ok (.invokevirtual 264, 3) := dk_182 1 8 (dk_at dksX0_far_2 3 rfl rfl)
theorem dX0_far_51 : decode cX0_far 51 = .ok (.pop, 1) := dk_87 (dk_at dksX0_far_2 6 rfl rfl)
theorem dX0_far_52 : decode cX0_far 52 = .ok (.aload_n 0, 1) := dk_42 (dk_at dksX0_far_2 7 rfl rfl)
theorem dX0_far_53 : decode cX0_far 53 = .ok (.getfield 18, 3) := dk_180 0 18 (dk_at dksX0_far_2 8 rfl rfl)
theorem dX0_far_56 : decode cX0_far 56 = .ok (.getfield 298, 3) := dk_180 1 42 (dk_at dksX0_far_2 11 rfl rfl)
theorem dX0_far_59 : decode cX0_far 59 = .ok (.aload_n 0, 1) := dk_42 (dk_at dksX0_far_2 14 rfl rfl)
theorem dX0_far_60 : decode cX0_far 60 = .ok (.getfield 68, 3) := dk_180 0 68 (dk_at dksX0_far_2 15 rfl rfl)
theorem dX0_far_63 : decode cX0_far 63 = .ok (.getfield 183, 3) := dk_180 0 183 (dk_at dksX0_far_2 18 rfl rfl)
theorem dX0_far_66 : decode cX0_far 66 = .ok (.iload_n 2, 1) := dk_28 (dk_at dksX0_far_2 21 rfl rfl)
theorem dX0_far_67 : decode cX0_far 67 = .ok (.aaload, 1) := dk_50 (dk_at dksX0_far_2 22 rfl rfl)
theorem dX0_far_68 : decode cX0_far 68 = .ok (.getfield 263, 3) := dk_180 1 7 (dk_at dksX0_far_3 0 rfl rfl)
theorem dX0_far_71 : decode cX0_far 71 = .ok (.iload_n 3, 1) := dk_29 (dk_at dksX0_far_3 3 rfl rfl)
theorem dX0_far_72 : decode cX0_far 72 = .ok (.iload 4, 2) := dk_21 4 (dk_at dksX0_far_3 4 rfl rfl)
theorem dX0_far_74 : decode cX0_far 74 = .ok (.iconst 0, 1) := dk_3 (dk_at dksX0_far_3 6 rfl rfl)
theorem dX0_far_75 : decode cX0_far 75 = .ok (.aload_n 0, 1) := dk_42 (dk_at dksX0_far_3 7 rfl rfl)
theorem dX0_far_76 : decode cX0_far 76 = .ok (.getfield 22, 3) := dk_180 0 22 (dk_at dksX0_far_3 8 rfl rfl)
theorem dX0_far_79 : decode cX0_far 79 = .ok (.invokevirtual 264, 3) := dk_182 1 8 (dk_at dksX0_far_3 11 rfl rfl)
theorem dX0_far_82 : decode cX0_far 82 = .ok (.pop, 1) := dk_87 (dk_at dksX0_far_3 14 rfl rfl)
theorem dX0_far_83 : decode cX0_far 83 = .ok (.aload_n 0, 1) := dk_42 (dk_at dksX0_far_3 15 rfl rfl)
theorem dX0_far_84 : decode cX0_far 84 = .ok (.getfield 18, 3) := dk_180 0 18 (dk_at dksX0_far_3 16 rfl rfl)
theorem dX0_far_87 : decode cX0_far 87 = .ok (.invokevirtual 301, 3) := dk_182 1 45 (dk_at dksX0_far_3 19 rfl rfl)
theorem dX0_far_90 : decode cX0_far 90 = .ok (.ireturn, 1) := dk_172 (dk_at dksX0_far_3 22 rfl rfl)
abbrev cX0_look : ByteArray := prog_1_method_33_code
def yX0_look : MethodName := ⟨RX0, "look", "(IIII)I"⟩
def dkwX0_look_2 : List UInt8 := [180, 0, 22, 182, 1, 8, 87, 42, 28, 29, 21, 4, 182, 1, 52, 172]
abbrev dktX0_look_2 : List UInt8 := dkwX0_look_2 ++ []
def dkwX0_look_1 : List UInt8 := [180, 0, 18, 180, 1, 3, 42, 180, 0, 68, 180, 0, 183, 27, 50, 180, 1, 7, 29, 21, 4, 3, 42]
abbrev dktX0_look_1 : List UInt8 := dkwX0_look_1 ++ dktX0_look_2
def dkwX0_look_0 : List UInt8 := [42, 27, 29, 21, 4, 182, 1, 0, 153, 0, 11, 42, 28, 182, 0, 213, 154, 0, 5, 2, 172, 42]
abbrev dktX0_look_0 : List UInt8 := dkwX0_look_0 ++ dktX0_look_1
theorem dksX0_look_0 : cX0_look.data.toList.drop 0 = dktX0_look_0 := by decide +kernel
theorem dksX0_look_1 : cX0_look.data.toList.drop 22 = dktX0_look_1 := dk_seg dksX0_look_0 22 rfl rfl
theorem dksX0_look_2 : cX0_look.data.toList.drop 45 = dktX0_look_2 := dk_seg dksX0_look_1 23 rfl rfl
theorem dX0_look_0 : decode cX0_look 0 = .ok (.aload_n 0, 1) := dk_42 (dk_at dksX0_look_0 0 rfl rfl)
theorem dX0_look_1 : decode cX0_look 1 = .ok (.iload_n 1, 1) := dk_27 (dk_at dksX0_look_0 1 rfl rfl)
theorem dX0_look_2 : decode cX0_look 2 = .ok (.iload_n 3, 1) := dk_29 (dk_at dksX0_look_0 2 rfl rfl)
theorem dX0_look_3 : decode cX0_look 3 = .ok (.iload 4, 2) := dk_21 4 (dk_at dksX0_look_0 3 rfl rfl)
theorem dX0_look_5 : decode cX0_look 5 = .ok (.invokevirtual 256, 3) := dk_182 1 0 (dk_at dksX0_look_0 5 rfl rfl)
theorem dX0_look_8 : decode cX0_look 8 = .ok (.ifCond .eq 11, 3) := dk_153 0 11 (dk_at dksX0_look_0 8 rfl rfl)
theorem dX0_look_11 : decode cX0_look 11 = .ok (.aload_n 0, 1) := dk_42 (dk_at dksX0_look_0 11 rfl rfl)
theorem dX0_look_12 : decode cX0_look 12 = .ok (.iload_n 2, 1) := dk_28 (dk_at dksX0_look_0 12 rfl rfl)
theorem dX0_look_13 : decode cX0_look 13 = .ok (.invokevirtual 213, 3) := dk_182 0 213 (dk_at dksX0_look_0 13 rfl rfl)
theorem dX0_look_16 : decode cX0_look 16 = .ok (.ifCond .ne 5, 3) := dk_154 0 5 (dk_at dksX0_look_0 16 rfl rfl)
theorem dX0_look_19 : decode cX0_look 19 = .ok (.iconst (-1), 1) := dk_2 (dk_at dksX0_look_0 19 rfl rfl)
theorem dX0_look_20 : decode cX0_look 20 = .ok (.ireturn, 1) := dk_172 (dk_at dksX0_look_0 20 rfl rfl)
theorem dX0_look_21 : decode cX0_look 21 = .ok (.aload_n 0, 1) := dk_42 (dk_at dksX0_look_0 21 rfl rfl)
theorem dX0_look_22 : decode cX0_look 22 = .ok (.getfield 18, 3) := dk_180 0 18 (dk_at dksX0_look_1 0 rfl rfl)
theorem dX0_look_25 : decode cX0_look 25 = .ok (.getfield 259, 3) := dk_180 1 3 (dk_at dksX0_look_1 3 rfl rfl)
theorem dX0_look_28 : decode cX0_look 28 = .ok (.aload_n 0, 1) := dk_42 (dk_at dksX0_look_1 6 rfl rfl)
theorem dX0_look_29 : decode cX0_look 29 = .ok (.getfield 68, 3) := dk_180 0 68 (dk_at dksX0_look_1 7 rfl rfl)
theorem dX0_look_32 : decode cX0_look 32 = .ok (.getfield 183, 3) := dk_180 0 183 (dk_at dksX0_look_1 10 rfl rfl)
theorem dX0_look_35 : decode cX0_look 35 = .ok (.iload_n 1, 1) := dk_27 (dk_at dksX0_look_1 13 rfl rfl)
theorem dX0_look_36 : decode cX0_look 36 = .ok (.aaload, 1) := dk_50 (dk_at dksX0_look_1 14 rfl rfl)
theorem dX0_look_37 : decode cX0_look 37 = .ok (.getfield 263, 3) := dk_180 1 7 (dk_at dksX0_look_1 15 rfl rfl)
theorem dX0_look_40 : decode cX0_look 40 = .ok (.iload_n 3, 1) := dk_29 (dk_at dksX0_look_1 18 rfl rfl)
theorem dX0_look_41 : decode cX0_look 41 = .ok (.iload 4, 2) := dk_21 4 (dk_at dksX0_look_1 19 rfl rfl)
theorem dX0_look_43 : decode cX0_look 43 = .ok (.iconst 0, 1) := dk_3 (dk_at dksX0_look_1 21 rfl rfl)
theorem dX0_look_44 : decode cX0_look 44 = .ok (.aload_n 0, 1) := dk_42 (dk_at dksX0_look_1 22 rfl rfl)
theorem dX0_look_45 : decode cX0_look 45 = .ok (.getfield 22, 3) := dk_180 0 22 (dk_at dksX0_look_2 0 rfl rfl)
theorem dX0_look_48 : decode cX0_look 48 = .ok (.invokevirtual 264, 3) := dk_182 1 8 (dk_at dksX0_look_2 3 rfl rfl)
theorem dX0_look_51 : decode cX0_look 51 = .ok (.pop, 1) := dk_87 (dk_at dksX0_look_2 6 rfl rfl)
theorem dX0_look_52 : decode cX0_look 52 = .ok (.aload_n 0, 1) := dk_42 (dk_at dksX0_look_2 7 rfl rfl)
theorem dX0_look_53 : decode cX0_look 53 = .ok (.iload_n 2, 1) := dk_28 (dk_at dksX0_look_2 8 rfl rfl)
theorem dX0_look_54 : decode cX0_look 54 = .ok (.iload_n 3, 1) := dk_29 (dk_at dksX0_look_2 9 rfl rfl)
theorem dX0_look_55 : decode cX0_look 55 = .ok (.iload 4, 2) := dk_21 4 (dk_at dksX0_look_2 10 rfl rfl)
theorem dX0_look_57 : decode cX0_look 57 = .ok (.invokevirtual 308, 3) := dk_182 1 52 (dk_at dksX0_look_2 12 rfl rfl)
theorem dX0_look_60 : decode cX0_look 60 = .ok (.ireturn, 1) := dk_172 (dk_at dksX0_look_2 15 rfl rfl)
abbrev cX0_lookAt : ByteArray := prog_1_method_31_code
def yX0_lookAt : MethodName := ⟨RX0, "lookAt", "(III)I"⟩
def dkwX0_lookAt_3 : List UInt8 := [54, 4, 132, 5, 1, 167, 255, 189, 21, 4, 172]
abbrev dktX0_lookAt_3 : List UInt8 := dkwX0_lookAt_3 ++ []
def dkwX0_lookAt_2 : List UInt8 := [50, 28, 29, 3, 42, 180, 0, 22, 182, 1, 8, 87, 21, 4, 42, 180, 0, 18, 182, 1, 45, 184, 0, 232]
abbrev dktX0_lookAt_2 : List UInt8 := dkwX0_lookAt_2 ++ dktX0_lookAt_3
def dkwX0_lookAt_1 : List UInt8 := [162, 0, 56, 42, 180, 0, 18, 180, 1, 42, 42, 180, 0, 68, 180, 0, 174, 27, 50, 180, 0, 221, 21, 5]
abbrev dktX0_lookAt_1 : List UInt8 := dkwX0_lookAt_1 ++ dktX0_lookAt_2
def dkwX0_lookAt_0 : List UInt8 := [17, 3, 231, 54, 4, 3, 54, 5, 21, 5, 42, 180, 0, 68, 180, 0, 174, 27, 50, 180, 0, 216]
abbrev dktX0_lookAt_0 : List UInt8 := dkwX0_lookAt_0 ++ dktX0_lookAt_1
theorem dksX0_lookAt_0 : cX0_lookAt.data.toList.drop 0 = dktX0_lookAt_0 := by decide +kernel
theorem dksX0_lookAt_1 : cX0_lookAt.data.toList.drop 22 = dktX0_lookAt_1 := dk_seg dksX0_lookAt_0 22 rfl rfl
theorem dksX0_lookAt_2 : cX0_lookAt.data.toList.drop 46 = dktX0_lookAt_2 := dk_seg dksX0_lookAt_1 24 rfl rfl
theorem dksX0_lookAt_3 : cX0_lookAt.data.toList.drop 70 = dktX0_lookAt_3 := dk_seg dksX0_lookAt_2 24 rfl rfl
theorem dX0_lookAt_0 : decode cX0_lookAt 0 = .ok (.sipush 999, 3) := dk_17 3 231 (dk_at dksX0_lookAt_0 0 rfl rfl)
theorem dX0_lookAt_3 : decode cX0_lookAt 3 = .ok (.istore 4, 2) := dk_54 4 (dk_at dksX0_lookAt_0 3 rfl rfl)
theorem dX0_lookAt_5 : decode cX0_lookAt 5 = .ok (.iconst 0, 1) := dk_3 (dk_at dksX0_lookAt_0 5 rfl rfl)
theorem dX0_lookAt_6 : decode cX0_lookAt 6 = .ok (.istore 5, 2) := dk_54 5 (dk_at dksX0_lookAt_0 6 rfl rfl)
theorem dX0_lookAt_8 : decode cX0_lookAt 8 = .ok (.iload 5, 2) := dk_21 5 (dk_at dksX0_lookAt_0 8 rfl rfl)
theorem dX0_lookAt_10 : decode cX0_lookAt 10 = .ok (.aload_n 0, 1) := dk_42 (dk_at dksX0_lookAt_0 10 rfl rfl)
theorem dX0_lookAt_11 : decode cX0_lookAt 11 = .ok (.getfield 68, 3) := dk_180 0 68 (dk_at dksX0_lookAt_0 11 rfl rfl)
theorem dX0_lookAt_14 : decode cX0_lookAt 14 = .ok (.getfield 174, 3) := dk_180 0 174 (dk_at dksX0_lookAt_0 14 rfl rfl)
theorem dX0_lookAt_17 : decode cX0_lookAt 17 = .ok (.iload_n 1, 1) := dk_27 (dk_at dksX0_lookAt_0 17 rfl rfl)
theorem dX0_lookAt_18 : decode cX0_lookAt 18 = .ok (.aaload, 1) := dk_50 (dk_at dksX0_lookAt_0 18 rfl rfl)
theorem dX0_lookAt_19 : decode cX0_lookAt 19 = .ok (.getfield 216, 3) := dk_180 0 216 (dk_at dksX0_lookAt_0 19 rfl rfl)
theorem dX0_lookAt_22 : decode cX0_lookAt 22 = .ok (.if_icmp .ge 56, 3) := dk_162 0 56 (dk_at dksX0_lookAt_1 0 rfl rfl)
theorem dX0_lookAt_25 : decode cX0_lookAt 25 = .ok (.aload_n 0, 1) := dk_42 (dk_at dksX0_lookAt_1 3 rfl rfl)
theorem dX0_lookAt_26 : decode cX0_lookAt 26 = .ok (.getfield 18, 3) := dk_180 0 18 (dk_at dksX0_lookAt_1 4 rfl rfl)
theorem dX0_lookAt_29 : decode cX0_lookAt 29 = .ok (.getfield 298, 3) := dk_180 1 42 (dk_at dksX0_lookAt_1 7 rfl rfl)
theorem dX0_lookAt_32 : decode cX0_lookAt 32 = .ok (.aload_n 0, 1) := dk_42 (dk_at dksX0_lookAt_1 10 rfl rfl)
theorem dX0_lookAt_33 : decode cX0_lookAt 33 = .ok (.getfield 68, 3) := dk_180 0 68 (dk_at dksX0_lookAt_1 11 rfl rfl)
theorem dX0_lookAt_36 : decode cX0_lookAt 36 = .ok (.getfield 174, 3) := dk_180 0 174 (dk_at dksX0_lookAt_1 14 rfl rfl)
theorem dX0_lookAt_39 : decode cX0_lookAt 39 = .ok (.iload_n 1, 1) := dk_27 (dk_at dksX0_lookAt_1 17 rfl rfl)
theorem dX0_lookAt_40 : decode cX0_lookAt 40 = .ok (.aaload, 1) := dk_50 (dk_at dksX0_lookAt_1 18 rfl rfl)
theorem dX0_lookAt_41 : decode cX0_lookAt 41 = .ok (.getfield 221, 3) := dk_180 0 221 (dk_at dksX0_lookAt_1 19 rfl rfl)
theorem dX0_lookAt_44 : decode cX0_lookAt 44 = .ok (.iload 5, 2) := dk_21 5 (dk_at dksX0_lookAt_1 22 rfl rfl)
theorem dX0_lookAt_46 : decode cX0_lookAt 46 = .ok (.aaload, 1) := dk_50 (dk_at dksX0_lookAt_2 0 rfl rfl)
theorem dX0_lookAt_47 : decode cX0_lookAt 47 = .ok (.iload_n 2, 1) := dk_28 (dk_at dksX0_lookAt_2 1 rfl rfl)
theorem dX0_lookAt_48 : decode cX0_lookAt 48 = .ok (.iload_n 3, 1) := dk_29 (dk_at dksX0_lookAt_2 2 rfl rfl)
theorem dX0_lookAt_49 : decode cX0_lookAt 49 = .ok (.iconst 0, 1) := dk_3 (dk_at dksX0_lookAt_2 3 rfl rfl)
theorem dX0_lookAt_50 : decode cX0_lookAt 50 = .ok (.aload_n 0, 1) := dk_42 (dk_at dksX0_lookAt_2 4 rfl rfl)
theorem dX0_lookAt_51 : decode cX0_lookAt 51 = .ok (.getfield 22, 3) := dk_180 0 22 (dk_at dksX0_lookAt_2 5 rfl rfl)
theorem dX0_lookAt_54 : decode cX0_lookAt 54 = .ok (.invokevirtual 264, 3) := dk_182 1 8 (dk_at dksX0_lookAt_2 8 rfl rfl)
theorem dX0_lookAt_57 : decode cX0_lookAt 57 = .ok (.pop, 1) := dk_87 (dk_at dksX0_lookAt_2 11 rfl rfl)
theorem dX0_lookAt_58 : decode cX0_lookAt 58 = .ok (.iload 4, 2) := dk_21 4 (dk_at dksX0_lookAt_2 12 rfl rfl)
theorem dX0_lookAt_60 : decode cX0_lookAt 60 = .ok (.aload_n 0, 1) := dk_42 (dk_at dksX0_lookAt_2 14 rfl rfl)
theorem dX0_lookAt_61 : decode cX0_lookAt 61 = .ok (.getfield 18, 3) := dk_180 0 18 (dk_at dksX0_lookAt_2 15 rfl rfl)
theorem dX0_lookAt_64 : decode cX0_lookAt 64 = .ok (.invokevirtual 301, 3) := dk_182 1 45 (dk_at dksX0_lookAt_2 18 rfl rfl)
theorem dX0_lookAt_67 : decode cX0_lookAt 67 = .ok (.invokestatic 232, 3) := dk_184 0 232 (dk_at dksX0_lookAt_2 21 rfl rfl)
theorem dX0_lookAt_70 : decode cX0_lookAt 70 = .ok (.istore 4, 2) := dk_54 4 (dk_at dksX0_lookAt_3 0 rfl rfl)
theorem dX0_lookAt_72 : decode cX0_lookAt 72 = .ok (.iinc 5 1, 3) := dk_132 5 1 (dk_at dksX0_lookAt_3 2 rfl rfl)
theorem dX0_lookAt_75 : decode cX0_lookAt 75 = .ok (.goto (-67), 3) := dk_167 255 189 (dk_at dksX0_lookAt_3 5 rfl rfl)
theorem dX0_lookAt_78 : decode cX0_lookAt 78 = .ok (.iload 4, 2) := dk_21 4 (dk_at dksX0_lookAt_3 8 rfl rfl)
theorem dX0_lookAt_80 : decode cX0_lookAt 80 = .ok (.ireturn, 1) := dk_172 (dk_at dksX0_lookAt_3 10 rfl rfl)
abbrev cX0_like : ByteArray := prog_1_method_34_code
def yX0_like : MethodName := ⟨RX0, "like", "(III)I"⟩
def dkwX0_like_1 : List UInt8 := [172]
abbrev dktX0_like_1 : List UInt8 := dkwX0_like_1 ++ []
def dkwX0_like_0 : List UInt8 := [42, 27, 28, 29, 182, 1, 0, 153, 0, 16, 42, 27, 28, 29, 182, 1, 56, 180, 1, 60, 167, 0, 4, 2]
abbrev dktX0_like_0 : List UInt8 := dkwX0_like_0 ++ dktX0_like_1
theorem dksX0_like_0 : cX0_like.data.toList.drop 0 = dktX0_like_0 := by decide +kernel
theorem dksX0_like_1 : cX0_like.data.toList.drop 24 = dktX0_like_1 := dk_seg dksX0_like_0 24 rfl rfl
theorem dX0_like_0 : decode cX0_like 0 = .ok (.aload_n 0, 1) := dk_42 (dk_at dksX0_like_0 0 rfl rfl)
theorem dX0_like_1 : decode cX0_like 1 = .ok (.iload_n 1, 1) := dk_27 (dk_at dksX0_like_0 1 rfl rfl)
theorem dX0_like_2 : decode cX0_like 2 = .ok (.iload_n 2, 1) := dk_28 (dk_at dksX0_like_0 2 rfl rfl)
theorem dX0_like_3 : decode cX0_like 3 = .ok (.iload_n 3, 1) := dk_29 (dk_at dksX0_like_0 3 rfl rfl)
theorem dX0_like_4 : decode cX0_like 4 = .ok (.invokevirtual 256, 3) := dk_182 1 0 (dk_at dksX0_like_0 4 rfl rfl)
theorem dX0_like_7 : decode cX0_like 7 = .ok (.ifCond .eq 16, 3) := dk_153 0 16 (dk_at dksX0_like_0 7 rfl rfl)
theorem dX0_like_10 : decode cX0_like 10 = .ok (.aload_n 0, 1) := dk_42 (dk_at dksX0_like_0 10 rfl rfl)
theorem dX0_like_11 : decode cX0_like 11 = .ok (.iload_n 1, 1) := dk_27 (dk_at dksX0_like_0 11 rfl rfl)
theorem dX0_like_12 : decode cX0_like 12 = .ok (.iload_n 2, 1) := dk_28 (dk_at dksX0_like_0 12 rfl rfl)
theorem dX0_like_13 : decode cX0_like 13 = .ok (.iload_n 3, 1) := dk_29 (dk_at dksX0_like_0 13 rfl rfl)
theorem dX0_like_14 : decode cX0_like 14 = .ok (.invokevirtual 312, 3) := dk_182 1 56 (dk_at dksX0_like_0 14 rfl rfl)
theorem dX0_like_17 : decode cX0_like 17 = .ok (.getfield 316, 3) := dk_180 1 60 (dk_at dksX0_like_0 17 rfl rfl)
theorem dX0_like_20 : decode cX0_like 20 = .ok (.goto 4, 3) := dk_167 0 4 (dk_at dksX0_like_0 20 rfl rfl)
theorem dX0_like_23 : decode cX0_like 23 = .ok (.iconst (-1), 1) := dk_2 (dk_at dksX0_like_0 23 rfl rfl)
theorem dX0_like_24 : decode cX0_like 24 = .ok (.ireturn, 1) := dk_172 (dk_at dksX0_like_1 0 rfl rfl)
abbrev cX0_lookOf : ByteArray := prog_1_method_32_code
def yX0_lookOf : MethodName := ⟨RX0, "lookOf", "(III)LPretendDesk$Look;"⟩
def dkwX0_lookOf_1 : List UInt8 := [182, 1, 48, 176]
abbrev dktX0_lookOf_1 : List UInt8 := dkwX0_lookOf_1 ++ []
def dkwX0_lookOf_0 : List UInt8 := [42, 180, 0, 82, 42, 180, 0, 68, 180, 0, 183, 27, 50, 180, 1, 7, 28, 29, 3, 42, 180, 0, 22]
abbrev dktX0_lookOf_0 : List UInt8 := dkwX0_lookOf_0 ++ dktX0_lookOf_1
theorem dksX0_lookOf_0 : cX0_lookOf.data.toList.drop 0 = dktX0_lookOf_0 := by decide +kernel
theorem dksX0_lookOf_1 : cX0_lookOf.data.toList.drop 23 = dktX0_lookOf_1 := dk_seg dksX0_lookOf_0 23 rfl rfl
theorem dX0_lookOf_0 : decode cX0_lookOf 0 = .ok (.aload_n 0, 1) := dk_42 (dk_at dksX0_lookOf_0 0 rfl rfl)
theorem dX0_lookOf_1 : decode cX0_lookOf 1 = .ok (.getfield 82, 3) := dk_180 0 82 (dk_at dksX0_lookOf_0 1 rfl rfl)
theorem dX0_lookOf_4 : decode cX0_lookOf 4 = .ok (.aload_n 0, 1) := dk_42 (dk_at dksX0_lookOf_0 4 rfl rfl)
theorem dX0_lookOf_5 : decode cX0_lookOf 5 = .ok (.getfield 68, 3) := dk_180 0 68 (dk_at dksX0_lookOf_0 5 rfl rfl)
theorem dX0_lookOf_8 : decode cX0_lookOf 8 = .ok (.getfield 183, 3) := dk_180 0 183 (dk_at dksX0_lookOf_0 8 rfl rfl)
theorem dX0_lookOf_11 : decode cX0_lookOf 11 = .ok (.iload_n 1, 1) := dk_27 (dk_at dksX0_lookOf_0 11 rfl rfl)
theorem dX0_lookOf_12 : decode cX0_lookOf 12 = .ok (.aaload, 1) := dk_50 (dk_at dksX0_lookOf_0 12 rfl rfl)
theorem dX0_lookOf_13 : decode cX0_lookOf 13 = .ok (.getfield 263, 3) := dk_180 1 7 (dk_at dksX0_lookOf_0 13 rfl rfl)
theorem dX0_lookOf_16 : decode cX0_lookOf 16 = .ok (.iload_n 2, 1) := dk_28 (dk_at dksX0_lookOf_0 16 rfl rfl)
theorem dX0_lookOf_17 : decode cX0_lookOf 17 = .ok (.iload_n 3, 1) := dk_29 (dk_at dksX0_lookOf_0 17 rfl rfl)
theorem dX0_lookOf_18 : decode cX0_lookOf 18 = .ok (.iconst 0, 1) := dk_3 (dk_at dksX0_lookOf_0 18 rfl rfl)
theorem dX0_lookOf_19 : decode cX0_lookOf 19 = .ok (.aload_n 0, 1) := dk_42 (dk_at dksX0_lookOf_0 19 rfl rfl)
theorem dX0_lookOf_20 : decode cX0_lookOf 20 = .ok (.getfield 22, 3) := dk_180 0 22 (dk_at dksX0_lookOf_0 20 rfl rfl)
theorem dX0_lookOf_23 : decode cX0_lookOf 23 = .ok (.invokevirtual 304, 3) := dk_182 1 48 (dk_at dksX0_lookOf_1 0 rfl rfl)
theorem dX0_lookOf_26 : decode cX0_lookOf 26 = .ok (.areturn, 1) := dk_176 (dk_at dksX0_lookOf_1 3 rfl rfl)
abbrev cX0_asks : ByteArray := prog_1_method_35_code
def yX0_asks : MethodName := ⟨RX0, "asks", "(III)I"⟩
def dkwX0_asks_1 : List UInt8 := [172]
abbrev dktX0_asks_1 : List UInt8 := dkwX0_asks_1 ++ []
def dkwX0_asks_0 : List UInt8 := [42, 27, 28, 29, 182, 1, 0, 153, 0, 16, 42, 27, 28, 29, 182, 1, 56, 180, 1, 63, 167, 0, 4, 2]
abbrev dktX0_asks_0 : List UInt8 := dkwX0_asks_0 ++ dktX0_asks_1
theorem dksX0_asks_0 : cX0_asks.data.toList.drop 0 = dktX0_asks_0 := by decide +kernel
theorem dksX0_asks_1 : cX0_asks.data.toList.drop 24 = dktX0_asks_1 := dk_seg dksX0_asks_0 24 rfl rfl
theorem dX0_asks_0 : decode cX0_asks 0 = .ok (.aload_n 0, 1) := dk_42 (dk_at dksX0_asks_0 0 rfl rfl)
theorem dX0_asks_1 : decode cX0_asks 1 = .ok (.iload_n 1, 1) := dk_27 (dk_at dksX0_asks_0 1 rfl rfl)
theorem dX0_asks_2 : decode cX0_asks 2 = .ok (.iload_n 2, 1) := dk_28 (dk_at dksX0_asks_0 2 rfl rfl)
theorem dX0_asks_3 : decode cX0_asks 3 = .ok (.iload_n 3, 1) := dk_29 (dk_at dksX0_asks_0 3 rfl rfl)
theorem dX0_asks_4 : decode cX0_asks 4 = .ok (.invokevirtual 256, 3) := dk_182 1 0 (dk_at dksX0_asks_0 4 rfl rfl)
theorem dX0_asks_7 : decode cX0_asks 7 = .ok (.ifCond .eq 16, 3) := dk_153 0 16 (dk_at dksX0_asks_0 7 rfl rfl)
theorem dX0_asks_10 : decode cX0_asks 10 = .ok (.aload_n 0, 1) := dk_42 (dk_at dksX0_asks_0 10 rfl rfl)
theorem dX0_asks_11 : decode cX0_asks 11 = .ok (.iload_n 1, 1) := dk_27 (dk_at dksX0_asks_0 11 rfl rfl)
theorem dX0_asks_12 : decode cX0_asks 12 = .ok (.iload_n 2, 1) := dk_28 (dk_at dksX0_asks_0 12 rfl rfl)
theorem dX0_asks_13 : decode cX0_asks 13 = .ok (.iload_n 3, 1) := dk_29 (dk_at dksX0_asks_0 13 rfl rfl)
theorem dX0_asks_14 : decode cX0_asks 14 = .ok (.invokevirtual 312, 3) := dk_182 1 56 (dk_at dksX0_asks_0 14 rfl rfl)
theorem dX0_asks_17 : decode cX0_asks 17 = .ok (.getfield 319, 3) := dk_180 1 63 (dk_at dksX0_asks_0 17 rfl rfl)
theorem dX0_asks_20 : decode cX0_asks 20 = .ok (.goto 4, 3) := dk_167 0 4 (dk_at dksX0_asks_0 20 rfl rfl)
theorem dX0_asks_23 : decode cX0_asks 23 = .ok (.iconst (-1), 1) := dk_2 (dk_at dksX0_asks_0 23 rfl rfl)
theorem dX0_asks_24 : decode cX0_asks 24 = .ok (.ireturn, 1) := dk_172 (dk_at dksX0_asks_1 0 rfl rfl)
abbrev cX0_strange : ByteArray := prog_1_method_36_code
def yX0_strange : MethodName := ⟨RX0, "strange", "()I"⟩
def dkwX0_strange_5 : List UInt8 := [172]
abbrev dktX0_strange_5 : List UInt8 := dkwX0_strange_5 ++ []
def dkwX0_strange_4 : List UInt8 := [132, 3, 1, 167, 255, 177, 132, 2, 1, 167, 255, 158, 27, 17, 3, 231, 160, 0, 7, 2, 167, 0, 4, 27]
abbrev dktX0_strange_4 : List UInt8 := dkwX0_strange_4 ++ dktX0_strange_5
def dkwX0_strange_3 : List UInt8 := [182, 1, 8, 87, 27, 42, 21, 4, 3, 3, 182, 1, 52, 184, 0, 232, 60, 132, 4, 1, 167, 255, 202]
abbrev dktX0_strange_3 : List UInt8 := dkwX0_strange_3 ++ dktX0_strange_4
def dkwX0_strange_2 : List UInt8 := [180, 1, 3, 42, 180, 0, 68, 180, 0, 174, 28, 50, 180, 0, 221, 29, 50, 3, 3, 3, 42, 180, 0, 22]
abbrev dktX0_strange_2 : List UInt8 := dkwX0_strange_2 ++ dktX0_strange_3
def dkwX0_strange_1 : List UInt8 := [180, 0, 174, 28, 50, 180, 0, 216, 162, 0, 69, 3, 54, 4, 21, 4, 28, 162, 0, 54, 42, 180, 0, 18]
abbrev dktX0_strange_1 : List UInt8 := dkwX0_strange_1 ++ dktX0_strange_2
def dkwX0_strange_0 : List UInt8 := [17, 3, 231, 60, 3, 61, 28, 42, 180, 0, 68, 180, 0, 118, 162, 0, 93, 3, 62, 29, 42, 180, 0, 68]
abbrev dktX0_strange_0 : List UInt8 := dkwX0_strange_0 ++ dktX0_strange_1
theorem dksX0_strange_0 : cX0_strange.data.toList.drop 0 = dktX0_strange_0 := by decide +kernel
theorem dksX0_strange_1 : cX0_strange.data.toList.drop 24 = dktX0_strange_1 := dk_seg dksX0_strange_0 24 rfl rfl
theorem dksX0_strange_2 : cX0_strange.data.toList.drop 48 = dktX0_strange_2 := dk_seg dksX0_strange_1 24 rfl rfl
theorem dksX0_strange_3 : cX0_strange.data.toList.drop 72 = dktX0_strange_3 := dk_seg dksX0_strange_2 24 rfl rfl
theorem dksX0_strange_4 : cX0_strange.data.toList.drop 95 = dktX0_strange_4 := dk_seg dksX0_strange_3 23 rfl rfl
theorem dksX0_strange_5 : cX0_strange.data.toList.drop 119 = dktX0_strange_5 := dk_seg dksX0_strange_4 24 rfl rfl
theorem dX0_strange_0 : decode cX0_strange 0 = .ok (.sipush 999, 3) := dk_17 3 231 (dk_at dksX0_strange_0 0 rfl rfl)
theorem dX0_strange_3 : decode cX0_strange 3 = .ok (.istore_n 1, 1) := dk_60 (dk_at dksX0_strange_0 3 rfl rfl)
theorem dX0_strange_4 : decode cX0_strange 4 = .ok (.iconst 0, 1) := dk_3 (dk_at dksX0_strange_0 4 rfl rfl)
theorem dX0_strange_5 : decode cX0_strange 5 = .ok (.istore_n 2, 1) := dk_61 (dk_at dksX0_strange_0 5 rfl rfl)
theorem dX0_strange_6 : decode cX0_strange 6 = .ok (.iload_n 2, 1) := dk_28 (dk_at dksX0_strange_0 6 rfl rfl)
theorem dX0_strange_7 : decode cX0_strange 7 = .ok (.aload_n 0, 1) := dk_42 (dk_at dksX0_strange_0 7 rfl rfl)
theorem dX0_strange_8 : decode cX0_strange 8 = .ok (.getfield 68, 3) := dk_180 0 68 (dk_at dksX0_strange_0 8 rfl rfl)
theorem dX0_strange_11 : decode cX0_strange 11 = .ok (.getfield 118, 3) := dk_180 0 118 (dk_at dksX0_strange_0 11 rfl rfl)
theorem dX0_strange_14 : decode cX0_strange 14 = .ok (.if_icmp .ge 93, 3) := dk_162 0 93 (dk_at dksX0_strange_0 14 rfl rfl)
theorem dX0_strange_17 : decode cX0_strange 17 = .ok (.iconst 0, 1) := dk_3 (dk_at dksX0_strange_0 17 rfl rfl)
theorem dX0_strange_18 : decode cX0_strange 18 = .ok (.istore_n 3, 1) := dk_62 (dk_at dksX0_strange_0 18 rfl rfl)
theorem dX0_strange_19 : decode cX0_strange 19 = .ok (.iload_n 3, 1) := dk_29 (dk_at dksX0_strange_0 19 rfl rfl)
theorem dX0_strange_20 : decode cX0_strange 20 = .ok (.aload_n 0, 1) := dk_42 (dk_at dksX0_strange_0 20 rfl rfl)
theorem dX0_strange_21 : decode cX0_strange 21 = .ok (.getfield 68, 3) := dk_180 0 68 (dk_at dksX0_strange_0 21 rfl rfl)
theorem dX0_strange_24 : decode cX0_strange 24 = .ok (.getfield 174, 3) := dk_180 0 174 (dk_at dksX0_strange_1 0 rfl rfl)
theorem dX0_strange_27 : decode cX0_strange 27 = .ok (.iload_n 2, 1) := dk_28 (dk_at dksX0_strange_1 3 rfl rfl)
theorem dX0_strange_28 : decode cX0_strange 28 = .ok (.aaload, 1) := dk_50 (dk_at dksX0_strange_1 4 rfl rfl)
theorem dX0_strange_29 : decode cX0_strange 29 = .ok (.getfield 216, 3) := dk_180 0 216 (dk_at dksX0_strange_1 5 rfl rfl)
theorem dX0_strange_32 : decode cX0_strange 32 = .ok (.if_icmp .ge 69, 3) := dk_162 0 69 (dk_at dksX0_strange_1 8 rfl rfl)
theorem dX0_strange_35 : decode cX0_strange 35 = .ok (.iconst 0, 1) := dk_3 (dk_at dksX0_strange_1 11 rfl rfl)
theorem dX0_strange_36 : decode cX0_strange 36 = .ok (.istore 4, 2) := dk_54 4 (dk_at dksX0_strange_1 12 rfl rfl)
theorem dX0_strange_38 : decode cX0_strange 38 = .ok (.iload 4, 2) := dk_21 4 (dk_at dksX0_strange_1 14 rfl rfl)
theorem dX0_strange_40 : decode cX0_strange 40 = .ok (.iload_n 2, 1) := dk_28 (dk_at dksX0_strange_1 16 rfl rfl)
theorem dX0_strange_41 : decode cX0_strange 41 = .ok (.if_icmp .ge 54, 3) := dk_162 0 54 (dk_at dksX0_strange_1 17 rfl rfl)
theorem dX0_strange_44 : decode cX0_strange 44 = .ok (.aload_n 0, 1) := dk_42 (dk_at dksX0_strange_1 20 rfl rfl)
theorem dX0_strange_45 : decode cX0_strange 45 = .ok (.getfield 18, 3) := dk_180 0 18 (dk_at dksX0_strange_1 21 rfl rfl)
theorem dX0_strange_48 : decode cX0_strange 48 = .ok (.getfield 259, 3) := dk_180 1 3 (dk_at dksX0_strange_2 0 rfl rfl)
theorem dX0_strange_51 : decode cX0_strange 51 = .ok (.aload_n 0, 1) := dk_42 (dk_at dksX0_strange_2 3 rfl rfl)
theorem dX0_strange_52 : decode cX0_strange 52 = .ok (.getfield 68, 3) := dk_180 0 68 (dk_at dksX0_strange_2 4 rfl rfl)
theorem dX0_strange_55 : decode cX0_strange 55 = .ok (.getfield 174, 3) := dk_180 0 174 (dk_at dksX0_strange_2 7 rfl rfl)
theorem dX0_strange_58 : decode cX0_strange 58 = .ok (.iload_n 2, 1) := dk_28 (dk_at dksX0_strange_2 10 rfl rfl)
theorem dX0_strange_59 : decode cX0_strange 59 = .ok (.aaload, 1) := dk_50 (dk_at dksX0_strange_2 11 rfl rfl)
theorem dX0_strange_60 : decode cX0_strange 60 = .ok (.getfield 221, 3) := dk_180 0 221 (dk_at dksX0_strange_2 12 rfl rfl)
theorem dX0_strange_63 : decode cX0_strange 63 = .ok (.iload_n 3, 1) := dk_29 (dk_at dksX0_strange_2 15 rfl rfl)
theorem dX0_strange_64 : decode cX0_strange 64 = .ok (.aaload, 1) := dk_50 (dk_at dksX0_strange_2 16 rfl rfl)
theorem dX0_strange_65 : decode cX0_strange 65 = .ok (.iconst 0, 1) := dk_3 (dk_at dksX0_strange_2 17 rfl rfl)
theorem dX0_strange_66 : decode cX0_strange 66 = .ok (.iconst 0, 1) := dk_3 (dk_at dksX0_strange_2 18 rfl rfl)
theorem dX0_strange_67 : decode cX0_strange 67 = .ok (.iconst 0, 1) := dk_3 (dk_at dksX0_strange_2 19 rfl rfl)
theorem dX0_strange_68 : decode cX0_strange 68 = .ok (.aload_n 0, 1) := dk_42 (dk_at dksX0_strange_2 20 rfl rfl)
theorem dX0_strange_69 : decode cX0_strange 69 = .ok (.getfield 22, 3) := dk_180 0 22 (dk_at dksX0_strange_2 21 rfl rfl)
theorem dX0_strange_72 : decode cX0_strange 72 = .ok (.invokevirtual 264, 3) := dk_182 1 8 (dk_at dksX0_strange_3 0 rfl rfl)
theorem dX0_strange_75 : decode cX0_strange 75 = .ok (.pop, 1) := dk_87 (dk_at dksX0_strange_3 3 rfl rfl)
theorem dX0_strange_76 : decode cX0_strange 76 = .ok (.iload_n 1, 1) := dk_27 (dk_at dksX0_strange_3 4 rfl rfl)
theorem dX0_strange_77 : decode cX0_strange 77 = .ok (.aload_n 0, 1) := dk_42 (dk_at dksX0_strange_3 5 rfl rfl)
theorem dX0_strange_78 : decode cX0_strange 78 = .ok (.iload 4, 2) := dk_21 4 (dk_at dksX0_strange_3 6 rfl rfl)
theorem dX0_strange_80 : decode cX0_strange 80 = .ok (.iconst 0, 1) := dk_3 (dk_at dksX0_strange_3 8 rfl rfl)
theorem dX0_strange_81 : decode cX0_strange 81 = .ok (.iconst 0, 1) := dk_3 (dk_at dksX0_strange_3 9 rfl rfl)
theorem dX0_strange_82 : decode cX0_strange 82 = .ok (.invokevirtual 308, 3) := dk_182 1 52 (dk_at dksX0_strange_3 10 rfl rfl)
theorem dX0_strange_85 : decode cX0_strange 85 = .ok (.invokestatic 232, 3) := dk_184 0 232 (dk_at dksX0_strange_3 13 rfl rfl)
theorem dX0_strange_88 : decode cX0_strange 88 = .ok (.istore_n 1, 1) := dk_60 (dk_at dksX0_strange_3 16 rfl rfl)
theorem dX0_strange_89 : decode cX0_strange 89 = .ok (.iinc 4 1, 3) := dk_132 4 1 (dk_at dksX0_strange_3 17 rfl rfl)
theorem dX0_strange_92 : decode cX0_strange 92 = .ok (.goto (-54), 3) := dk_167 255 202 (dk_at dksX0_strange_3 20 rfl rfl)
theorem dX0_strange_95 : decode cX0_strange 95 = .ok (.iinc 3 1, 3) := dk_132 3 1 (dk_at dksX0_strange_4 0 rfl rfl)
theorem dX0_strange_98 : decode cX0_strange 98 = .ok (.goto (-79), 3) := dk_167 255 177 (dk_at dksX0_strange_4 3 rfl rfl)
theorem dX0_strange_101 : decode cX0_strange 101 = .ok (.iinc 2 1, 3) := dk_132 2 1 (dk_at dksX0_strange_4 6 rfl rfl)
theorem dX0_strange_104 : decode cX0_strange 104 = .ok (.goto (-98), 3) := dk_167 255 158 (dk_at dksX0_strange_4 9 rfl rfl)
theorem dX0_strange_107 : decode cX0_strange 107 = .ok (.iload_n 1, 1) := dk_27 (dk_at dksX0_strange_4 12 rfl rfl)
theorem dX0_strange_108 : decode cX0_strange 108 = .ok (.sipush 999, 3) := dk_17 3 231 (dk_at dksX0_strange_4 13 rfl rfl)
theorem dX0_strange_111 : decode cX0_strange 111 = .ok (.if_icmp .ne 7, 3) := dk_160 0 7 (dk_at dksX0_strange_4 16 rfl rfl)
theorem dX0_strange_114 : decode cX0_strange 114 = .ok (.iconst (-1), 1) := dk_2 (dk_at dksX0_strange_4 19 rfl rfl)
theorem dX0_strange_115 : decode cX0_strange 115 = .ok (.goto 4, 3) := dk_167 0 4 (dk_at dksX0_strange_4 20 rfl rfl)
theorem dX0_strange_118 : decode cX0_strange 118 = .ok (.iload_n 1, 1) := dk_27 (dk_at dksX0_strange_4 23 rfl rfl)
theorem dX0_strange_119 : decode cX0_strange 119 = .ok (.ireturn, 1) := dk_172 (dk_at dksX0_strange_5 0 rfl rfl)
abbrev cX0_marks : ByteArray := prog_1_method_37_code
def yX0_marks : MethodName := ⟨RX0, "marks", "(III)Z"⟩
def dkwX0_marks_2 : List UInt8 := [181, 1, 68, 42, 180, 0, 68, 29, 181, 1, 70, 4, 172]
abbrev dktX0_marks_2 : List UInt8 := dkwX0_marks_2 ++ []
def dkwX0_marks_1 : List UInt8 := [16, 99, 184, 0, 3, 154, 0, 5, 3, 172, 42, 180, 0, 68, 27, 181, 1, 66, 42, 180, 0, 68, 28]
abbrev dktX0_marks_1 : List UInt8 := dkwX0_marks_1 ++ dktX0_marks_2
def dkwX0_marks_0 : List UInt8 := [27, 3, 16, 60, 184, 0, 3, 153, 0, 24, 28, 3, 17, 0, 200, 184, 0, 3, 153, 0, 13, 29, 3]
abbrev dktX0_marks_0 : List UInt8 := dkwX0_marks_0 ++ dktX0_marks_1
theorem dksX0_marks_0 : cX0_marks.data.toList.drop 0 = dktX0_marks_0 := by decide +kernel
theorem dksX0_marks_1 : cX0_marks.data.toList.drop 23 = dktX0_marks_1 := dk_seg dksX0_marks_0 23 rfl rfl
theorem dksX0_marks_2 : cX0_marks.data.toList.drop 46 = dktX0_marks_2 := dk_seg dksX0_marks_1 23 rfl rfl
theorem dX0_marks_0 : decode cX0_marks 0 = .ok (.iload_n 1, 1) := dk_27 (dk_at dksX0_marks_0 0 rfl rfl)
theorem dX0_marks_1 : decode cX0_marks 1 = .ok (.iconst 0, 1) := dk_3 (dk_at dksX0_marks_0 1 rfl rfl)
theorem dX0_marks_2 : decode cX0_marks 2 = .ok (.bipush 60, 2) := dk_16 60 (dk_at dksX0_marks_0 2 rfl rfl)
theorem dX0_marks_4 : decode cX0_marks 4 = .ok (.invokestatic 3, 3) := dk_184 0 3 (dk_at dksX0_marks_0 4 rfl rfl)
theorem dX0_marks_7 : decode cX0_marks 7 = .ok (.ifCond .eq 24, 3) := dk_153 0 24 (dk_at dksX0_marks_0 7 rfl rfl)
theorem dX0_marks_10 : decode cX0_marks 10 = .ok (.iload_n 2, 1) := dk_28 (dk_at dksX0_marks_0 10 rfl rfl)
theorem dX0_marks_11 : decode cX0_marks 11 = .ok (.iconst 0, 1) := dk_3 (dk_at dksX0_marks_0 11 rfl rfl)
theorem dX0_marks_12 : decode cX0_marks 12 = .ok (.sipush 200, 3) := dk_17 0 200 (dk_at dksX0_marks_0 12 rfl rfl)
theorem dX0_marks_15 : decode cX0_marks 15 = .ok (.invokestatic 3, 3) := dk_184 0 3 (dk_at dksX0_marks_0 15 rfl rfl)
theorem dX0_marks_18 : decode cX0_marks 18 = .ok (.ifCond .eq 13, 3) := dk_153 0 13 (dk_at dksX0_marks_0 18 rfl rfl)
theorem dX0_marks_21 : decode cX0_marks 21 = .ok (.iload_n 3, 1) := dk_29 (dk_at dksX0_marks_0 21 rfl rfl)
theorem dX0_marks_22 : decode cX0_marks 22 = .ok (.iconst 0, 1) := dk_3 (dk_at dksX0_marks_0 22 rfl rfl)
theorem dX0_marks_23 : decode cX0_marks 23 = .ok (.bipush 99, 2) := dk_16 99 (dk_at dksX0_marks_1 0 rfl rfl)
theorem dX0_marks_25 : decode cX0_marks 25 = .ok (.invokestatic 3, 3) := dk_184 0 3 (dk_at dksX0_marks_1 2 rfl rfl)
theorem dX0_marks_28 : decode cX0_marks 28 = .ok (.ifCond .ne 5, 3) := dk_154 0 5 (dk_at dksX0_marks_1 5 rfl rfl)
theorem dX0_marks_31 : decode cX0_marks 31 = .ok (.iconst 0, 1) := dk_3 (dk_at dksX0_marks_1 8 rfl rfl)
theorem dX0_marks_32 : decode cX0_marks 32 = .ok (.ireturn, 1) := dk_172 (dk_at dksX0_marks_1 9 rfl rfl)
theorem dX0_marks_33 : decode cX0_marks 33 = .ok (.aload_n 0, 1) := dk_42 (dk_at dksX0_marks_1 10 rfl rfl)
theorem dX0_marks_34 : decode cX0_marks 34 = .ok (.getfield 68, 3) := dk_180 0 68 (dk_at dksX0_marks_1 11 rfl rfl)
theorem dX0_marks_37 : decode cX0_marks 37 = .ok (.iload_n 1, 1) := dk_27 (dk_at dksX0_marks_1 14 rfl rfl)
theorem dX0_marks_38 : decode cX0_marks 38 = .ok (.putfield 322, 3) := dk_181 1 66 (dk_at dksX0_marks_1 15 rfl rfl)
theorem dX0_marks_41 : decode cX0_marks 41 = .ok (.aload_n 0, 1) := dk_42 (dk_at dksX0_marks_1 18 rfl rfl)
theorem dX0_marks_42 : decode cX0_marks 42 = .ok (.getfield 68, 3) := dk_180 0 68 (dk_at dksX0_marks_1 19 rfl rfl)
theorem dX0_marks_45 : decode cX0_marks 45 = .ok (.iload_n 2, 1) := dk_28 (dk_at dksX0_marks_1 22 rfl rfl)
theorem dX0_marks_46 : decode cX0_marks 46 = .ok (.putfield 324, 3) := dk_181 1 68 (dk_at dksX0_marks_2 0 rfl rfl)
theorem dX0_marks_49 : decode cX0_marks 49 = .ok (.aload_n 0, 1) := dk_42 (dk_at dksX0_marks_2 3 rfl rfl)
theorem dX0_marks_50 : decode cX0_marks 50 = .ok (.getfield 68, 3) := dk_180 0 68 (dk_at dksX0_marks_2 4 rfl rfl)
theorem dX0_marks_53 : decode cX0_marks 53 = .ok (.iload_n 3, 1) := dk_29 (dk_at dksX0_marks_2 7 rfl rfl)
theorem dX0_marks_54 : decode cX0_marks 54 = .ok (.putfield 326, 3) := dk_181 1 70 (dk_at dksX0_marks_2 8 rfl rfl)
theorem dX0_marks_57 : decode cX0_marks 57 = .ok (.iconst 1, 1) := dk_4 (dk_at dksX0_marks_2 11 rfl rfl)
theorem dX0_marks_58 : decode cX0_marks 58 = .ok (.ireturn, 1) := dk_172 (dk_at dksX0_marks_2 12 rfl rfl)
abbrev cX0_signs : ByteArray := prog_1_method_40_code
def yX0_signs : MethodName := ⟨RX0, "signs", "(III)I"⟩
def dkwX0_signs_0 : List UInt8 := [42, 27, 28, 29, 182, 1, 0, 153, 0, 13, 42, 27, 28, 29, 182, 1, 88, 167, 0, 4, 2, 172]
abbrev dktX0_signs_0 : List UInt8 := dkwX0_signs_0 ++ []
theorem dksX0_signs_0 : cX0_signs.data.toList.drop 0 = dktX0_signs_0 := by decide +kernel
theorem dX0_signs_0 : decode cX0_signs 0 = .ok (.aload_n 0, 1) := dk_42 (dk_at dksX0_signs_0 0 rfl rfl)
theorem dX0_signs_1 : decode cX0_signs 1 = .ok (.iload_n 1, 1) := dk_27 (dk_at dksX0_signs_0 1 rfl rfl)
theorem dX0_signs_2 : decode cX0_signs 2 = .ok (.iload_n 2, 1) := dk_28 (dk_at dksX0_signs_0 2 rfl rfl)
theorem dX0_signs_3 : decode cX0_signs 3 = .ok (.iload_n 3, 1) := dk_29 (dk_at dksX0_signs_0 3 rfl rfl)
theorem dX0_signs_4 : decode cX0_signs 4 = .ok (.invokevirtual 256, 3) := dk_182 1 0 (dk_at dksX0_signs_0 4 rfl rfl)
theorem dX0_signs_7 : decode cX0_signs 7 = .ok (.ifCond .eq 13, 3) := dk_153 0 13 (dk_at dksX0_signs_0 7 rfl rfl)
theorem dX0_signs_10 : decode cX0_signs 10 = .ok (.aload_n 0, 1) := dk_42 (dk_at dksX0_signs_0 10 rfl rfl)
theorem dX0_signs_11 : decode cX0_signs 11 = .ok (.iload_n 1, 1) := dk_27 (dk_at dksX0_signs_0 11 rfl rfl)
theorem dX0_signs_12 : decode cX0_signs 12 = .ok (.iload_n 2, 1) := dk_28 (dk_at dksX0_signs_0 12 rfl rfl)
theorem dX0_signs_13 : decode cX0_signs 13 = .ok (.iload_n 3, 1) := dk_29 (dk_at dksX0_signs_0 13 rfl rfl)
theorem dX0_signs_14 : decode cX0_signs 14 = .ok (.invokevirtual 344, 3) := dk_182 1 88 (dk_at dksX0_signs_0 14 rfl rfl)
theorem dX0_signs_17 : decode cX0_signs 17 = .ok (.goto 4, 3) := dk_167 0 4 (dk_at dksX0_signs_0 17 rfl rfl)
theorem dX0_signs_20 : decode cX0_signs 20 = .ok (.iconst (-1), 1) := dk_2 (dk_at dksX0_signs_0 20 rfl rfl)
theorem dX0_signs_21 : decode cX0_signs 21 = .ok (.ireturn, 1) := dk_172 (dk_at dksX0_signs_0 21 rfl rfl)
abbrev cX0_signsOf : ByteArray := prog_1_method_38_code
def yX0_signsOf : MethodName := ⟨RX0, "signsOf", "(III)I"⟩
def dkwX0_signsOf_2 : List UInt8 := [180, 1, 70, 182, 1, 76, 172]
abbrev dktX0_signsOf_2 : List UInt8 := dkwX0_signsOf_2 ++ []
def dkwX0_signsOf_1 : List UInt8 := [50, 29, 182, 1, 73, 42, 180, 0, 68, 180, 1, 66, 42, 180, 0, 68, 180, 1, 68, 42, 180, 0, 68]
abbrev dktX0_signsOf_1 : List UInt8 := dkwX0_signsOf_1 ++ dktX0_signsOf_2
def dkwX0_signsOf_0 : List UInt8 := [42, 27, 28, 29, 182, 1, 56, 42, 180, 0, 68, 180, 0, 183, 27, 50, 42, 180, 0, 68, 180, 0, 183, 27]
abbrev dktX0_signsOf_0 : List UInt8 := dkwX0_signsOf_0 ++ dktX0_signsOf_1
theorem dksX0_signsOf_0 : cX0_signsOf.data.toList.drop 0 = dktX0_signsOf_0 := by decide +kernel
theorem dksX0_signsOf_1 : cX0_signsOf.data.toList.drop 24 = dktX0_signsOf_1 := dk_seg dksX0_signsOf_0 24 rfl rfl
theorem dksX0_signsOf_2 : cX0_signsOf.data.toList.drop 47 = dktX0_signsOf_2 := dk_seg dksX0_signsOf_1 23 rfl rfl
theorem dX0_signsOf_0 : decode cX0_signsOf 0 = .ok (.aload_n 0, 1) := dk_42 (dk_at dksX0_signsOf_0 0 rfl rfl)
theorem dX0_signsOf_1 : decode cX0_signsOf 1 = .ok (.iload_n 1, 1) := dk_27 (dk_at dksX0_signsOf_0 1 rfl rfl)
theorem dX0_signsOf_2 : decode cX0_signsOf 2 = .ok (.iload_n 2, 1) := dk_28 (dk_at dksX0_signsOf_0 2 rfl rfl)
theorem dX0_signsOf_3 : decode cX0_signsOf 3 = .ok (.iload_n 3, 1) := dk_29 (dk_at dksX0_signsOf_0 3 rfl rfl)
theorem dX0_signsOf_4 : decode cX0_signsOf 4 = .ok (.invokevirtual 312, 3) := dk_182 1 56 (dk_at dksX0_signsOf_0 4 rfl rfl)
theorem dX0_signsOf_7 : decode cX0_signsOf 7 = .ok (.aload_n 0, 1) := dk_42 (dk_at dksX0_signsOf_0 7 rfl rfl)
theorem dX0_signsOf_8 : decode cX0_signsOf 8 = .ok (.getfield 68, 3) := dk_180 0 68 (dk_at dksX0_signsOf_0 8 rfl rfl)
theorem dX0_signsOf_11 : decode cX0_signsOf 11 = .ok (.getfield 183, 3) := dk_180 0 183 (dk_at dksX0_signsOf_0 11 rfl rfl)
theorem dX0_signsOf_14 : decode cX0_signsOf 14 = .ok (.iload_n 1, 1) := dk_27 (dk_at dksX0_signsOf_0 14 rfl rfl)
theorem dX0_signsOf_15 : decode cX0_signsOf 15 = .ok (.aaload, 1) := dk_50 (dk_at dksX0_signsOf_0 15 rfl rfl)
theorem dX0_signsOf_16 : decode cX0_signsOf 16 = .ok (.aload_n 0, 1) := dk_42 (dk_at dksX0_signsOf_0 16 rfl rfl)
theorem dX0_signsOf_17 : decode cX0_signsOf 17 = .ok (.getfield 68, 3) := dk_180 0 68 (dk_at dksX0_signsOf_0 17 rfl rfl)
theorem dX0_signsOf_20 : decode cX0_signsOf 20 = .ok (.getfield 183, 3) := dk_180 0 183 (dk_at dksX0_signsOf_0 20 rfl rfl)
theorem dX0_signsOf_23 : decode cX0_signsOf 23 = .ok (.iload_n 1, 1) := dk_27 (dk_at dksX0_signsOf_0 23 rfl rfl)
theorem dX0_signsOf_24 : decode cX0_signsOf 24 = .ok (.aaload, 1) := dk_50 (dk_at dksX0_signsOf_1 0 rfl rfl)
theorem dX0_signsOf_25 : decode cX0_signsOf 25 = .ok (.iload_n 3, 1) := dk_29 (dk_at dksX0_signsOf_1 1 rfl rfl)
theorem dX0_signsOf_26 : decode cX0_signsOf 26 = .ok (.invokevirtual 329, 3) := dk_182 1 73 (dk_at dksX0_signsOf_1 2 rfl rfl)
theorem dX0_signsOf_29 : decode cX0_signsOf 29 = .ok (.aload_n 0, 1) := dk_42 (dk_at dksX0_signsOf_1 5 rfl rfl)
theorem dX0_signsOf_30 : decode cX0_signsOf 30 = .ok (.getfield 68, 3) := dk_180 0 68 (dk_at dksX0_signsOf_1 6 rfl rfl)
theorem dX0_signsOf_33 : decode cX0_signsOf 33 = .ok (.getfield 322, 3) := dk_180 1 66 (dk_at dksX0_signsOf_1 9 rfl rfl)
theorem dX0_signsOf_36 : decode cX0_signsOf 36 = .ok (.aload_n 0, 1) := dk_42 (dk_at dksX0_signsOf_1 12 rfl rfl)
theorem dX0_signsOf_37 : decode cX0_signsOf 37 = .ok (.getfield 68, 3) := dk_180 0 68 (dk_at dksX0_signsOf_1 13 rfl rfl)
theorem dX0_signsOf_40 : decode cX0_signsOf 40 = .ok (.getfield 324, 3) := dk_180 1 68 (dk_at dksX0_signsOf_1 16 rfl rfl)
theorem dX0_signsOf_43 : decode cX0_signsOf 43 = .ok (.aload_n 0, 1) := dk_42 (dk_at dksX0_signsOf_1 19 rfl rfl)
theorem dX0_signsOf_44 : decode cX0_signsOf 44 = .ok (.getfield 68, 3) := dk_180 0 68 (dk_at dksX0_signsOf_1 20 rfl rfl)
theorem dX0_signsOf_47 : decode cX0_signsOf 47 = .ok (.getfield 326, 3) := dk_180 1 70 (dk_at dksX0_signsOf_2 0 rfl rfl)
theorem dX0_signsOf_50 : decode cX0_signsOf 50 = .ok (.invokevirtual 332, 3) := dk_182 1 76 (dk_at dksX0_signsOf_2 3 rfl rfl)
theorem dX0_signsOf_53 : decode cX0_signsOf 53 = .ok (.ireturn, 1) := dk_172 (dk_at dksX0_signsOf_2 6 rfl rfl)
abbrev cX0_isName : ByteArray := prog_1_method_25_code
def yX0_isName : MethodName := ⟨RX0, "isName", "([B[B)Z"⟩
def dkwX0_isName_1 : List UInt8 := [159, 0, 5, 3, 172, 132, 2, 1, 167, 255, 236, 4, 172]
abbrev dktX0_isName_1 : List UInt8 := dkwX0_isName_1 ++ []
def dkwX0_isName_0 : List UInt8 := [42, 190, 43, 190, 159, 0, 5, 3, 172, 3, 61, 28, 42, 190, 162, 0, 20, 42, 28, 51, 43, 28, 51]
abbrev dktX0_isName_0 : List UInt8 := dkwX0_isName_0 ++ dktX0_isName_1
theorem dksX0_isName_0 : cX0_isName.data.toList.drop 0 = dktX0_isName_0 := by decide +kernel
theorem dksX0_isName_1 : cX0_isName.data.toList.drop 23 = dktX0_isName_1 := dk_seg dksX0_isName_0 23 rfl rfl
theorem dX0_isName_0 : decode cX0_isName 0 = .ok (.aload_n 0, 1) := dk_42 (dk_at dksX0_isName_0 0 rfl rfl)
theorem dX0_isName_1 : decode cX0_isName 1 = .ok (.arraylength, 1) := dk_190 (dk_at dksX0_isName_0 1 rfl rfl)
theorem dX0_isName_2 : decode cX0_isName 2 = .ok (.aload_n 1, 1) := dk_43 (dk_at dksX0_isName_0 2 rfl rfl)
theorem dX0_isName_3 : decode cX0_isName 3 = .ok (.arraylength, 1) := dk_190 (dk_at dksX0_isName_0 3 rfl rfl)
theorem dX0_isName_4 : decode cX0_isName 4 = .ok (.if_icmp .eq 5, 3) := dk_159 0 5 (dk_at dksX0_isName_0 4 rfl rfl)
theorem dX0_isName_7 : decode cX0_isName 7 = .ok (.iconst 0, 1) := dk_3 (dk_at dksX0_isName_0 7 rfl rfl)
theorem dX0_isName_8 : decode cX0_isName 8 = .ok (.ireturn, 1) := dk_172 (dk_at dksX0_isName_0 8 rfl rfl)
theorem dX0_isName_9 : decode cX0_isName 9 = .ok (.iconst 0, 1) := dk_3 (dk_at dksX0_isName_0 9 rfl rfl)
theorem dX0_isName_10 : decode cX0_isName 10 = .ok (.istore_n 2, 1) := dk_61 (dk_at dksX0_isName_0 10 rfl rfl)
theorem dX0_isName_11 : decode cX0_isName 11 = .ok (.iload_n 2, 1) := dk_28 (dk_at dksX0_isName_0 11 rfl rfl)
theorem dX0_isName_12 : decode cX0_isName 12 = .ok (.aload_n 0, 1) := dk_42 (dk_at dksX0_isName_0 12 rfl rfl)
theorem dX0_isName_13 : decode cX0_isName 13 = .ok (.arraylength, 1) := dk_190 (dk_at dksX0_isName_0 13 rfl rfl)
theorem dX0_isName_14 : decode cX0_isName 14 = .ok (.if_icmp .ge 20, 3) := dk_162 0 20 (dk_at dksX0_isName_0 14 rfl rfl)
theorem dX0_isName_17 : decode cX0_isName 17 = .ok (.aload_n 0, 1) := dk_42 (dk_at dksX0_isName_0 17 rfl rfl)
theorem dX0_isName_18 : decode cX0_isName 18 = .ok (.iload_n 2, 1) := dk_28 (dk_at dksX0_isName_0 18 rfl rfl)
theorem dX0_isName_19 : decode cX0_isName 19 = .ok (.baload, 1) := dk_51 (dk_at dksX0_isName_0 19 rfl rfl)
theorem dX0_isName_20 : decode cX0_isName 20 = .ok (.aload_n 1, 1) := dk_43 (dk_at dksX0_isName_0 20 rfl rfl)
theorem dX0_isName_21 : decode cX0_isName 21 = .ok (.iload_n 2, 1) := dk_28 (dk_at dksX0_isName_0 21 rfl rfl)
theorem dX0_isName_22 : decode cX0_isName 22 = .ok (.baload, 1) := dk_51 (dk_at dksX0_isName_0 22 rfl rfl)
theorem dX0_isName_23 : decode cX0_isName 23 = .ok (.if_icmp .eq 5, 3) := dk_159 0 5 (dk_at dksX0_isName_1 0 rfl rfl)
theorem dX0_isName_26 : decode cX0_isName 26 = .ok (.iconst 0, 1) := dk_3 (dk_at dksX0_isName_1 3 rfl rfl)
theorem dX0_isName_27 : decode cX0_isName 27 = .ok (.ireturn, 1) := dk_172 (dk_at dksX0_isName_1 4 rfl rfl)
theorem dX0_isName_28 : decode cX0_isName 28 = .ok (.iinc 2 1, 3) := dk_132 2 1 (dk_at dksX0_isName_1 5 rfl rfl)
theorem dX0_isName_31 : decode cX0_isName 31 = .ok (.goto (-20), 3) := dk_167 255 236 (dk_at dksX0_isName_1 8 rfl rfl)
theorem dX0_isName_34 : decode cX0_isName 34 = .ok (.iconst 1, 1) := dk_4 (dk_at dksX0_isName_1 11 rfl rfl)
theorem dX0_isName_35 : decode cX0_isName 35 = .ok (.ireturn, 1) := dk_172 (dk_at dksX0_isName_1 12 rfl rfl)
abbrev cX0_say : ByteArray := prog_1_method_41_code
def yX0_say : MethodName := ⟨RX0, "say", "(III)I"⟩
def dkwX0_say_1 : List UInt8 := [172]
abbrev dktX0_say_1 : List UInt8 := dkwX0_say_1 ++ []
def dkwX0_say_0 : List UInt8 := [42, 27, 28, 29, 182, 1, 0, 153, 0, 16, 42, 27, 28, 29, 182, 1, 88, 184, 1, 91, 167, 0, 4, 2]
abbrev dktX0_say_0 : List UInt8 := dkwX0_say_0 ++ dktX0_say_1
theorem dksX0_say_0 : cX0_say.data.toList.drop 0 = dktX0_say_0 := by decide +kernel
theorem dksX0_say_1 : cX0_say.data.toList.drop 24 = dktX0_say_1 := dk_seg dksX0_say_0 24 rfl rfl
theorem dX0_say_0 : decode cX0_say 0 = .ok (.aload_n 0, 1) := dk_42 (dk_at dksX0_say_0 0 rfl rfl)
theorem dX0_say_1 : decode cX0_say 1 = .ok (.iload_n 1, 1) := dk_27 (dk_at dksX0_say_0 1 rfl rfl)
theorem dX0_say_2 : decode cX0_say 2 = .ok (.iload_n 2, 1) := dk_28 (dk_at dksX0_say_0 2 rfl rfl)
theorem dX0_say_3 : decode cX0_say 3 = .ok (.iload_n 3, 1) := dk_29 (dk_at dksX0_say_0 3 rfl rfl)
theorem dX0_say_4 : decode cX0_say 4 = .ok (.invokevirtual 256, 3) := dk_182 1 0 (dk_at dksX0_say_0 4 rfl rfl)
theorem dX0_say_7 : decode cX0_say 7 = .ok (.ifCond .eq 16, 3) := dk_153 0 16 (dk_at dksX0_say_0 7 rfl rfl)
theorem dX0_say_10 : decode cX0_say 10 = .ok (.aload_n 0, 1) := dk_42 (dk_at dksX0_say_0 10 rfl rfl)
theorem dX0_say_11 : decode cX0_say 11 = .ok (.iload_n 1, 1) := dk_27 (dk_at dksX0_say_0 11 rfl rfl)
theorem dX0_say_12 : decode cX0_say 12 = .ok (.iload_n 2, 1) := dk_28 (dk_at dksX0_say_0 12 rfl rfl)
theorem dX0_say_13 : decode cX0_say 13 = .ok (.iload_n 3, 1) := dk_29 (dk_at dksX0_say_0 13 rfl rfl)
theorem dX0_say_14 : decode cX0_say 14 = .ok (.invokevirtual 344, 3) := dk_182 1 88 (dk_at dksX0_say_0 14 rfl rfl)
theorem dX0_say_17 : decode cX0_say 17 = .ok (.invokestatic 347, 3) := dk_184 1 91 (dk_at dksX0_say_0 17 rfl rfl)
theorem dX0_say_20 : decode cX0_say 20 = .ok (.goto 4, 3) := dk_167 0 4 (dk_at dksX0_say_0 20 rfl rfl)
theorem dX0_say_23 : decode cX0_say 23 = .ok (.iconst (-1), 1) := dk_2 (dk_at dksX0_say_0 23 rfl rfl)
theorem dX0_say_24 : decode cX0_say 24 = .ok (.ireturn, 1) := dk_172 (dk_at dksX0_say_1 0 rfl rfl)
abbrev cX0_say_2 : ByteArray := prog_1_method_39_code
def yX0_say_2 : MethodName := ⟨RX0, "say", "(I)I"⟩
def dkwX0_say_2_0 : List UInt8 := [3, 26, 184, 1, 80, 4, 100, 184, 1, 85, 172]
abbrev dktX0_say_2_0 : List UInt8 := dkwX0_say_2_0 ++ []
theorem dksX0_say_2_0 : cX0_say_2.data.toList.drop 0 = dktX0_say_2_0 := by decide +kernel
theorem dX0_say_2_0 : decode cX0_say_2 0 = .ok (.iconst 0, 1) := dk_3 (dk_at dksX0_say_2_0 0 rfl rfl)
theorem dX0_say_2_1 : decode cX0_say_2 1 = .ok (.iload_n 0, 1) := dk_26 (dk_at dksX0_say_2_0 1 rfl rfl)
theorem dX0_say_2_2 : decode cX0_say_2 2 = .ok (.invokestatic 336, 3) := dk_184 1 80 (dk_at dksX0_say_2_0 2 rfl rfl)
theorem dX0_say_2_5 : decode cX0_say_2 5 = .ok (.iconst 1, 1) := dk_4 (dk_at dksX0_say_2_0 5 rfl rfl)
theorem dX0_say_2_6 : decode cX0_say_2 6 = .ok (.isub, 1) := dk_100 (dk_at dksX0_say_2_0 6 rfl rfl)
theorem dX0_say_2_7 : decode cX0_say_2 7 = .ok (.invokestatic 341, 3) := dk_184 1 85 (dk_at dksX0_say_2_0 7 rfl rfl)
theorem dX0_say_2_10 : decode cX0_say_2 10 = .ok (.ireturn, 1) := dk_172 (dk_at dksX0_say_2_0 10 rfl rfl)
abbrev cX0_differs : ByteArray := prog_1_method_43_code
def yX0_differs : MethodName := ⟨RX0, "differs", "(IIIII)I"⟩
def dkwX0_differs_1 : List UInt8 := [153, 0, 17, 42, 27, 28, 29, 21, 4, 21, 5, 182, 1, 94, 167, 0, 4, 2, 172]
abbrev dktX0_differs_1 : List UInt8 := dkwX0_differs_1 ++ []
def dkwX0_differs_0 : List UInt8 := [42, 27, 28, 29, 182, 1, 0, 153, 0, 33, 21, 4, 184, 0, 129, 153, 0, 25, 21, 5, 184, 0, 132]
abbrev dktX0_differs_0 : List UInt8 := dkwX0_differs_0 ++ dktX0_differs_1
theorem dksX0_differs_0 : cX0_differs.data.toList.drop 0 = dktX0_differs_0 := by decide +kernel
theorem dksX0_differs_1 : cX0_differs.data.toList.drop 23 = dktX0_differs_1 := dk_seg dksX0_differs_0 23 rfl rfl
theorem dX0_differs_0 : decode cX0_differs 0 = .ok (.aload_n 0, 1) := dk_42 (dk_at dksX0_differs_0 0 rfl rfl)
theorem dX0_differs_1 : decode cX0_differs 1 = .ok (.iload_n 1, 1) := dk_27 (dk_at dksX0_differs_0 1 rfl rfl)
theorem dX0_differs_2 : decode cX0_differs 2 = .ok (.iload_n 2, 1) := dk_28 (dk_at dksX0_differs_0 2 rfl rfl)
theorem dX0_differs_3 : decode cX0_differs 3 = .ok (.iload_n 3, 1) := dk_29 (dk_at dksX0_differs_0 3 rfl rfl)
theorem dX0_differs_4 : decode cX0_differs 4 = .ok (.invokevirtual 256, 3) := dk_182 1 0 (dk_at dksX0_differs_0 4 rfl rfl)
theorem dX0_differs_7 : decode cX0_differs 7 = .ok (.ifCond .eq 33, 3) := dk_153 0 33 (dk_at dksX0_differs_0 7 rfl rfl)
theorem dX0_differs_10 : decode cX0_differs 10 = .ok (.iload 4, 2) := dk_21 4 (dk_at dksX0_differs_0 10 rfl rfl)
theorem dX0_differs_12 : decode cX0_differs 12 = .ok (.invokestatic 129, 3) := dk_184 0 129 (dk_at dksX0_differs_0 12 rfl rfl)
theorem dX0_differs_15 : decode cX0_differs 15 = .ok (.ifCond .eq 25, 3) := dk_153 0 25 (dk_at dksX0_differs_0 15 rfl rfl)
theorem dX0_differs_18 : decode cX0_differs 18 = .ok (.iload 5, 2) := dk_21 5 (dk_at dksX0_differs_0 18 rfl rfl)
theorem dX0_differs_20 : decode cX0_differs 20 = .ok (.invokestatic 132, 3) := dk_184 0 132 (dk_at dksX0_differs_0 20 rfl rfl)
theorem dX0_differs_23 : decode cX0_differs 23 = .ok (.ifCond .eq 17, 3) := dk_153 0 17 (dk_at dksX0_differs_1 0 rfl rfl)
theorem dX0_differs_26 : decode cX0_differs 26 = .ok (.aload_n 0, 1) := dk_42 (dk_at dksX0_differs_1 3 rfl rfl)
theorem dX0_differs_27 : decode cX0_differs 27 = .ok (.iload_n 1, 1) := dk_27 (dk_at dksX0_differs_1 4 rfl rfl)
theorem dX0_differs_28 : decode cX0_differs 28 = .ok (.iload_n 2, 1) := dk_28 (dk_at dksX0_differs_1 5 rfl rfl)
theorem dX0_differs_29 : decode cX0_differs 29 = .ok (.iload_n 3, 1) := dk_29 (dk_at dksX0_differs_1 6 rfl rfl)
theorem dX0_differs_30 : decode cX0_differs 30 = .ok (.iload 4, 2) := dk_21 4 (dk_at dksX0_differs_1 7 rfl rfl)
theorem dX0_differs_32 : decode cX0_differs 32 = .ok (.iload 5, 2) := dk_21 5 (dk_at dksX0_differs_1 9 rfl rfl)
theorem dX0_differs_34 : decode cX0_differs 34 = .ok (.invokevirtual 350, 3) := dk_182 1 94 (dk_at dksX0_differs_1 11 rfl rfl)
theorem dX0_differs_37 : decode cX0_differs 37 = .ok (.goto 4, 3) := dk_167 0 4 (dk_at dksX0_differs_1 14 rfl rfl)
theorem dX0_differs_40 : decode cX0_differs 40 = .ok (.iconst (-1), 1) := dk_2 (dk_at dksX0_differs_1 17 rfl rfl)
theorem dX0_differs_41 : decode cX0_differs 41 = .ok (.ireturn, 1) := dk_172 (dk_at dksX0_differs_1 18 rfl rfl)
abbrev cX0_differsOf : ByteArray := prog_1_method_42_code
def yX0_differsOf : MethodName := ⟨RX0, "differsOf", "(IIIII)I"⟩
def dkwX0_differsOf_2 : List UInt8 := [180, 1, 7, 21, 4, 21, 5, 3, 42, 180, 0, 22, 182, 1, 8, 87, 42, 180, 0, 18, 182, 1, 45, 172]
abbrev dktX0_differsOf_2 : List UInt8 := dkwX0_differsOf_2 ++ []
def dkwX0_differsOf_1 : List UInt8 := [180, 0, 22, 182, 1, 8, 87, 42, 180, 0, 18, 180, 1, 42, 42, 180, 0, 68, 180, 0, 183, 27, 50]
abbrev dktX0_differsOf_1 : List UInt8 := dkwX0_differsOf_1 ++ dktX0_differsOf_2
def dkwX0_differsOf_0 : List UInt8 := [42, 180, 0, 18, 180, 1, 3, 42, 180, 0, 68, 180, 0, 183, 27, 50, 180, 1, 7, 28, 29, 3, 42]
abbrev dktX0_differsOf_0 : List UInt8 := dkwX0_differsOf_0 ++ dktX0_differsOf_1
theorem dksX0_differsOf_0 : cX0_differsOf.data.toList.drop 0 = dktX0_differsOf_0 := by decide +kernel
theorem dksX0_differsOf_1 : cX0_differsOf.data.toList.drop 23 = dktX0_differsOf_1 := dk_seg dksX0_differsOf_0 23 rfl rfl
theorem dksX0_differsOf_2 : cX0_differsOf.data.toList.drop 46 = dktX0_differsOf_2 := dk_seg dksX0_differsOf_1 23 rfl rfl
theorem dX0_differsOf_0 : decode cX0_differsOf 0 = .ok (.aload_n 0, 1) := dk_42 (dk_at dksX0_differsOf_0 0 rfl rfl)
theorem dX0_differsOf_1 : decode cX0_differsOf 1 = .ok (.getfield 18, 3) := dk_180 0 18 (dk_at dksX0_differsOf_0 1 rfl rfl)
theorem dX0_differsOf_4 : decode cX0_differsOf 4 = .ok (.getfield 259, 3) := dk_180 1 3 (dk_at dksX0_differsOf_0 4 rfl rfl)
theorem dX0_differsOf_7 : decode cX0_differsOf 7 = .ok (.aload_n 0, 1) := dk_42 (dk_at dksX0_differsOf_0 7 rfl rfl)
theorem dX0_differsOf_8 : decode cX0_differsOf 8 = .ok (.getfield 68, 3) := dk_180 0 68 (dk_at dksX0_differsOf_0 8 rfl rfl)
theorem dX0_differsOf_11 : decode cX0_differsOf 11 = .ok (.getfield 183, 3) := dk_180 0 183 (dk_at dksX0_differsOf_0 11 rfl rfl)
theorem dX0_differsOf_14 : decode cX0_differsOf 14 = .ok (.iload_n 1, 1) := dk_27 (dk_at dksX0_differsOf_0 14 rfl rfl)
theorem dX0_differsOf_15 : decode cX0_differsOf 15 = .ok (.aaload, 1) := dk_50 (dk_at dksX0_differsOf_0 15 rfl rfl)
theorem dX0_differsOf_16 : decode cX0_differsOf 16 = .ok (.getfield 263, 3) := dk_180 1 7 (dk_at dksX0_differsOf_0 16 rfl rfl)
theorem dX0_differsOf_19 : decode cX0_differsOf 19 = .ok (.iload_n 2, 1) := dk_28 (dk_at dksX0_differsOf_0 19 rfl rfl)
theorem dX0_differsOf_20 : decode cX0_differsOf 20 = .ok (.iload_n 3, 1) := dk_29 (dk_at dksX0_differsOf_0 20 rfl rfl)
theorem dX0_differsOf_21 : decode cX0_differsOf 21 = .ok (.iconst 0, 1) := dk_3 (dk_at dksX0_differsOf_0 21 rfl rfl)
theorem dX0_differsOf_22 : decode cX0_differsOf 22 = .ok (.aload_n 0, 1) := dk_42 (dk_at dksX0_differsOf_0 22 rfl rfl)
theorem dX0_differsOf_23 : decode cX0_differsOf 23 = .ok (.getfield 22, 3) := dk_180 0 22 (dk_at dksX0_differsOf_1 0 rfl rfl)
theorem dX0_differsOf_26 : decode cX0_differsOf 26 = .ok (.invokevirtual 264, 3) := dk_182 1 8 (dk_at dksX0_differsOf_1 3 rfl rfl)
theorem dX0_differsOf_29 : decode cX0_differsOf 29 = .ok (.pop, 1) := dk_87 (dk_at dksX0_differsOf_1 6 rfl rfl)
theorem dX0_differsOf_30 : decode cX0_differsOf 30 = .ok (.aload_n 0, 1) := dk_42 (dk_at dksX0_differsOf_1 7 rfl rfl)
theorem dX0_differsOf_31 : decode cX0_differsOf 31 = .ok (.getfield 18, 3) := dk_180 0 18 (dk_at dksX0_differsOf_1 8 rfl rfl)
theorem dX0_differsOf_34 : decode cX0_differsOf 34 = .ok (.getfield 298, 3) := dk_180 1 42 (dk_at dksX0_differsOf_1 11 rfl rfl)
theorem dX0_differsOf_37 : decode cX0_differsOf 37 = .ok (.aload_n 0, 1) := dk_42 (dk_at dksX0_differsOf_1 14 rfl rfl)
theorem dX0_differsOf_38 : decode cX0_differsOf 38 = .ok (.getfield 68, 3) := dk_180 0 68 (dk_at dksX0_differsOf_1 15 rfl rfl)
theorem dX0_differsOf_41 : decode cX0_differsOf 41 = .ok (.getfield 183, 3) := dk_180 0 183 (dk_at dksX0_differsOf_1 18 rfl rfl)
theorem dX0_differsOf_44 : decode cX0_differsOf 44 = .ok (.iload_n 1, 1) := dk_27 (dk_at dksX0_differsOf_1 21 rfl rfl)
theorem dX0_differsOf_45 : decode cX0_differsOf 45 = .ok (.aaload, 1) := dk_50 (dk_at dksX0_differsOf_1 22 rfl rfl)
theorem dX0_differsOf_46 : decode cX0_differsOf 46 = .ok (.getfield 263, 3) := dk_180 1 7 (dk_at dksX0_differsOf_2 0 rfl rfl)
theorem dX0_differsOf_49 : decode cX0_differsOf 49 = .ok (.iload 4, 2) := dk_21 4 (dk_at dksX0_differsOf_2 3 rfl rfl)
theorem dX0_differsOf_51 : decode cX0_differsOf 51 = .ok (.iload 5, 2) := dk_21 5 (dk_at dksX0_differsOf_2 5 rfl rfl)
theorem dX0_differsOf_53 : decode cX0_differsOf 53 = .ok (.iconst 0, 1) := dk_3 (dk_at dksX0_differsOf_2 7 rfl rfl)
theorem dX0_differsOf_54 : decode cX0_differsOf 54 = .ok (.aload_n 0, 1) := dk_42 (dk_at dksX0_differsOf_2 8 rfl rfl)
theorem dX0_differsOf_55 : decode cX0_differsOf 55 = .ok (.getfield 22, 3) := dk_180 0 22 (dk_at dksX0_differsOf_2 9 rfl rfl)
theorem dX0_differsOf_58 : decode cX0_differsOf 58 = .ok (.invokevirtual 264, 3) := dk_182 1 8 (dk_at dksX0_differsOf_2 12 rfl rfl)
theorem dX0_differsOf_61 : decode cX0_differsOf 61 = .ok (.pop, 1) := dk_87 (dk_at dksX0_differsOf_2 15 rfl rfl)
theorem dX0_differsOf_62 : decode cX0_differsOf 62 = .ok (.aload_n 0, 1) := dk_42 (dk_at dksX0_differsOf_2 16 rfl rfl)
theorem dX0_differsOf_63 : decode cX0_differsOf 63 = .ok (.getfield 18, 3) := dk_180 0 18 (dk_at dksX0_differsOf_2 17 rfl rfl)
theorem dX0_differsOf_66 : decode cX0_differsOf 66 = .ok (.invokevirtual 301, 3) := dk_182 1 45 (dk_at dksX0_differsOf_2 20 rfl rfl)
theorem dX0_differsOf_69 : decode cX0_differsOf 69 = .ok (.ireturn, 1) := dk_172 (dk_at dksX0_differsOf_2 23 rfl rfl)
abbrev cX0_hides : ByteArray := prog_1_method_44_code
def yX0_hides : MethodName := ⟨RX0, "hides", "(II)I"⟩
def dkwX0_hides_2 : List UInt8 := [182, 1, 94, 184, 1, 85, 62, 132, 5, 1, 167, 255, 230, 132, 4, 1, 167, 255, 215, 29, 172]
abbrev dktX0_hides_2 : List UInt8 := dkwX0_hides_2 ++ []
def dkwX0_hides_1 : List UInt8 := [6, 163, 0, 41, 3, 54, 5, 21, 5, 21, 4, 162, 0, 25, 29, 42, 27, 21, 4, 28, 21, 5, 28]
abbrev dktX0_hides_1 : List UInt8 := dkwX0_hides_1 ++ dktX0_hides_2
def dkwX0_hides_0 : List UInt8 := [42, 27, 182, 0, 125, 153, 0, 10, 28, 184, 0, 132, 154, 0, 5, 2, 172, 3, 62, 3, 54, 4, 21, 4]
abbrev dktX0_hides_0 : List UInt8 := dkwX0_hides_0 ++ dktX0_hides_1
theorem dksX0_hides_0 : cX0_hides.data.toList.drop 0 = dktX0_hides_0 := by decide +kernel
theorem dksX0_hides_1 : cX0_hides.data.toList.drop 24 = dktX0_hides_1 := dk_seg dksX0_hides_0 24 rfl rfl
theorem dksX0_hides_2 : cX0_hides.data.toList.drop 47 = dktX0_hides_2 := dk_seg dksX0_hides_1 23 rfl rfl
theorem dX0_hides_0 : decode cX0_hides 0 = .ok (.aload_n 0, 1) := dk_42 (dk_at dksX0_hides_0 0 rfl rfl)
theorem dX0_hides_1 : decode cX0_hides 1 = .ok (.iload_n 1, 1) := dk_27 (dk_at dksX0_hides_0 1 rfl rfl)
theorem dX0_hides_2 : decode cX0_hides 2 = .ok (.invokevirtual 125, 3) := dk_182 0 125 (dk_at dksX0_hides_0 2 rfl rfl)
theorem dX0_hides_5 : decode cX0_hides 5 = .ok (.ifCond .eq 10, 3) := dk_153 0 10 (dk_at dksX0_hides_0 5 rfl rfl)
theorem dX0_hides_8 : decode cX0_hides 8 = .ok (.iload_n 2, 1) := dk_28 (dk_at dksX0_hides_0 8 rfl rfl)
theorem dX0_hides_9 : decode cX0_hides 9 = .ok (.invokestatic 132, 3) := dk_184 0 132 (dk_at dksX0_hides_0 9 rfl rfl)
theorem dX0_hides_12 : decode cX0_hides 12 = .ok (.ifCond .ne 5, 3) := dk_154 0 5 (dk_at dksX0_hides_0 12 rfl rfl)
theorem dX0_hides_15 : decode cX0_hides 15 = .ok (.iconst (-1), 1) := dk_2 (dk_at dksX0_hides_0 15 rfl rfl)
theorem dX0_hides_16 : decode cX0_hides 16 = .ok (.ireturn, 1) := dk_172 (dk_at dksX0_hides_0 16 rfl rfl)
theorem dX0_hides_17 : decode cX0_hides 17 = .ok (.iconst 0, 1) := dk_3 (dk_at dksX0_hides_0 17 rfl rfl)
theorem dX0_hides_18 : decode cX0_hides 18 = .ok (.istore_n 3, 1) := dk_62 (dk_at dksX0_hides_0 18 rfl rfl)
theorem dX0_hides_19 : decode cX0_hides 19 = .ok (.iconst 0, 1) := dk_3 (dk_at dksX0_hides_0 19 rfl rfl)
theorem dX0_hides_20 : decode cX0_hides 20 = .ok (.istore 4, 2) := dk_54 4 (dk_at dksX0_hides_0 20 rfl rfl)
theorem dX0_hides_22 : decode cX0_hides 22 = .ok (.iload 4, 2) := dk_21 4 (dk_at dksX0_hides_0 22 rfl rfl)
theorem dX0_hides_24 : decode cX0_hides 24 = .ok (.iconst 3, 1) := dk_6 (dk_at dksX0_hides_1 0 rfl rfl)
theorem dX0_hides_25 : decode cX0_hides 25 = .ok (.if_icmp .gt 41, 3) := dk_163 0 41 (dk_at dksX0_hides_1 1 rfl rfl)
theorem dX0_hides_28 : decode cX0_hides 28 = .ok (.iconst 0, 1) := dk_3 (dk_at dksX0_hides_1 4 rfl rfl)
theorem dX0_hides_29 : decode cX0_hides 29 = .ok (.istore 5, 2) := dk_54 5 (dk_at dksX0_hides_1 5 rfl rfl)
theorem dX0_hides_31 : decode cX0_hides 31 = .ok (.iload 5, 2) := dk_21 5 (dk_at dksX0_hides_1 7 rfl rfl)
theorem dX0_hides_33 : decode cX0_hides 33 = .ok (.iload 4, 2) := dk_21 4 (dk_at dksX0_hides_1 9 rfl rfl)
theorem dX0_hides_35 : decode cX0_hides 35 = .ok (.if_icmp .ge 25, 3) := dk_162 0 25 (dk_at dksX0_hides_1 11 rfl rfl)
theorem dX0_hides_38 : decode cX0_hides 38 = .ok (.iload_n 3, 1) := dk_29 (dk_at dksX0_hides_1 14 rfl rfl)
theorem dX0_hides_39 : decode cX0_hides 39 = .ok (.aload_n 0, 1) := dk_42 (dk_at dksX0_hides_1 15 rfl rfl)
theorem dX0_hides_40 : decode cX0_hides 40 = .ok (.iload_n 1, 1) := dk_27 (dk_at dksX0_hides_1 16 rfl rfl)
theorem dX0_hides_41 : decode cX0_hides 41 = .ok (.iload 4, 2) := dk_21 4 (dk_at dksX0_hides_1 17 rfl rfl)
theorem dX0_hides_43 : decode cX0_hides 43 = .ok (.iload_n 2, 1) := dk_28 (dk_at dksX0_hides_1 19 rfl rfl)
theorem dX0_hides_44 : decode cX0_hides 44 = .ok (.iload 5, 2) := dk_21 5 (dk_at dksX0_hides_1 20 rfl rfl)
theorem dX0_hides_46 : decode cX0_hides 46 = .ok (.iload_n 2, 1) := dk_28 (dk_at dksX0_hides_1 22 rfl rfl)
theorem dX0_hides_47 : decode cX0_hides 47 = .ok (.invokevirtual 350, 3) := dk_182 1 94 (dk_at dksX0_hides_2 0 rfl rfl)
theorem dX0_hides_50 : decode cX0_hides 50 = .ok (.invokestatic 341, 3) := dk_184 1 85 (dk_at dksX0_hides_2 3 rfl rfl)
theorem dX0_hides_53 : decode cX0_hides 53 = .ok (.istore_n 3, 1) := dk_62 (dk_at dksX0_hides_2 6 rfl rfl)
theorem dX0_hides_54 : decode cX0_hides 54 = .ok (.iinc 5 1, 3) := dk_132 5 1 (dk_at dksX0_hides_2 7 rfl rfl)
theorem dX0_hides_57 : decode cX0_hides 57 = .ok (.goto (-26), 3) := dk_167 255 230 (dk_at dksX0_hides_2 10 rfl rfl)
theorem dX0_hides_60 : decode cX0_hides 60 = .ok (.iinc 4 1, 3) := dk_132 4 1 (dk_at dksX0_hides_2 13 rfl rfl)
theorem dX0_hides_63 : decode cX0_hides 63 = .ok (.goto (-41), 3) := dk_167 255 215 (dk_at dksX0_hides_2 16 rfl rfl)
theorem dX0_hides_66 : decode cX0_hides 66 = .ok (.iload_n 3, 1) := dk_29 (dk_at dksX0_hides_2 19 rfl rfl)
theorem dX0_hides_67 : decode cX0_hides 67 = .ok (.ireturn, 1) := dk_172 (dk_at dksX0_hides_2 20 rfl rfl)
abbrev cX0_late : ByteArray := prog_1_method_45_code
def yX0_late : MethodName := ⟨RX0, "late", "(II)I"⟩
def dkwX0_late_4 : List UInt8 := [167, 255, 216, 2, 172]
abbrev dktX0_late_4 : List UInt8 := dkwX0_late_4 ++ []
def dkwX0_late_3 : List UInt8 := [21, 5, 3, 42, 180, 0, 22, 182, 1, 8, 180, 1, 14, 21, 4, 159, 0, 6, 21, 5, 172, 132, 5, 1]
abbrev dktX0_late_3 : List UInt8 := dkwX0_late_3 ++ dktX0_late_4
def dkwX0_late_2 : List UInt8 := [180, 1, 14, 54, 4, 4, 54, 5, 21, 5, 16, 99, 163, 0, 39, 42, 180, 0, 18, 180, 1, 3, 45, 28]
abbrev dktX0_late_2 : List UInt8 := dkwX0_late_2 ++ dktX0_late_3
def dkwX0_late_1 : List UInt8 := [27, 50, 180, 1, 7, 78, 42, 180, 0, 18, 180, 1, 3, 45, 28, 3, 3, 42, 180, 0, 22, 182, 1, 8]
abbrev dktX0_late_1 : List UInt8 := dkwX0_late_1 ++ dktX0_late_2
def dkwX0_late_0 : List UInt8 := [42, 27, 182, 0, 125, 153, 0, 10, 28, 184, 0, 129, 154, 0, 5, 2, 172, 42, 180, 0, 68, 180, 0, 183]
abbrev dktX0_late_0 : List UInt8 := dkwX0_late_0 ++ dktX0_late_1
theorem dksX0_late_0 : cX0_late.data.toList.drop 0 = dktX0_late_0 := by decide +kernel
theorem dksX0_late_1 : cX0_late.data.toList.drop 24 = dktX0_late_1 := dk_seg dksX0_late_0 24 rfl rfl
theorem dksX0_late_2 : cX0_late.data.toList.drop 48 = dktX0_late_2 := dk_seg dksX0_late_1 24 rfl rfl
theorem dksX0_late_3 : cX0_late.data.toList.drop 72 = dktX0_late_3 := dk_seg dksX0_late_2 24 rfl rfl
theorem dksX0_late_4 : cX0_late.data.toList.drop 96 = dktX0_late_4 := dk_seg dksX0_late_3 24 rfl rfl
theorem dX0_late_0 : decode cX0_late 0 = .ok (.aload_n 0, 1) := dk_42 (dk_at dksX0_late_0 0 rfl rfl)
theorem dX0_late_1 : decode cX0_late 1 = .ok (.iload_n 1, 1) := dk_27 (dk_at dksX0_late_0 1 rfl rfl)
theorem dX0_late_2 : decode cX0_late 2 = .ok (.invokevirtual 125, 3) := dk_182 0 125 (dk_at dksX0_late_0 2 rfl rfl)
theorem dX0_late_5 : decode cX0_late 5 = .ok (.ifCond .eq 10, 3) := dk_153 0 10 (dk_at dksX0_late_0 5 rfl rfl)
theorem dX0_late_8 : decode cX0_late 8 = .ok (.iload_n 2, 1) := dk_28 (dk_at dksX0_late_0 8 rfl rfl)
theorem dX0_late_9 : decode cX0_late 9 = .ok (.invokestatic 129, 3) := dk_184 0 129 (dk_at dksX0_late_0 9 rfl rfl)
theorem dX0_late_12 : decode cX0_late 12 = .ok (.ifCond .ne 5, 3) := dk_154 0 5 (dk_at dksX0_late_0 12 rfl rfl)
theorem dX0_late_15 : decode cX0_late 15 = .ok (.iconst (-1), 1) := dk_2 (dk_at dksX0_late_0 15 rfl rfl)
theorem dX0_late_16 : decode cX0_late 16 = .ok (.ireturn, 1) := dk_172 (dk_at dksX0_late_0 16 rfl rfl)
theorem dX0_late_17 : decode cX0_late 17 = .ok (.aload_n 0, 1) := dk_42 (dk_at dksX0_late_0 17 rfl rfl)
theorem dX0_late_18 : decode cX0_late 18 = .ok (.getfield 68, 3) := dk_180 0 68 (dk_at dksX0_late_0 18 rfl rfl)
theorem dX0_late_21 : decode cX0_late 21 = .ok (.getfield 183, 3) := dk_180 0 183 (dk_at dksX0_late_0 21 rfl rfl)
theorem dX0_late_24 : decode cX0_late 24 = .ok (.iload_n 1, 1) := dk_27 (dk_at dksX0_late_1 0 rfl rfl)
theorem dX0_late_25 : decode cX0_late 25 = .ok (.aaload, 1) := dk_50 (dk_at dksX0_late_1 1 rfl rfl)
theorem dX0_late_26 : decode cX0_late 26 = .ok (.getfield 263, 3) := dk_180 1 7 (dk_at dksX0_late_1 2 rfl rfl)
theorem dX0_late_29 : decode cX0_late 29 = .ok (.astore_n 3, 1) := dk_78 (dk_at dksX0_late_1 5 rfl rfl)
theorem dX0_late_30 : decode cX0_late 30 = .ok (.aload_n 0, 1) := dk_42 (dk_at dksX0_late_1 6 rfl rfl)
theorem dX0_late_31 : decode cX0_late 31 = .ok (.getfield 18, 3) := dk_180 0 18 (dk_at dksX0_late_1 7 rfl rfl)
theorem dX0_late_34 : decode cX0_late 34 = .ok (.getfield 259, 3) := dk_180 1 3 (dk_at dksX0_late_1 10 rfl rfl)
theorem dX0_late_37 : decode cX0_late 37 = .ok (.aload_n 3, 1) := dk_45 (dk_at dksX0_late_1 13 rfl rfl)
theorem dX0_late_38 : decode cX0_late 38 = .ok (.iload_n 2, 1) := dk_28 (dk_at dksX0_late_1 14 rfl rfl)
theorem dX0_late_39 : decode cX0_late 39 = .ok (.iconst 0, 1) := dk_3 (dk_at dksX0_late_1 15 rfl rfl)
theorem dX0_late_40 : decode cX0_late 40 = .ok (.iconst 0, 1) := dk_3 (dk_at dksX0_late_1 16 rfl rfl)
theorem dX0_late_41 : decode cX0_late 41 = .ok (.aload_n 0, 1) := dk_42 (dk_at dksX0_late_1 17 rfl rfl)
theorem dX0_late_42 : decode cX0_late 42 = .ok (.getfield 22, 3) := dk_180 0 22 (dk_at dksX0_late_1 18 rfl rfl)
theorem dX0_late_45 : decode cX0_late 45 = .ok (.invokevirtual 264, 3) := dk_182 1 8 (dk_at dksX0_late_1 21 rfl rfl)
theorem dX0_late_48 : decode cX0_late 48 = .ok (.getfield 270, 3) := dk_180 1 14 (dk_at dksX0_late_2 0 rfl rfl)
theorem dX0_late_51 : decode cX0_late 51 = .ok (.istore 4, 2) := dk_54 4 (dk_at dksX0_late_2 3 rfl rfl)
theorem dX0_late_53 : decode cX0_late 53 = .ok (.iconst 1, 1) := dk_4 (dk_at dksX0_late_2 5 rfl rfl)
theorem dX0_late_54 : decode cX0_late 54 = .ok (.istore 5, 2) := dk_54 5 (dk_at dksX0_late_2 6 rfl rfl)
theorem dX0_late_56 : decode cX0_late 56 = .ok (.iload 5, 2) := dk_21 5 (dk_at dksX0_late_2 8 rfl rfl)
theorem dX0_late_58 : decode cX0_late 58 = .ok (.bipush 99, 2) := dk_16 99 (dk_at dksX0_late_2 10 rfl rfl)
theorem dX0_late_60 : decode cX0_late 60 = .ok (.if_icmp .gt 39, 3) := dk_163 0 39 (dk_at dksX0_late_2 12 rfl rfl)
theorem dX0_late_63 : decode cX0_late 63 = .ok (.aload_n 0, 1) := dk_42 (dk_at dksX0_late_2 15 rfl rfl)
theorem dX0_late_64 : decode cX0_late 64 = .ok (.getfield 18, 3) := dk_180 0 18 (dk_at dksX0_late_2 16 rfl rfl)
theorem dX0_late_67 : decode cX0_late 67 = .ok (.getfield 259, 3) := dk_180 1 3 (dk_at dksX0_late_2 19 rfl rfl)
theorem dX0_late_70 : decode cX0_late 70 = .ok (.aload_n 3, 1) := dk_45 (dk_at dksX0_late_2 22 rfl rfl)
theorem dX0_late_71 : decode cX0_late 71 = .ok (.iload_n 2, 1) := dk_28 (dk_at dksX0_late_2 23 rfl rfl)
theorem dX0_late_72 : decode cX0_late 72 = .ok (.iload 5, 2) := dk_21 5 (dk_at dksX0_late_3 0 rfl rfl)
theorem dX0_late_74 : decode cX0_late 74 = .ok (.iconst 0, 1) := dk_3 (dk_at dksX0_late_3 2 rfl rfl)
theorem dX0_late_75 : decode cX0_late 75 = .ok (.aload_n 0, 1) := dk_42 (dk_at dksX0_late_3 3 rfl rfl)
theorem dX0_late_76 : decode cX0_late 76 = .ok (.getfield 22, 3) := dk_180 0 22 (dk_at dksX0_late_3 4 rfl rfl)
theorem dX0_late_79 : decode cX0_late 79 = .ok (.invokevirtual 264, 3) := dk_182 1 8 (dk_at dksX0_late_3 7 rfl rfl)
theorem dX0_late_82 : decode cX0_late 82 = .ok (.getfield 270, 3) := dk_180 1 14 (dk_at dksX0_late_3 10 rfl rfl)
theorem dX0_late_85 : decode cX0_late 85 = .ok (.iload 4, 2) := dk_21 4 (dk_at dksX0_late_3 13 rfl rfl)
theorem dX0_late_87 : decode cX0_late 87 = .ok (.if_icmp .eq 6, 3) := dk_159 0 6 (dk_at dksX0_late_3 15 rfl rfl)
theorem dX0_late_90 : decode cX0_late 90 = .ok (.iload 5, 2) := dk_21 5 (dk_at dksX0_late_3 18 rfl rfl)
theorem dX0_late_92 : decode cX0_late 92 = .ok (.ireturn, 1) := dk_172 (dk_at dksX0_late_3 20 rfl rfl)
theorem dX0_late_93 : decode cX0_late 93 = .ok (.iinc 5 1, 3) := dk_132 5 1 (dk_at dksX0_late_3 21 rfl rfl)
theorem dX0_late_96 : decode cX0_late 96 = .ok (.goto (-40), 3) := dk_167 255 216 (dk_at dksX0_late_4 0 rfl rfl)
theorem dX0_late_99 : decode cX0_late 99 = .ok (.iconst (-1), 1) := dk_2 (dk_at dksX0_late_4 3 rfl rfl)
theorem dX0_late_100 : decode cX0_late 100 = .ok (.ireturn, 1) := dk_172 (dk_at dksX0_late_4 4 rfl rfl)
abbrev cX0_keep : ByteArray := prog_1_method_46_code
def yX0_keep : MethodName := ⟨RX0, "keep", "(IIZ)I"⟩
def dkwX0_keep_3 : List UInt8 := [180, 1, 98, 4, 100, 172]
abbrev dktX0_keep_3 : List UInt8 := dkwX0_keep_3 ++ []
def dkwX0_keep_2 : List UInt8 := [28, 29, 183, 1, 107, 83, 42, 180, 0, 68, 89, 180, 1, 98, 4, 96, 181, 1, 98, 42, 180, 0, 68]
abbrev dktX0_keep_2 : List UInt8 := dkwX0_keep_2 ++ dktX0_keep_3
def dkwX0_keep_1 : List UInt8 := [154, 0, 5, 2, 172, 42, 180, 0, 68, 180, 1, 101, 42, 180, 0, 68, 180, 1, 98, 187, 1, 105, 89, 27]
abbrev dktX0_keep_1 : List UInt8 := dkwX0_keep_1 ++ dktX0_keep_2
def dkwX0_keep_0 : List UInt8 := [42, 180, 0, 68, 180, 1, 98, 16, 16, 159, 0, 18, 42, 27, 182, 0, 125, 153, 0, 10, 28, 184, 0, 132]
abbrev dktX0_keep_0 : List UInt8 := dkwX0_keep_0 ++ dktX0_keep_1
theorem dksX0_keep_0 : cX0_keep.data.toList.drop 0 = dktX0_keep_0 := by decide +kernel
theorem dksX0_keep_1 : cX0_keep.data.toList.drop 24 = dktX0_keep_1 := dk_seg dksX0_keep_0 24 rfl rfl
theorem dksX0_keep_2 : cX0_keep.data.toList.drop 48 = dktX0_keep_2 := dk_seg dksX0_keep_1 24 rfl rfl
theorem dksX0_keep_3 : cX0_keep.data.toList.drop 71 = dktX0_keep_3 := dk_seg dksX0_keep_2 23 rfl rfl
theorem dX0_keep_0 : decode cX0_keep 0 = .ok (.aload_n 0, 1) := dk_42 (dk_at dksX0_keep_0 0 rfl rfl)
theorem dX0_keep_1 : decode cX0_keep 1 = .ok (.getfield 68, 3) := dk_180 0 68 (dk_at dksX0_keep_0 1 rfl rfl)
theorem dX0_keep_4 : decode cX0_keep 4 = .ok (.getfield 354, 3) := dk_180 1 98 (dk_at dksX0_keep_0 4 rfl rfl)
theorem dX0_keep_7 : decode cX0_keep 7 = .ok (.bipush 16, 2) := dk_16 16 (dk_at dksX0_keep_0 7 rfl rfl)
theorem dX0_keep_9 : decode cX0_keep 9 = .ok (.if_icmp .eq 18, 3) := dk_159 0 18 (dk_at dksX0_keep_0 9 rfl rfl)
theorem dX0_keep_12 : decode cX0_keep 12 = .ok (.aload_n 0, 1) := dk_42 (dk_at dksX0_keep_0 12 rfl rfl)
theorem dX0_keep_13 : decode cX0_keep 13 = .ok (.iload_n 1, 1) := dk_27 (dk_at dksX0_keep_0 13 rfl rfl)
theorem dX0_keep_14 : decode cX0_keep 14 = .ok (.invokevirtual 125, 3) := dk_182 0 125 (dk_at dksX0_keep_0 14 rfl rfl)
theorem dX0_keep_17 : decode cX0_keep 17 = .ok (.ifCond .eq 10, 3) := dk_153 0 10 (dk_at dksX0_keep_0 17 rfl rfl)
theorem dX0_keep_20 : decode cX0_keep 20 = .ok (.iload_n 2, 1) := dk_28 (dk_at dksX0_keep_0 20 rfl rfl)
theorem dX0_keep_21 : decode cX0_keep 21 = .ok (.invokestatic 132, 3) := dk_184 0 132 (dk_at dksX0_keep_0 21 rfl rfl)
theorem dX0_keep_24 : decode cX0_keep 24 = .ok (.ifCond .ne 5, 3) := dk_154 0 5 (dk_at dksX0_keep_1 0 rfl rfl)
theorem dX0_keep_27 : decode cX0_keep 27 = .ok (.iconst (-1), 1) := dk_2 (dk_at dksX0_keep_1 3 rfl rfl)
theorem dX0_keep_28 : decode cX0_keep 28 = .ok (.ireturn, 1) := dk_172 (dk_at dksX0_keep_1 4 rfl rfl)
theorem dX0_keep_29 : decode cX0_keep 29 = .ok (.aload_n 0, 1) := dk_42 (dk_at dksX0_keep_1 5 rfl rfl)
theorem dX0_keep_30 : decode cX0_keep 30 = .ok (.getfield 68, 3) := dk_180 0 68 (dk_at dksX0_keep_1 6 rfl rfl)
theorem dX0_keep_33 : decode cX0_keep 33 = .ok (.getfield 357, 3) := dk_180 1 101 (dk_at dksX0_keep_1 9 rfl rfl)
theorem dX0_keep_36 : decode cX0_keep 36 = .ok (.aload_n 0, 1) := dk_42 (dk_at dksX0_keep_1 12 rfl rfl)
theorem dX0_keep_37 : decode cX0_keep 37 = .ok (.getfield 68, 3) := dk_180 0 68 (dk_at dksX0_keep_1 13 rfl rfl)
theorem dX0_keep_40 : decode cX0_keep 40 = .ok (.getfield 354, 3) := dk_180 1 98 (dk_at dksX0_keep_1 16 rfl rfl)
theorem dX0_keep_43 : decode cX0_keep 43 = .ok (.new 361, 3) := dk_187 1 105 (dk_at dksX0_keep_1 19 rfl rfl)
theorem dX0_keep_46 : decode cX0_keep 46 = .ok (.dup, 1) := dk_89 (dk_at dksX0_keep_1 22 rfl rfl)
theorem dX0_keep_47 : decode cX0_keep 47 = .ok (.iload_n 1, 1) := dk_27 (dk_at dksX0_keep_1 23 rfl rfl)
theorem dX0_keep_48 : decode cX0_keep 48 = .ok (.iload_n 2, 1) := dk_28 (dk_at dksX0_keep_2 0 rfl rfl)
theorem dX0_keep_49 : decode cX0_keep 49 = .ok (.iload_n 3, 1) := dk_29 (dk_at dksX0_keep_2 1 rfl rfl)
theorem dX0_keep_50 : decode cX0_keep 50 = .ok (.invokespecial 363, 3) := dk_183 1 107 (dk_at dksX0_keep_2 2 rfl rfl)
theorem dX0_keep_53 : decode cX0_keep 53 = .ok (.aastore, 1) := dk_83 (dk_at dksX0_keep_2 5 rfl rfl)
theorem dX0_keep_54 : decode cX0_keep 54 = .ok (.aload_n 0, 1) := dk_42 (dk_at dksX0_keep_2 6 rfl rfl)
theorem dX0_keep_55 : decode cX0_keep 55 = .ok (.getfield 68, 3) := dk_180 0 68 (dk_at dksX0_keep_2 7 rfl rfl)
theorem dX0_keep_58 : decode cX0_keep 58 = .ok (.dup, 1) := dk_89 (dk_at dksX0_keep_2 10 rfl rfl)
theorem dX0_keep_59 : decode cX0_keep 59 = .ok (.getfield 354, 3) := dk_180 1 98 (dk_at dksX0_keep_2 11 rfl rfl)
theorem dX0_keep_62 : decode cX0_keep 62 = .ok (.iconst 1, 1) := dk_4 (dk_at dksX0_keep_2 14 rfl rfl)
theorem dX0_keep_63 : decode cX0_keep 63 = .ok (.iadd, 1) := dk_96 (dk_at dksX0_keep_2 15 rfl rfl)
theorem dX0_keep_64 : decode cX0_keep 64 = .ok (.putfield 354, 3) := dk_181 1 98 (dk_at dksX0_keep_2 16 rfl rfl)
theorem dX0_keep_67 : decode cX0_keep 67 = .ok (.aload_n 0, 1) := dk_42 (dk_at dksX0_keep_2 19 rfl rfl)
theorem dX0_keep_68 : decode cX0_keep 68 = .ok (.getfield 68, 3) := dk_180 0 68 (dk_at dksX0_keep_2 20 rfl rfl)
theorem dX0_keep_71 : decode cX0_keep 71 = .ok (.getfield 354, 3) := dk_180 1 98 (dk_at dksX0_keep_3 0 rfl rfl)
theorem dX0_keep_74 : decode cX0_keep 74 = .ok (.iconst 1, 1) := dk_4 (dk_at dksX0_keep_3 3 rfl rfl)
theorem dX0_keep_75 : decode cX0_keep 75 = .ok (.isub, 1) := dk_100 (dk_at dksX0_keep_3 4 rfl rfl)
theorem dX0_keep_76 : decode cX0_keep 76 = .ok (.ireturn, 1) := dk_172 (dk_at dksX0_keep_3 5 rfl rfl)
abbrev cX0_fit : ByteArray := prog_1_method_52_code
def yX0_fit : MethodName := ⟨RX0, "fit", "(II)I"⟩
def dkwX0_fit_1 : List UInt8 := [153, 0, 12, 42, 180, 0, 95, 28, 46, 167, 0, 4, 2, 172]
abbrev dktX0_fit_1 : List UInt8 := dkwX0_fit_1 ++ []
def dkwX0_fit_0 : List UInt8 := [27, 3, 16, 16, 184, 0, 3, 153, 0, 29, 28, 3, 7, 184, 0, 3, 153, 0, 20, 42, 27, 182, 1, 137]
abbrev dktX0_fit_0 : List UInt8 := dkwX0_fit_0 ++ dktX0_fit_1
theorem dksX0_fit_0 : cX0_fit.data.toList.drop 0 = dktX0_fit_0 := by decide +kernel
theorem dksX0_fit_1 : cX0_fit.data.toList.drop 24 = dktX0_fit_1 := dk_seg dksX0_fit_0 24 rfl rfl
theorem dX0_fit_0 : decode cX0_fit 0 = .ok (.iload_n 1, 1) := dk_27 (dk_at dksX0_fit_0 0 rfl rfl)
theorem dX0_fit_1 : decode cX0_fit 1 = .ok (.iconst 0, 1) := dk_3 (dk_at dksX0_fit_0 1 rfl rfl)
theorem dX0_fit_2 : decode cX0_fit 2 = .ok (.bipush 16, 2) := dk_16 16 (dk_at dksX0_fit_0 2 rfl rfl)
theorem dX0_fit_4 : decode cX0_fit 4 = .ok (.invokestatic 3, 3) := dk_184 0 3 (dk_at dksX0_fit_0 4 rfl rfl)
theorem dX0_fit_7 : decode cX0_fit 7 = .ok (.ifCond .eq 29, 3) := dk_153 0 29 (dk_at dksX0_fit_0 7 rfl rfl)
theorem dX0_fit_10 : decode cX0_fit 10 = .ok (.iload_n 2, 1) := dk_28 (dk_at dksX0_fit_0 10 rfl rfl)
theorem dX0_fit_11 : decode cX0_fit 11 = .ok (.iconst 0, 1) := dk_3 (dk_at dksX0_fit_0 11 rfl rfl)
theorem dX0_fit_12 : decode cX0_fit 12 = .ok (.iconst 4, 1) := dk_7 (dk_at dksX0_fit_0 12 rfl rfl)
theorem dX0_fit_13 : decode cX0_fit 13 = .ok (.invokestatic 3, 3) := dk_184 0 3 (dk_at dksX0_fit_0 13 rfl rfl)
theorem dX0_fit_16 : decode cX0_fit 16 = .ok (.ifCond .eq 20, 3) := dk_153 0 20 (dk_at dksX0_fit_0 16 rfl rfl)
theorem dX0_fit_19 : decode cX0_fit 19 = .ok (.aload_n 0, 1) := dk_42 (dk_at dksX0_fit_0 19 rfl rfl)
theorem dX0_fit_20 : decode cX0_fit 20 = .ok (.iload_n 1, 1) := dk_27 (dk_at dksX0_fit_0 20 rfl rfl)
theorem dX0_fit_21 : decode cX0_fit 21 = .ok (.invokevirtual 393, 3) := dk_182 1 137 (dk_at dksX0_fit_0 21 rfl rfl)
theorem dX0_fit_24 : decode cX0_fit 24 = .ok (.ifCond .eq 12, 3) := dk_153 0 12 (dk_at dksX0_fit_1 0 rfl rfl)
theorem dX0_fit_27 : decode cX0_fit 27 = .ok (.aload_n 0, 1) := dk_42 (dk_at dksX0_fit_1 3 rfl rfl)
theorem dX0_fit_28 : decode cX0_fit 28 = .ok (.getfield 95, 3) := dk_180 0 95 (dk_at dksX0_fit_1 4 rfl rfl)
theorem dX0_fit_31 : decode cX0_fit 31 = .ok (.iload_n 2, 1) := dk_28 (dk_at dksX0_fit_1 7 rfl rfl)
theorem dX0_fit_32 : decode cX0_fit 32 = .ok (.iaload, 1) := dk_46 (dk_at dksX0_fit_1 8 rfl rfl)
theorem dX0_fit_33 : decode cX0_fit 33 = .ok (.goto 4, 3) := dk_167 0 4 (dk_at dksX0_fit_1 9 rfl rfl)
theorem dX0_fit_36 : decode cX0_fit 36 = .ok (.iconst (-1), 1) := dk_2 (dk_at dksX0_fit_1 12 rfl rfl)
theorem dX0_fit_37 : decode cX0_fit 37 = .ok (.ireturn, 1) := dk_172 (dk_at dksX0_fit_1 13 rfl rfl)
abbrev cX0_fitsMarks : ByteArray := prog_1_method_51_code
def yX0_fitsMarks : MethodName := ⟨RX0, "fitsMarks", "(I)Z"⟩
def dkwX0_fitsMarks_12 : List UInt8 := [132, 6, 1, 167, 255, 20, 132, 5, 1, 167, 254, 255, 132, 4, 1, 167, 254, 234, 29, 172]
abbrev dktX0_fitsMarks_12 : List UInt8 := dkwX0_fitsMarks_12 ++ []
def dkwX0_fitsMarks_11 : List UInt8 := [180, 0, 95, 3, 6, 184, 0, 160, 42, 180, 0, 95, 6, 21, 7, 79, 42, 180, 0, 95, 7, 21, 8, 79]
abbrev dktX0_fitsMarks_11 : List UInt8 := dkwX0_fitsMarks_11 ++ dktX0_fitsMarks_12
def dkwX0_fitsMarks_10 : List UInt8 := [167, 0, 4, 3, 54, 9, 21, 9, 154, 0, 6, 167, 0, 35, 4, 62, 42, 180, 0, 98, 3, 42]
abbrev dktX0_fitsMarks_10 : List UInt8 := dkwX0_fitsMarks_10 ++ dktX0_fitsMarks_11
def dkwX0_fitsMarks_9 : List UInt8 := [161, 0, 21, 21, 8, 42, 180, 0, 95, 7, 46, 160, 0, 14, 42, 182, 1, 133, 153, 0, 7, 4]
abbrev dktX0_fitsMarks_9 : List UInt8 := dkwX0_fitsMarks_9 ++ dktX0_fitsMarks_10
def dkwX0_fitsMarks_8 : List UInt8 := [161, 0, 43, 21, 7, 42, 180, 0, 95, 6, 46, 160, 0, 36, 21, 8, 42, 180, 0, 95, 7, 46]
abbrev dktX0_fitsMarks_8 : List UInt8 := dkwX0_fitsMarks_8 ++ dktX0_fitsMarks_9
def dkwX0_fitsMarks_7 : List UInt8 := [54, 8, 21, 8, 27, 164, 0, 6, 167, 0, 105, 29, 153, 0, 54, 21, 7, 42, 180, 0, 95, 6, 46]
abbrev dktX0_fitsMarks_7 : List UInt8 := dkwX0_fitsMarks_7 ++ dktX0_fitsMarks_8
def dkwX0_fitsMarks_6 : List UInt8 := [17, 0, 200, 164, 0, 6, 167, 0, 130, 28, 42, 4, 182, 1, 129, 100, 54, 7, 42, 3, 182, 1, 129]
abbrev dktX0_fitsMarks_6 : List UInt8 := dkwX0_fitsMarks_6 ++ dktX0_fitsMarks_7
def dkwX0_fitsMarks_5 : List UInt8 := [180, 0, 92, 21, 6, 46, 79, 42, 180, 0, 98, 3, 46, 16, 60, 163, 0, 145, 42, 180, 0, 98, 4, 46]
abbrev dktX0_fitsMarks_5 : List UInt8 := dkwX0_fitsMarks_5 ++ dktX0_fitsMarks_6
def dkwX0_fitsMarks_4 : List UInt8 := [180, 0, 89, 21, 5, 46, 4, 96, 79, 42, 180, 0, 98, 5, 21, 6, 156, 0, 7, 3, 167, 0, 10, 42]
abbrev dktX0_fitsMarks_4 : List UInt8 := dkwX0_fitsMarks_4 ++ dktX0_fitsMarks_5
def dkwX0_fitsMarks_3 : List UInt8 := [180, 0, 86, 21, 4, 46, 79, 42, 180, 0, 98, 4, 21, 5, 156, 0, 7, 3, 167, 0, 12, 42]
abbrev dktX0_fitsMarks_3 : List UInt8 := dkwX0_fitsMarks_3 ++ dktX0_fitsMarks_4
def dkwX0_fitsMarks_2 : List UInt8 := [180, 0, 68, 180, 1, 98, 162, 0, 230, 42, 180, 0, 98, 3, 21, 4, 156, 0, 7, 3, 167, 0, 10, 42]
abbrev dktX0_fitsMarks_2 : List UInt8 := dkwX0_fitsMarks_2 ++ dktX0_fitsMarks_3
def dkwX0_fitsMarks_1 : List UInt8 := [162, 1, 16, 2, 54, 5, 21, 5, 42, 180, 0, 68, 180, 1, 98, 162, 0, 251, 2, 54, 6, 21, 6, 42]
abbrev dktX0_fitsMarks_1 : List UInt8 := dkwX0_fitsMarks_1 ++ dktX0_fitsMarks_2
def dkwX0_fitsMarks_0 : List UInt8 := [42, 182, 1, 123, 61, 3, 62, 42, 182, 1, 126, 2, 54, 4, 21, 4, 42, 180, 0, 68, 180, 1, 98]
abbrev dktX0_fitsMarks_0 : List UInt8 := dkwX0_fitsMarks_0 ++ dktX0_fitsMarks_1
theorem dksX0_fitsMarks_0 : cX0_fitsMarks.data.toList.drop 0 = dktX0_fitsMarks_0 := by decide +kernel
theorem dksX0_fitsMarks_1 : cX0_fitsMarks.data.toList.drop 23 = dktX0_fitsMarks_1 := dk_seg dksX0_fitsMarks_0 23 rfl rfl
theorem dksX0_fitsMarks_2 : cX0_fitsMarks.data.toList.drop 47 = dktX0_fitsMarks_2 := dk_seg dksX0_fitsMarks_1 24 rfl rfl
theorem dksX0_fitsMarks_3 : cX0_fitsMarks.data.toList.drop 71 = dktX0_fitsMarks_3 := dk_seg dksX0_fitsMarks_2 24 rfl rfl
theorem dksX0_fitsMarks_4 : cX0_fitsMarks.data.toList.drop 93 = dktX0_fitsMarks_4 := dk_seg dksX0_fitsMarks_3 22 rfl rfl
theorem dksX0_fitsMarks_5 : cX0_fitsMarks.data.toList.drop 117 = dktX0_fitsMarks_5 := dk_seg dksX0_fitsMarks_4 24 rfl rfl
theorem dksX0_fitsMarks_6 : cX0_fitsMarks.data.toList.drop 141 = dktX0_fitsMarks_6 := dk_seg dksX0_fitsMarks_5 24 rfl rfl
theorem dksX0_fitsMarks_7 : cX0_fitsMarks.data.toList.drop 164 = dktX0_fitsMarks_7 := dk_seg dksX0_fitsMarks_6 23 rfl rfl
theorem dksX0_fitsMarks_8 : cX0_fitsMarks.data.toList.drop 187 = dktX0_fitsMarks_8 := dk_seg dksX0_fitsMarks_7 23 rfl rfl
theorem dksX0_fitsMarks_9 : cX0_fitsMarks.data.toList.drop 209 = dktX0_fitsMarks_9 := dk_seg dksX0_fitsMarks_8 22 rfl rfl
theorem dksX0_fitsMarks_10 : cX0_fitsMarks.data.toList.drop 231 = dktX0_fitsMarks_10 := dk_seg dksX0_fitsMarks_9 22 rfl rfl
theorem dksX0_fitsMarks_11 : cX0_fitsMarks.data.toList.drop 253 = dktX0_fitsMarks_11 := dk_seg dksX0_fitsMarks_10 22 rfl rfl
theorem dksX0_fitsMarks_12 : cX0_fitsMarks.data.toList.drop 277 = dktX0_fitsMarks_12 := dk_seg dksX0_fitsMarks_11 24 rfl rfl
theorem dX0_fitsMarks_0 : decode cX0_fitsMarks 0 = .ok (.aload_n 0, 1) := dk_42 (dk_at dksX0_fitsMarks_0 0 rfl rfl)
theorem dX0_fitsMarks_1 : decode cX0_fitsMarks 1 = .ok (.invokevirtual 379, 3) := dk_182 1 123 (dk_at dksX0_fitsMarks_0 1 rfl rfl)
theorem dX0_fitsMarks_4 : decode cX0_fitsMarks 4 = .ok (.istore_n 2, 1) := dk_61 (dk_at dksX0_fitsMarks_0 4 rfl rfl)
theorem dX0_fitsMarks_5 : decode cX0_fitsMarks 5 = .ok (.iconst 0, 1) := dk_3 (dk_at dksX0_fitsMarks_0 5 rfl rfl)
theorem dX0_fitsMarks_6 : decode cX0_fitsMarks 6 = .ok (.istore_n 3, 1) := dk_62 (dk_at dksX0_fitsMarks_0 6 rfl rfl)
theorem dX0_fitsMarks_7 : decode cX0_fitsMarks 7 = .ok (.aload_n 0, 1) := dk_42 (dk_at dksX0_fitsMarks_0 7 rfl rfl)
theorem dX0_fitsMarks_8 : decode cX0_fitsMarks 8 = .ok (.invokevirtual 382, 3) := dk_182 1 126 (dk_at dksX0_fitsMarks_0 8 rfl rfl)
theorem dX0_fitsMarks_11 : decode cX0_fitsMarks 11 = .ok (.iconst (-1), 1) := dk_2 (dk_at dksX0_fitsMarks_0 11 rfl rfl)
theorem dX0_fitsMarks_12 : decode cX0_fitsMarks 12 = .ok (.istore 4, 2) := dk_54 4 (dk_at dksX0_fitsMarks_0 12 rfl rfl)
theorem dX0_fitsMarks_14 : decode cX0_fitsMarks 14 = .ok (.iload 4, 2) := dk_21 4 (dk_at dksX0_fitsMarks_0 14 rfl rfl)
theorem dX0_fitsMarks_16 : decode cX0_fitsMarks 16 = .ok (.aload_n 0, 1) := dk_42 (dk_at dksX0_fitsMarks_0 16 rfl rfl)
theorem dX0_fitsMarks_17 : decode cX0_fitsMarks 17 = .ok (.getfield 68, 3) := dk_180 0 68 (dk_at dksX0_fitsMarks_0 17 rfl rfl)
theorem dX0_fitsMarks_20 : decode cX0_fitsMarks 20 = .ok (.getfield 354, 3) := dk_180 1 98 (dk_at dksX0_fitsMarks_0 20 rfl rfl)
theorem dX0_fitsMarks_23 : decode cX0_fitsMarks 23 = .ok (.if_icmp .ge 272, 3) := dk_162 1 16 (dk_at dksX0_fitsMarks_1 0 rfl rfl)
theorem dX0_fitsMarks_26 : decode cX0_fitsMarks 26 = .ok (.iconst (-1), 1) := dk_2 (dk_at dksX0_fitsMarks_1 3 rfl rfl)
theorem dX0_fitsMarks_27 : decode cX0_fitsMarks 27 = .ok (.istore 5, 2) := dk_54 5 (dk_at dksX0_fitsMarks_1 4 rfl rfl)
theorem dX0_fitsMarks_29 : decode cX0_fitsMarks 29 = .ok (.iload 5, 2) := dk_21 5 (dk_at dksX0_fitsMarks_1 6 rfl rfl)
theorem dX0_fitsMarks_31 : decode cX0_fitsMarks 31 = .ok (.aload_n 0, 1) := dk_42 (dk_at dksX0_fitsMarks_1 8 rfl rfl)
theorem dX0_fitsMarks_32 : decode cX0_fitsMarks 32 = .ok (.getfield 68, 3) := dk_180 0 68 (dk_at dksX0_fitsMarks_1 9 rfl rfl)
theorem dX0_fitsMarks_35 : decode cX0_fitsMarks 35 = .ok (.getfield 354, 3) := dk_180 1 98 (dk_at dksX0_fitsMarks_1 12 rfl rfl)
theorem dX0_fitsMarks_38 : decode cX0_fitsMarks 38 = .ok (.if_icmp .ge 251, 3) := dk_162 0 251 (dk_at dksX0_fitsMarks_1 15 rfl rfl)
theorem dX0_fitsMarks_41 : decode cX0_fitsMarks 41 = .ok (.iconst (-1), 1) := dk_2 (dk_at dksX0_fitsMarks_1 18 rfl rfl)
theorem dX0_fitsMarks_42 : decode cX0_fitsMarks 42 = .ok (.istore 6, 2) := dk_54 6 (dk_at dksX0_fitsMarks_1 19 rfl rfl)
theorem dX0_fitsMarks_44 : decode cX0_fitsMarks 44 = .ok (.iload 6, 2) := dk_21 6 (dk_at dksX0_fitsMarks_1 21 rfl rfl)
theorem dX0_fitsMarks_46 : decode cX0_fitsMarks 46 = .ok (.aload_n 0, 1) := dk_42 (dk_at dksX0_fitsMarks_1 23 rfl rfl)
theorem dX0_fitsMarks_47 : decode cX0_fitsMarks 47 = .ok (.getfield 68, 3) := dk_180 0 68 (dk_at dksX0_fitsMarks_2 0 rfl rfl)
theorem dX0_fitsMarks_50 : decode cX0_fitsMarks 50 = .ok (.getfield 354, 3) := dk_180 1 98 (dk_at dksX0_fitsMarks_2 3 rfl rfl)
theorem dX0_fitsMarks_53 : decode cX0_fitsMarks 53 = .ok (.if_icmp .ge 230, 3) := dk_162 0 230 (dk_at dksX0_fitsMarks_2 6 rfl rfl)
theorem dX0_fitsMarks_56 : decode cX0_fitsMarks 56 = .ok (.aload_n 0, 1) := dk_42 (dk_at dksX0_fitsMarks_2 9 rfl rfl)
theorem dX0_fitsMarks_57 : decode cX0_fitsMarks 57 = .ok (.getfield 98, 3) := dk_180 0 98 (dk_at dksX0_fitsMarks_2 10 rfl rfl)
theorem dX0_fitsMarks_60 : decode cX0_fitsMarks 60 = .ok (.iconst 0, 1) := dk_3 (dk_at dksX0_fitsMarks_2 13 rfl rfl)
theorem dX0_fitsMarks_61 : decode cX0_fitsMarks 61 = .ok (.iload 4, 2) := dk_21 4 (dk_at dksX0_fitsMarks_2 14 rfl rfl)
theorem dX0_fitsMarks_63 : decode cX0_fitsMarks 63 = .ok (.ifCond .ge 7, 3) := dk_156 0 7 (dk_at dksX0_fitsMarks_2 16 rfl rfl)
theorem dX0_fitsMarks_66 : decode cX0_fitsMarks 66 = .ok (.iconst 0, 1) := dk_3 (dk_at dksX0_fitsMarks_2 19 rfl rfl)
theorem dX0_fitsMarks_67 : decode cX0_fitsMarks 67 = .ok (.goto 10, 3) := dk_167 0 10 (dk_at dksX0_fitsMarks_2 20 rfl rfl)
theorem dX0_fitsMarks_70 : decode cX0_fitsMarks 70 = .ok (.aload_n 0, 1) := dk_42 (dk_at dksX0_fitsMarks_2 23 rfl rfl)
theorem dX0_fitsMarks_71 : decode cX0_fitsMarks 71 = .ok (.getfield 86, 3) := dk_180 0 86 (dk_at dksX0_fitsMarks_3 0 rfl rfl)
theorem dX0_fitsMarks_74 : decode cX0_fitsMarks 74 = .ok (.iload 4, 2) := dk_21 4 (dk_at dksX0_fitsMarks_3 3 rfl rfl)
theorem dX0_fitsMarks_76 : decode cX0_fitsMarks 76 = .ok (.iaload, 1) := dk_46 (dk_at dksX0_fitsMarks_3 5 rfl rfl)
theorem dX0_fitsMarks_77 : decode cX0_fitsMarks 77 = .ok (.iastore, 1) := dk_79 (dk_at dksX0_fitsMarks_3 6 rfl rfl)
theorem dX0_fitsMarks_78 : decode cX0_fitsMarks 78 = .ok (.aload_n 0, 1) := dk_42 (dk_at dksX0_fitsMarks_3 7 rfl rfl)
theorem dX0_fitsMarks_79 : decode cX0_fitsMarks 79 = .ok (.getfield 98, 3) := dk_180 0 98 (dk_at dksX0_fitsMarks_3 8 rfl rfl)
theorem dX0_fitsMarks_82 : decode cX0_fitsMarks 82 = .ok (.iconst 1, 1) := dk_4 (dk_at dksX0_fitsMarks_3 11 rfl rfl)
theorem dX0_fitsMarks_83 : decode cX0_fitsMarks 83 = .ok (.iload 5, 2) := dk_21 5 (dk_at dksX0_fitsMarks_3 12 rfl rfl)
theorem dX0_fitsMarks_85 : decode cX0_fitsMarks 85 = .ok (.ifCond .ge 7, 3) := dk_156 0 7 (dk_at dksX0_fitsMarks_3 14 rfl rfl)
theorem dX0_fitsMarks_88 : decode cX0_fitsMarks 88 = .ok (.iconst 0, 1) := dk_3 (dk_at dksX0_fitsMarks_3 17 rfl rfl)
theorem dX0_fitsMarks_89 : decode cX0_fitsMarks 89 = .ok (.goto 12, 3) := dk_167 0 12 (dk_at dksX0_fitsMarks_3 18 rfl rfl)
theorem dX0_fitsMarks_92 : decode cX0_fitsMarks 92 = .ok (.aload_n 0, 1) := dk_42 (dk_at dksX0_fitsMarks_3 21 rfl rfl)
theorem dX0_fitsMarks_93 : decode cX0_fitsMarks 93 = .ok (.getfield 89, 3) := dk_180 0 89 (dk_at dksX0_fitsMarks_4 0 rfl rfl)
theorem dX0_fitsMarks_96 : decode cX0_fitsMarks 96 = .ok (.iload 5, 2) := dk_21 5 (dk_at dksX0_fitsMarks_4 3 rfl rfl)
theorem dX0_fitsMarks_98 : decode cX0_fitsMarks 98 = .ok (.iaload, 1) := dk_46 (dk_at dksX0_fitsMarks_4 5 rfl rfl)
theorem dX0_fitsMarks_99 : decode cX0_fitsMarks 99 = .ok (.iconst 1, 1) := dk_4 (dk_at dksX0_fitsMarks_4 6 rfl rfl)
theorem dX0_fitsMarks_100 : decode cX0_fitsMarks 100 = .ok (.iadd, 1) := dk_96 (dk_at dksX0_fitsMarks_4 7 rfl rfl)
theorem dX0_fitsMarks_101 : decode cX0_fitsMarks 101 = .ok (.iastore, 1) := dk_79 (dk_at dksX0_fitsMarks_4 8 rfl rfl)
theorem dX0_fitsMarks_102 : decode cX0_fitsMarks 102 = .ok (.aload_n 0, 1) := dk_42 (dk_at dksX0_fitsMarks_4 9 rfl rfl)
theorem dX0_fitsMarks_103 : decode cX0_fitsMarks 103 = .ok (.getfield 98, 3) := dk_180 0 98 (dk_at dksX0_fitsMarks_4 10 rfl rfl)
theorem dX0_fitsMarks_106 : decode cX0_fitsMarks 106 = .ok (.iconst 2, 1) := dk_5 (dk_at dksX0_fitsMarks_4 13 rfl rfl)
theorem dX0_fitsMarks_107 : decode cX0_fitsMarks 107 = .ok (.iload 6, 2) := dk_21 6 (dk_at dksX0_fitsMarks_4 14 rfl rfl)
theorem dX0_fitsMarks_109 : decode cX0_fitsMarks 109 = .ok (.ifCond .ge 7, 3) := dk_156 0 7 (dk_at dksX0_fitsMarks_4 16 rfl rfl)
theorem dX0_fitsMarks_112 : decode cX0_fitsMarks 112 = .ok (.iconst 0, 1) := dk_3 (dk_at dksX0_fitsMarks_4 19 rfl rfl)
theorem dX0_fitsMarks_113 : decode cX0_fitsMarks 113 = .ok (.goto 10, 3) := dk_167 0 10 (dk_at dksX0_fitsMarks_4 20 rfl rfl)
theorem dX0_fitsMarks_116 : decode cX0_fitsMarks 116 = .ok (.aload_n 0, 1) := dk_42 (dk_at dksX0_fitsMarks_4 23 rfl rfl)
theorem dX0_fitsMarks_117 : decode cX0_fitsMarks 117 = .ok (.getfield 92, 3) := dk_180 0 92 (dk_at dksX0_fitsMarks_5 0 rfl rfl)
theorem dX0_fitsMarks_120 : decode cX0_fitsMarks 120 = .ok (.iload 6, 2) := dk_21 6 (dk_at dksX0_fitsMarks_5 3 rfl rfl)
theorem dX0_fitsMarks_122 : decode cX0_fitsMarks 122 = .ok (.iaload, 1) := dk_46 (dk_at dksX0_fitsMarks_5 5 rfl rfl)
theorem dX0_fitsMarks_123 : decode cX0_fitsMarks 123 = .ok (.iastore, 1) := dk_79 (dk_at dksX0_fitsMarks_5 6 rfl rfl)
theorem dX0_fitsMarks_124 : decode cX0_fitsMarks 124 = .ok (.aload_n 0, 1) := dk_42 (dk_at dksX0_fitsMarks_5 7 rfl rfl)
theorem dX0_fitsMarks_125 : decode cX0_fitsMarks 125 = .ok (.getfield 98, 3) := dk_180 0 98 (dk_at dksX0_fitsMarks_5 8 rfl rfl)
theorem dX0_fitsMarks_128 : decode cX0_fitsMarks 128 = .ok (.iconst 0, 1) := dk_3 (dk_at dksX0_fitsMarks_5 11 rfl rfl)
theorem dX0_fitsMarks_129 : decode cX0_fitsMarks 129 = .ok (.iaload, 1) := dk_46 (dk_at dksX0_fitsMarks_5 12 rfl rfl)
theorem dX0_fitsMarks_130 : decode cX0_fitsMarks 130 = .ok (.bipush 60, 2) := dk_16 60 (dk_at dksX0_fitsMarks_5 13 rfl rfl)
theorem dX0_fitsMarks_132 : decode cX0_fitsMarks 132 = .ok (.if_icmp .gt 145, 3) := dk_163 0 145 (dk_at dksX0_fitsMarks_5 15 rfl rfl)
theorem dX0_fitsMarks_135 : decode cX0_fitsMarks 135 = .ok (.aload_n 0, 1) := dk_42 (dk_at dksX0_fitsMarks_5 18 rfl rfl)
theorem dX0_fitsMarks_136 : decode cX0_fitsMarks 136 = .ok (.getfield 98, 3) := dk_180 0 98 (dk_at dksX0_fitsMarks_5 19 rfl rfl)
theorem dX0_fitsMarks_139 : decode cX0_fitsMarks 139 = .ok (.iconst 1, 1) := dk_4 (dk_at dksX0_fitsMarks_5 22 rfl rfl)
theorem dX0_fitsMarks_140 : decode cX0_fitsMarks 140 = .ok (.iaload, 1) := dk_46 (dk_at dksX0_fitsMarks_5 23 rfl rfl)
theorem dX0_fitsMarks_141 : decode cX0_fitsMarks 141 = .ok (.sipush 200, 3) := dk_17 0 200 (dk_at dksX0_fitsMarks_6 0 rfl rfl)
theorem dX0_fitsMarks_144 : decode cX0_fitsMarks 144 = .ok (.if_icmp .le 6, 3) := dk_164 0 6 (dk_at dksX0_fitsMarks_6 3 rfl rfl)
theorem dX0_fitsMarks_147 : decode cX0_fitsMarks 147 = .ok (.goto 130, 3) := dk_167 0 130 (dk_at dksX0_fitsMarks_6 6 rfl rfl)
theorem dX0_fitsMarks_150 : decode cX0_fitsMarks 150 = .ok (.iload_n 2, 1) := dk_28 (dk_at dksX0_fitsMarks_6 9 rfl rfl)
theorem dX0_fitsMarks_151 : decode cX0_fitsMarks 151 = .ok (.aload_n 0, 1) := dk_42 (dk_at dksX0_fitsMarks_6 10 rfl rfl)
theorem dX0_fitsMarks_152 : decode cX0_fitsMarks 152 = .ok (.iconst 1, 1) := dk_4 (dk_at dksX0_fitsMarks_6 11 rfl rfl)
theorem dX0_fitsMarks_153 : decode cX0_fitsMarks 153 = .ok (.invokevirtual 385, 3) := dk_182 1 129 (dk_at dksX0_fitsMarks_6 12 rfl rfl)
theorem dX0_fitsMarks_156 : decode cX0_fitsMarks 156 = .ok (.isub, 1) := dk_100 (dk_at dksX0_fitsMarks_6 15 rfl rfl)
theorem dX0_fitsMarks_157 : decode cX0_fitsMarks 157 = .ok (.istore 7, 2) := dk_54 7 (dk_at dksX0_fitsMarks_6 16 rfl rfl)
theorem dX0_fitsMarks_159 : decode cX0_fitsMarks 159 = .ok (.aload_n 0, 1) := dk_42 (dk_at dksX0_fitsMarks_6 18 rfl rfl)
theorem dX0_fitsMarks_160 : decode cX0_fitsMarks 160 = .ok (.iconst 0, 1) := dk_3 (dk_at dksX0_fitsMarks_6 19 rfl rfl)
theorem dX0_fitsMarks_161 : decode cX0_fitsMarks 161 = .ok (.invokevirtual 385, 3) := dk_182 1 129 (dk_at dksX0_fitsMarks_6 20 rfl rfl)
theorem dX0_fitsMarks_164 : decode cX0_fitsMarks 164 = .ok (.istore 8, 2) := dk_54 8 (dk_at dksX0_fitsMarks_7 0 rfl rfl)
theorem dX0_fitsMarks_166 : decode cX0_fitsMarks 166 = .ok (.iload 8, 2) := dk_21 8 (dk_at dksX0_fitsMarks_7 2 rfl rfl)
theorem dX0_fitsMarks_168 : decode cX0_fitsMarks 168 = .ok (.iload_n 1, 1) := dk_27 (dk_at dksX0_fitsMarks_7 4 rfl rfl)
theorem dX0_fitsMarks_169 : decode cX0_fitsMarks 169 = .ok (.if_icmp .le 6, 3) := dk_164 0 6 (dk_at dksX0_fitsMarks_7 5 rfl rfl)
theorem dX0_fitsMarks_172 : decode cX0_fitsMarks 172 = .ok (.goto 105, 3) := dk_167 0 105 (dk_at dksX0_fitsMarks_7 8 rfl rfl)
theorem dX0_fitsMarks_175 : decode cX0_fitsMarks 175 = .ok (.iload_n 3, 1) := dk_29 (dk_at dksX0_fitsMarks_7 11 rfl rfl)
theorem dX0_fitsMarks_176 : decode cX0_fitsMarks 176 = .ok (.ifCond .eq 54, 3) := dk_153 0 54 (dk_at dksX0_fitsMarks_7 12 rfl rfl)
theorem dX0_fitsMarks_179 : decode cX0_fitsMarks 179 = .ok (.iload 7, 2) := dk_21 7 (dk_at dksX0_fitsMarks_7 15 rfl rfl)
theorem dX0_fitsMarks_181 : decode cX0_fitsMarks 181 = .ok (.aload_n 0, 1) := dk_42 (dk_at dksX0_fitsMarks_7 17 rfl rfl)
theorem dX0_fitsMarks_182 : decode cX0_fitsMarks 182 = .ok (.getfield 95, 3) := dk_180 0 95 (dk_at dksX0_fitsMarks_7 18 rfl rfl)
theorem dX0_fitsMarks_185 : decode cX0_fitsMarks 185 = .ok (.iconst 3, 1) := dk_6 (dk_at dksX0_fitsMarks_7 21 rfl rfl)
theorem dX0_fitsMarks_186 : decode cX0_fitsMarks 186 = .ok (.iaload, 1) := dk_46 (dk_at dksX0_fitsMarks_7 22 rfl rfl)
theorem dX0_fitsMarks_187 : decode cX0_fitsMarks 187 = .ok (.if_icmp .lt 43, 3) := dk_161 0 43 (dk_at dksX0_fitsMarks_8 0 rfl rfl)
theorem dX0_fitsMarks_190 : decode cX0_fitsMarks 190 = .ok (.iload 7, 2) := dk_21 7 (dk_at dksX0_fitsMarks_8 3 rfl rfl)
theorem dX0_fitsMarks_192 : decode cX0_fitsMarks 192 = .ok (.aload_n 0, 1) := dk_42 (dk_at dksX0_fitsMarks_8 5 rfl rfl)
theorem dX0_fitsMarks_193 : decode cX0_fitsMarks 193 = .ok (.getfield 95, 3) := dk_180 0 95 (dk_at dksX0_fitsMarks_8 6 rfl rfl)
theorem dX0_fitsMarks_196 : decode cX0_fitsMarks 196 = .ok (.iconst 3, 1) := dk_6 (dk_at dksX0_fitsMarks_8 9 rfl rfl)
theorem dX0_fitsMarks_197 : decode cX0_fitsMarks 197 = .ok (.iaload, 1) := dk_46 (dk_at dksX0_fitsMarks_8 10 rfl rfl)
theorem dX0_fitsMarks_198 : decode cX0_fitsMarks 198 = .ok (.if_icmp .ne 36, 3) := dk_160 0 36 (dk_at dksX0_fitsMarks_8 11 rfl rfl)
theorem dX0_fitsMarks_201 : decode cX0_fitsMarks 201 = .ok (.iload 8, 2) := dk_21 8 (dk_at dksX0_fitsMarks_8 14 rfl rfl)
theorem dX0_fitsMarks_203 : decode cX0_fitsMarks 203 = .ok (.aload_n 0, 1) := dk_42 (dk_at dksX0_fitsMarks_8 16 rfl rfl)
theorem dX0_fitsMarks_204 : decode cX0_fitsMarks 204 = .ok (.getfield 95, 3) := dk_180 0 95 (dk_at dksX0_fitsMarks_8 17 rfl rfl)
theorem dX0_fitsMarks_207 : decode cX0_fitsMarks 207 = .ok (.iconst 4, 1) := dk_7 (dk_at dksX0_fitsMarks_8 20 rfl rfl)
theorem dX0_fitsMarks_208 : decode cX0_fitsMarks 208 = .ok (.iaload, 1) := dk_46 (dk_at dksX0_fitsMarks_8 21 rfl rfl)
theorem dX0_fitsMarks_209 : decode cX0_fitsMarks 209 = .ok (.if_icmp .lt 21, 3) := dk_161 0 21 (dk_at dksX0_fitsMarks_9 0 rfl rfl)
theorem dX0_fitsMarks_212 : decode cX0_fitsMarks 212 = .ok (.iload 8, 2) := dk_21 8 (dk_at dksX0_fitsMarks_9 3 rfl rfl)
theorem dX0_fitsMarks_214 : decode cX0_fitsMarks 214 = .ok (.aload_n 0, 1) := dk_42 (dk_at dksX0_fitsMarks_9 5 rfl rfl)
theorem dX0_fitsMarks_215 : decode cX0_fitsMarks 215 = .ok (.getfield 95, 3) := dk_180 0 95 (dk_at dksX0_fitsMarks_9 6 rfl rfl)
theorem dX0_fitsMarks_218 : decode cX0_fitsMarks 218 = .ok (.iconst 4, 1) := dk_7 (dk_at dksX0_fitsMarks_9 9 rfl rfl)
theorem dX0_fitsMarks_219 : decode cX0_fitsMarks 219 = .ok (.iaload, 1) := dk_46 (dk_at dksX0_fitsMarks_9 10 rfl rfl)
theorem dX0_fitsMarks_220 : decode cX0_fitsMarks 220 = .ok (.if_icmp .ne 14, 3) := dk_160 0 14 (dk_at dksX0_fitsMarks_9 11 rfl rfl)
theorem dX0_fitsMarks_223 : decode cX0_fitsMarks 223 = .ok (.aload_n 0, 1) := dk_42 (dk_at dksX0_fitsMarks_9 14 rfl rfl)
theorem dX0_fitsMarks_224 : decode cX0_fitsMarks 224 = .ok (.invokevirtual 389, 3) := dk_182 1 133 (dk_at dksX0_fitsMarks_9 15 rfl rfl)
theorem dX0_fitsMarks_227 : decode cX0_fitsMarks 227 = .ok (.ifCond .eq 7, 3) := dk_153 0 7 (dk_at dksX0_fitsMarks_9 18 rfl rfl)
theorem dX0_fitsMarks_230 : decode cX0_fitsMarks 230 = .ok (.iconst 1, 1) := dk_4 (dk_at dksX0_fitsMarks_9 21 rfl rfl)
theorem dX0_fitsMarks_231 : decode cX0_fitsMarks 231 = .ok (.goto 4, 3) := dk_167 0 4 (dk_at dksX0_fitsMarks_10 0 rfl rfl)
theorem dX0_fitsMarks_234 : decode cX0_fitsMarks 234 = .ok (.iconst 0, 1) := dk_3 (dk_at dksX0_fitsMarks_10 3 rfl rfl)
theorem dX0_fitsMarks_235 : decode cX0_fitsMarks 235 = .ok (.istore 9, 2) := dk_54 9 (dk_at dksX0_fitsMarks_10 4 rfl rfl)
theorem dX0_fitsMarks_237 : decode cX0_fitsMarks 237 = .ok (.iload 9, 2) := dk_21 9 (dk_at dksX0_fitsMarks_10 6 rfl rfl)
theorem dX0_fitsMarks_239 : decode cX0_fitsMarks 239 = .ok (.ifCond .ne 6, 3) := dk_154 0 6 (dk_at dksX0_fitsMarks_10 8 rfl rfl)
theorem dX0_fitsMarks_242 : decode cX0_fitsMarks 242 = .ok (.goto 35, 3) := dk_167 0 35 (dk_at dksX0_fitsMarks_10 11 rfl rfl)
theorem dX0_fitsMarks_245 : decode cX0_fitsMarks 245 = .ok (.iconst 1, 1) := dk_4 (dk_at dksX0_fitsMarks_10 14 rfl rfl)
theorem dX0_fitsMarks_246 : decode cX0_fitsMarks 246 = .ok (.istore_n 3, 1) := dk_62 (dk_at dksX0_fitsMarks_10 15 rfl rfl)
theorem dX0_fitsMarks_247 : decode cX0_fitsMarks 247 = .ok (.aload_n 0, 1) := dk_42 (dk_at dksX0_fitsMarks_10 16 rfl rfl)
theorem dX0_fitsMarks_248 : decode cX0_fitsMarks 248 = .ok (.getfield 98, 3) := dk_180 0 98 (dk_at dksX0_fitsMarks_10 17 rfl rfl)
theorem dX0_fitsMarks_251 : decode cX0_fitsMarks 251 = .ok (.iconst 0, 1) := dk_3 (dk_at dksX0_fitsMarks_10 20 rfl rfl)
theorem dX0_fitsMarks_252 : decode cX0_fitsMarks 252 = .ok (.aload_n 0, 1) := dk_42 (dk_at dksX0_fitsMarks_10 21 rfl rfl)
theorem dX0_fitsMarks_253 : decode cX0_fitsMarks 253 = .ok (.getfield 95, 3) := dk_180 0 95 (dk_at dksX0_fitsMarks_11 0 rfl rfl)
theorem dX0_fitsMarks_256 : decode cX0_fitsMarks 256 = .ok (.iconst 0, 1) := dk_3 (dk_at dksX0_fitsMarks_11 3 rfl rfl)
theorem dX0_fitsMarks_257 : decode cX0_fitsMarks 257 = .ok (.iconst 3, 1) := dk_6 (dk_at dksX0_fitsMarks_11 4 rfl rfl)
theorem dX0_fitsMarks_258 : decode cX0_fitsMarks 258 = .ok (.invokestatic 160, 3) := dk_184 0 160 (dk_at dksX0_fitsMarks_11 5 rfl rfl)
theorem dX0_fitsMarks_261 : decode cX0_fitsMarks 261 = .ok (.aload_n 0, 1) := dk_42 (dk_at dksX0_fitsMarks_11 8 rfl rfl)
theorem dX0_fitsMarks_262 : decode cX0_fitsMarks 262 = .ok (.getfield 95, 3) := dk_180 0 95 (dk_at dksX0_fitsMarks_11 9 rfl rfl)
theorem dX0_fitsMarks_265 : decode cX0_fitsMarks 265 = .ok (.iconst 3, 1) := dk_6 (dk_at dksX0_fitsMarks_11 12 rfl rfl)
theorem dX0_fitsMarks_266 : decode cX0_fitsMarks 266 = .ok (.iload 7, 2) := dk_21 7 (dk_at dksX0_fitsMarks_11 13 rfl rfl)
theorem dX0_fitsMarks_268 : decode cX0_fitsMarks 268 = .ok (.iastore, 1) := dk_79 (dk_at dksX0_fitsMarks_11 15 rfl rfl)
theorem dX0_fitsMarks_269 : decode cX0_fitsMarks 269 = .ok (.aload_n 0, 1) := dk_42 (dk_at dksX0_fitsMarks_11 16 rfl rfl)
theorem dX0_fitsMarks_270 : decode cX0_fitsMarks 270 = .ok (.getfield 95, 3) := dk_180 0 95 (dk_at dksX0_fitsMarks_11 17 rfl rfl)
theorem dX0_fitsMarks_273 : decode cX0_fitsMarks 273 = .ok (.iconst 4, 1) := dk_7 (dk_at dksX0_fitsMarks_11 20 rfl rfl)
theorem dX0_fitsMarks_274 : decode cX0_fitsMarks 274 = .ok (.iload 8, 2) := dk_21 8 (dk_at dksX0_fitsMarks_11 21 rfl rfl)
theorem dX0_fitsMarks_276 : decode cX0_fitsMarks 276 = .ok (.iastore, 1) := dk_79 (dk_at dksX0_fitsMarks_11 23 rfl rfl)
theorem dX0_fitsMarks_277 : decode cX0_fitsMarks 277 = .ok (.iinc 6 1, 3) := dk_132 6 1 (dk_at dksX0_fitsMarks_12 0 rfl rfl)
theorem dX0_fitsMarks_280 : decode cX0_fitsMarks 280 = .ok (.goto (-236), 3) := dk_167 255 20 (dk_at dksX0_fitsMarks_12 3 rfl rfl)
theorem dX0_fitsMarks_283 : decode cX0_fitsMarks 283 = .ok (.iinc 5 1, 3) := dk_132 5 1 (dk_at dksX0_fitsMarks_12 6 rfl rfl)
theorem dX0_fitsMarks_286 : decode cX0_fitsMarks 286 = .ok (.goto (-257), 3) := dk_167 254 255 (dk_at dksX0_fitsMarks_12 9 rfl rfl)
theorem dX0_fitsMarks_289 : decode cX0_fitsMarks 289 = .ok (.iinc 4 1, 3) := dk_132 4 1 (dk_at dksX0_fitsMarks_12 12 rfl rfl)
theorem dX0_fitsMarks_292 : decode cX0_fitsMarks 292 = .ok (.goto (-278), 3) := dk_167 254 234 (dk_at dksX0_fitsMarks_12 15 rfl rfl)
theorem dX0_fitsMarks_295 : decode cX0_fitsMarks 295 = .ok (.iload_n 3, 1) := dk_29 (dk_at dksX0_fitsMarks_12 18 rfl rfl)
theorem dX0_fitsMarks_296 : decode cX0_fitsMarks 296 = .ok (.ireturn, 1) := dk_172 (dk_at dksX0_fitsMarks_12 19 rfl rfl)
abbrev cX0_pretenders : ByteArray := prog_1_method_49_code
def yX0_pretenders : MethodName := ⟨RX0, "pretenders", "()I"⟩
def dkwX0_pretenders_1 : List UInt8 := [50, 180, 1, 119, 153, 0, 7, 4, 167, 0, 4, 3, 96, 60, 132, 2, 1, 167, 255, 219, 27, 172]
abbrev dktX0_pretenders_1 : List UInt8 := dkwX0_pretenders_1 ++ []
def dkwX0_pretenders_0 : List UInt8 := [3, 60, 3, 61, 28, 42, 180, 0, 68, 180, 1, 98, 162, 0, 32, 27, 42, 180, 0, 68, 180, 1, 101, 28]
abbrev dktX0_pretenders_0 : List UInt8 := dkwX0_pretenders_0 ++ dktX0_pretenders_1
theorem dksX0_pretenders_0 : cX0_pretenders.data.toList.drop 0 = dktX0_pretenders_0 := by decide +kernel
theorem dksX0_pretenders_1 : cX0_pretenders.data.toList.drop 24 = dktX0_pretenders_1 := dk_seg dksX0_pretenders_0 24 rfl rfl
theorem dX0_pretenders_0 : decode cX0_pretenders 0 = .ok (.iconst 0, 1) := dk_3 (dk_at dksX0_pretenders_0 0 rfl rfl)
theorem dX0_pretenders_1 : decode cX0_pretenders 1 = .ok (.istore_n 1, 1) := dk_60 (dk_at dksX0_pretenders_0 1 rfl rfl)
theorem dX0_pretenders_2 : decode cX0_pretenders 2 = .ok (.iconst 0, 1) := dk_3 (dk_at dksX0_pretenders_0 2 rfl rfl)
theorem dX0_pretenders_3 : decode cX0_pretenders 3 = .ok (.istore_n 2, 1) := dk_61 (dk_at dksX0_pretenders_0 3 rfl rfl)
theorem dX0_pretenders_4 : decode cX0_pretenders 4 = .ok (.iload_n 2, 1) := dk_28 (dk_at dksX0_pretenders_0 4 rfl rfl)
theorem dX0_pretenders_5 : decode cX0_pretenders 5 = .ok (.aload_n 0, 1) := dk_42 (dk_at dksX0_pretenders_0 5 rfl rfl)
theorem dX0_pretenders_6 : decode cX0_pretenders 6 = .ok (.getfield 68, 3) := dk_180 0 68 (dk_at dksX0_pretenders_0 6 rfl rfl)
theorem dX0_pretenders_9 : decode cX0_pretenders 9 = .ok (.getfield 354, 3) := dk_180 1 98 (dk_at dksX0_pretenders_0 9 rfl rfl)
theorem dX0_pretenders_12 : decode cX0_pretenders 12 = .ok (.if_icmp .ge 32, 3) := dk_162 0 32 (dk_at dksX0_pretenders_0 12 rfl rfl)
theorem dX0_pretenders_15 : decode cX0_pretenders 15 = .ok (.iload_n 1, 1) := dk_27 (dk_at dksX0_pretenders_0 15 rfl rfl)
theorem dX0_pretenders_16 : decode cX0_pretenders 16 = .ok (.aload_n 0, 1) := dk_42 (dk_at dksX0_pretenders_0 16 rfl rfl)
theorem dX0_pretenders_17 : decode cX0_pretenders 17 = .ok (.getfield 68, 3) := dk_180 0 68 (dk_at dksX0_pretenders_0 17 rfl rfl)
theorem dX0_pretenders_20 : decode cX0_pretenders 20 = .ok (.getfield 357, 3) := dk_180 1 101 (dk_at dksX0_pretenders_0 20 rfl rfl)
theorem dX0_pretenders_23 : decode cX0_pretenders 23 = .ok (.iload_n 2, 1) := dk_28 (dk_at dksX0_pretenders_0 23 rfl rfl)
theorem dX0_pretenders_24 : decode cX0_pretenders 24 = .ok (.aaload, 1) := dk_50 (dk_at dksX0_pretenders_1 0 rfl rfl)
theorem dX0_pretenders_25 : decode cX0_pretenders 25 = .ok (.getfield 375, 3) := dk_180 1 119 (dk_at dksX0_pretenders_1 1 rfl rfl)
theorem dX0_pretenders_28 : decode cX0_pretenders 28 = .ok (.ifCond .eq 7, 3) := dk_153 0 7 (dk_at dksX0_pretenders_1 4 rfl rfl)
theorem dX0_pretenders_31 : decode cX0_pretenders 31 = .ok (.iconst 1, 1) := dk_4 (dk_at dksX0_pretenders_1 7 rfl rfl)
theorem dX0_pretenders_32 : decode cX0_pretenders 32 = .ok (.goto 4, 3) := dk_167 0 4 (dk_at dksX0_pretenders_1 8 rfl rfl)
theorem dX0_pretenders_35 : decode cX0_pretenders 35 = .ok (.iconst 0, 1) := dk_3 (dk_at dksX0_pretenders_1 11 rfl rfl)
theorem dX0_pretenders_36 : decode cX0_pretenders 36 = .ok (.iadd, 1) := dk_96 (dk_at dksX0_pretenders_1 12 rfl rfl)
theorem dX0_pretenders_37 : decode cX0_pretenders 37 = .ok (.istore_n 1, 1) := dk_60 (dk_at dksX0_pretenders_1 13 rfl rfl)
theorem dX0_pretenders_38 : decode cX0_pretenders 38 = .ok (.iinc 2 1, 3) := dk_132 2 1 (dk_at dksX0_pretenders_1 14 rfl rfl)
theorem dX0_pretenders_41 : decode cX0_pretenders 41 = .ok (.goto (-37), 3) := dk_167 255 219 (dk_at dksX0_pretenders_1 17 rfl rfl)
theorem dX0_pretenders_44 : decode cX0_pretenders 44 = .ok (.iload_n 1, 1) := dk_27 (dk_at dksX0_pretenders_1 20 rfl rfl)
theorem dX0_pretenders_45 : decode cX0_pretenders 45 = .ok (.ireturn, 1) := dk_172 (dk_at dksX0_pretenders_1 21 rfl rfl)
abbrev cX0_layCases : ByteArray := prog_1_method_47_code
def yX0_layCases : MethodName := ⟨RX0, "layCases", "()V"⟩
def dkwX0_layCases_6 : List UInt8 := [132, 1, 1, 167, 255, 116, 177]
abbrev dktX0_layCases_6 : List UInt8 := dkwX0_layCases_6 ++ []
def dkwX0_layCases_5 : List UInt8 := [180, 0, 89, 27, 25, 4, 180, 1, 63, 79, 42, 180, 0, 92, 27, 45, 44, 180, 1, 112, 182, 1, 73, 79]
abbrev dktX0_layCases_5 : List UInt8 := dkwX0_layCases_5 ++ dktX0_layCases_6
def dkwX0_layCases_4 : List UInt8 := [54, 5, 42, 180, 0, 86, 27, 21, 5, 153, 0, 11, 25, 4, 180, 1, 117, 167, 0, 5, 18, 231, 79, 42]
abbrev dktX0_layCases_4 : List UInt8 := dkwX0_layCases_4 ++ dktX0_layCases_5
def dkwX0_layCases_3 : List UInt8 := [180, 0, 174, 25, 4, 180, 1, 60, 50, 180, 0, 241, 184, 1, 113, 154, 0, 7, 4, 167, 0, 4, 3]
abbrev dktX0_layCases_3 : List UInt8 := dkwX0_layCases_3 ++ dktX0_layCases_4
def dkwX0_layCases_2 : List UInt8 := [182, 1, 56, 58, 4, 25, 4, 180, 1, 60, 2, 159, 0, 33, 45, 180, 0, 187, 42, 180, 0, 68]
abbrev dktX0_layCases_2 : List UInt8 := dkwX0_layCases_2 ++ dktX0_layCases_3
def dkwX0_layCases_1 : List UInt8 := [180, 0, 68, 180, 0, 183, 44, 180, 1, 110, 50, 78, 42, 44, 180, 1, 110, 3, 44, 180, 1, 112]
abbrev dktX0_layCases_1 : List UInt8 := dkwX0_layCases_1 ++ dktX0_layCases_2
def dkwX0_layCases_0 : List UInt8 := [3, 60, 27, 42, 180, 0, 68, 180, 1, 98, 162, 0, 135, 42, 180, 0, 68, 180, 1, 101, 27, 50, 77, 42]
abbrev dktX0_layCases_0 : List UInt8 := dkwX0_layCases_0 ++ dktX0_layCases_1
theorem dksX0_layCases_0 : cX0_layCases.data.toList.drop 0 = dktX0_layCases_0 := by decide +kernel
theorem dksX0_layCases_1 : cX0_layCases.data.toList.drop 24 = dktX0_layCases_1 := dk_seg dksX0_layCases_0 24 rfl rfl
theorem dksX0_layCases_2 : cX0_layCases.data.toList.drop 46 = dktX0_layCases_2 := dk_seg dksX0_layCases_1 22 rfl rfl
theorem dksX0_layCases_3 : cX0_layCases.data.toList.drop 68 = dktX0_layCases_3 := dk_seg dksX0_layCases_2 22 rfl rfl
theorem dksX0_layCases_4 : cX0_layCases.data.toList.drop 91 = dktX0_layCases_4 := dk_seg dksX0_layCases_3 23 rfl rfl
theorem dksX0_layCases_5 : cX0_layCases.data.toList.drop 115 = dktX0_layCases_5 := dk_seg dksX0_layCases_4 24 rfl rfl
theorem dksX0_layCases_6 : cX0_layCases.data.toList.drop 139 = dktX0_layCases_6 := dk_seg dksX0_layCases_5 24 rfl rfl
theorem dX0_layCases_0 : decode cX0_layCases 0 = .ok (.iconst 0, 1) := dk_3 (dk_at dksX0_layCases_0 0 rfl rfl)
theorem dX0_layCases_1 : decode cX0_layCases 1 = .ok (.istore_n 1, 1) := dk_60 (dk_at dksX0_layCases_0 1 rfl rfl)
theorem dX0_layCases_2 : decode cX0_layCases 2 = .ok (.iload_n 1, 1) := dk_27 (dk_at dksX0_layCases_0 2 rfl rfl)
theorem dX0_layCases_3 : decode cX0_layCases 3 = .ok (.aload_n 0, 1) := dk_42 (dk_at dksX0_layCases_0 3 rfl rfl)
theorem dX0_layCases_4 : decode cX0_layCases 4 = .ok (.getfield 68, 3) := dk_180 0 68 (dk_at dksX0_layCases_0 4 rfl rfl)
theorem dX0_layCases_7 : decode cX0_layCases 7 = .ok (.getfield 354, 3) := dk_180 1 98 (dk_at dksX0_layCases_0 7 rfl rfl)
theorem dX0_layCases_10 : decode cX0_layCases 10 = .ok (.if_icmp .ge 135, 3) := dk_162 0 135 (dk_at dksX0_layCases_0 10 rfl rfl)
theorem dX0_layCases_13 : decode cX0_layCases 13 = .ok (.aload_n 0, 1) := dk_42 (dk_at dksX0_layCases_0 13 rfl rfl)
theorem dX0_layCases_14 : decode cX0_layCases 14 = .ok (.getfield 68, 3) := dk_180 0 68 (dk_at dksX0_layCases_0 14 rfl rfl)
theorem dX0_layCases_17 : decode cX0_layCases 17 = .ok (.getfield 357, 3) := dk_180 1 101 (dk_at dksX0_layCases_0 17 rfl rfl)
theorem dX0_layCases_20 : decode cX0_layCases 20 = .ok (.iload_n 1, 1) := dk_27 (dk_at dksX0_layCases_0 20 rfl rfl)
theorem dX0_layCases_21 : decode cX0_layCases 21 = .ok (.aaload, 1) := dk_50 (dk_at dksX0_layCases_0 21 rfl rfl)
theorem dX0_layCases_22 : decode cX0_layCases 22 = .ok (.astore_n 2, 1) := dk_77 (dk_at dksX0_layCases_0 22 rfl rfl)
theorem dX0_layCases_23 : decode cX0_layCases 23 = .ok (.aload_n 0, 1) := dk_42 (dk_at dksX0_layCases_0 23 rfl rfl)
theorem dX0_layCases_24 : decode cX0_layCases 24 = .ok (.getfield 68, 3) := dk_180 0 68 (dk_at dksX0_layCases_1 0 rfl rfl)
theorem dX0_layCases_27 : decode cX0_layCases 27 = .ok (.getfield 183, 3) := dk_180 0 183 (dk_at dksX0_layCases_1 3 rfl rfl)
theorem dX0_layCases_30 : decode cX0_layCases 30 = .ok (.aload_n 2, 1) := dk_44 (dk_at dksX0_layCases_1 6 rfl rfl)
theorem dX0_layCases_31 : decode cX0_layCases 31 = .ok (.getfield 366, 3) := dk_180 1 110 (dk_at dksX0_layCases_1 7 rfl rfl)
theorem dX0_layCases_34 : decode cX0_layCases 34 = .ok (.aaload, 1) := dk_50 (dk_at dksX0_layCases_1 10 rfl rfl)
theorem dX0_layCases_35 : decode cX0_layCases 35 = .ok (.astore_n 3, 1) := dk_78 (dk_at dksX0_layCases_1 11 rfl rfl)
theorem dX0_layCases_36 : decode cX0_layCases 36 = .ok (.aload_n 0, 1) := dk_42 (dk_at dksX0_layCases_1 12 rfl rfl)
theorem dX0_layCases_37 : decode cX0_layCases 37 = .ok (.aload_n 2, 1) := dk_44 (dk_at dksX0_layCases_1 13 rfl rfl)
theorem dX0_layCases_38 : decode cX0_layCases 38 = .ok (.getfield 366, 3) := dk_180 1 110 (dk_at dksX0_layCases_1 14 rfl rfl)
theorem dX0_layCases_41 : decode cX0_layCases 41 = .ok (.iconst 0, 1) := dk_3 (dk_at dksX0_layCases_1 17 rfl rfl)
theorem dX0_layCases_42 : decode cX0_layCases 42 = .ok (.aload_n 2, 1) := dk_44 (dk_at dksX0_layCases_1 18 rfl rfl)
theorem dX0_layCases_43 : decode cX0_layCases 43 = .ok (.getfield 368, 3) := dk_180 1 112 (dk_at dksX0_layCases_1 19 rfl rfl)
theorem dX0_layCases_46 : decode cX0_layCases 46 = .ok (.invokevirtual 312, 3) := dk_182 1 56 (dk_at dksX0_layCases_2 0 rfl rfl)
theorem dX0_layCases_49 : decode cX0_layCases 49 = .ok (.astore 4, 2) := dk_58 4 (dk_at dksX0_layCases_2 3 rfl rfl)
theorem dX0_layCases_51 : decode cX0_layCases 51 = .ok (.aload 4, 2) := dk_25 4 (dk_at dksX0_layCases_2 5 rfl rfl)
theorem dX0_layCases_53 : decode cX0_layCases 53 = .ok (.getfield 316, 3) := dk_180 1 60 (dk_at dksX0_layCases_2 7 rfl rfl)
theorem dX0_layCases_56 : decode cX0_layCases 56 = .ok (.iconst (-1), 1) := dk_2 (dk_at dksX0_layCases_2 10 rfl rfl)
theorem dX0_layCases_57 : decode cX0_layCases 57 = .ok (.if_icmp .eq 33, 3) := dk_159 0 33 (dk_at dksX0_layCases_2 11 rfl rfl)
theorem dX0_layCases_60 : decode cX0_layCases 60 = .ok (.aload_n 3, 1) := dk_45 (dk_at dksX0_layCases_2 14 rfl rfl)
theorem dX0_layCases_61 : decode cX0_layCases 61 = .ok (.getfield 187, 3) := dk_180 0 187 (dk_at dksX0_layCases_2 15 rfl rfl)
theorem dX0_layCases_64 : decode cX0_layCases 64 = .ok (.aload_n 0, 1) := dk_42 (dk_at dksX0_layCases_2 18 rfl rfl)
theorem dX0_layCases_65 : decode cX0_layCases 65 = .ok (.getfield 68, 3) := dk_180 0 68 (dk_at dksX0_layCases_2 19 rfl rfl)
theorem dX0_layCases_68 : decode cX0_layCases 68 = .ok (.getfield 174, 3) := dk_180 0 174 (dk_at dksX0_layCases_3 0 rfl rfl)
theorem dX0_layCases_71 : decode cX0_layCases 71 = .ok (.aload 4, 2) := dk_25 4 (dk_at dksX0_layCases_3 3 rfl rfl)
theorem dX0_layCases_73 : decode cX0_layCases 73 = .ok (.getfield 316, 3) := dk_180 1 60 (dk_at dksX0_layCases_3 5 rfl rfl)
theorem dX0_layCases_76 : decode cX0_layCases 76 = .ok (.aaload, 1) := dk_50 (dk_at dksX0_layCases_3 8 rfl rfl)
theorem dX0_layCases_77 : decode cX0_layCases 77 = .ok (.getfield 241, 3) := dk_180 0 241 (dk_at dksX0_layCases_3 9 rfl rfl)
theorem dX0_layCases_80 : decode cX0_layCases 80 = .ok (.invokestatic 369, 3) := dk_184 1 113 (dk_at dksX0_layCases_3 12 rfl rfl)
theorem dX0_layCases_83 : decode cX0_layCases 83 = .ok (.ifCond .ne 7, 3) := dk_154 0 7 (dk_at dksX0_layCases_3 15 rfl rfl)
theorem dX0_layCases_86 : decode cX0_layCases 86 = .ok (.iconst 1, 1) := dk_4 (dk_at dksX0_layCases_3 18 rfl rfl)
theorem dX0_layCases_87 : decode cX0_layCases 87 = .ok (.goto 4, 3) := dk_167 0 4 (dk_at dksX0_layCases_3 19 rfl rfl)
theorem dX0_layCases_90 : decode cX0_layCases 90 = .ok (.iconst 0, 1) := dk_3 (dk_at dksX0_layCases_3 22 rfl rfl)
theorem dX0_layCases_91 : decode cX0_layCases 91 = .ok (.istore 5, 2) := dk_54 5 (dk_at dksX0_layCases_4 0 rfl rfl)
theorem dX0_layCases_93 : decode cX0_layCases 93 = .ok (.aload_n 0, 1) := dk_42 (dk_at dksX0_layCases_4 2 rfl rfl)
theorem dX0_layCases_94 : decode cX0_layCases 94 = .ok (.getfield 86, 3) := dk_180 0 86 (dk_at dksX0_layCases_4 3 rfl rfl)
theorem dX0_layCases_97 : decode cX0_layCases 97 = .ok (.iload_n 1, 1) := dk_27 (dk_at dksX0_layCases_4 6 rfl rfl)
theorem dX0_layCases_98 : decode cX0_layCases 98 = .ok (.iload 5, 2) := dk_21 5 (dk_at dksX0_layCases_4 7 rfl rfl)
theorem dX0_layCases_100 : decode cX0_layCases 100 = .ok (.ifCond .eq 11, 3) := dk_153 0 11 (dk_at dksX0_layCases_4 9 rfl rfl)
theorem dX0_layCases_103 : decode cX0_layCases 103 = .ok (.aload 4, 2) := dk_25 4 (dk_at dksX0_layCases_4 12 rfl rfl)
theorem dX0_layCases_105 : decode cX0_layCases 105 = .ok (.getfield 373, 3) := dk_180 1 117 (dk_at dksX0_layCases_4 14 rfl rfl)
theorem dX0_layCases_108 : decode cX0_layCases 108 = .ok (.goto 5, 3) := dk_167 0 5 (dk_at dksX0_layCases_4 17 rfl rfl)
theorem dX0_layCases_111 : decode cX0_layCases 111 = .ok (.ldc 231, 2) := dk_18 231 (dk_at dksX0_layCases_4 20 rfl rfl)
theorem dX0_layCases_113 : decode cX0_layCases 113 = .ok (.iastore, 1) := dk_79 (dk_at dksX0_layCases_4 22 rfl rfl)
theorem dX0_layCases_114 : decode cX0_layCases 114 = .ok (.aload_n 0, 1) := dk_42 (dk_at dksX0_layCases_4 23 rfl rfl)
theorem dX0_layCases_115 : decode cX0_layCases 115 = .ok (.getfield 89, 3) := dk_180 0 89 (dk_at dksX0_layCases_5 0 rfl rfl)
theorem dX0_layCases_118 : decode cX0_layCases 118 = .ok (.iload_n 1, 1) := dk_27 (dk_at dksX0_layCases_5 3 rfl rfl)
theorem dX0_layCases_119 : decode cX0_layCases 119 = .ok (.aload 4, 2) := dk_25 4 (dk_at dksX0_layCases_5 4 rfl rfl)
theorem dX0_layCases_121 : decode cX0_layCases 121 = .ok (.getfield 319, 3) := dk_180 1 63 (dk_at dksX0_layCases_5 6 rfl rfl)
theorem dX0_layCases_124 : decode cX0_layCases 124 = .ok (.iastore, 1) := dk_79 (dk_at dksX0_layCases_5 9 rfl rfl)
theorem dX0_layCases_125 : decode cX0_layCases 125 = .ok (.aload_n 0, 1) := dk_42 (dk_at dksX0_layCases_5 10 rfl rfl)
theorem dX0_layCases_126 : decode cX0_layCases 126 = .ok (.getfield 92, 3) := dk_180 0 92 (dk_at dksX0_layCases_5 11 rfl rfl)
theorem dX0_layCases_129 : decode cX0_layCases 129 = .ok (.iload_n 1, 1) := dk_27 (dk_at dksX0_layCases_5 14 rfl rfl)
theorem dX0_layCases_130 : decode cX0_layCases 130 = .ok (.aload_n 3, 1) := dk_45 (dk_at dksX0_layCases_5 15 rfl rfl)
theorem dX0_layCases_131 : decode cX0_layCases 131 = .ok (.aload_n 2, 1) := dk_44 (dk_at dksX0_layCases_5 16 rfl rfl)
theorem dX0_layCases_132 : decode cX0_layCases 132 = .ok (.getfield 368, 3) := dk_180 1 112 (dk_at dksX0_layCases_5 17 rfl rfl)
theorem dX0_layCases_135 : decode cX0_layCases 135 = .ok (.invokevirtual 329, 3) := dk_182 1 73 (dk_at dksX0_layCases_5 20 rfl rfl)
theorem dX0_layCases_138 : decode cX0_layCases 138 = .ok (.iastore, 1) := dk_79 (dk_at dksX0_layCases_5 23 rfl rfl)
theorem dX0_layCases_139 : decode cX0_layCases 139 = .ok (.iinc 1 1, 3) := dk_132 1 1 (dk_at dksX0_layCases_6 0 rfl rfl)
theorem dX0_layCases_142 : decode cX0_layCases 142 = .ok (.goto (-140), 3) := dk_167 255 116 (dk_at dksX0_layCases_6 3 rfl rfl)
theorem dX0_layCases_145 : decode cX0_layCases 145 = .ok (.return_, 1) := dk_177 (dk_at dksX0_layCases_6 6 rfl rfl)
abbrev cX0_cried : ByteArray := prog_1_method_48_code
def yX0_cried : MethodName := ⟨RX0, "cried", "(Z)I"⟩
def dkwX0_cried_3 : List UInt8 := [5, 46, 163, 0, 7, 4, 167, 0, 4, 3, 96, 61, 132, 3, 1, 167, 255, 173, 28, 172]
abbrev dktX0_cried_3 : List UInt8 := dkwX0_cried_3 ++ []
def dkwX0_cried_2 : List UInt8 := [180, 0, 89, 29, 46, 42, 180, 0, 98, 4, 46, 161, 0, 22, 42, 180, 0, 92, 29, 46, 42, 180, 0, 98]
abbrev dktX0_cried_2 : List UInt8 := dkwX0_cried_2 ++ dktX0_cried_3
def dkwX0_cried_1 : List UInt8 := [50, 180, 1, 119, 27, 160, 0, 52, 42, 180, 0, 86, 29, 46, 42, 180, 0, 98, 3, 46, 163, 0, 37, 42]
abbrev dktX0_cried_1 : List UInt8 := dkwX0_cried_1 ++ dktX0_cried_2
def dkwX0_cried_0 : List UInt8 := [3, 61, 3, 62, 29, 42, 180, 0, 68, 180, 1, 98, 162, 0, 78, 28, 42, 180, 0, 68, 180, 1, 101, 29]
abbrev dktX0_cried_0 : List UInt8 := dkwX0_cried_0 ++ dktX0_cried_1
theorem dksX0_cried_0 : cX0_cried.data.toList.drop 0 = dktX0_cried_0 := by decide +kernel
theorem dksX0_cried_1 : cX0_cried.data.toList.drop 24 = dktX0_cried_1 := dk_seg dksX0_cried_0 24 rfl rfl
theorem dksX0_cried_2 : cX0_cried.data.toList.drop 48 = dktX0_cried_2 := dk_seg dksX0_cried_1 24 rfl rfl
theorem dksX0_cried_3 : cX0_cried.data.toList.drop 72 = dktX0_cried_3 := dk_seg dksX0_cried_2 24 rfl rfl
theorem dX0_cried_0 : decode cX0_cried 0 = .ok (.iconst 0, 1) := dk_3 (dk_at dksX0_cried_0 0 rfl rfl)
theorem dX0_cried_1 : decode cX0_cried 1 = .ok (.istore_n 2, 1) := dk_61 (dk_at dksX0_cried_0 1 rfl rfl)
theorem dX0_cried_2 : decode cX0_cried 2 = .ok (.iconst 0, 1) := dk_3 (dk_at dksX0_cried_0 2 rfl rfl)
theorem dX0_cried_3 : decode cX0_cried 3 = .ok (.istore_n 3, 1) := dk_62 (dk_at dksX0_cried_0 3 rfl rfl)
theorem dX0_cried_4 : decode cX0_cried 4 = .ok (.iload_n 3, 1) := dk_29 (dk_at dksX0_cried_0 4 rfl rfl)
theorem dX0_cried_5 : decode cX0_cried 5 = .ok (.aload_n 0, 1) := dk_42 (dk_at dksX0_cried_0 5 rfl rfl)
theorem dX0_cried_6 : decode cX0_cried 6 = .ok (.getfield 68, 3) := dk_180 0 68 (dk_at dksX0_cried_0 6 rfl rfl)
theorem dX0_cried_9 : decode cX0_cried 9 = .ok (.getfield 354, 3) := dk_180 1 98 (dk_at dksX0_cried_0 9 rfl rfl)
theorem dX0_cried_12 : decode cX0_cried 12 = .ok (.if_icmp .ge 78, 3) := dk_162 0 78 (dk_at dksX0_cried_0 12 rfl rfl)
theorem dX0_cried_15 : decode cX0_cried 15 = .ok (.iload_n 2, 1) := dk_28 (dk_at dksX0_cried_0 15 rfl rfl)
theorem dX0_cried_16 : decode cX0_cried 16 = .ok (.aload_n 0, 1) := dk_42 (dk_at dksX0_cried_0 16 rfl rfl)
theorem dX0_cried_17 : decode cX0_cried 17 = .ok (.getfield 68, 3) := dk_180 0 68 (dk_at dksX0_cried_0 17 rfl rfl)
theorem dX0_cried_20 : decode cX0_cried 20 = .ok (.getfield 357, 3) := dk_180 1 101 (dk_at dksX0_cried_0 20 rfl rfl)
theorem dX0_cried_23 : decode cX0_cried 23 = .ok (.iload_n 3, 1) := dk_29 (dk_at dksX0_cried_0 23 rfl rfl)
theorem dX0_cried_24 : decode cX0_cried 24 = .ok (.aaload, 1) := dk_50 (dk_at dksX0_cried_1 0 rfl rfl)
theorem dX0_cried_25 : decode cX0_cried 25 = .ok (.getfield 375, 3) := dk_180 1 119 (dk_at dksX0_cried_1 1 rfl rfl)
theorem dX0_cried_28 : decode cX0_cried 28 = .ok (.iload_n 1, 1) := dk_27 (dk_at dksX0_cried_1 4 rfl rfl)
theorem dX0_cried_29 : decode cX0_cried 29 = .ok (.if_icmp .ne 52, 3) := dk_160 0 52 (dk_at dksX0_cried_1 5 rfl rfl)
theorem dX0_cried_32 : decode cX0_cried 32 = .ok (.aload_n 0, 1) := dk_42 (dk_at dksX0_cried_1 8 rfl rfl)
theorem dX0_cried_33 : decode cX0_cried 33 = .ok (.getfield 86, 3) := dk_180 0 86 (dk_at dksX0_cried_1 9 rfl rfl)
theorem dX0_cried_36 : decode cX0_cried 36 = .ok (.iload_n 3, 1) := dk_29 (dk_at dksX0_cried_1 12 rfl rfl)
theorem dX0_cried_37 : decode cX0_cried 37 = .ok (.iaload, 1) := dk_46 (dk_at dksX0_cried_1 13 rfl rfl)
theorem dX0_cried_38 : decode cX0_cried 38 = .ok (.aload_n 0, 1) := dk_42 (dk_at dksX0_cried_1 14 rfl rfl)
theorem dX0_cried_39 : decode cX0_cried 39 = .ok (.getfield 98, 3) := dk_180 0 98 (dk_at dksX0_cried_1 15 rfl rfl)
theorem dX0_cried_42 : decode cX0_cried 42 = .ok (.iconst 0, 1) := dk_3 (dk_at dksX0_cried_1 18 rfl rfl)
theorem dX0_cried_43 : decode cX0_cried 43 = .ok (.iaload, 1) := dk_46 (dk_at dksX0_cried_1 19 rfl rfl)
theorem dX0_cried_44 : decode cX0_cried 44 = .ok (.if_icmp .gt 37, 3) := dk_163 0 37 (dk_at dksX0_cried_1 20 rfl rfl)
theorem dX0_cried_47 : decode cX0_cried 47 = .ok (.aload_n 0, 1) := dk_42 (dk_at dksX0_cried_1 23 rfl rfl)
theorem dX0_cried_48 : decode cX0_cried 48 = .ok (.getfield 89, 3) := dk_180 0 89 (dk_at dksX0_cried_2 0 rfl rfl)
theorem dX0_cried_51 : decode cX0_cried 51 = .ok (.iload_n 3, 1) := dk_29 (dk_at dksX0_cried_2 3 rfl rfl)
theorem dX0_cried_52 : decode cX0_cried 52 = .ok (.iaload, 1) := dk_46 (dk_at dksX0_cried_2 4 rfl rfl)
theorem dX0_cried_53 : decode cX0_cried 53 = .ok (.aload_n 0, 1) := dk_42 (dk_at dksX0_cried_2 5 rfl rfl)
theorem dX0_cried_54 : decode cX0_cried 54 = .ok (.getfield 98, 3) := dk_180 0 98 (dk_at dksX0_cried_2 6 rfl rfl)
theorem dX0_cried_57 : decode cX0_cried 57 = .ok (.iconst 1, 1) := dk_4 (dk_at dksX0_cried_2 9 rfl rfl)
theorem dX0_cried_58 : decode cX0_cried 58 = .ok (.iaload, 1) := dk_46 (dk_at dksX0_cried_2 10 rfl rfl)
theorem dX0_cried_59 : decode cX0_cried 59 = .ok (.if_icmp .lt 22, 3) := dk_161 0 22 (dk_at dksX0_cried_2 11 rfl rfl)
theorem dX0_cried_62 : decode cX0_cried 62 = .ok (.aload_n 0, 1) := dk_42 (dk_at dksX0_cried_2 14 rfl rfl)
theorem dX0_cried_63 : decode cX0_cried 63 = .ok (.getfield 92, 3) := dk_180 0 92 (dk_at dksX0_cried_2 15 rfl rfl)
theorem dX0_cried_66 : decode cX0_cried 66 = .ok (.iload_n 3, 1) := dk_29 (dk_at dksX0_cried_2 18 rfl rfl)
theorem dX0_cried_67 : decode cX0_cried 67 = .ok (.iaload, 1) := dk_46 (dk_at dksX0_cried_2 19 rfl rfl)
theorem dX0_cried_68 : decode cX0_cried 68 = .ok (.aload_n 0, 1) := dk_42 (dk_at dksX0_cried_2 20 rfl rfl)
theorem dX0_cried_69 : decode cX0_cried 69 = .ok (.getfield 98, 3) := dk_180 0 98 (dk_at dksX0_cried_2 21 rfl rfl)
theorem dX0_cried_72 : decode cX0_cried 72 = .ok (.iconst 2, 1) := dk_5 (dk_at dksX0_cried_3 0 rfl rfl)
theorem dX0_cried_73 : decode cX0_cried 73 = .ok (.iaload, 1) := dk_46 (dk_at dksX0_cried_3 1 rfl rfl)
theorem dX0_cried_74 : decode cX0_cried 74 = .ok (.if_icmp .gt 7, 3) := dk_163 0 7 (dk_at dksX0_cried_3 2 rfl rfl)
theorem dX0_cried_77 : decode cX0_cried 77 = .ok (.iconst 1, 1) := dk_4 (dk_at dksX0_cried_3 5 rfl rfl)
theorem dX0_cried_78 : decode cX0_cried 78 = .ok (.goto 4, 3) := dk_167 0 4 (dk_at dksX0_cried_3 6 rfl rfl)
theorem dX0_cried_81 : decode cX0_cried 81 = .ok (.iconst 0, 1) := dk_3 (dk_at dksX0_cried_3 9 rfl rfl)
theorem dX0_cried_82 : decode cX0_cried 82 = .ok (.iadd, 1) := dk_96 (dk_at dksX0_cried_3 10 rfl rfl)
theorem dX0_cried_83 : decode cX0_cried 83 = .ok (.istore_n 2, 1) := dk_61 (dk_at dksX0_cried_3 11 rfl rfl)
theorem dX0_cried_84 : decode cX0_cried 84 = .ok (.iinc 3 1, 3) := dk_132 3 1 (dk_at dksX0_cried_3 12 rfl rfl)
theorem dX0_cried_87 : decode cX0_cried 87 = .ok (.goto (-83), 3) := dk_167 255 173 (dk_at dksX0_cried_3 15 rfl rfl)
theorem dX0_cried_90 : decode cX0_cried 90 = .ok (.iload_n 2, 1) := dk_28 (dk_at dksX0_cried_3 18 rfl rfl)
theorem dX0_cried_91 : decode cX0_cried 91 = .ok (.ireturn, 1) := dk_172 (dk_at dksX0_cried_3 19 rfl rfl)
abbrev cX0_isLessRow : ByteArray := prog_1_method_50_code
def yX0_isLessRow : MethodName := ⟨RX0, "isLessRow", "()Z"⟩
def dkwX0_isLessRow_2 : List UInt8 := [167, 255, 212, 3, 172]
abbrev dktX0_isLessRow_2 : List UInt8 := dkwX0_isLessRow_2 ++ []
def dkwX0_isLessRow_1 : List UInt8 := [180, 0, 98, 27, 46, 42, 180, 0, 95, 27, 46, 162, 0, 7, 4, 167, 0, 4, 3, 172, 132, 1, 1]
abbrev dktX0_isLessRow_1 : List UInt8 := dkwX0_isLessRow_1 ++ dktX0_isLessRow_2
def dkwX0_isLessRow_0 : List UInt8 := [3, 60, 27, 6, 162, 0, 45, 42, 180, 0, 98, 27, 46, 42, 180, 0, 95, 27, 46, 159, 0, 24, 42]
abbrev dktX0_isLessRow_0 : List UInt8 := dkwX0_isLessRow_0 ++ dktX0_isLessRow_1
theorem dksX0_isLessRow_0 : cX0_isLessRow.data.toList.drop 0 = dktX0_isLessRow_0 := by decide +kernel
theorem dksX0_isLessRow_1 : cX0_isLessRow.data.toList.drop 23 = dktX0_isLessRow_1 := dk_seg dksX0_isLessRow_0 23 rfl rfl
theorem dksX0_isLessRow_2 : cX0_isLessRow.data.toList.drop 46 = dktX0_isLessRow_2 := dk_seg dksX0_isLessRow_1 23 rfl rfl
theorem dX0_isLessRow_0 : decode cX0_isLessRow 0 = .ok (.iconst 0, 1) := dk_3 (dk_at dksX0_isLessRow_0 0 rfl rfl)
theorem dX0_isLessRow_1 : decode cX0_isLessRow 1 = .ok (.istore_n 1, 1) := dk_60 (dk_at dksX0_isLessRow_0 1 rfl rfl)
theorem dX0_isLessRow_2 : decode cX0_isLessRow 2 = .ok (.iload_n 1, 1) := dk_27 (dk_at dksX0_isLessRow_0 2 rfl rfl)
theorem dX0_isLessRow_3 : decode cX0_isLessRow 3 = .ok (.iconst 3, 1) := dk_6 (dk_at dksX0_isLessRow_0 3 rfl rfl)
theorem dX0_isLessRow_4 : decode cX0_isLessRow 4 = .ok (.if_icmp .ge 45, 3) := dk_162 0 45 (dk_at dksX0_isLessRow_0 4 rfl rfl)
theorem dX0_isLessRow_7 : decode cX0_isLessRow 7 = .ok (.aload_n 0, 1) := dk_42 (dk_at dksX0_isLessRow_0 7 rfl rfl)
theorem dX0_isLessRow_8 : decode cX0_isLessRow 8 = .ok (.getfield 98, 3) := dk_180 0 98 (dk_at dksX0_isLessRow_0 8 rfl rfl)
theorem dX0_isLessRow_11 : decode cX0_isLessRow 11 = .ok (.iload_n 1, 1) := dk_27 (dk_at dksX0_isLessRow_0 11 rfl rfl)
theorem dX0_isLessRow_12 : decode cX0_isLessRow 12 = .ok (.iaload, 1) := dk_46 (dk_at dksX0_isLessRow_0 12 rfl rfl)
theorem dX0_isLessRow_13 : decode cX0_isLessRow 13 = .ok (.aload_n 0, 1) := dk_42 (dk_at dksX0_isLessRow_0 13 rfl rfl)
theorem dX0_isLessRow_14 : decode cX0_isLessRow 14 = .ok (.getfield 95, 3) := dk_180 0 95 (dk_at dksX0_isLessRow_0 14 rfl rfl)
theorem dX0_isLessRow_17 : decode cX0_isLessRow 17 = .ok (.iload_n 1, 1) := dk_27 (dk_at dksX0_isLessRow_0 17 rfl rfl)
theorem dX0_isLessRow_18 : decode cX0_isLessRow 18 = .ok (.iaload, 1) := dk_46 (dk_at dksX0_isLessRow_0 18 rfl rfl)
theorem dX0_isLessRow_19 : decode cX0_isLessRow 19 = .ok (.if_icmp .eq 24, 3) := dk_159 0 24 (dk_at dksX0_isLessRow_0 19 rfl rfl)
theorem dX0_isLessRow_22 : decode cX0_isLessRow 22 = .ok (.aload_n 0, 1) := dk_42 (dk_at dksX0_isLessRow_0 22 rfl rfl)
theorem dX0_isLessRow_23 : decode cX0_isLessRow 23 = .ok (.getfield 98, 3) := dk_180 0 98 (dk_at dksX0_isLessRow_1 0 rfl rfl)
theorem dX0_isLessRow_26 : decode cX0_isLessRow 26 = .ok (.iload_n 1, 1) := dk_27 (dk_at dksX0_isLessRow_1 3 rfl rfl)
theorem dX0_isLessRow_27 : decode cX0_isLessRow 27 = .ok (.iaload, 1) := dk_46 (dk_at dksX0_isLessRow_1 4 rfl rfl)
theorem dX0_isLessRow_28 : decode cX0_isLessRow 28 = .ok (.aload_n 0, 1) := dk_42 (dk_at dksX0_isLessRow_1 5 rfl rfl)
theorem dX0_isLessRow_29 : decode cX0_isLessRow 29 = .ok (.getfield 95, 3) := dk_180 0 95 (dk_at dksX0_isLessRow_1 6 rfl rfl)
theorem dX0_isLessRow_32 : decode cX0_isLessRow 32 = .ok (.iload_n 1, 1) := dk_27 (dk_at dksX0_isLessRow_1 9 rfl rfl)
theorem dX0_isLessRow_33 : decode cX0_isLessRow 33 = .ok (.iaload, 1) := dk_46 (dk_at dksX0_isLessRow_1 10 rfl rfl)
theorem dX0_isLessRow_34 : decode cX0_isLessRow 34 = .ok (.if_icmp .ge 7, 3) := dk_162 0 7 (dk_at dksX0_isLessRow_1 11 rfl rfl)
theorem dX0_isLessRow_37 : decode cX0_isLessRow 37 = .ok (.iconst 1, 1) := dk_4 (dk_at dksX0_isLessRow_1 14 rfl rfl)
theorem dX0_isLessRow_38 : decode cX0_isLessRow 38 = .ok (.goto 4, 3) := dk_167 0 4 (dk_at dksX0_isLessRow_1 15 rfl rfl)
theorem dX0_isLessRow_41 : decode cX0_isLessRow 41 = .ok (.iconst 0, 1) := dk_3 (dk_at dksX0_isLessRow_1 18 rfl rfl)
theorem dX0_isLessRow_42 : decode cX0_isLessRow 42 = .ok (.ireturn, 1) := dk_172 (dk_at dksX0_isLessRow_1 19 rfl rfl)
theorem dX0_isLessRow_43 : decode cX0_isLessRow 43 = .ok (.iinc 1 1, 3) := dk_132 1 1 (dk_at dksX0_isLessRow_1 20 rfl rfl)
theorem dX0_isLessRow_46 : decode cX0_isLessRow 46 = .ok (.goto (-44), 3) := dk_167 255 212 (dk_at dksX0_isLessRow_2 0 rfl rfl)
theorem dX0_isLessRow_49 : decode cX0_isLessRow 49 = .ok (.iconst 0, 1) := dk_3 (dk_at dksX0_isLessRow_2 3 rfl rfl)
theorem dX0_isLessRow_50 : decode cX0_isLessRow 50 = .ok (.ireturn, 1) := dk_172 (dk_at dksX0_isLessRow_2 4 rfl rfl)
abbrev cX0_change : ByteArray := prog_1_method_53_code
def yX0_change : MethodName := ⟨RX0, "change", "(IIIII)I"⟩
def dkwX0_change_6 : List UInt8 := [180, 1, 140, 4, 96, 181, 1, 140, 25, 6, 180, 1, 140, 4, 100, 172]
abbrev dktX0_change_6 : List UInt8 := dkwX0_change_6 ++ []
def dkwX0_change_5 : List UInt8 := [25, 6, 180, 1, 140, 187, 1, 147, 89, 28, 29, 21, 4, 21, 5, 183, 1, 149, 83, 25, 6, 89]
abbrev dktX0_change_5 : List UInt8 := dkwX0_change_5 ++ dktX0_change_6
def dkwX0_change_4 : List UInt8 := [153, 0, 16, 28, 5, 160, 0, 13, 21, 4, 184, 0, 132, 154, 0, 5, 2, 172, 25, 6, 180, 1, 143]
abbrev dktX0_change_4 : List UInt8 := dkwX0_change_4 ++ dktX0_change_5
def dkwX0_change_3 : List UInt8 := [180, 1, 17, 4, 100, 184, 0, 3, 153, 0, 32, 28, 4, 160, 0, 14, 21, 4, 3, 16, 9, 184, 0, 3]
abbrev dktX0_change_3 : List UInt8 := dkwX0_change_3 ++ dktX0_change_4
def dkwX0_change_2 : List UInt8 := [172, 42, 180, 0, 68, 180, 0, 183, 27, 50, 58, 6, 28, 5, 162, 0, 21, 29, 3, 25, 6, 180, 1, 7]
abbrev dktX0_change_2 : List UInt8 := dkwX0_change_2 ++ dktX0_change_3
def dkwX0_change_1 : List UInt8 := [159, 0, 23, 28, 3, 5, 184, 0, 3, 153, 0, 14, 21, 5, 4, 16, 99, 184, 0, 3, 154, 0, 5, 2]
abbrev dktX0_change_1 : List UInt8 := dkwX0_change_1 ++ dktX0_change_2
def dkwX0_change_0 : List UInt8 := [42, 27, 182, 0, 125, 153, 0, 40, 42, 180, 0, 68, 180, 0, 183, 27, 50, 180, 1, 140, 16, 6]
abbrev dktX0_change_0 : List UInt8 := dkwX0_change_0 ++ dktX0_change_1
theorem dksX0_change_0 : cX0_change.data.toList.drop 0 = dktX0_change_0 := by decide +kernel
theorem dksX0_change_1 : cX0_change.data.toList.drop 22 = dktX0_change_1 := dk_seg dksX0_change_0 22 rfl rfl
theorem dksX0_change_2 : cX0_change.data.toList.drop 46 = dktX0_change_2 := dk_seg dksX0_change_1 24 rfl rfl
theorem dksX0_change_3 : cX0_change.data.toList.drop 70 = dktX0_change_3 := dk_seg dksX0_change_2 24 rfl rfl
theorem dksX0_change_4 : cX0_change.data.toList.drop 94 = dktX0_change_4 := dk_seg dksX0_change_3 24 rfl rfl
theorem dksX0_change_5 : cX0_change.data.toList.drop 117 = dktX0_change_5 := dk_seg dksX0_change_4 23 rfl rfl
theorem dksX0_change_6 : cX0_change.data.toList.drop 139 = dktX0_change_6 := dk_seg dksX0_change_5 22 rfl rfl
theorem dX0_change_0 : decode cX0_change 0 = .ok (.aload_n 0, 1) := dk_42 (dk_at dksX0_change_0 0 rfl rfl)
theorem dX0_change_1 : decode cX0_change 1 = .ok (.iload_n 1, 1) := dk_27 (dk_at dksX0_change_0 1 rfl rfl)
theorem dX0_change_2 : decode cX0_change 2 = .ok (.invokevirtual 125, 3) := dk_182 0 125 (dk_at dksX0_change_0 2 rfl rfl)
theorem dX0_change_5 : decode cX0_change 5 = .ok (.ifCond .eq 40, 3) := dk_153 0 40 (dk_at dksX0_change_0 5 rfl rfl)
theorem dX0_change_8 : decode cX0_change 8 = .ok (.aload_n 0, 1) := dk_42 (dk_at dksX0_change_0 8 rfl rfl)
theorem dX0_change_9 : decode cX0_change 9 = .ok (.getfield 68, 3) := dk_180 0 68 (dk_at dksX0_change_0 9 rfl rfl)
theorem dX0_change_12 : decode cX0_change 12 = .ok (.getfield 183, 3) := dk_180 0 183 (dk_at dksX0_change_0 12 rfl rfl)
theorem dX0_change_15 : decode cX0_change 15 = .ok (.iload_n 1, 1) := dk_27 (dk_at dksX0_change_0 15 rfl rfl)
theorem dX0_change_16 : decode cX0_change 16 = .ok (.aaload, 1) := dk_50 (dk_at dksX0_change_0 16 rfl rfl)
theorem dX0_change_17 : decode cX0_change 17 = .ok (.getfield 396, 3) := dk_180 1 140 (dk_at dksX0_change_0 17 rfl rfl)
theorem dX0_change_20 : decode cX0_change 20 = .ok (.bipush 6, 2) := dk_16 6 (dk_at dksX0_change_0 20 rfl rfl)
theorem dX0_change_22 : decode cX0_change 22 = .ok (.if_icmp .eq 23, 3) := dk_159 0 23 (dk_at dksX0_change_1 0 rfl rfl)
theorem dX0_change_25 : decode cX0_change 25 = .ok (.iload_n 2, 1) := dk_28 (dk_at dksX0_change_1 3 rfl rfl)
theorem dX0_change_26 : decode cX0_change 26 = .ok (.iconst 0, 1) := dk_3 (dk_at dksX0_change_1 4 rfl rfl)
theorem dX0_change_27 : decode cX0_change 27 = .ok (.iconst 2, 1) := dk_5 (dk_at dksX0_change_1 5 rfl rfl)
theorem dX0_change_28 : decode cX0_change 28 = .ok (.invokestatic 3, 3) := dk_184 0 3 (dk_at dksX0_change_1 6 rfl rfl)
theorem dX0_change_31 : decode cX0_change 31 = .ok (.ifCond .eq 14, 3) := dk_153 0 14 (dk_at dksX0_change_1 9 rfl rfl)
theorem dX0_change_34 : decode cX0_change 34 = .ok (.iload 5, 2) := dk_21 5 (dk_at dksX0_change_1 12 rfl rfl)
theorem dX0_change_36 : decode cX0_change 36 = .ok (.iconst 1, 1) := dk_4 (dk_at dksX0_change_1 14 rfl rfl)
theorem dX0_change_37 : decode cX0_change 37 = .ok (.bipush 99, 2) := dk_16 99 (dk_at dksX0_change_1 15 rfl rfl)
theorem dX0_change_39 : decode cX0_change 39 = .ok (.invokestatic 3, 3) := dk_184 0 3 (dk_at dksX0_change_1 17 rfl rfl)
theorem dX0_change_42 : decode cX0_change 42 = .ok (.ifCond .ne 5, 3) := dk_154 0 5 (dk_at dksX0_change_1 20 rfl rfl)
theorem dX0_change_45 : decode cX0_change 45 = .ok (.iconst (-1), 1) := dk_2 (dk_at dksX0_change_1 23 rfl rfl)
theorem dX0_change_46 : decode cX0_change 46 = .ok (.ireturn, 1) := dk_172 (dk_at dksX0_change_2 0 rfl rfl)
theorem dX0_change_47 : decode cX0_change 47 = .ok (.aload_n 0, 1) := dk_42 (dk_at dksX0_change_2 1 rfl rfl)
theorem dX0_change_48 : decode cX0_change 48 = .ok (.getfield 68, 3) := dk_180 0 68 (dk_at dksX0_change_2 2 rfl rfl)
theorem dX0_change_51 : decode cX0_change 51 = .ok (.getfield 183, 3) := dk_180 0 183 (dk_at dksX0_change_2 5 rfl rfl)
theorem dX0_change_54 : decode cX0_change 54 = .ok (.iload_n 1, 1) := dk_27 (dk_at dksX0_change_2 8 rfl rfl)
theorem dX0_change_55 : decode cX0_change 55 = .ok (.aaload, 1) := dk_50 (dk_at dksX0_change_2 9 rfl rfl)
theorem dX0_change_56 : decode cX0_change 56 = .ok (.astore 6, 2) := dk_58 6 (dk_at dksX0_change_2 10 rfl rfl)
theorem dX0_change_58 : decode cX0_change 58 = .ok (.iload_n 2, 1) := dk_28 (dk_at dksX0_change_2 12 rfl rfl)
theorem dX0_change_59 : decode cX0_change 59 = .ok (.iconst 2, 1) := dk_5 (dk_at dksX0_change_2 13 rfl rfl)
theorem dX0_change_60 : decode cX0_change 60 = .ok (.if_icmp .ge 21, 3) := dk_162 0 21 (dk_at dksX0_change_2 14 rfl rfl)
theorem dX0_change_63 : decode cX0_change 63 = .ok (.iload_n 3, 1) := dk_29 (dk_at dksX0_change_2 17 rfl rfl)
theorem dX0_change_64 : decode cX0_change 64 = .ok (.iconst 0, 1) := dk_3 (dk_at dksX0_change_2 18 rfl rfl)
theorem dX0_change_65 : decode cX0_change 65 = .ok (.aload 6, 2) := dk_25 6 (dk_at dksX0_change_2 19 rfl rfl)
theorem dX0_change_67 : decode cX0_change 67 = .ok (.getfield 263, 3) := dk_180 1 7 (dk_at dksX0_change_2 21 rfl rfl)
theorem dX0_change_70 : decode cX0_change 70 = .ok (.getfield 273, 3) := dk_180 1 17 (dk_at dksX0_change_3 0 rfl rfl)
theorem dX0_change_73 : decode cX0_change 73 = .ok (.iconst 1, 1) := dk_4 (dk_at dksX0_change_3 3 rfl rfl)
theorem dX0_change_74 : decode cX0_change 74 = .ok (.isub, 1) := dk_100 (dk_at dksX0_change_3 4 rfl rfl)
theorem dX0_change_75 : decode cX0_change 75 = .ok (.invokestatic 3, 3) := dk_184 0 3 (dk_at dksX0_change_3 5 rfl rfl)
theorem dX0_change_78 : decode cX0_change 78 = .ok (.ifCond .eq 32, 3) := dk_153 0 32 (dk_at dksX0_change_3 8 rfl rfl)
theorem dX0_change_81 : decode cX0_change 81 = .ok (.iload_n 2, 1) := dk_28 (dk_at dksX0_change_3 11 rfl rfl)
theorem dX0_change_82 : decode cX0_change 82 = .ok (.iconst 1, 1) := dk_4 (dk_at dksX0_change_3 12 rfl rfl)
theorem dX0_change_83 : decode cX0_change 83 = .ok (.if_icmp .ne 14, 3) := dk_160 0 14 (dk_at dksX0_change_3 13 rfl rfl)
theorem dX0_change_86 : decode cX0_change 86 = .ok (.iload 4, 2) := dk_21 4 (dk_at dksX0_change_3 16 rfl rfl)
theorem dX0_change_88 : decode cX0_change 88 = .ok (.iconst 0, 1) := dk_3 (dk_at dksX0_change_3 18 rfl rfl)
theorem dX0_change_89 : decode cX0_change 89 = .ok (.bipush 9, 2) := dk_16 9 (dk_at dksX0_change_3 19 rfl rfl)
theorem dX0_change_91 : decode cX0_change 91 = .ok (.invokestatic 3, 3) := dk_184 0 3 (dk_at dksX0_change_3 21 rfl rfl)
theorem dX0_change_94 : decode cX0_change 94 = .ok (.ifCond .eq 16, 3) := dk_153 0 16 (dk_at dksX0_change_4 0 rfl rfl)
theorem dX0_change_97 : decode cX0_change 97 = .ok (.iload_n 2, 1) := dk_28 (dk_at dksX0_change_4 3 rfl rfl)
theorem dX0_change_98 : decode cX0_change 98 = .ok (.iconst 2, 1) := dk_5 (dk_at dksX0_change_4 4 rfl rfl)
theorem dX0_change_99 : decode cX0_change 99 = .ok (.if_icmp .ne 13, 3) := dk_160 0 13 (dk_at dksX0_change_4 5 rfl rfl)
theorem dX0_change_102 : decode cX0_change 102 = .ok (.iload 4, 2) := dk_21 4 (dk_at dksX0_change_4 8 rfl rfl)
theorem dX0_change_104 : decode cX0_change 104 = .ok (.invokestatic 132, 3) := dk_184 0 132 (dk_at dksX0_change_4 10 rfl rfl)
theorem dX0_change_107 : decode cX0_change 107 = .ok (.ifCond .ne 5, 3) := dk_154 0 5 (dk_at dksX0_change_4 13 rfl rfl)
theorem dX0_change_110 : decode cX0_change 110 = .ok (.iconst (-1), 1) := dk_2 (dk_at dksX0_change_4 16 rfl rfl)
theorem dX0_change_111 : decode cX0_change 111 = .ok (.ireturn, 1) := dk_172 (dk_at dksX0_change_4 17 rfl rfl)
theorem dX0_change_112 : decode cX0_change 112 = .ok (.aload 6, 2) := dk_25 6 (dk_at dksX0_change_4 18 rfl rfl)
theorem dX0_change_114 : decode cX0_change 114 = .ok (.getfield 399, 3) := dk_180 1 143 (dk_at dksX0_change_4 20 rfl rfl)
theorem dX0_change_117 : decode cX0_change 117 = .ok (.aload 6, 2) := dk_25 6 (dk_at dksX0_change_5 0 rfl rfl)
theorem dX0_change_119 : decode cX0_change 119 = .ok (.getfield 396, 3) := dk_180 1 140 (dk_at dksX0_change_5 2 rfl rfl)
theorem dX0_change_122 : decode cX0_change 122 = .ok (.new 403, 3) := dk_187 1 147 (dk_at dksX0_change_5 5 rfl rfl)
theorem dX0_change_125 : decode cX0_change 125 = .ok (.dup, 1) := dk_89 (dk_at dksX0_change_5 8 rfl rfl)
theorem dX0_change_126 : decode cX0_change 126 = .ok (.iload_n 2, 1) := dk_28 (dk_at dksX0_change_5 9 rfl rfl)
theorem dX0_change_127 : decode cX0_change 127 = .ok (.iload_n 3, 1) := dk_29 (dk_at dksX0_change_5 10 rfl rfl)
theorem dX0_change_128 : decode cX0_change 128 = .ok (.iload 4, 2) := dk_21 4 (dk_at dksX0_change_5 11 rfl rfl)
theorem dX0_change_130 : decode cX0_change 130 = .ok (.iload 5, 2) := dk_21 5 (dk_at dksX0_change_5 13 rfl rfl)
theorem dX0_change_132 : decode cX0_change 132 = .ok (.invokespecial 405, 3) := dk_183 1 149 (dk_at dksX0_change_5 15 rfl rfl)
theorem dX0_change_135 : decode cX0_change 135 = .ok (.aastore, 1) := dk_83 (dk_at dksX0_change_5 18 rfl rfl)
theorem dX0_change_136 : decode cX0_change 136 = .ok (.aload 6, 2) := dk_25 6 (dk_at dksX0_change_5 19 rfl rfl)
theorem dX0_change_138 : decode cX0_change 138 = .ok (.dup, 1) := dk_89 (dk_at dksX0_change_5 21 rfl rfl)
theorem dX0_change_139 : decode cX0_change 139 = .ok (.getfield 396, 3) := dk_180 1 140 (dk_at dksX0_change_6 0 rfl rfl)
theorem dX0_change_142 : decode cX0_change 142 = .ok (.iconst 1, 1) := dk_4 (dk_at dksX0_change_6 3 rfl rfl)
theorem dX0_change_143 : decode cX0_change 143 = .ok (.iadd, 1) := dk_96 (dk_at dksX0_change_6 4 rfl rfl)
theorem dX0_change_144 : decode cX0_change 144 = .ok (.putfield 396, 3) := dk_181 1 140 (dk_at dksX0_change_6 5 rfl rfl)
theorem dX0_change_147 : decode cX0_change 147 = .ok (.aload 6, 2) := dk_25 6 (dk_at dksX0_change_6 8 rfl rfl)
theorem dX0_change_149 : decode cX0_change 149 = .ok (.getfield 396, 3) := dk_180 1 140 (dk_at dksX0_change_6 10 rfl rfl)
theorem dX0_change_152 : decode cX0_change 152 = .ok (.iconst 1, 1) := dk_4 (dk_at dksX0_change_6 13 rfl rfl)
theorem dX0_change_153 : decode cX0_change 153 = .ok (.isub, 1) := dk_100 (dk_at dksX0_change_6 14 rfl rfl)
theorem dX0_change_154 : decode cX0_change 154 = .ok (.ireturn, 1) := dk_172 (dk_at dksX0_change_6 15 rfl rfl)
abbrev cX0_pass : ByteArray := prog_1_method_55_code
def yX0_pass : MethodName := ⟨RX0, "pass", "(IIIII)I"⟩
def dkwX0_pass_3 : List UInt8 := [180, 1, 163, 167, 0, 20, 21, 5, 5, 160, 0, 13, 42, 180, 0, 104, 180, 1, 166, 167, 0, 4, 2, 172]
abbrev dktX0_pass_3 : List UInt8 := dkwX0_pass_3 ++ []
def dkwX0_pass_2 : List UInt8 := [154, 0, 13, 42, 180, 0, 104, 180, 1, 160, 167, 0, 36, 21, 5, 4, 160, 0, 13, 42, 180, 0, 104]
abbrev dktX0_pass_2 : List UInt8 := dkwX0_pass_2 ++ dktX0_pass_3
def dkwX0_pass_1 : List UInt8 := [50, 28, 29, 21, 4, 42, 180, 0, 68, 180, 1, 66, 182, 1, 156, 154, 0, 5, 2, 172, 21, 5]
abbrev dktX0_pass_1 : List UInt8 := dkwX0_pass_1 ++ dktX0_pass_2
def dkwX0_pass_0 : List UInt8 := [42, 27, 28, 29, 21, 4, 182, 1, 152, 153, 0, 33, 42, 180, 0, 104, 42, 180, 0, 68, 180, 0, 183, 27]
abbrev dktX0_pass_0 : List UInt8 := dkwX0_pass_0 ++ dktX0_pass_1
theorem dksX0_pass_0 : cX0_pass.data.toList.drop 0 = dktX0_pass_0 := by decide +kernel
theorem dksX0_pass_1 : cX0_pass.data.toList.drop 24 = dktX0_pass_1 := dk_seg dksX0_pass_0 24 rfl rfl
theorem dksX0_pass_2 : cX0_pass.data.toList.drop 46 = dktX0_pass_2 := dk_seg dksX0_pass_1 22 rfl rfl
theorem dksX0_pass_3 : cX0_pass.data.toList.drop 69 = dktX0_pass_3 := dk_seg dksX0_pass_2 23 rfl rfl
theorem dX0_pass_0 : decode cX0_pass 0 = .ok (.aload_n 0, 1) := dk_42 (dk_at dksX0_pass_0 0 rfl rfl)
theorem dX0_pass_1 : decode cX0_pass 1 = .ok (.iload_n 1, 1) := dk_27 (dk_at dksX0_pass_0 1 rfl rfl)
theorem dX0_pass_2 : decode cX0_pass 2 = .ok (.iload_n 2, 1) := dk_28 (dk_at dksX0_pass_0 2 rfl rfl)
theorem dX0_pass_3 : decode cX0_pass 3 = .ok (.iload_n 3, 1) := dk_29 (dk_at dksX0_pass_0 3 rfl rfl)
theorem dX0_pass_4 : decode cX0_pass 4 = .ok (.iload 4, 2) := dk_21 4 (dk_at dksX0_pass_0 4 rfl rfl)
theorem dX0_pass_6 : decode cX0_pass 6 = .ok (.invokevirtual 408, 3) := dk_182 1 152 (dk_at dksX0_pass_0 6 rfl rfl)
theorem dX0_pass_9 : decode cX0_pass 9 = .ok (.ifCond .eq 33, 3) := dk_153 0 33 (dk_at dksX0_pass_0 9 rfl rfl)
theorem dX0_pass_12 : decode cX0_pass 12 = .ok (.aload_n 0, 1) := dk_42 (dk_at dksX0_pass_0 12 rfl rfl)
theorem dX0_pass_13 : decode cX0_pass 13 = .ok (.getfield 104, 3) := dk_180 0 104 (dk_at dksX0_pass_0 13 rfl rfl)
theorem dX0_pass_16 : decode cX0_pass 16 = .ok (.aload_n 0, 1) := dk_42 (dk_at dksX0_pass_0 16 rfl rfl)
theorem dX0_pass_17 : decode cX0_pass 17 = .ok (.getfield 68, 3) := dk_180 0 68 (dk_at dksX0_pass_0 17 rfl rfl)
theorem dX0_pass_20 : decode cX0_pass 20 = .ok (.getfield 183, 3) := dk_180 0 183 (dk_at dksX0_pass_0 20 rfl rfl)
theorem dX0_pass_23 : decode cX0_pass 23 = .ok (.iload_n 1, 1) := dk_27 (dk_at dksX0_pass_0 23 rfl rfl)
theorem dX0_pass_24 : decode cX0_pass 24 = .ok (.aaload, 1) := dk_50 (dk_at dksX0_pass_1 0 rfl rfl)
theorem dX0_pass_25 : decode cX0_pass 25 = .ok (.iload_n 2, 1) := dk_28 (dk_at dksX0_pass_1 1 rfl rfl)
theorem dX0_pass_26 : decode cX0_pass 26 = .ok (.iload_n 3, 1) := dk_29 (dk_at dksX0_pass_1 2 rfl rfl)
theorem dX0_pass_27 : decode cX0_pass 27 = .ok (.iload 4, 2) := dk_21 4 (dk_at dksX0_pass_1 3 rfl rfl)
theorem dX0_pass_29 : decode cX0_pass 29 = .ok (.aload_n 0, 1) := dk_42 (dk_at dksX0_pass_1 5 rfl rfl)
theorem dX0_pass_30 : decode cX0_pass 30 = .ok (.getfield 68, 3) := dk_180 0 68 (dk_at dksX0_pass_1 6 rfl rfl)
theorem dX0_pass_33 : decode cX0_pass 33 = .ok (.getfield 322, 3) := dk_180 1 66 (dk_at dksX0_pass_1 9 rfl rfl)
theorem dX0_pass_36 : decode cX0_pass 36 = .ok (.invokevirtual 412, 3) := dk_182 1 156 (dk_at dksX0_pass_1 12 rfl rfl)
theorem dX0_pass_39 : decode cX0_pass 39 = .ok (.ifCond .ne 5, 3) := dk_154 0 5 (dk_at dksX0_pass_1 15 rfl rfl)
theorem dX0_pass_42 : decode cX0_pass 42 = .ok (.iconst (-1), 1) := dk_2 (dk_at dksX0_pass_1 18 rfl rfl)
theorem dX0_pass_43 : decode cX0_pass 43 = .ok (.ireturn, 1) := dk_172 (dk_at dksX0_pass_1 19 rfl rfl)
theorem dX0_pass_44 : decode cX0_pass 44 = .ok (.iload 5, 2) := dk_21 5 (dk_at dksX0_pass_1 20 rfl rfl)
theorem dX0_pass_46 : decode cX0_pass 46 = .ok (.ifCond .ne 13, 3) := dk_154 0 13 (dk_at dksX0_pass_2 0 rfl rfl)
theorem dX0_pass_49 : decode cX0_pass 49 = .ok (.aload_n 0, 1) := dk_42 (dk_at dksX0_pass_2 3 rfl rfl)
theorem dX0_pass_50 : decode cX0_pass 50 = .ok (.getfield 104, 3) := dk_180 0 104 (dk_at dksX0_pass_2 4 rfl rfl)
theorem dX0_pass_53 : decode cX0_pass 53 = .ok (.getfield 416, 3) := dk_180 1 160 (dk_at dksX0_pass_2 7 rfl rfl)
theorem dX0_pass_56 : decode cX0_pass 56 = .ok (.goto 36, 3) := dk_167 0 36 (dk_at dksX0_pass_2 10 rfl rfl)
theorem dX0_pass_59 : decode cX0_pass 59 = .ok (.iload 5, 2) := dk_21 5 (dk_at dksX0_pass_2 13 rfl rfl)
theorem dX0_pass_61 : decode cX0_pass 61 = .ok (.iconst 1, 1) := dk_4 (dk_at dksX0_pass_2 15 rfl rfl)
theorem dX0_pass_62 : decode cX0_pass 62 = .ok (.if_icmp .ne 13, 3) := dk_160 0 13 (dk_at dksX0_pass_2 16 rfl rfl)
theorem dX0_pass_65 : decode cX0_pass 65 = .ok (.aload_n 0, 1) := dk_42 (dk_at dksX0_pass_2 19 rfl rfl)
theorem dX0_pass_66 : decode cX0_pass 66 = .ok (.getfield 104, 3) := dk_180 0 104 (dk_at dksX0_pass_2 20 rfl rfl)
theorem dX0_pass_69 : decode cX0_pass 69 = .ok (.getfield 419, 3) := dk_180 1 163 (dk_at dksX0_pass_3 0 rfl rfl)
theorem dX0_pass_72 : decode cX0_pass 72 = .ok (.goto 20, 3) := dk_167 0 20 (dk_at dksX0_pass_3 3 rfl rfl)
theorem dX0_pass_75 : decode cX0_pass 75 = .ok (.iload 5, 2) := dk_21 5 (dk_at dksX0_pass_3 6 rfl rfl)
theorem dX0_pass_77 : decode cX0_pass 77 = .ok (.iconst 2, 1) := dk_5 (dk_at dksX0_pass_3 8 rfl rfl)
theorem dX0_pass_78 : decode cX0_pass 78 = .ok (.if_icmp .ne 13, 3) := dk_160 0 13 (dk_at dksX0_pass_3 9 rfl rfl)
theorem dX0_pass_81 : decode cX0_pass 81 = .ok (.aload_n 0, 1) := dk_42 (dk_at dksX0_pass_3 12 rfl rfl)
theorem dX0_pass_82 : decode cX0_pass 82 = .ok (.getfield 104, 3) := dk_180 0 104 (dk_at dksX0_pass_3 13 rfl rfl)
theorem dX0_pass_85 : decode cX0_pass 85 = .ok (.getfield 422, 3) := dk_180 1 166 (dk_at dksX0_pass_3 16 rfl rfl)
theorem dX0_pass_88 : decode cX0_pass 88 = .ok (.goto 4, 3) := dk_167 0 4 (dk_at dksX0_pass_3 19 rfl rfl)
theorem dX0_pass_91 : decode cX0_pass 91 = .ok (.iconst (-1), 1) := dk_2 (dk_at dksX0_pass_3 22 rfl rfl)
theorem dX0_pass_92 : decode cX0_pass 92 = .ok (.ireturn, 1) := dk_172 (dk_at dksX0_pass_3 23 rfl rfl)
abbrev cX0_isForged : ByteArray := prog_1_method_54_code
def yX0_isForged : MethodName := ⟨RX0, "isForged", "(IIII)Z"⟩
def dkwX0_isForged_1 : List UInt8 := [153, 0, 19, 21, 4, 3, 17, 3, 231, 184, 0, 3, 153, 0, 7, 4, 167, 0, 4, 3, 172]
abbrev dktX0_isForged_1 : List UInt8 := dkwX0_isForged_1 ++ []
def dkwX0_isForged_0 : List UInt8 := [42, 27, 182, 0, 125, 153, 0, 36, 28, 184, 0, 132, 153, 0, 29, 29, 3, 16, 99, 184, 0, 3]
abbrev dktX0_isForged_0 : List UInt8 := dkwX0_isForged_0 ++ dktX0_isForged_1
theorem dksX0_isForged_0 : cX0_isForged.data.toList.drop 0 = dktX0_isForged_0 := by decide +kernel
theorem dksX0_isForged_1 : cX0_isForged.data.toList.drop 22 = dktX0_isForged_1 := dk_seg dksX0_isForged_0 22 rfl rfl
theorem dX0_isForged_0 : decode cX0_isForged 0 = .ok (.aload_n 0, 1) := dk_42 (dk_at dksX0_isForged_0 0 rfl rfl)
theorem dX0_isForged_1 : decode cX0_isForged 1 = .ok (.iload_n 1, 1) := dk_27 (dk_at dksX0_isForged_0 1 rfl rfl)
theorem dX0_isForged_2 : decode cX0_isForged 2 = .ok (.invokevirtual 125, 3) := dk_182 0 125 (dk_at dksX0_isForged_0 2 rfl rfl)
theorem dX0_isForged_5 : decode cX0_isForged 5 = .ok (.ifCond .eq 36, 3) := dk_153 0 36 (dk_at dksX0_isForged_0 5 rfl rfl)
theorem dX0_isForged_8 : decode cX0_isForged 8 = .ok (.iload_n 2, 1) := dk_28 (dk_at dksX0_isForged_0 8 rfl rfl)
theorem dX0_isForged_9 : decode cX0_isForged 9 = .ok (.invokestatic 132, 3) := dk_184 0 132 (dk_at dksX0_isForged_0 9 rfl rfl)
theorem dX0_isForged_12 : decode cX0_isForged 12 = .ok (.ifCond .eq 29, 3) := dk_153 0 29 (dk_at dksX0_isForged_0 12 rfl rfl)
theorem dX0_isForged_15 : decode cX0_isForged 15 = .ok (.iload_n 3, 1) := dk_29 (dk_at dksX0_isForged_0 15 rfl rfl)
theorem dX0_isForged_16 : decode cX0_isForged 16 = .ok (.iconst 0, 1) := dk_3 (dk_at dksX0_isForged_0 16 rfl rfl)
theorem dX0_isForged_17 : decode cX0_isForged 17 = .ok (.bipush 99, 2) := dk_16 99 (dk_at dksX0_isForged_0 17 rfl rfl)
theorem dX0_isForged_19 : decode cX0_isForged 19 = .ok (.invokestatic 3, 3) := dk_184 0 3 (dk_at dksX0_isForged_0 19 rfl rfl)
theorem dX0_isForged_22 : decode cX0_isForged 22 = .ok (.ifCond .eq 19, 3) := dk_153 0 19 (dk_at dksX0_isForged_1 0 rfl rfl)
theorem dX0_isForged_25 : decode cX0_isForged 25 = .ok (.iload 4, 2) := dk_21 4 (dk_at dksX0_isForged_1 3 rfl rfl)
theorem dX0_isForged_27 : decode cX0_isForged 27 = .ok (.iconst 0, 1) := dk_3 (dk_at dksX0_isForged_1 5 rfl rfl)
theorem dX0_isForged_28 : decode cX0_isForged 28 = .ok (.sipush 999, 3) := dk_17 3 231 (dk_at dksX0_isForged_1 6 rfl rfl)
theorem dX0_isForged_31 : decode cX0_isForged 31 = .ok (.invokestatic 3, 3) := dk_184 0 3 (dk_at dksX0_isForged_1 9 rfl rfl)
theorem dX0_isForged_34 : decode cX0_isForged 34 = .ok (.ifCond .eq 7, 3) := dk_153 0 7 (dk_at dksX0_isForged_1 12 rfl rfl)
theorem dX0_isForged_37 : decode cX0_isForged 37 = .ok (.iconst 1, 1) := dk_4 (dk_at dksX0_isForged_1 15 rfl rfl)
theorem dX0_isForged_38 : decode cX0_isForged 38 = .ok (.goto 4, 3) := dk_167 0 4 (dk_at dksX0_isForged_1 16 rfl rfl)
theorem dX0_isForged_41 : decode cX0_isForged 41 = .ok (.iconst 0, 1) := dk_3 (dk_at dksX0_isForged_1 19 rfl rfl)
theorem dX0_isForged_42 : decode cX0_isForged 42 = .ok (.ireturn, 1) := dk_172 (dk_at dksX0_isForged_1 20 rfl rfl)
abbrev cX0_met : ByteArray := prog_1_method_56_code
def yX0_met : MethodName := ⟨RX0, "met", "(IIII)I"⟩
def dkwX0_met_2 : List UInt8 := [154, 0, 6, 21, 5, 172, 132, 5, 1, 167, 255, 218, 2, 172]
abbrev dktX0_met_2 : List UInt8 := dkwX0_met_2 ++ []
def dkwX0_met_1 : List UInt8 := [42, 180, 0, 104, 42, 180, 0, 68, 180, 0, 183, 27, 50, 28, 29, 21, 4, 21, 5, 182, 1, 156]
abbrev dktX0_met_1 : List UInt8 := dkwX0_met_1 ++ dktX0_met_2
def dkwX0_met_0 : List UInt8 := [42, 27, 28, 29, 21, 4, 182, 1, 152, 154, 0, 5, 2, 172, 3, 54, 5, 21, 5, 16, 60, 163, 0, 37]
abbrev dktX0_met_0 : List UInt8 := dkwX0_met_0 ++ dktX0_met_1
theorem dksX0_met_0 : cX0_met.data.toList.drop 0 = dktX0_met_0 := by decide +kernel
theorem dksX0_met_1 : cX0_met.data.toList.drop 24 = dktX0_met_1 := dk_seg dksX0_met_0 24 rfl rfl
theorem dksX0_met_2 : cX0_met.data.toList.drop 46 = dktX0_met_2 := dk_seg dksX0_met_1 22 rfl rfl
theorem dX0_met_0 : decode cX0_met 0 = .ok (.aload_n 0, 1) := dk_42 (dk_at dksX0_met_0 0 rfl rfl)
theorem dX0_met_1 : decode cX0_met 1 = .ok (.iload_n 1, 1) := dk_27 (dk_at dksX0_met_0 1 rfl rfl)
theorem dX0_met_2 : decode cX0_met 2 = .ok (.iload_n 2, 1) := dk_28 (dk_at dksX0_met_0 2 rfl rfl)
theorem dX0_met_3 : decode cX0_met 3 = .ok (.iload_n 3, 1) := dk_29 (dk_at dksX0_met_0 3 rfl rfl)
theorem dX0_met_4 : decode cX0_met 4 = .ok (.iload 4, 2) := dk_21 4 (dk_at dksX0_met_0 4 rfl rfl)
theorem dX0_met_6 : decode cX0_met 6 = .ok (.invokevirtual 408, 3) := dk_182 1 152 (dk_at dksX0_met_0 6 rfl rfl)
theorem dX0_met_9 : decode cX0_met 9 = .ok (.ifCond .ne 5, 3) := dk_154 0 5 (dk_at dksX0_met_0 9 rfl rfl)
theorem dX0_met_12 : decode cX0_met 12 = .ok (.iconst (-1), 1) := dk_2 (dk_at dksX0_met_0 12 rfl rfl)
theorem dX0_met_13 : decode cX0_met 13 = .ok (.ireturn, 1) := dk_172 (dk_at dksX0_met_0 13 rfl rfl)
theorem dX0_met_14 : decode cX0_met 14 = .ok (.iconst 0, 1) := dk_3 (dk_at dksX0_met_0 14 rfl rfl)
theorem dX0_met_15 : decode cX0_met 15 = .ok (.istore 5, 2) := dk_54 5 (dk_at dksX0_met_0 15 rfl rfl)
theorem dX0_met_17 : decode cX0_met 17 = .ok (.iload 5, 2) := dk_21 5 (dk_at dksX0_met_0 17 rfl rfl)
theorem dX0_met_19 : decode cX0_met 19 = .ok (.bipush 60, 2) := dk_16 60 (dk_at dksX0_met_0 19 rfl rfl)
theorem dX0_met_21 : decode cX0_met 21 = .ok (.if_icmp .gt 37, 3) := dk_163 0 37 (dk_at dksX0_met_0 21 rfl rfl)
theorem dX0_met_24 : decode cX0_met 24 = .ok (.aload_n 0, 1) := dk_42 (dk_at dksX0_met_1 0 rfl rfl)
theorem dX0_met_25 : decode cX0_met 25 = .ok (.getfield 104, 3) := dk_180 0 104 (dk_at dksX0_met_1 1 rfl rfl)
theorem dX0_met_28 : decode cX0_met 28 = .ok (.aload_n 0, 1) := dk_42 (dk_at dksX0_met_1 4 rfl rfl)
theorem dX0_met_29 : decode cX0_met 29 = .ok (.getfield 68, 3) := dk_180 0 68 (dk_at dksX0_met_1 5 rfl rfl)
theorem dX0_met_32 : decode cX0_met 32 = .ok (.getfield 183, 3) := dk_180 0 183 (dk_at dksX0_met_1 8 rfl rfl)
theorem dX0_met_35 : decode cX0_met 35 = .ok (.iload_n 1, 1) := dk_27 (dk_at dksX0_met_1 11 rfl rfl)
theorem dX0_met_36 : decode cX0_met 36 = .ok (.aaload, 1) := dk_50 (dk_at dksX0_met_1 12 rfl rfl)
theorem dX0_met_37 : decode cX0_met 37 = .ok (.iload_n 2, 1) := dk_28 (dk_at dksX0_met_1 13 rfl rfl)
theorem dX0_met_38 : decode cX0_met 38 = .ok (.iload_n 3, 1) := dk_29 (dk_at dksX0_met_1 14 rfl rfl)
theorem dX0_met_39 : decode cX0_met 39 = .ok (.iload 4, 2) := dk_21 4 (dk_at dksX0_met_1 15 rfl rfl)
theorem dX0_met_41 : decode cX0_met 41 = .ok (.iload 5, 2) := dk_21 5 (dk_at dksX0_met_1 17 rfl rfl)
theorem dX0_met_43 : decode cX0_met 43 = .ok (.invokevirtual 412, 3) := dk_182 1 156 (dk_at dksX0_met_1 19 rfl rfl)
theorem dX0_met_46 : decode cX0_met 46 = .ok (.ifCond .ne 6, 3) := dk_154 0 6 (dk_at dksX0_met_2 0 rfl rfl)
theorem dX0_met_49 : decode cX0_met 49 = .ok (.iload 5, 2) := dk_21 5 (dk_at dksX0_met_2 3 rfl rfl)
theorem dX0_met_51 : decode cX0_met 51 = .ok (.ireturn, 1) := dk_172 (dk_at dksX0_met_2 5 rfl rfl)
theorem dX0_met_52 : decode cX0_met 52 = .ok (.iinc 5 1, 3) := dk_132 5 1 (dk_at dksX0_met_2 6 rfl rfl)
theorem dX0_met_55 : decode cX0_met 55 = .ok (.goto (-38), 3) := dk_167 255 218 (dk_at dksX0_met_2 9 rfl rfl)
theorem dX0_met_58 : decode cX0_met 58 = .ok (.iconst (-1), 1) := dk_2 (dk_at dksX0_met_2 12 rfl rfl)
theorem dX0_met_59 : decode cX0_met 59 = .ok (.ireturn, 1) := dk_172 (dk_at dksX0_met_2 13 rfl rfl)
abbrev cX0_odds : ByteArray := prog_1_method_60_code
def yX0_odds : MethodName := ⟨RX0, "odds", "(III)I"⟩
def dkwX0_odds_2 : List UInt8 := [182, 1, 175, 167, 0, 4, 2, 172]
abbrev dktX0_odds_2 : List UInt8 := dkwX0_odds_2 ++ []
def dkwX0_odds_1 : List UInt8 := [167, 0, 30, 29, 154, 0, 12, 42, 27, 28, 182, 1, 172, 167, 0, 17, 29, 4, 160, 0, 11, 42, 28]
abbrev dktX0_odds_1 : List UInt8 := dkwX0_odds_1 ++ dktX0_odds_2
def dkwX0_odds_0 : List UInt8 := [42, 27, 182, 0, 125, 153, 0, 16, 42, 28, 182, 0, 125, 153, 0, 8, 27, 28, 160, 0, 7, 2]
abbrev dktX0_odds_0 : List UInt8 := dkwX0_odds_0 ++ dktX0_odds_1
theorem dksX0_odds_0 : cX0_odds.data.toList.drop 0 = dktX0_odds_0 := by decide +kernel
theorem dksX0_odds_1 : cX0_odds.data.toList.drop 22 = dktX0_odds_1 := dk_seg dksX0_odds_0 22 rfl rfl
theorem dksX0_odds_2 : cX0_odds.data.toList.drop 45 = dktX0_odds_2 := dk_seg dksX0_odds_1 23 rfl rfl
theorem dX0_odds_0 : decode cX0_odds 0 = .ok (.aload_n 0, 1) := dk_42 (dk_at dksX0_odds_0 0 rfl rfl)
theorem dX0_odds_1 : decode cX0_odds 1 = .ok (.iload_n 1, 1) := dk_27 (dk_at dksX0_odds_0 1 rfl rfl)
theorem dX0_odds_2 : decode cX0_odds 2 = .ok (.invokevirtual 125, 3) := dk_182 0 125 (dk_at dksX0_odds_0 2 rfl rfl)
theorem dX0_odds_5 : decode cX0_odds 5 = .ok (.ifCond .eq 16, 3) := dk_153 0 16 (dk_at dksX0_odds_0 5 rfl rfl)
theorem dX0_odds_8 : decode cX0_odds 8 = .ok (.aload_n 0, 1) := dk_42 (dk_at dksX0_odds_0 8 rfl rfl)
theorem dX0_odds_9 : decode cX0_odds 9 = .ok (.iload_n 2, 1) := dk_28 (dk_at dksX0_odds_0 9 rfl rfl)
theorem dX0_odds_10 : decode cX0_odds 10 = .ok (.invokevirtual 125, 3) := dk_182 0 125 (dk_at dksX0_odds_0 10 rfl rfl)
theorem dX0_odds_13 : decode cX0_odds 13 = .ok (.ifCond .eq 8, 3) := dk_153 0 8 (dk_at dksX0_odds_0 13 rfl rfl)
theorem dX0_odds_16 : decode cX0_odds 16 = .ok (.iload_n 1, 1) := dk_27 (dk_at dksX0_odds_0 16 rfl rfl)
theorem dX0_odds_17 : decode cX0_odds 17 = .ok (.iload_n 2, 1) := dk_28 (dk_at dksX0_odds_0 17 rfl rfl)
theorem dX0_odds_18 : decode cX0_odds 18 = .ok (.if_icmp .ne 7, 3) := dk_160 0 7 (dk_at dksX0_odds_0 18 rfl rfl)
theorem dX0_odds_21 : decode cX0_odds 21 = .ok (.iconst (-1), 1) := dk_2 (dk_at dksX0_odds_0 21 rfl rfl)
theorem dX0_odds_22 : decode cX0_odds 22 = .ok (.goto 30, 3) := dk_167 0 30 (dk_at dksX0_odds_1 0 rfl rfl)
theorem dX0_odds_25 : decode cX0_odds 25 = .ok (.iload_n 3, 1) := dk_29 (dk_at dksX0_odds_1 3 rfl rfl)
theorem dX0_odds_26 : decode cX0_odds 26 = .ok (.ifCond .ne 12, 3) := dk_154 0 12 (dk_at dksX0_odds_1 4 rfl rfl)
theorem dX0_odds_29 : decode cX0_odds 29 = .ok (.aload_n 0, 1) := dk_42 (dk_at dksX0_odds_1 7 rfl rfl)
theorem dX0_odds_30 : decode cX0_odds 30 = .ok (.iload_n 1, 1) := dk_27 (dk_at dksX0_odds_1 8 rfl rfl)
theorem dX0_odds_31 : decode cX0_odds 31 = .ok (.iload_n 2, 1) := dk_28 (dk_at dksX0_odds_1 9 rfl rfl)
theorem dX0_odds_32 : decode cX0_odds 32 = .ok (.invokevirtual 428, 3) := dk_182 1 172 (dk_at dksX0_odds_1 10 rfl rfl)
theorem dX0_odds_35 : decode cX0_odds 35 = .ok (.goto 17, 3) := dk_167 0 17 (dk_at dksX0_odds_1 13 rfl rfl)
theorem dX0_odds_38 : decode cX0_odds 38 = .ok (.iload_n 3, 1) := dk_29 (dk_at dksX0_odds_1 16 rfl rfl)
theorem dX0_odds_39 : decode cX0_odds 39 = .ok (.iconst 1, 1) := dk_4 (dk_at dksX0_odds_1 17 rfl rfl)
theorem dX0_odds_40 : decode cX0_odds 40 = .ok (.if_icmp .ne 11, 3) := dk_160 0 11 (dk_at dksX0_odds_1 18 rfl rfl)
theorem dX0_odds_43 : decode cX0_odds 43 = .ok (.aload_n 0, 1) := dk_42 (dk_at dksX0_odds_1 21 rfl rfl)
theorem dX0_odds_44 : decode cX0_odds 44 = .ok (.iload_n 2, 1) := dk_28 (dk_at dksX0_odds_1 22 rfl rfl)
theorem dX0_odds_45 : decode cX0_odds 45 = .ok (.invokevirtual 431, 3) := dk_182 1 175 (dk_at dksX0_odds_2 0 rfl rfl)
theorem dX0_odds_48 : decode cX0_odds 48 = .ok (.goto 4, 3) := dk_167 0 4 (dk_at dksX0_odds_2 3 rfl rfl)
theorem dX0_odds_51 : decode cX0_odds 51 = .ok (.iconst (-1), 1) := dk_2 (dk_at dksX0_odds_2 6 rfl rfl)
theorem dX0_odds_52 : decode cX0_odds 52 = .ok (.ireturn, 1) := dk_172 (dk_at dksX0_odds_2 7 rfl rfl)
abbrev cX0_waysOf : ByteArray := prog_1_method_58_code
def yX0_waysOf : MethodName := ⟨RX0, "waysOf", "(II)I"⟩
def dkwX0_waysOf_4 : List UInt8 := [96, 54, 5, 132, 6, 1, 167, 255, 222, 21, 5, 172]
abbrev dktX0_waysOf_4 : List UInt8 := dkwX0_waysOf_4 ++ []
def dkwX0_waysOf_3 : List UInt8 := [163, 0, 33, 21, 5, 29, 21, 6, 184, 1, 169, 16, 20, 29, 100, 21, 4, 21, 6, 100, 184, 1, 169, 104]
abbrev dktX0_waysOf_3 : List UInt8 := dkwX0_waysOf_3 ++ dktX0_waysOf_4
def dkwX0_waysOf_2 : List UInt8 := [42, 180, 0, 68, 180, 0, 183, 28, 50, 180, 0, 250, 126, 184, 1, 80, 54, 6, 21, 6, 21, 4]
abbrev dktX0_waysOf_2 : List UInt8 := dkwX0_waysOf_2 ++ dktX0_waysOf_3
def dkwX0_waysOf_1 : List UInt8 := [50, 180, 0, 250, 184, 1, 80, 54, 4, 3, 54, 5, 42, 180, 0, 68, 180, 0, 183, 27, 50, 180, 0, 250]
abbrev dktX0_waysOf_1 : List UInt8 := dkwX0_waysOf_1 ++ dktX0_waysOf_2
def dkwX0_waysOf_0 : List UInt8 := [42, 180, 0, 68, 180, 0, 183, 27, 50, 180, 0, 250, 184, 1, 80, 62, 42, 180, 0, 68, 180, 0, 183, 28]
abbrev dktX0_waysOf_0 : List UInt8 := dkwX0_waysOf_0 ++ dktX0_waysOf_1
theorem dksX0_waysOf_0 : cX0_waysOf.data.toList.drop 0 = dktX0_waysOf_0 := by decide +kernel
theorem dksX0_waysOf_1 : cX0_waysOf.data.toList.drop 24 = dktX0_waysOf_1 := dk_seg dksX0_waysOf_0 24 rfl rfl
theorem dksX0_waysOf_2 : cX0_waysOf.data.toList.drop 48 = dktX0_waysOf_2 := dk_seg dksX0_waysOf_1 24 rfl rfl
theorem dksX0_waysOf_3 : cX0_waysOf.data.toList.drop 70 = dktX0_waysOf_3 := dk_seg dksX0_waysOf_2 22 rfl rfl
theorem dksX0_waysOf_4 : cX0_waysOf.data.toList.drop 94 = dktX0_waysOf_4 := dk_seg dksX0_waysOf_3 24 rfl rfl
theorem dX0_waysOf_0 : decode cX0_waysOf 0 = .ok (.aload_n 0, 1) := dk_42 (dk_at dksX0_waysOf_0 0 rfl rfl)
theorem dX0_waysOf_1 : decode cX0_waysOf 1 = .ok (.getfield 68, 3) := dk_180 0 68 (dk_at dksX0_waysOf_0 1 rfl rfl)
theorem dX0_waysOf_4 : decode cX0_waysOf 4 = .ok (.getfield 183, 3) := dk_180 0 183 (dk_at dksX0_waysOf_0 4 rfl rfl)
theorem dX0_waysOf_7 : decode cX0_waysOf 7 = .ok (.iload_n 1, 1) := dk_27 (dk_at dksX0_waysOf_0 7 rfl rfl)
theorem dX0_waysOf_8 : decode cX0_waysOf 8 = .ok (.aaload, 1) := dk_50 (dk_at dksX0_waysOf_0 8 rfl rfl)
theorem dX0_waysOf_9 : decode cX0_waysOf 9 = .ok (.getfield 250, 3) := dk_180 0 250 (dk_at dksX0_waysOf_0 9 rfl rfl)
theorem dX0_waysOf_12 : decode cX0_waysOf 12 = .ok (.invokestatic 336, 3) := dk_184 1 80 (dk_at dksX0_waysOf_0 12 rfl rfl)
theorem dX0_waysOf_15 : decode cX0_waysOf 15 = .ok (.istore_n 3, 1) := dk_62 (dk_at dksX0_waysOf_0 15 rfl rfl)
theorem dX0_waysOf_16 : decode cX0_waysOf 16 = .ok (.aload_n 0, 1) := dk_42 (dk_at dksX0_waysOf_0 16 rfl rfl)
theorem dX0_waysOf_17 : decode cX0_waysOf 17 = .ok (.getfield 68, 3) := dk_180 0 68 (dk_at dksX0_waysOf_0 17 rfl rfl)
theorem dX0_waysOf_20 : decode cX0_waysOf 20 = .ok (.getfield 183, 3) := dk_180 0 183 (dk_at dksX0_waysOf_0 20 rfl rfl)
theorem dX0_waysOf_23 : decode cX0_waysOf 23 = .ok (.iload_n 2, 1) := dk_28 (dk_at dksX0_waysOf_0 23 rfl rfl)
theorem dX0_waysOf_24 : decode cX0_waysOf 24 = .ok (.aaload, 1) := dk_50 (dk_at dksX0_waysOf_1 0 rfl rfl)
theorem dX0_waysOf_25 : decode cX0_waysOf 25 = .ok (.getfield 250, 3) := dk_180 0 250 (dk_at dksX0_waysOf_1 1 rfl rfl)
theorem dX0_waysOf_28 : decode cX0_waysOf 28 = .ok (.invokestatic 336, 3) := dk_184 1 80 (dk_at dksX0_waysOf_1 4 rfl rfl)
theorem dX0_waysOf_31 : decode cX0_waysOf 31 = .ok (.istore 4, 2) := dk_54 4 (dk_at dksX0_waysOf_1 7 rfl rfl)
theorem dX0_waysOf_33 : decode cX0_waysOf 33 = .ok (.iconst 0, 1) := dk_3 (dk_at dksX0_waysOf_1 9 rfl rfl)
theorem dX0_waysOf_34 : decode cX0_waysOf 34 = .ok (.istore 5, 2) := dk_54 5 (dk_at dksX0_waysOf_1 10 rfl rfl)
theorem dX0_waysOf_36 : decode cX0_waysOf 36 = .ok (.aload_n 0, 1) := dk_42 (dk_at dksX0_waysOf_1 12 rfl rfl)
theorem dX0_waysOf_37 : decode cX0_waysOf 37 = .ok (.getfield 68, 3) := dk_180 0 68 (dk_at dksX0_waysOf_1 13 rfl rfl)
theorem dX0_waysOf_40 : decode cX0_waysOf 40 = .ok (.getfield 183, 3) := dk_180 0 183 (dk_at dksX0_waysOf_1 16 rfl rfl)
theorem dX0_waysOf_43 : decode cX0_waysOf 43 = .ok (.iload_n 1, 1) := dk_27 (dk_at dksX0_waysOf_1 19 rfl rfl)
theorem dX0_waysOf_44 : decode cX0_waysOf 44 = .ok (.aaload, 1) := dk_50 (dk_at dksX0_waysOf_1 20 rfl rfl)
theorem dX0_waysOf_45 : decode cX0_waysOf 45 = .ok (.getfield 250, 3) := dk_180 0 250 (dk_at dksX0_waysOf_1 21 rfl rfl)
theorem dX0_waysOf_48 : decode cX0_waysOf 48 = .ok (.aload_n 0, 1) := dk_42 (dk_at dksX0_waysOf_2 0 rfl rfl)
theorem dX0_waysOf_49 : decode cX0_waysOf 49 = .ok (.getfield 68, 3) := dk_180 0 68 (dk_at dksX0_waysOf_2 1 rfl rfl)
theorem dX0_waysOf_52 : decode cX0_waysOf 52 = .ok (.getfield 183, 3) := dk_180 0 183 (dk_at dksX0_waysOf_2 4 rfl rfl)
theorem dX0_waysOf_55 : decode cX0_waysOf 55 = .ok (.iload_n 2, 1) := dk_28 (dk_at dksX0_waysOf_2 7 rfl rfl)
theorem dX0_waysOf_56 : decode cX0_waysOf 56 = .ok (.aaload, 1) := dk_50 (dk_at dksX0_waysOf_2 8 rfl rfl)
theorem dX0_waysOf_57 : decode cX0_waysOf 57 = .ok (.getfield 250, 3) := dk_180 0 250 (dk_at dksX0_waysOf_2 9 rfl rfl)
theorem dX0_waysOf_60 : decode cX0_waysOf 60 = .ok (.iand, 1) := dk_126 (dk_at dksX0_waysOf_2 12 rfl rfl)
theorem dX0_waysOf_61 : decode cX0_waysOf 61 = .ok (.invokestatic 336, 3) := dk_184 1 80 (dk_at dksX0_waysOf_2 13 rfl rfl)
theorem dX0_waysOf_64 : decode cX0_waysOf 64 = .ok (.istore 6, 2) := dk_54 6 (dk_at dksX0_waysOf_2 16 rfl rfl)
theorem dX0_waysOf_66 : decode cX0_waysOf 66 = .ok (.iload 6, 2) := dk_21 6 (dk_at dksX0_waysOf_2 18 rfl rfl)
theorem dX0_waysOf_68 : decode cX0_waysOf 68 = .ok (.iload 4, 2) := dk_21 4 (dk_at dksX0_waysOf_2 20 rfl rfl)
theorem dX0_waysOf_70 : decode cX0_waysOf 70 = .ok (.if_icmp .gt 33, 3) := dk_163 0 33 (dk_at dksX0_waysOf_3 0 rfl rfl)
theorem dX0_waysOf_73 : decode cX0_waysOf 73 = .ok (.iload 5, 2) := dk_21 5 (dk_at dksX0_waysOf_3 3 rfl rfl)
theorem dX0_waysOf_75 : decode cX0_waysOf 75 = .ok (.iload_n 3, 1) := dk_29 (dk_at dksX0_waysOf_3 5 rfl rfl)
theorem dX0_waysOf_76 : decode cX0_waysOf 76 = .ok (.iload 6, 2) := dk_21 6 (dk_at dksX0_waysOf_3 6 rfl rfl)
theorem dX0_waysOf_78 : decode cX0_waysOf 78 = .ok (.invokestatic 425, 3) := dk_184 1 169 (dk_at dksX0_waysOf_3 8 rfl rfl)
theorem dX0_waysOf_81 : decode cX0_waysOf 81 = .ok (.bipush 20, 2) := dk_16 20 (dk_at dksX0_waysOf_3 11 rfl rfl)
theorem dX0_waysOf_83 : decode cX0_waysOf 83 = .ok (.iload_n 3, 1) := dk_29 (dk_at dksX0_waysOf_3 13 rfl rfl)
theorem dX0_waysOf_84 : decode cX0_waysOf 84 = .ok (.isub, 1) := dk_100 (dk_at dksX0_waysOf_3 14 rfl rfl)
theorem dX0_waysOf_85 : decode cX0_waysOf 85 = .ok (.iload 4, 2) := dk_21 4 (dk_at dksX0_waysOf_3 15 rfl rfl)
theorem dX0_waysOf_87 : decode cX0_waysOf 87 = .ok (.iload 6, 2) := dk_21 6 (dk_at dksX0_waysOf_3 17 rfl rfl)
theorem dX0_waysOf_89 : decode cX0_waysOf 89 = .ok (.isub, 1) := dk_100 (dk_at dksX0_waysOf_3 19 rfl rfl)
theorem dX0_waysOf_90 : decode cX0_waysOf 90 = .ok (.invokestatic 425, 3) := dk_184 1 169 (dk_at dksX0_waysOf_3 20 rfl rfl)
theorem dX0_waysOf_93 : decode cX0_waysOf 93 = .ok (.imul, 1) := dk_104 (dk_at dksX0_waysOf_3 23 rfl rfl)
theorem dX0_waysOf_94 : decode cX0_waysOf 94 = .ok (.iadd, 1) := dk_96 (dk_at dksX0_waysOf_4 0 rfl rfl)
theorem dX0_waysOf_95 : decode cX0_waysOf 95 = .ok (.istore 5, 2) := dk_54 5 (dk_at dksX0_waysOf_4 1 rfl rfl)
theorem dX0_waysOf_97 : decode cX0_waysOf 97 = .ok (.iinc 6 1, 3) := dk_132 6 1 (dk_at dksX0_waysOf_4 3 rfl rfl)
theorem dX0_waysOf_100 : decode cX0_waysOf 100 = .ok (.goto (-34), 3) := dk_167 255 222 (dk_at dksX0_waysOf_4 6 rfl rfl)
theorem dX0_waysOf_103 : decode cX0_waysOf 103 = .ok (.iload 5, 2) := dk_21 5 (dk_at dksX0_waysOf_4 9 rfl rfl)
theorem dX0_waysOf_105 : decode cX0_waysOf 105 = .ok (.ireturn, 1) := dk_172 (dk_at dksX0_waysOf_4 11 rfl rfl)
abbrev cX0_choose : ByteArray := prog_1_method_57_code
def yX0_choose : MethodName := ⟨RX0, "choose", "(II)I"⟩
def dkwX0_choose_1 : List UInt8 := [27, 100, 21, 4, 96, 133, 105, 21, 4, 133, 109, 65, 132, 4, 1, 167, 255, 233, 32, 136, 172]
abbrev dktX0_choose_1 : List UInt8 := dkwX0_choose_1 ++ []
def dkwX0_choose_0 : List UInt8 := [27, 155, 0, 8, 27, 26, 164, 0, 5, 3, 172, 10, 65, 4, 54, 4, 21, 4, 27, 163, 0, 23, 32, 26]
abbrev dktX0_choose_0 : List UInt8 := dkwX0_choose_0 ++ dktX0_choose_1
theorem dksX0_choose_0 : cX0_choose.data.toList.drop 0 = dktX0_choose_0 := by decide +kernel
theorem dksX0_choose_1 : cX0_choose.data.toList.drop 24 = dktX0_choose_1 := dk_seg dksX0_choose_0 24 rfl rfl
theorem dX0_choose_0 : decode cX0_choose 0 = .ok (.iload_n 1, 1) := dk_27 (dk_at dksX0_choose_0 0 rfl rfl)
theorem dX0_choose_1 : decode cX0_choose 1 = .ok (.ifCond .lt 8, 3) := dk_155 0 8 (dk_at dksX0_choose_0 1 rfl rfl)
theorem dX0_choose_4 : decode cX0_choose 4 = .ok (.iload_n 1, 1) := dk_27 (dk_at dksX0_choose_0 4 rfl rfl)
theorem dX0_choose_5 : decode cX0_choose 5 = .ok (.iload_n 0, 1) := dk_26 (dk_at dksX0_choose_0 5 rfl rfl)
theorem dX0_choose_6 : decode cX0_choose 6 = .ok (.if_icmp .le 5, 3) := dk_164 0 5 (dk_at dksX0_choose_0 6 rfl rfl)
theorem dX0_choose_9 : decode cX0_choose 9 = .ok (.iconst 0, 1) := dk_3 (dk_at dksX0_choose_0 9 rfl rfl)
theorem dX0_choose_10 : decode cX0_choose 10 = .ok (.ireturn, 1) := dk_172 (dk_at dksX0_choose_0 10 rfl rfl)
theorem dX0_choose_11 : decode cX0_choose 11 = .ok (.lconst 1, 1) := dk_10 (dk_at dksX0_choose_0 11 rfl rfl)
theorem dX0_choose_12 : decode cX0_choose 12 = .ok (.lstore_n 2, 1) := dk_65 (dk_at dksX0_choose_0 12 rfl rfl)
theorem dX0_choose_13 : decode cX0_choose 13 = .ok (.iconst 1, 1) := dk_4 (dk_at dksX0_choose_0 13 rfl rfl)
theorem dX0_choose_14 : decode cX0_choose 14 = .ok (.istore 4, 2) := dk_54 4 (dk_at dksX0_choose_0 14 rfl rfl)
theorem dX0_choose_16 : decode cX0_choose 16 = .ok (.iload 4, 2) := dk_21 4 (dk_at dksX0_choose_0 16 rfl rfl)
theorem dX0_choose_18 : decode cX0_choose 18 = .ok (.iload_n 1, 1) := dk_27 (dk_at dksX0_choose_0 18 rfl rfl)
theorem dX0_choose_19 : decode cX0_choose 19 = .ok (.if_icmp .gt 23, 3) := dk_163 0 23 (dk_at dksX0_choose_0 19 rfl rfl)
theorem dX0_choose_22 : decode cX0_choose 22 = .ok (.lload_n 2, 1) := dk_32 (dk_at dksX0_choose_0 22 rfl rfl)
theorem dX0_choose_23 : decode cX0_choose 23 = .ok (.iload_n 0, 1) := dk_26 (dk_at dksX0_choose_0 23 rfl rfl)
theorem dX0_choose_24 : decode cX0_choose 24 = .ok (.iload_n 1, 1) := dk_27 (dk_at dksX0_choose_1 0 rfl rfl)
theorem dX0_choose_25 : decode cX0_choose 25 = .ok (.isub, 1) := dk_100 (dk_at dksX0_choose_1 1 rfl rfl)
theorem dX0_choose_26 : decode cX0_choose 26 = .ok (.iload 4, 2) := dk_21 4 (dk_at dksX0_choose_1 2 rfl rfl)
theorem dX0_choose_28 : decode cX0_choose 28 = .ok (.iadd, 1) := dk_96 (dk_at dksX0_choose_1 4 rfl rfl)
theorem dX0_choose_29 : decode cX0_choose 29 = .ok (.i2l, 1) := dk_133 (dk_at dksX0_choose_1 5 rfl rfl)
theorem dX0_choose_30 : decode cX0_choose 30 = .ok (.lmul, 1) := dk_105 (dk_at dksX0_choose_1 6 rfl rfl)
theorem dX0_choose_31 : decode cX0_choose 31 = .ok (.iload 4, 2) := dk_21 4 (dk_at dksX0_choose_1 7 rfl rfl)
theorem dX0_choose_33 : decode cX0_choose 33 = .ok (.i2l, 1) := dk_133 (dk_at dksX0_choose_1 9 rfl rfl)
theorem dX0_choose_34 : decode cX0_choose 34 = .ok (.ldiv, 1) := dk_109 (dk_at dksX0_choose_1 10 rfl rfl)
theorem dX0_choose_35 : decode cX0_choose 35 = .ok (.lstore_n 2, 1) := dk_65 (dk_at dksX0_choose_1 11 rfl rfl)
theorem dX0_choose_36 : decode cX0_choose 36 = .ok (.iinc 4 1, 3) := dk_132 4 1 (dk_at dksX0_choose_1 12 rfl rfl)
theorem dX0_choose_39 : decode cX0_choose 39 = .ok (.goto (-23), 3) := dk_167 255 233 (dk_at dksX0_choose_1 15 rfl rfl)
theorem dX0_choose_42 : decode cX0_choose 42 = .ok (.lload_n 2, 1) := dk_32 (dk_at dksX0_choose_1 18 rfl rfl)
theorem dX0_choose_43 : decode cX0_choose 43 = .ok (.l2i, 1) := dk_136 (dk_at dksX0_choose_1 19 rfl rfl)
theorem dX0_choose_44 : decode cX0_choose 44 = .ok (.ireturn, 1) := dk_172 (dk_at dksX0_choose_1 20 rfl rfl)
abbrev cX0_dealsOf : ByteArray := prog_1_method_59_code
def yX0_dealsOf : MethodName := ⟨RX0, "dealsOf", "(I)I"⟩
def dkwX0_dealsOf_0 : List UInt8 := [16, 20, 42, 180, 0, 68, 180, 0, 183, 27, 50, 180, 0, 250, 184, 1, 80, 184, 1, 169, 172]
abbrev dktX0_dealsOf_0 : List UInt8 := dkwX0_dealsOf_0 ++ []
theorem dksX0_dealsOf_0 : cX0_dealsOf.data.toList.drop 0 = dktX0_dealsOf_0 := by decide +kernel
theorem dX0_dealsOf_0 : decode cX0_dealsOf 0 = .ok (.bipush 20, 2) := dk_16 20 (dk_at dksX0_dealsOf_0 0 rfl rfl)
theorem dX0_dealsOf_2 : decode cX0_dealsOf 2 = .ok (.aload_n 0, 1) := dk_42 (dk_at dksX0_dealsOf_0 2 rfl rfl)
theorem dX0_dealsOf_3 : decode cX0_dealsOf 3 = .ok (.getfield 68, 3) := dk_180 0 68 (dk_at dksX0_dealsOf_0 3 rfl rfl)
theorem dX0_dealsOf_6 : decode cX0_dealsOf 6 = .ok (.getfield 183, 3) := dk_180 0 183 (dk_at dksX0_dealsOf_0 6 rfl rfl)
theorem dX0_dealsOf_9 : decode cX0_dealsOf 9 = .ok (.iload_n 1, 1) := dk_27 (dk_at dksX0_dealsOf_0 9 rfl rfl)
theorem dX0_dealsOf_10 : decode cX0_dealsOf 10 = .ok (.aaload, 1) := dk_50 (dk_at dksX0_dealsOf_0 10 rfl rfl)
theorem dX0_dealsOf_11 : decode cX0_dealsOf 11 = .ok (.getfield 250, 3) := dk_180 0 250 (dk_at dksX0_dealsOf_0 11 rfl rfl)
theorem dX0_dealsOf_14 : decode cX0_dealsOf 14 = .ok (.invokestatic 336, 3) := dk_184 1 80 (dk_at dksX0_dealsOf_0 14 rfl rfl)
theorem dX0_dealsOf_17 : decode cX0_dealsOf 17 = .ok (.invokestatic 425, 3) := dk_184 1 169 (dk_at dksX0_dealsOf_0 17 rfl rfl)
theorem dX0_dealsOf_20 : decode cX0_dealsOf 20 = .ok (.ireturn, 1) := dk_172 (dk_at dksX0_dealsOf_0 20 rfl rfl)
abbrev cX0_ring : ByteArray := prog_1_method_61_code
def yX0_ring : MethodName := ⟨RX0, "ring", "(II)I"⟩
def dkwX0_ring_7 : List UInt8 := [132, 5, 1, 167, 255, 131, 167, 255, 116, 29, 172]
abbrev dktX0_ring_7 : List UInt8 := dkwX0_ring_7 ++ []
def dkwX0_ring_6 : List UInt8 := [42, 21, 6, 182, 1, 175, 133, 148, 157, 0, 10, 29, 4, 21, 6, 120, 128, 62, 132, 6, 1, 167, 255, 152]
abbrev dktX0_ring_6 : List UInt8 := dkwX0_ring_6 ++ dktX0_ring_7
def dkwX0_ring_5 : List UInt8 := [21, 5, 21, 6, 159, 0, 38, 21, 7, 153, 0, 33, 42, 21, 5, 21, 6, 182, 1, 172, 133, 28, 133, 105]
abbrev dktX0_ring_5 : List UInt8 := dkwX0_ring_5 ++ dktX0_ring_6
def dkwX0_ring_4 : List UInt8 := [180, 0, 68, 180, 0, 183, 21, 6, 50, 180, 0, 250, 126, 153, 0, 7, 4, 167, 0, 4, 3, 54, 7]
abbrev dktX0_ring_4 : List UInt8 := dkwX0_ring_4 ++ dktX0_ring_5
def dkwX0_ring_3 : List UInt8 := [21, 5, 122, 4, 126, 153, 0, 88, 42, 180, 0, 68, 180, 0, 183, 21, 5, 50, 180, 0, 250, 42]
abbrev dktX0_ring_3 : List UInt8 := dkwX0_ring_3 ++ dktX0_ring_4
def dkwX0_ring_2 : List UInt8 := [180, 0, 122, 162, 0, 119, 3, 54, 6, 21, 6, 42, 180, 0, 68, 180, 0, 122, 162, 0, 98, 21, 4]
abbrev dktX0_ring_2 : List UInt8 := dkwX0_ring_2 ++ dktX0_ring_3
def dkwX0_ring_1 : List UInt8 := [62, 3, 54, 4, 29, 21, 4, 159, 0, 140, 29, 54, 4, 3, 54, 5, 21, 5, 42, 180, 0, 68]
abbrev dktX0_ring_1 : List UInt8 := dkwX0_ring_1 ++ dktX0_ring_2
def dkwX0_ring_0 : List UInt8 := [42, 27, 182, 0, 125, 153, 0, 14, 28, 4, 17, 39, 15, 184, 0, 3, 154, 0, 5, 2, 172, 4, 27, 120]
abbrev dktX0_ring_0 : List UInt8 := dkwX0_ring_0 ++ dktX0_ring_1
theorem dksX0_ring_0 : cX0_ring.data.toList.drop 0 = dktX0_ring_0 := by decide +kernel
theorem dksX0_ring_1 : cX0_ring.data.toList.drop 24 = dktX0_ring_1 := dk_seg dksX0_ring_0 24 rfl rfl
theorem dksX0_ring_2 : cX0_ring.data.toList.drop 46 = dktX0_ring_2 := dk_seg dksX0_ring_1 22 rfl rfl
theorem dksX0_ring_3 : cX0_ring.data.toList.drop 69 = dktX0_ring_3 := dk_seg dksX0_ring_2 23 rfl rfl
theorem dksX0_ring_4 : cX0_ring.data.toList.drop 91 = dktX0_ring_4 := dk_seg dksX0_ring_3 22 rfl rfl
theorem dksX0_ring_5 : cX0_ring.data.toList.drop 114 = dktX0_ring_5 := dk_seg dksX0_ring_4 23 rfl rfl
theorem dksX0_ring_6 : cX0_ring.data.toList.drop 138 = dktX0_ring_6 := dk_seg dksX0_ring_5 24 rfl rfl
theorem dksX0_ring_7 : cX0_ring.data.toList.drop 162 = dktX0_ring_7 := dk_seg dksX0_ring_6 24 rfl rfl
theorem dX0_ring_0 : decode cX0_ring 0 = .ok (.aload_n 0, 1) := dk_42 (dk_at dksX0_ring_0 0 rfl rfl)
theorem dX0_ring_1 : decode cX0_ring 1 = .ok (.iload_n 1, 1) := dk_27 (dk_at dksX0_ring_0 1 rfl rfl)
theorem dX0_ring_2 : decode cX0_ring 2 = .ok (.invokevirtual 125, 3) := dk_182 0 125 (dk_at dksX0_ring_0 2 rfl rfl)
theorem dX0_ring_5 : decode cX0_ring 5 = .ok (.ifCond .eq 14, 3) := dk_153 0 14 (dk_at dksX0_ring_0 5 rfl rfl)
theorem dX0_ring_8 : decode cX0_ring 8 = .ok (.iload_n 2, 1) := dk_28 (dk_at dksX0_ring_0 8 rfl rfl)
theorem dX0_ring_9 : decode cX0_ring 9 = .ok (.iconst 1, 1) := dk_4 (dk_at dksX0_ring_0 9 rfl rfl)
theorem dX0_ring_10 : decode cX0_ring 10 = .ok (.sipush 9999, 3) := dk_17 39 15 (dk_at dksX0_ring_0 10 rfl rfl)
theorem dX0_ring_13 : decode cX0_ring 13 = .ok (.invokestatic 3, 3) := dk_184 0 3 (dk_at dksX0_ring_0 13 rfl rfl)
theorem dX0_ring_16 : decode cX0_ring 16 = .ok (.ifCond .ne 5, 3) := dk_154 0 5 (dk_at dksX0_ring_0 16 rfl rfl)
theorem dX0_ring_19 : decode cX0_ring 19 = .ok (.iconst (-1), 1) := dk_2 (dk_at dksX0_ring_0 19 rfl rfl)
theorem dX0_ring_20 : decode cX0_ring 20 = .ok (.ireturn, 1) := dk_172 (dk_at dksX0_ring_0 20 rfl rfl)
theorem dX0_ring_21 : decode cX0_ring 21 = .ok (.iconst 1, 1) := dk_4 (dk_at dksX0_ring_0 21 rfl rfl)
theorem dX0_ring_22 : decode cX0_ring 22 = .ok (.iload_n 1, 1) := dk_27 (dk_at dksX0_ring_0 22 rfl rfl)
theorem dX0_ring_23 : decode cX0_ring 23 = .ok (.ishl, 1) := dk_120 (dk_at dksX0_ring_0 23 rfl rfl)
theorem dX0_ring_24 : decode cX0_ring 24 = .ok (.istore_n 3, 1) := dk_62 (dk_at dksX0_ring_1 0 rfl rfl)
theorem dX0_ring_25 : decode cX0_ring 25 = .ok (.iconst 0, 1) := dk_3 (dk_at dksX0_ring_1 1 rfl rfl)
theorem dX0_ring_26 : decode cX0_ring 26 = .ok (.istore 4, 2) := dk_54 4 (dk_at dksX0_ring_1 2 rfl rfl)
theorem dX0_ring_28 : decode cX0_ring 28 = .ok (.iload_n 3, 1) := dk_29 (dk_at dksX0_ring_1 4 rfl rfl)
theorem dX0_ring_29 : decode cX0_ring 29 = .ok (.iload 4, 2) := dk_21 4 (dk_at dksX0_ring_1 5 rfl rfl)
theorem dX0_ring_31 : decode cX0_ring 31 = .ok (.if_icmp .eq 140, 3) := dk_159 0 140 (dk_at dksX0_ring_1 7 rfl rfl)
theorem dX0_ring_34 : decode cX0_ring 34 = .ok (.iload_n 3, 1) := dk_29 (dk_at dksX0_ring_1 10 rfl rfl)
theorem dX0_ring_35 : decode cX0_ring 35 = .ok (.istore 4, 2) := dk_54 4 (dk_at dksX0_ring_1 11 rfl rfl)
theorem dX0_ring_37 : decode cX0_ring 37 = .ok (.iconst 0, 1) := dk_3 (dk_at dksX0_ring_1 13 rfl rfl)
theorem dX0_ring_38 : decode cX0_ring 38 = .ok (.istore 5, 2) := dk_54 5 (dk_at dksX0_ring_1 14 rfl rfl)
theorem dX0_ring_40 : decode cX0_ring 40 = .ok (.iload 5, 2) := dk_21 5 (dk_at dksX0_ring_1 16 rfl rfl)
theorem dX0_ring_42 : decode cX0_ring 42 = .ok (.aload_n 0, 1) := dk_42 (dk_at dksX0_ring_1 18 rfl rfl)
theorem dX0_ring_43 : decode cX0_ring 43 = .ok (.getfield 68, 3) := dk_180 0 68 (dk_at dksX0_ring_1 19 rfl rfl)
theorem dX0_ring_46 : decode cX0_ring 46 = .ok (.getfield 122, 3) := dk_180 0 122 (dk_at dksX0_ring_2 0 rfl rfl)
theorem dX0_ring_49 : decode cX0_ring 49 = .ok (.if_icmp .ge 119, 3) := dk_162 0 119 (dk_at dksX0_ring_2 3 rfl rfl)
theorem dX0_ring_52 : decode cX0_ring 52 = .ok (.iconst 0, 1) := dk_3 (dk_at dksX0_ring_2 6 rfl rfl)
theorem dX0_ring_53 : decode cX0_ring 53 = .ok (.istore 6, 2) := dk_54 6 (dk_at dksX0_ring_2 7 rfl rfl)
theorem dX0_ring_55 : decode cX0_ring 55 = .ok (.iload 6, 2) := dk_21 6 (dk_at dksX0_ring_2 9 rfl rfl)
theorem dX0_ring_57 : decode cX0_ring 57 = .ok (.aload_n 0, 1) := dk_42 (dk_at dksX0_ring_2 11 rfl rfl)
theorem dX0_ring_58 : decode cX0_ring 58 = .ok (.getfield 68, 3) := dk_180 0 68 (dk_at dksX0_ring_2 12 rfl rfl)
theorem dX0_ring_61 : decode cX0_ring 61 = .ok (.getfield 122, 3) := dk_180 0 122 (dk_at dksX0_ring_2 15 rfl rfl)
theorem dX0_ring_64 : decode cX0_ring 64 = .ok (.if_icmp .ge 98, 3) := dk_162 0 98 (dk_at dksX0_ring_2 18 rfl rfl)
theorem dX0_ring_67 : decode cX0_ring 67 = .ok (.iload 4, 2) := dk_21 4 (dk_at dksX0_ring_2 21 rfl rfl)
theorem dX0_ring_69 : decode cX0_ring 69 = .ok (.iload 5, 2) := dk_21 5 (dk_at dksX0_ring_3 0 rfl rfl)
theorem dX0_ring_71 : decode cX0_ring 71 = .ok (.ishr, 1) := dk_122 (dk_at dksX0_ring_3 2 rfl rfl)
theorem dX0_ring_72 : decode cX0_ring 72 = .ok (.iconst 1, 1) := dk_4 (dk_at dksX0_ring_3 3 rfl rfl)
theorem dX0_ring_73 : decode cX0_ring 73 = .ok (.iand, 1) := dk_126 (dk_at dksX0_ring_3 4 rfl rfl)
theorem dX0_ring_74 : decode cX0_ring 74 = .ok (.ifCond .eq 88, 3) := dk_153 0 88 (dk_at dksX0_ring_3 5 rfl rfl)
theorem dX0_ring_77 : decode cX0_ring 77 = .ok (.aload_n 0, 1) := dk_42 (dk_at dksX0_ring_3 8 rfl rfl)
theorem dX0_ring_78 : decode cX0_ring 78 = .ok (.getfield 68, 3) := dk_180 0 68 (dk_at dksX0_ring_3 9 rfl rfl)
theorem dX0_ring_81 : decode cX0_ring 81 = .ok (.getfield 183, 3) := dk_180 0 183 (dk_at dksX0_ring_3 12 rfl rfl)
theorem dX0_ring_84 : decode cX0_ring 84 = .ok (.iload 5, 2) := dk_21 5 (dk_at dksX0_ring_3 15 rfl rfl)
theorem dX0_ring_86 : decode cX0_ring 86 = .ok (.aaload, 1) := dk_50 (dk_at dksX0_ring_3 17 rfl rfl)
theorem dX0_ring_87 : decode cX0_ring 87 = .ok (.getfield 250, 3) := dk_180 0 250 (dk_at dksX0_ring_3 18 rfl rfl)
theorem dX0_ring_90 : decode cX0_ring 90 = .ok (.aload_n 0, 1) := dk_42 (dk_at dksX0_ring_3 21 rfl rfl)
theorem dX0_ring_91 : decode cX0_ring 91 = .ok (.getfield 68, 3) := dk_180 0 68 (dk_at dksX0_ring_4 0 rfl rfl)
theorem dX0_ring_94 : decode cX0_ring 94 = .ok (.getfield 183, 3) := dk_180 0 183 (dk_at dksX0_ring_4 3 rfl rfl)
theorem dX0_ring_97 : decode cX0_ring 97 = .ok (.iload 6, 2) := dk_21 6 (dk_at dksX0_ring_4 6 rfl rfl)
theorem dX0_ring_99 : decode cX0_ring 99 = .ok (.aaload, 1) := dk_50 (dk_at dksX0_ring_4 8 rfl rfl)
theorem dX0_ring_100 : decode cX0_ring 100 = .ok (.getfield 250, 3) := dk_180 0 250 (dk_at dksX0_ring_4 9 rfl rfl)
theorem dX0_ring_103 : decode cX0_ring 103 = .ok (.iand, 1) := dk_126 (dk_at dksX0_ring_4 12 rfl rfl)
theorem dX0_ring_104 : decode cX0_ring 104 = .ok (.ifCond .eq 7, 3) := dk_153 0 7 (dk_at dksX0_ring_4 13 rfl rfl)
theorem dX0_ring_107 : decode cX0_ring 107 = .ok (.iconst 1, 1) := dk_4 (dk_at dksX0_ring_4 16 rfl rfl)
theorem dX0_ring_108 : decode cX0_ring 108 = .ok (.goto 4, 3) := dk_167 0 4 (dk_at dksX0_ring_4 17 rfl rfl)
theorem dX0_ring_111 : decode cX0_ring 111 = .ok (.iconst 0, 1) := dk_3 (dk_at dksX0_ring_4 20 rfl rfl)
theorem dX0_ring_112 : decode cX0_ring 112 = .ok (.istore 7, 2) := dk_54 7 (dk_at dksX0_ring_4 21 rfl rfl)
theorem dX0_ring_114 : decode cX0_ring 114 = .ok (.iload 5, 2) := dk_21 5 (dk_at dksX0_ring_5 0 rfl rfl)
theorem dX0_ring_116 : decode cX0_ring 116 = .ok (.iload 6, 2) := dk_21 6 (dk_at dksX0_ring_5 2 rfl rfl)
theorem dX0_ring_118 : decode cX0_ring 118 = .ok (.if_icmp .eq 38, 3) := dk_159 0 38 (dk_at dksX0_ring_5 4 rfl rfl)
theorem dX0_ring_121 : decode cX0_ring 121 = .ok (.iload 7, 2) := dk_21 7 (dk_at dksX0_ring_5 7 rfl rfl)
theorem dX0_ring_123 : decode cX0_ring 123 = .ok (.ifCond .eq 33, 3) := dk_153 0 33 (dk_at dksX0_ring_5 9 rfl rfl)
theorem dX0_ring_126 : decode cX0_ring 126 = .ok (.aload_n 0, 1) := dk_42 (dk_at dksX0_ring_5 12 rfl rfl)
theorem dX0_ring_127 : decode cX0_ring 127 = .ok (.iload 5, 2) := dk_21 5 (dk_at dksX0_ring_5 13 rfl rfl)
theorem dX0_ring_129 : decode cX0_ring 129 = .ok (.iload 6, 2) := dk_21 6 (dk_at dksX0_ring_5 15 rfl rfl)
theorem dX0_ring_131 : decode cX0_ring 131 = .ok (.invokevirtual 428, 3) := dk_182 1 172 (dk_at dksX0_ring_5 17 rfl rfl)
theorem dX0_ring_134 : decode cX0_ring 134 = .ok (.i2l, 1) := dk_133 (dk_at dksX0_ring_5 20 rfl rfl)
theorem dX0_ring_135 : decode cX0_ring 135 = .ok (.iload_n 2, 1) := dk_28 (dk_at dksX0_ring_5 21 rfl rfl)
theorem dX0_ring_136 : decode cX0_ring 136 = .ok (.i2l, 1) := dk_133 (dk_at dksX0_ring_5 22 rfl rfl)
theorem dX0_ring_137 : decode cX0_ring 137 = .ok (.lmul, 1) := dk_105 (dk_at dksX0_ring_5 23 rfl rfl)
theorem dX0_ring_138 : decode cX0_ring 138 = .ok (.aload_n 0, 1) := dk_42 (dk_at dksX0_ring_6 0 rfl rfl)
theorem dX0_ring_139 : decode cX0_ring 139 = .ok (.iload 6, 2) := dk_21 6 (dk_at dksX0_ring_6 1 rfl rfl)
theorem dX0_ring_141 : decode cX0_ring 141 = .ok (.invokevirtual 431, 3) := dk_182 1 175 (dk_at dksX0_ring_6 3 rfl rfl)
theorem dX0_ring_144 : decode cX0_ring 144 = .ok (.i2l, 1) := dk_133 (dk_at dksX0_ring_6 6 rfl rfl)
theorem dX0_ring_145 : decode cX0_ring 145 = .ok (.lcmp, 1) := dk_148 (dk_at dksX0_ring_6 7 rfl rfl)
theorem dX0_ring_146 : decode cX0_ring 146 = .ok (.ifCond .gt 10, 3) := dk_157 0 10 (dk_at dksX0_ring_6 8 rfl rfl)
theorem dX0_ring_149 : decode cX0_ring 149 = .ok (.iload_n 3, 1) := dk_29 (dk_at dksX0_ring_6 11 rfl rfl)
theorem dX0_ring_150 : decode cX0_ring 150 = .ok (.iconst 1, 1) := dk_4 (dk_at dksX0_ring_6 12 rfl rfl)
theorem dX0_ring_151 : decode cX0_ring 151 = .ok (.iload 6, 2) := dk_21 6 (dk_at dksX0_ring_6 13 rfl rfl)
theorem dX0_ring_153 : decode cX0_ring 153 = .ok (.ishl, 1) := dk_120 (dk_at dksX0_ring_6 15 rfl rfl)
theorem dX0_ring_154 : decode cX0_ring 154 = .ok (.ior, 1) := dk_128 (dk_at dksX0_ring_6 16 rfl rfl)
theorem dX0_ring_155 : decode cX0_ring 155 = .ok (.istore_n 3, 1) := dk_62 (dk_at dksX0_ring_6 17 rfl rfl)
theorem dX0_ring_156 : decode cX0_ring 156 = .ok (.iinc 6 1, 3) := dk_132 6 1 (dk_at dksX0_ring_6 18 rfl rfl)
theorem dX0_ring_159 : decode cX0_ring 159 = .ok (.goto (-104), 3) := dk_167 255 152 (dk_at dksX0_ring_6 21 rfl rfl)
theorem dX0_ring_162 : decode cX0_ring 162 = .ok (.iinc 5 1, 3) := dk_132 5 1 (dk_at dksX0_ring_7 0 rfl rfl)
theorem dX0_ring_165 : decode cX0_ring 165 = .ok (.goto (-125), 3) := dk_167 255 131 (dk_at dksX0_ring_7 3 rfl rfl)
theorem dX0_ring_168 : decode cX0_ring 168 = .ok (.goto (-140), 3) := dk_167 255 116 (dk_at dksX0_ring_7 6 rfl rfl)
theorem dX0_ring_171 : decode cX0_ring 171 = .ok (.iload_n 3, 1) := dk_29 (dk_at dksX0_ring_7 9 rfl rfl)
theorem dX0_ring_172 : decode cX0_ring 172 = .ok (.ireturn, 1) := dk_172 (dk_at dksX0_ring_7 10 rfl rfl)
abbrev cX0_sketch : ByteArray := prog_1_method_62_code
def yX0_sketch : MethodName := ⟨RX0, "sketch", "(II)I"⟩
def dkwX0_sketch_1 : List UInt8 := [180, 0, 183, 27, 50, 180, 1, 7, 182, 1, 178, 4, 28, 120, 4, 100, 126, 167, 0, 4, 2, 172]
abbrev dktX0_sketch_1 : List UInt8 := dkwX0_sketch_1 ++ []
def dkwX0_sketch_0 : List UInt8 := [42, 27, 182, 0, 125, 153, 0, 37, 28, 3, 16, 16, 184, 0, 3, 153, 0, 27, 42, 180, 0, 68]
abbrev dktX0_sketch_0 : List UInt8 := dkwX0_sketch_0 ++ dktX0_sketch_1
theorem dksX0_sketch_0 : cX0_sketch.data.toList.drop 0 = dktX0_sketch_0 := by decide +kernel
theorem dksX0_sketch_1 : cX0_sketch.data.toList.drop 22 = dktX0_sketch_1 := dk_seg dksX0_sketch_0 22 rfl rfl
theorem dX0_sketch_0 : decode cX0_sketch 0 = .ok (.aload_n 0, 1) := dk_42 (dk_at dksX0_sketch_0 0 rfl rfl)
theorem dX0_sketch_1 : decode cX0_sketch 1 = .ok (.iload_n 1, 1) := dk_27 (dk_at dksX0_sketch_0 1 rfl rfl)
theorem dX0_sketch_2 : decode cX0_sketch 2 = .ok (.invokevirtual 125, 3) := dk_182 0 125 (dk_at dksX0_sketch_0 2 rfl rfl)
theorem dX0_sketch_5 : decode cX0_sketch 5 = .ok (.ifCond .eq 37, 3) := dk_153 0 37 (dk_at dksX0_sketch_0 5 rfl rfl)
theorem dX0_sketch_8 : decode cX0_sketch 8 = .ok (.iload_n 2, 1) := dk_28 (dk_at dksX0_sketch_0 8 rfl rfl)
theorem dX0_sketch_9 : decode cX0_sketch 9 = .ok (.iconst 0, 1) := dk_3 (dk_at dksX0_sketch_0 9 rfl rfl)
theorem dX0_sketch_10 : decode cX0_sketch 10 = .ok (.bipush 16, 2) := dk_16 16 (dk_at dksX0_sketch_0 10 rfl rfl)
theorem dX0_sketch_12 : decode cX0_sketch 12 = .ok (.invokestatic 3, 3) := dk_184 0 3 (dk_at dksX0_sketch_0 12 rfl rfl)
theorem dX0_sketch_15 : decode cX0_sketch 15 = .ok (.ifCond .eq 27, 3) := dk_153 0 27 (dk_at dksX0_sketch_0 15 rfl rfl)
theorem dX0_sketch_18 : decode cX0_sketch 18 = .ok (.aload_n 0, 1) := dk_42 (dk_at dksX0_sketch_0 18 rfl rfl)
theorem dX0_sketch_19 : decode cX0_sketch 19 = .ok (.getfield 68, 3) := dk_180 0 68 (dk_at dksX0_sketch_0 19 rfl rfl)
theorem dX0_sketch_22 : decode cX0_sketch 22 = .ok (.getfield 183, 3) := dk_180 0 183 (dk_at dksX0_sketch_1 0 rfl rfl)
theorem dX0_sketch_25 : decode cX0_sketch 25 = .ok (.iload_n 1, 1) := dk_27 (dk_at dksX0_sketch_1 3 rfl rfl)
theorem dX0_sketch_26 : decode cX0_sketch 26 = .ok (.aaload, 1) := dk_50 (dk_at dksX0_sketch_1 4 rfl rfl)
theorem dX0_sketch_27 : decode cX0_sketch 27 = .ok (.getfield 263, 3) := dk_180 1 7 (dk_at dksX0_sketch_1 5 rfl rfl)
theorem dX0_sketch_30 : decode cX0_sketch 30 = .ok (.invokevirtual 434, 3) := dk_182 1 178 (dk_at dksX0_sketch_1 8 rfl rfl)
theorem dX0_sketch_33 : decode cX0_sketch 33 = .ok (.iconst 1, 1) := dk_4 (dk_at dksX0_sketch_1 11 rfl rfl)
theorem dX0_sketch_34 : decode cX0_sketch 34 = .ok (.iload_n 2, 1) := dk_28 (dk_at dksX0_sketch_1 12 rfl rfl)
theorem dX0_sketch_35 : decode cX0_sketch 35 = .ok (.ishl, 1) := dk_120 (dk_at dksX0_sketch_1 13 rfl rfl)
theorem dX0_sketch_36 : decode cX0_sketch 36 = .ok (.iconst 1, 1) := dk_4 (dk_at dksX0_sketch_1 14 rfl rfl)
theorem dX0_sketch_37 : decode cX0_sketch 37 = .ok (.isub, 1) := dk_100 (dk_at dksX0_sketch_1 15 rfl rfl)
theorem dX0_sketch_38 : decode cX0_sketch 38 = .ok (.iand, 1) := dk_126 (dk_at dksX0_sketch_1 16 rfl rfl)
theorem dX0_sketch_39 : decode cX0_sketch 39 = .ok (.goto 4, 3) := dk_167 0 4 (dk_at dksX0_sketch_1 17 rfl rfl)
theorem dX0_sketch_42 : decode cX0_sketch 42 = .ok (.iconst (-1), 1) := dk_2 (dk_at dksX0_sketch_1 20 rfl rfl)
theorem dX0_sketch_43 : decode cX0_sketch 43 = .ok (.ireturn, 1) := dk_172 (dk_at dksX0_sketch_1 21 rfl rfl)
abbrev cX0_leaves : ByteArray := prog_1_method_64_code
def yX0_leaves : MethodName := ⟨RX0, "leaves", "(II)I"⟩
def dkwX0_leaves_1 : List UInt8 := [155, 0, 19, 42, 27, 29, 182, 1, 181, 28, 162, 0, 9, 132, 3, 255, 167, 255, 239, 29, 172]
abbrev dktX0_leaves_1 : List UInt8 := dkwX0_leaves_1 ++ []
def dkwX0_leaves_0 : List UInt8 := [42, 27, 182, 0, 125, 153, 0, 13, 28, 4, 16, 10, 184, 0, 3, 154, 0, 5, 2, 172, 16, 16, 62, 29]
abbrev dktX0_leaves_0 : List UInt8 := dkwX0_leaves_0 ++ dktX0_leaves_1
theorem dksX0_leaves_0 : cX0_leaves.data.toList.drop 0 = dktX0_leaves_0 := by decide +kernel
theorem dksX0_leaves_1 : cX0_leaves.data.toList.drop 24 = dktX0_leaves_1 := dk_seg dksX0_leaves_0 24 rfl rfl
theorem dX0_leaves_0 : decode cX0_leaves 0 = .ok (.aload_n 0, 1) := dk_42 (dk_at dksX0_leaves_0 0 rfl rfl)
theorem dX0_leaves_1 : decode cX0_leaves 1 = .ok (.iload_n 1, 1) := dk_27 (dk_at dksX0_leaves_0 1 rfl rfl)
theorem dX0_leaves_2 : decode cX0_leaves 2 = .ok (.invokevirtual 125, 3) := dk_182 0 125 (dk_at dksX0_leaves_0 2 rfl rfl)
theorem dX0_leaves_5 : decode cX0_leaves 5 = .ok (.ifCond .eq 13, 3) := dk_153 0 13 (dk_at dksX0_leaves_0 5 rfl rfl)
theorem dX0_leaves_8 : decode cX0_leaves 8 = .ok (.iload_n 2, 1) := dk_28 (dk_at dksX0_leaves_0 8 rfl rfl)
theorem dX0_leaves_9 : decode cX0_leaves 9 = .ok (.iconst 1, 1) := dk_4 (dk_at dksX0_leaves_0 9 rfl rfl)
theorem dX0_leaves_10 : decode cX0_leaves 10 = .ok (.bipush 10, 2) := dk_16 10 (dk_at dksX0_leaves_0 10 rfl rfl)
theorem dX0_leaves_12 : decode cX0_leaves 12 = .ok (.invokestatic 3, 3) := dk_184 0 3 (dk_at dksX0_leaves_0 12 rfl rfl)
theorem dX0_leaves_15 : decode cX0_leaves 15 = .ok (.ifCond .ne 5, 3) := dk_154 0 5 (dk_at dksX0_leaves_0 15 rfl rfl)
theorem dX0_leaves_18 : decode cX0_leaves 18 = .ok (.iconst (-1), 1) := dk_2 (dk_at dksX0_leaves_0 18 rfl rfl)
theorem dX0_leaves_19 : decode cX0_leaves 19 = .ok (.ireturn, 1) := dk_172 (dk_at dksX0_leaves_0 19 rfl rfl)
theorem dX0_leaves_20 : decode cX0_leaves 20 = .ok (.bipush 16, 2) := dk_16 16 (dk_at dksX0_leaves_0 20 rfl rfl)
theorem dX0_leaves_22 : decode cX0_leaves 22 = .ok (.istore_n 3, 1) := dk_62 (dk_at dksX0_leaves_0 22 rfl rfl)
theorem dX0_leaves_23 : decode cX0_leaves 23 = .ok (.iload_n 3, 1) := dk_29 (dk_at dksX0_leaves_0 23 rfl rfl)
theorem dX0_leaves_24 : decode cX0_leaves 24 = .ok (.ifCond .lt 19, 3) := dk_155 0 19 (dk_at dksX0_leaves_1 0 rfl rfl)
theorem dX0_leaves_27 : decode cX0_leaves 27 = .ok (.aload_n 0, 1) := dk_42 (dk_at dksX0_leaves_1 3 rfl rfl)
theorem dX0_leaves_28 : decode cX0_leaves 28 = .ok (.iload_n 1, 1) := dk_27 (dk_at dksX0_leaves_1 4 rfl rfl)
theorem dX0_leaves_29 : decode cX0_leaves 29 = .ok (.iload_n 3, 1) := dk_29 (dk_at dksX0_leaves_1 5 rfl rfl)
theorem dX0_leaves_30 : decode cX0_leaves 30 = .ok (.invokevirtual 437, 3) := dk_182 1 181 (dk_at dksX0_leaves_1 6 rfl rfl)
theorem dX0_leaves_33 : decode cX0_leaves 33 = .ok (.iload_n 2, 1) := dk_28 (dk_at dksX0_leaves_1 9 rfl rfl)
theorem dX0_leaves_34 : decode cX0_leaves 34 = .ok (.if_icmp .ge 9, 3) := dk_162 0 9 (dk_at dksX0_leaves_1 10 rfl rfl)
theorem dX0_leaves_37 : decode cX0_leaves 37 = .ok (.iinc 3 (-1), 3) := dk_132 3 255 (dk_at dksX0_leaves_1 13 rfl rfl)
theorem dX0_leaves_40 : decode cX0_leaves 40 = .ok (.goto (-17), 3) := dk_167 255 239 (dk_at dksX0_leaves_1 16 rfl rfl)
theorem dX0_leaves_43 : decode cX0_leaves 43 = .ok (.iload_n 3, 1) := dk_29 (dk_at dksX0_leaves_1 19 rfl rfl)
theorem dX0_leaves_44 : decode cX0_leaves 44 = .ok (.ireturn, 1) := dk_172 (dk_at dksX0_leaves_1 20 rfl rfl)
abbrev cX0_fits : ByteArray := prog_1_method_63_code
def yX0_fits : MethodName := ⟨RX0, "fits", "(II)I"⟩
def dkwX0_fits_3 : List UInt8 := [167, 255, 192, 29, 172]
abbrev dktX0_fits_3 : List UInt8 := dkwX0_fits_3 ++ []
def dkwX0_fits_2 : List UInt8 := [182, 1, 178, 130, 4, 28, 120, 4, 100, 126, 154, 0, 7, 4, 167, 0, 4, 3, 96, 62, 132, 4, 1]
abbrev dktX0_fits_2 : List UInt8 := dkwX0_fits_2 ++ dktX0_fits_3
def dkwX0_fits_1 : List UInt8 := [180, 0, 183, 21, 4, 50, 180, 1, 7, 182, 1, 178, 42, 180, 0, 68, 180, 0, 183, 27, 50, 180, 1, 7]
abbrev dktX0_fits_1 : List UInt8 := dkwX0_fits_1 ++ dktX0_fits_2
def dkwX0_fits_0 : List UInt8 := [3, 62, 3, 54, 4, 21, 4, 42, 180, 0, 68, 180, 0, 122, 162, 0, 58, 29, 42, 180, 0, 68]
abbrev dktX0_fits_0 : List UInt8 := dkwX0_fits_0 ++ dktX0_fits_1
theorem dksX0_fits_0 : cX0_fits.data.toList.drop 0 = dktX0_fits_0 := by decide +kernel
theorem dksX0_fits_1 : cX0_fits.data.toList.drop 22 = dktX0_fits_1 := dk_seg dksX0_fits_0 22 rfl rfl
theorem dksX0_fits_2 : cX0_fits.data.toList.drop 46 = dktX0_fits_2 := dk_seg dksX0_fits_1 24 rfl rfl
theorem dksX0_fits_3 : cX0_fits.data.toList.drop 69 = dktX0_fits_3 := dk_seg dksX0_fits_2 23 rfl rfl
theorem dX0_fits_0 : decode cX0_fits 0 = .ok (.iconst 0, 1) := dk_3 (dk_at dksX0_fits_0 0 rfl rfl)
theorem dX0_fits_1 : decode cX0_fits 1 = .ok (.istore_n 3, 1) := dk_62 (dk_at dksX0_fits_0 1 rfl rfl)
theorem dX0_fits_2 : decode cX0_fits 2 = .ok (.iconst 0, 1) := dk_3 (dk_at dksX0_fits_0 2 rfl rfl)
theorem dX0_fits_3 : decode cX0_fits 3 = .ok (.istore 4, 2) := dk_54 4 (dk_at dksX0_fits_0 3 rfl rfl)
theorem dX0_fits_5 : decode cX0_fits 5 = .ok (.iload 4, 2) := dk_21 4 (dk_at dksX0_fits_0 5 rfl rfl)
theorem dX0_fits_7 : decode cX0_fits 7 = .ok (.aload_n 0, 1) := dk_42 (dk_at dksX0_fits_0 7 rfl rfl)
theorem dX0_fits_8 : decode cX0_fits 8 = .ok (.getfield 68, 3) := dk_180 0 68 (dk_at dksX0_fits_0 8 rfl rfl)
theorem dX0_fits_11 : decode cX0_fits 11 = .ok (.getfield 122, 3) := dk_180 0 122 (dk_at dksX0_fits_0 11 rfl rfl)
theorem dX0_fits_14 : decode cX0_fits 14 = .ok (.if_icmp .ge 58, 3) := dk_162 0 58 (dk_at dksX0_fits_0 14 rfl rfl)
theorem dX0_fits_17 : decode cX0_fits 17 = .ok (.iload_n 3, 1) := dk_29 (dk_at dksX0_fits_0 17 rfl rfl)
theorem dX0_fits_18 : decode cX0_fits 18 = .ok (.aload_n 0, 1) := dk_42 (dk_at dksX0_fits_0 18 rfl rfl)
theorem dX0_fits_19 : decode cX0_fits 19 = .ok (.getfield 68, 3) := dk_180 0 68 (dk_at dksX0_fits_0 19 rfl rfl)
theorem dX0_fits_22 : decode cX0_fits 22 = .ok (.getfield 183, 3) := dk_180 0 183 (dk_at dksX0_fits_1 0 rfl rfl)
theorem dX0_fits_25 : decode cX0_fits 25 = .ok (.iload 4, 2) := dk_21 4 (dk_at dksX0_fits_1 3 rfl rfl)
theorem dX0_fits_27 : decode cX0_fits 27 = .ok (.aaload, 1) := dk_50 (dk_at dksX0_fits_1 5 rfl rfl)
theorem dX0_fits_28 : decode cX0_fits 28 = .ok (.getfield 263, 3) := dk_180 1 7 (dk_at dksX0_fits_1 6 rfl rfl)
theorem dX0_fits_31 : decode cX0_fits 31 = .ok (.invokevirtual 434, 3) := dk_182 1 178 (dk_at dksX0_fits_1 9 rfl rfl)
theorem dX0_fits_34 : decode cX0_fits 34 = .ok (.aload_n 0, 1) := dk_42 (dk_at dksX0_fits_1 12 rfl rfl)
theorem dX0_fits_35 : decode cX0_fits 35 = .ok (.getfield 68, 3) := dk_180 0 68 (dk_at dksX0_fits_1 13 rfl rfl)
theorem dX0_fits_38 : decode cX0_fits 38 = .ok (.getfield 183, 3) := dk_180 0 183 (dk_at dksX0_fits_1 16 rfl rfl)
theorem dX0_fits_41 : decode cX0_fits 41 = .ok (.iload_n 1, 1) := dk_27 (dk_at dksX0_fits_1 19 rfl rfl)
theorem dX0_fits_42 : decode cX0_fits 42 = .ok (.aaload, 1) := dk_50 (dk_at dksX0_fits_1 20 rfl rfl)
theorem dX0_fits_43 : decode cX0_fits 43 = .ok (.getfield 263, 3) := dk_180 1 7 (dk_at dksX0_fits_1 21 rfl rfl)
theorem dX0_fits_46 : decode cX0_fits 46 = .ok (.invokevirtual 434, 3) := dk_182 1 178 (dk_at dksX0_fits_2 0 rfl rfl)
theorem dX0_fits_49 : decode cX0_fits 49 = .ok (.ixor, 1) := dk_130 (dk_at dksX0_fits_2 3 rfl rfl)
theorem dX0_fits_50 : decode cX0_fits 50 = .ok (.iconst 1, 1) := dk_4 (dk_at dksX0_fits_2 4 rfl rfl)
theorem dX0_fits_51 : decode cX0_fits 51 = .ok (.iload_n 2, 1) := dk_28 (dk_at dksX0_fits_2 5 rfl rfl)
theorem dX0_fits_52 : decode cX0_fits 52 = .ok (.ishl, 1) := dk_120 (dk_at dksX0_fits_2 6 rfl rfl)
theorem dX0_fits_53 : decode cX0_fits 53 = .ok (.iconst 1, 1) := dk_4 (dk_at dksX0_fits_2 7 rfl rfl)
theorem dX0_fits_54 : decode cX0_fits 54 = .ok (.isub, 1) := dk_100 (dk_at dksX0_fits_2 8 rfl rfl)
theorem dX0_fits_55 : decode cX0_fits 55 = .ok (.iand, 1) := dk_126 (dk_at dksX0_fits_2 9 rfl rfl)
theorem dX0_fits_56 : decode cX0_fits 56 = .ok (.ifCond .ne 7, 3) := dk_154 0 7 (dk_at dksX0_fits_2 10 rfl rfl)
theorem dX0_fits_59 : decode cX0_fits 59 = .ok (.iconst 1, 1) := dk_4 (dk_at dksX0_fits_2 13 rfl rfl)
theorem dX0_fits_60 : decode cX0_fits 60 = .ok (.goto 4, 3) := dk_167 0 4 (dk_at dksX0_fits_2 14 rfl rfl)
theorem dX0_fits_63 : decode cX0_fits 63 = .ok (.iconst 0, 1) := dk_3 (dk_at dksX0_fits_2 17 rfl rfl)
theorem dX0_fits_64 : decode cX0_fits 64 = .ok (.iadd, 1) := dk_96 (dk_at dksX0_fits_2 18 rfl rfl)
theorem dX0_fits_65 : decode cX0_fits 65 = .ok (.istore_n 3, 1) := dk_62 (dk_at dksX0_fits_2 19 rfl rfl)
theorem dX0_fits_66 : decode cX0_fits 66 = .ok (.iinc 4 1, 3) := dk_132 4 1 (dk_at dksX0_fits_2 20 rfl rfl)
theorem dX0_fits_69 : decode cX0_fits 69 = .ok (.goto (-64), 3) := dk_167 255 192 (dk_at dksX0_fits_3 0 rfl rfl)
theorem dX0_fits_72 : decode cX0_fits 72 = .ok (.iload_n 3, 1) := dk_29 (dk_at dksX0_fits_3 3 rfl rfl)
theorem dX0_fits_73 : decode cX0_fits 73 = .ok (.ireturn, 1) := dk_172 (dk_at dksX0_fits_3 4 rfl rfl)
abbrev cX0_warn : ByteArray := prog_1_method_65_code
def yX0_warn : MethodName := ⟨RX0, "warn", "(III)I"⟩
def dkwX0_warn_3 : List UInt8 := [21, 5, 120, 167, 0, 4, 3, 128, 54, 4, 132, 5, 1, 167, 255, 202, 21, 4, 172]
abbrev dktX0_warn_3 : List UInt8 := dkwX0_warn_3 ++ []
def dkwX0_warn_2 : List UInt8 := [29, 182, 1, 88, 184, 1, 91, 5, 160, 0, 21, 42, 180, 0, 82, 180, 1, 60, 27, 160, 0, 10, 4]
abbrev dktX0_warn_2 : List UInt8 := dkwX0_warn_2 ++ dktX0_warn_3
def dkwX0_warn_1 : List UInt8 := [3, 54, 4, 3, 54, 5, 21, 5, 42, 180, 0, 68, 180, 0, 122, 162, 0, 48, 21, 4, 42, 21, 5, 28]
abbrev dktX0_warn_1 : List UInt8 := dkwX0_warn_1 ++ dktX0_warn_2
def dkwX0_warn_0 : List UInt8 := [42, 27, 182, 0, 213, 153, 0, 17, 28, 184, 0, 129, 153, 0, 10, 29, 184, 0, 132, 154, 0, 5, 2, 172]
abbrev dktX0_warn_0 : List UInt8 := dkwX0_warn_0 ++ dktX0_warn_1
theorem dksX0_warn_0 : cX0_warn.data.toList.drop 0 = dktX0_warn_0 := by decide +kernel
theorem dksX0_warn_1 : cX0_warn.data.toList.drop 24 = dktX0_warn_1 := dk_seg dksX0_warn_0 24 rfl rfl
theorem dksX0_warn_2 : cX0_warn.data.toList.drop 48 = dktX0_warn_2 := dk_seg dksX0_warn_1 24 rfl rfl
theorem dksX0_warn_3 : cX0_warn.data.toList.drop 71 = dktX0_warn_3 := dk_seg dksX0_warn_2 23 rfl rfl
theorem dX0_warn_0 : decode cX0_warn 0 = .ok (.aload_n 0, 1) := dk_42 (dk_at dksX0_warn_0 0 rfl rfl)
theorem dX0_warn_1 : decode cX0_warn 1 = .ok (.iload_n 1, 1) := dk_27 (dk_at dksX0_warn_0 1 rfl rfl)
theorem dX0_warn_2 : decode cX0_warn 2 = .ok (.invokevirtual 213, 3) := dk_182 0 213 (dk_at dksX0_warn_0 2 rfl rfl)
theorem dX0_warn_5 : decode cX0_warn 5 = .ok (.ifCond .eq 17, 3) := dk_153 0 17 (dk_at dksX0_warn_0 5 rfl rfl)
theorem dX0_warn_8 : decode cX0_warn 8 = .ok (.iload_n 2, 1) := dk_28 (dk_at dksX0_warn_0 8 rfl rfl)
theorem dX0_warn_9 : decode cX0_warn 9 = .ok (.invokestatic 129, 3) := dk_184 0 129 (dk_at dksX0_warn_0 9 rfl rfl)
theorem dX0_warn_12 : decode cX0_warn 12 = .ok (.ifCond .eq 10, 3) := dk_153 0 10 (dk_at dksX0_warn_0 12 rfl rfl)
theorem dX0_warn_15 : decode cX0_warn 15 = .ok (.iload_n 3, 1) := dk_29 (dk_at dksX0_warn_0 15 rfl rfl)
theorem dX0_warn_16 : decode cX0_warn 16 = .ok (.invokestatic 132, 3) := dk_184 0 132 (dk_at dksX0_warn_0 16 rfl rfl)
theorem dX0_warn_19 : decode cX0_warn 19 = .ok (.ifCond .ne 5, 3) := dk_154 0 5 (dk_at dksX0_warn_0 19 rfl rfl)
theorem dX0_warn_22 : decode cX0_warn 22 = .ok (.iconst (-1), 1) := dk_2 (dk_at dksX0_warn_0 22 rfl rfl)
theorem dX0_warn_23 : decode cX0_warn 23 = .ok (.ireturn, 1) := dk_172 (dk_at dksX0_warn_0 23 rfl rfl)
theorem dX0_warn_24 : decode cX0_warn 24 = .ok (.iconst 0, 1) := dk_3 (dk_at dksX0_warn_1 0 rfl rfl)
theorem dX0_warn_25 : decode cX0_warn 25 = .ok (.istore 4, 2) := dk_54 4 (dk_at dksX0_warn_1 1 rfl rfl)
theorem dX0_warn_27 : decode cX0_warn 27 = .ok (.iconst 0, 1) := dk_3 (dk_at dksX0_warn_1 3 rfl rfl)
theorem dX0_warn_28 : decode cX0_warn 28 = .ok (.istore 5, 2) := dk_54 5 (dk_at dksX0_warn_1 4 rfl rfl)
theorem dX0_warn_30 : decode cX0_warn 30 = .ok (.iload 5, 2) := dk_21 5 (dk_at dksX0_warn_1 6 rfl rfl)
theorem dX0_warn_32 : decode cX0_warn 32 = .ok (.aload_n 0, 1) := dk_42 (dk_at dksX0_warn_1 8 rfl rfl)
theorem dX0_warn_33 : decode cX0_warn 33 = .ok (.getfield 68, 3) := dk_180 0 68 (dk_at dksX0_warn_1 9 rfl rfl)
theorem dX0_warn_36 : decode cX0_warn 36 = .ok (.getfield 122, 3) := dk_180 0 122 (dk_at dksX0_warn_1 12 rfl rfl)
theorem dX0_warn_39 : decode cX0_warn 39 = .ok (.if_icmp .ge 48, 3) := dk_162 0 48 (dk_at dksX0_warn_1 15 rfl rfl)
theorem dX0_warn_42 : decode cX0_warn 42 = .ok (.iload 4, 2) := dk_21 4 (dk_at dksX0_warn_1 18 rfl rfl)
theorem dX0_warn_44 : decode cX0_warn 44 = .ok (.aload_n 0, 1) := dk_42 (dk_at dksX0_warn_1 20 rfl rfl)
theorem dX0_warn_45 : decode cX0_warn 45 = .ok (.iload 5, 2) := dk_21 5 (dk_at dksX0_warn_1 21 rfl rfl)
theorem dX0_warn_47 : decode cX0_warn 47 = .ok (.iload_n 2, 1) := dk_28 (dk_at dksX0_warn_1 23 rfl rfl)
theorem dX0_warn_48 : decode cX0_warn 48 = .ok (.iload_n 3, 1) := dk_29 (dk_at dksX0_warn_2 0 rfl rfl)
theorem dX0_warn_49 : decode cX0_warn 49 = .ok (.invokevirtual 344, 3) := dk_182 1 88 (dk_at dksX0_warn_2 1 rfl rfl)
theorem dX0_warn_52 : decode cX0_warn 52 = .ok (.invokestatic 347, 3) := dk_184 1 91 (dk_at dksX0_warn_2 4 rfl rfl)
theorem dX0_warn_55 : decode cX0_warn 55 = .ok (.iconst 2, 1) := dk_5 (dk_at dksX0_warn_2 7 rfl rfl)
theorem dX0_warn_56 : decode cX0_warn 56 = .ok (.if_icmp .ne 21, 3) := dk_160 0 21 (dk_at dksX0_warn_2 8 rfl rfl)
theorem dX0_warn_59 : decode cX0_warn 59 = .ok (.aload_n 0, 1) := dk_42 (dk_at dksX0_warn_2 11 rfl rfl)
theorem dX0_warn_60 : decode cX0_warn 60 = .ok (.getfield 82, 3) := dk_180 0 82 (dk_at dksX0_warn_2 12 rfl rfl)
theorem dX0_warn_63 : decode cX0_warn 63 = .ok (.getfield 316, 3) := dk_180 1 60 (dk_at dksX0_warn_2 15 rfl rfl)
theorem dX0_warn_66 : decode cX0_warn 66 = .ok (.iload_n 1, 1) := dk_27 (dk_at dksX0_warn_2 18 rfl rfl)
theorem dX0_warn_67 : decode cX0_warn 67 = .ok (.if_icmp .ne 10, 3) := dk_160 0 10 (dk_at dksX0_warn_2 19 rfl rfl)
theorem dX0_warn_70 : decode cX0_warn 70 = .ok (.iconst 1, 1) := dk_4 (dk_at dksX0_warn_2 22 rfl rfl)
theorem dX0_warn_71 : decode cX0_warn 71 = .ok (.iload 5, 2) := dk_21 5 (dk_at dksX0_warn_3 0 rfl rfl)
theorem dX0_warn_73 : decode cX0_warn 73 = .ok (.ishl, 1) := dk_120 (dk_at dksX0_warn_3 2 rfl rfl)
theorem dX0_warn_74 : decode cX0_warn 74 = .ok (.goto 4, 3) := dk_167 0 4 (dk_at dksX0_warn_3 3 rfl rfl)
theorem dX0_warn_77 : decode cX0_warn 77 = .ok (.iconst 0, 1) := dk_3 (dk_at dksX0_warn_3 6 rfl rfl)
theorem dX0_warn_78 : decode cX0_warn 78 = .ok (.ior, 1) := dk_128 (dk_at dksX0_warn_3 7 rfl rfl)
theorem dX0_warn_79 : decode cX0_warn 79 = .ok (.istore 4, 2) := dk_54 4 (dk_at dksX0_warn_3 8 rfl rfl)
theorem dX0_warn_81 : decode cX0_warn 81 = .ok (.iinc 5 1, 3) := dk_132 5 1 (dk_at dksX0_warn_3 10 rfl rfl)
theorem dX0_warn_84 : decode cX0_warn 84 = .ok (.goto (-54), 3) := dk_167 255 202 (dk_at dksX0_warn_3 13 rfl rfl)
theorem dX0_warn_87 : decode cX0_warn 87 = .ok (.iload 4, 2) := dk_21 4 (dk_at dksX0_warn_3 16 rfl rfl)
theorem dX0_warn_89 : decode cX0_warn 89 = .ok (.ireturn, 1) := dk_172 (dk_at dksX0_warn_3 18 rfl rfl)
abbrev cX0_program : ByteArray := prog_1_method_66_code
def yX0_program : MethodName := ⟨RX0, "program", "(I)I"⟩
def dkwX0_program_3 : List UInt8 := [180, 0, 183, 27, 50, 45, 180, 1, 190, 181, 1, 194, 45, 180, 1, 190, 180, 1, 195, 172]
abbrev dktX0_program_3 : List UInt8 := dkwX0_program_3 ++ []
def dkwX0_program_2 : List UInt8 := [45, 180, 1, 188, 158, 0, 16, 42, 45, 180, 1, 188, 45, 180, 1, 189, 182, 0, 152, 172, 42, 180, 0, 68]
abbrev dktX0_program_2 : List UInt8 := dkwX0_program_2 ++ dktX0_program_3
def dkwX0_program_1 : List UInt8 := [183, 1, 186, 78, 45, 182, 1, 187, 167, 0, 16, 58, 4, 42, 4, 25, 4, 180, 0, 201, 182, 0, 152, 172]
abbrev dktX0_program_1 : List UInt8 := dkwX0_program_1 ++ dktX0_program_2
def dkwX0_program_0 : List UInt8 := [42, 182, 0, 166, 61, 42, 27, 182, 0, 125, 154, 0, 6, 16, 254, 172, 187, 1, 184, 89, 42, 28]
abbrev dktX0_program_0 : List UInt8 := dkwX0_program_0 ++ dktX0_program_1
theorem dksX0_program_0 : cX0_program.data.toList.drop 0 = dktX0_program_0 := by decide +kernel
theorem dksX0_program_1 : cX0_program.data.toList.drop 22 = dktX0_program_1 := dk_seg dksX0_program_0 22 rfl rfl
theorem dksX0_program_2 : cX0_program.data.toList.drop 46 = dktX0_program_2 := dk_seg dksX0_program_1 24 rfl rfl
theorem dksX0_program_3 : cX0_program.data.toList.drop 70 = dktX0_program_3 := dk_seg dksX0_program_2 24 rfl rfl
theorem dX0_program_0 : decode cX0_program 0 = .ok (.aload_n 0, 1) := dk_42 (dk_at dksX0_program_0 0 rfl rfl)
theorem dX0_program_1 : decode cX0_program 1 = .ok (.invokevirtual 166, 3) := dk_182 0 166 (dk_at dksX0_program_0 1 rfl rfl)
theorem dX0_program_4 : decode cX0_program 4 = .ok (.istore_n 2, 1) := dk_61 (dk_at dksX0_program_0 4 rfl rfl)
theorem dX0_program_5 : decode cX0_program 5 = .ok (.aload_n 0, 1) := dk_42 (dk_at dksX0_program_0 5 rfl rfl)
theorem dX0_program_6 : decode cX0_program 6 = .ok (.iload_n 1, 1) := dk_27 (dk_at dksX0_program_0 6 rfl rfl)
theorem dX0_program_7 : decode cX0_program 7 = .ok (.invokevirtual 125, 3) := dk_182 0 125 (dk_at dksX0_program_0 7 rfl rfl)
theorem dX0_program_10 : decode cX0_program 10 = .ok (.ifCond .ne 6, 3) := dk_154 0 6 (dk_at dksX0_program_0 10 rfl rfl)
theorem dX0_program_13 : decode cX0_program 13 = .ok (.bipush (-2), 2) := dk_16 254 (dk_at dksX0_program_0 13 rfl rfl)
theorem dX0_program_15 : decode cX0_program 15 = .ok (.ireturn, 1) := dk_172 (dk_at dksX0_program_0 15 rfl rfl)
theorem dX0_program_16 : decode cX0_program 16 = .ok (.new 440, 3) := dk_187 1 184 (dk_at dksX0_program_0 16 rfl rfl)
theorem dX0_program_19 : decode cX0_program 19 = .ok (.dup, 1) := dk_89 (dk_at dksX0_program_0 19 rfl rfl)
theorem dX0_program_20 : decode cX0_program 20 = .ok (.aload_n 0, 1) := dk_42 (dk_at dksX0_program_0 20 rfl rfl)
theorem dX0_program_21 : decode cX0_program 21 = .ok (.iload_n 2, 1) := dk_28 (dk_at dksX0_program_0 21 rfl rfl)
theorem dX0_program_22 : decode cX0_program 22 = .ok (.invokespecial 442, 3) := dk_183 1 186 (dk_at dksX0_program_1 0 rfl rfl)
theorem dX0_program_25 : decode cX0_program 25 = .ok (.astore_n 3, 1) := dk_78 (dk_at dksX0_program_1 3 rfl rfl)
theorem dX0_program_26 : decode cX0_program 26 = .ok (.aload_n 3, 1) := dk_45 (dk_at dksX0_program_1 4 rfl rfl)
theorem dX0_program_27 : decode cX0_program 27 = .ok (.invokevirtual 443, 3) := dk_182 1 187 (dk_at dksX0_program_1 5 rfl rfl)
theorem dX0_program_30 : decode cX0_program 30 = .ok (.goto 16, 3) := dk_167 0 16 (dk_at dksX0_program_1 8 rfl rfl)
theorem dX0_program_33 : decode cX0_program 33 = .ok (.astore 4, 2) := dk_58 4 (dk_at dksX0_program_1 11 rfl rfl)
theorem dX0_program_35 : decode cX0_program 35 = .ok (.aload_n 0, 1) := dk_42 (dk_at dksX0_program_1 13 rfl rfl)
theorem dX0_program_36 : decode cX0_program 36 = .ok (.iconst 1, 1) := dk_4 (dk_at dksX0_program_1 14 rfl rfl)
theorem dX0_program_37 : decode cX0_program 37 = .ok (.aload 4, 2) := dk_25 4 (dk_at dksX0_program_1 15 rfl rfl)
theorem dX0_program_39 : decode cX0_program 39 = .ok (.getfield 201, 3) := dk_180 0 201 (dk_at dksX0_program_1 17 rfl rfl)
theorem dX0_program_42 : decode cX0_program 42 = .ok (.invokevirtual 152, 3) := dk_182 0 152 (dk_at dksX0_program_1 20 rfl rfl)
theorem dX0_program_45 : decode cX0_program 45 = .ok (.ireturn, 1) := dk_172 (dk_at dksX0_program_1 23 rfl rfl)
theorem dX0_program_46 : decode cX0_program 46 = .ok (.aload_n 3, 1) := dk_45 (dk_at dksX0_program_2 0 rfl rfl)
theorem dX0_program_47 : decode cX0_program 47 = .ok (.getfield 444, 3) := dk_180 1 188 (dk_at dksX0_program_2 1 rfl rfl)
theorem dX0_program_50 : decode cX0_program 50 = .ok (.ifCond .le 16, 3) := dk_158 0 16 (dk_at dksX0_program_2 4 rfl rfl)
theorem dX0_program_53 : decode cX0_program 53 = .ok (.aload_n 0, 1) := dk_42 (dk_at dksX0_program_2 7 rfl rfl)
theorem dX0_program_54 : decode cX0_program 54 = .ok (.aload_n 3, 1) := dk_45 (dk_at dksX0_program_2 8 rfl rfl)
theorem dX0_program_55 : decode cX0_program 55 = .ok (.getfield 444, 3) := dk_180 1 188 (dk_at dksX0_program_2 9 rfl rfl)
theorem dX0_program_58 : decode cX0_program 58 = .ok (.aload_n 3, 1) := dk_45 (dk_at dksX0_program_2 12 rfl rfl)
theorem dX0_program_59 : decode cX0_program 59 = .ok (.getfield 445, 3) := dk_180 1 189 (dk_at dksX0_program_2 13 rfl rfl)
theorem dX0_program_62 : decode cX0_program 62 = .ok (.invokevirtual 152, 3) := dk_182 0 152 (dk_at dksX0_program_2 16 rfl rfl)
theorem dX0_program_65 : decode cX0_program 65 = .ok (.ireturn, 1) := dk_172 (dk_at dksX0_program_2 19 rfl rfl)
theorem dX0_program_66 : decode cX0_program 66 = .ok (.aload_n 0, 1) := dk_42 (dk_at dksX0_program_2 20 rfl rfl)
theorem dX0_program_67 : decode cX0_program 67 = .ok (.getfield 68, 3) := dk_180 0 68 (dk_at dksX0_program_2 21 rfl rfl)
theorem dX0_program_70 : decode cX0_program 70 = .ok (.getfield 183, 3) := dk_180 0 183 (dk_at dksX0_program_3 0 rfl rfl)
theorem dX0_program_73 : decode cX0_program 73 = .ok (.iload_n 1, 1) := dk_27 (dk_at dksX0_program_3 3 rfl rfl)
theorem dX0_program_74 : decode cX0_program 74 = .ok (.aaload, 1) := dk_50 (dk_at dksX0_program_3 4 rfl rfl)
theorem dX0_program_75 : decode cX0_program 75 = .ok (.aload_n 3, 1) := dk_45 (dk_at dksX0_program_3 5 rfl rfl)
theorem dX0_program_76 : decode cX0_program 76 = .ok (.getfield 446, 3) := dk_180 1 190 (dk_at dksX0_program_3 6 rfl rfl)
theorem dX0_program_79 : decode cX0_program 79 = .ok (.putfield 450, 3) := dk_181 1 194 (dk_at dksX0_program_3 9 rfl rfl)
theorem dX0_program_82 : decode cX0_program 82 = .ok (.aload_n 3, 1) := dk_45 (dk_at dksX0_program_3 12 rfl rfl)
theorem dX0_program_83 : decode cX0_program 83 = .ok (.getfield 446, 3) := dk_180 1 190 (dk_at dksX0_program_3 13 rfl rfl)
theorem dX0_program_86 : decode cX0_program 86 = .ok (.getfield 451, 3) := dk_180 1 195 (dk_at dksX0_program_3 16 rfl rfl)
theorem dX0_program_89 : decode cX0_program 89 = .ok (.ireturn, 1) := dk_172 (dk_at dksX0_program_3 19 rfl rfl)
abbrev cX0_relay : ByteArray := prog_1_method_68_code
def yX0_relay : MethodName := ⟨RX0, "relay", "(II)Z"⟩
def dkwX0_relay_1 : List UInt8 := [3, 172, 42, 180, 0, 68, 180, 1, 203, 27, 28, 79, 4, 172]
abbrev dktX0_relay_1 : List UInt8 := dkwX0_relay_1 ++ []
def dkwX0_relay_0 : List UInt8 := [27, 184, 1, 200, 153, 0, 20, 28, 2, 159, 0, 10, 28, 184, 1, 200, 153, 0, 8, 27, 28, 160, 0, 5]
abbrev dktX0_relay_0 : List UInt8 := dkwX0_relay_0 ++ dktX0_relay_1
theorem dksX0_relay_0 : cX0_relay.data.toList.drop 0 = dktX0_relay_0 := by decide +kernel
theorem dksX0_relay_1 : cX0_relay.data.toList.drop 24 = dktX0_relay_1 := dk_seg dksX0_relay_0 24 rfl rfl
theorem dX0_relay_0 : decode cX0_relay 0 = .ok (.iload_n 1, 1) := dk_27 (dk_at dksX0_relay_0 0 rfl rfl)
theorem dX0_relay_1 : decode cX0_relay 1 = .ok (.invokestatic 456, 3) := dk_184 1 200 (dk_at dksX0_relay_0 1 rfl rfl)
theorem dX0_relay_4 : decode cX0_relay 4 = .ok (.ifCond .eq 20, 3) := dk_153 0 20 (dk_at dksX0_relay_0 4 rfl rfl)
theorem dX0_relay_7 : decode cX0_relay 7 = .ok (.iload_n 2, 1) := dk_28 (dk_at dksX0_relay_0 7 rfl rfl)
theorem dX0_relay_8 : decode cX0_relay 8 = .ok (.iconst (-1), 1) := dk_2 (dk_at dksX0_relay_0 8 rfl rfl)
theorem dX0_relay_9 : decode cX0_relay 9 = .ok (.if_icmp .eq 10, 3) := dk_159 0 10 (dk_at dksX0_relay_0 9 rfl rfl)
theorem dX0_relay_12 : decode cX0_relay 12 = .ok (.iload_n 2, 1) := dk_28 (dk_at dksX0_relay_0 12 rfl rfl)
theorem dX0_relay_13 : decode cX0_relay 13 = .ok (.invokestatic 456, 3) := dk_184 1 200 (dk_at dksX0_relay_0 13 rfl rfl)
theorem dX0_relay_16 : decode cX0_relay 16 = .ok (.ifCond .eq 8, 3) := dk_153 0 8 (dk_at dksX0_relay_0 16 rfl rfl)
theorem dX0_relay_19 : decode cX0_relay 19 = .ok (.iload_n 1, 1) := dk_27 (dk_at dksX0_relay_0 19 rfl rfl)
theorem dX0_relay_20 : decode cX0_relay 20 = .ok (.iload_n 2, 1) := dk_28 (dk_at dksX0_relay_0 20 rfl rfl)
theorem dX0_relay_21 : decode cX0_relay 21 = .ok (.if_icmp .ne 5, 3) := dk_160 0 5 (dk_at dksX0_relay_0 21 rfl rfl)
theorem dX0_relay_24 : decode cX0_relay 24 = .ok (.iconst 0, 1) := dk_3 (dk_at dksX0_relay_1 0 rfl rfl)
theorem dX0_relay_25 : decode cX0_relay 25 = .ok (.ireturn, 1) := dk_172 (dk_at dksX0_relay_1 1 rfl rfl)
theorem dX0_relay_26 : decode cX0_relay 26 = .ok (.aload_n 0, 1) := dk_42 (dk_at dksX0_relay_1 2 rfl rfl)
theorem dX0_relay_27 : decode cX0_relay 27 = .ok (.getfield 68, 3) := dk_180 0 68 (dk_at dksX0_relay_1 3 rfl rfl)
theorem dX0_relay_30 : decode cX0_relay 30 = .ok (.getfield 459, 3) := dk_180 1 203 (dk_at dksX0_relay_1 6 rfl rfl)
theorem dX0_relay_33 : decode cX0_relay 33 = .ok (.iload_n 1, 1) := dk_27 (dk_at dksX0_relay_1 9 rfl rfl)
theorem dX0_relay_34 : decode cX0_relay 34 = .ok (.iload_n 2, 1) := dk_28 (dk_at dksX0_relay_1 10 rfl rfl)
theorem dX0_relay_35 : decode cX0_relay 35 = .ok (.iastore, 1) := dk_79 (dk_at dksX0_relay_1 11 rfl rfl)
theorem dX0_relay_36 : decode cX0_relay 36 = .ok (.iconst 1, 1) := dk_4 (dk_at dksX0_relay_1 12 rfl rfl)
theorem dX0_relay_37 : decode cX0_relay 37 = .ok (.ireturn, 1) := dk_172 (dk_at dksX0_relay_1 13 rfl rfl)
abbrev cX0_isAddress : ByteArray := prog_1_method_67_code
def yX0_isAddress : MethodName := ⟨RX0, "isAddress", "(I)Z"⟩
def dkwX0_isAddress_0 : List UInt8 := [26, 3, 16, 9, 184, 0, 3, 172]
abbrev dktX0_isAddress_0 : List UInt8 := dkwX0_isAddress_0 ++ []
theorem dksX0_isAddress_0 : cX0_isAddress.data.toList.drop 0 = dktX0_isAddress_0 := by decide +kernel
theorem dX0_isAddress_0 : decode cX0_isAddress 0 = .ok (.iload_n 0, 1) := dk_26 (dk_at dksX0_isAddress_0 0 rfl rfl)
theorem dX0_isAddress_1 : decode cX0_isAddress 1 = .ok (.iconst 0, 1) := dk_3 (dk_at dksX0_isAddress_0 1 rfl rfl)
theorem dX0_isAddress_2 : decode cX0_isAddress 2 = .ok (.bipush 9, 2) := dk_16 9 (dk_at dksX0_isAddress_0 2 rfl rfl)
theorem dX0_isAddress_4 : decode cX0_isAddress 4 = .ok (.invokestatic 3, 3) := dk_184 0 3 (dk_at dksX0_isAddress_0 4 rfl rfl)
theorem dX0_isAddress_7 : decode cX0_isAddress 7 = .ok (.ireturn, 1) := dk_172 (dk_at dksX0_isAddress_0 7 rfl rfl)
abbrev cX0_owner : ByteArray := prog_1_method_69_code
def yX0_owner : MethodName := ⟨RX0, "owner", "(II)Z"⟩
def dkwX0_owner_1 : List UInt8 := [180, 0, 68, 180, 1, 206, 27, 28, 79, 4, 172]
abbrev dktX0_owner_1 : List UInt8 := dkwX0_owner_1 ++ []
def dkwX0_owner_0 : List UInt8 := [27, 184, 1, 200, 153, 0, 16, 28, 2, 159, 0, 13, 42, 28, 182, 0, 213, 154, 0, 5, 3, 172, 42]
abbrev dktX0_owner_0 : List UInt8 := dkwX0_owner_0 ++ dktX0_owner_1
theorem dksX0_owner_0 : cX0_owner.data.toList.drop 0 = dktX0_owner_0 := by decide +kernel
theorem dksX0_owner_1 : cX0_owner.data.toList.drop 23 = dktX0_owner_1 := dk_seg dksX0_owner_0 23 rfl rfl
theorem dX0_owner_0 : decode cX0_owner 0 = .ok (.iload_n 1, 1) := dk_27 (dk_at dksX0_owner_0 0 rfl rfl)
theorem dX0_owner_1 : decode cX0_owner 1 = .ok (.invokestatic 456, 3) := dk_184 1 200 (dk_at dksX0_owner_0 1 rfl rfl)
theorem dX0_owner_4 : decode cX0_owner 4 = .ok (.ifCond .eq 16, 3) := dk_153 0 16 (dk_at dksX0_owner_0 4 rfl rfl)
theorem dX0_owner_7 : decode cX0_owner 7 = .ok (.iload_n 2, 1) := dk_28 (dk_at dksX0_owner_0 7 rfl rfl)
theorem dX0_owner_8 : decode cX0_owner 8 = .ok (.iconst (-1), 1) := dk_2 (dk_at dksX0_owner_0 8 rfl rfl)
theorem dX0_owner_9 : decode cX0_owner 9 = .ok (.if_icmp .eq 13, 3) := dk_159 0 13 (dk_at dksX0_owner_0 9 rfl rfl)
theorem dX0_owner_12 : decode cX0_owner 12 = .ok (.aload_n 0, 1) := dk_42 (dk_at dksX0_owner_0 12 rfl rfl)
theorem dX0_owner_13 : decode cX0_owner 13 = .ok (.iload_n 2, 1) := dk_28 (dk_at dksX0_owner_0 13 rfl rfl)
theorem dX0_owner_14 : decode cX0_owner 14 = .ok (.invokevirtual 213, 3) := dk_182 0 213 (dk_at dksX0_owner_0 14 rfl rfl)
theorem dX0_owner_17 : decode cX0_owner 17 = .ok (.ifCond .ne 5, 3) := dk_154 0 5 (dk_at dksX0_owner_0 17 rfl rfl)
theorem dX0_owner_20 : decode cX0_owner 20 = .ok (.iconst 0, 1) := dk_3 (dk_at dksX0_owner_0 20 rfl rfl)
theorem dX0_owner_21 : decode cX0_owner 21 = .ok (.ireturn, 1) := dk_172 (dk_at dksX0_owner_0 21 rfl rfl)
theorem dX0_owner_22 : decode cX0_owner 22 = .ok (.aload_n 0, 1) := dk_42 (dk_at dksX0_owner_0 22 rfl rfl)
theorem dX0_owner_23 : decode cX0_owner 23 = .ok (.getfield 68, 3) := dk_180 0 68 (dk_at dksX0_owner_1 0 rfl rfl)
theorem dX0_owner_26 : decode cX0_owner 26 = .ok (.getfield 462, 3) := dk_180 1 206 (dk_at dksX0_owner_1 3 rfl rfl)
theorem dX0_owner_29 : decode cX0_owner 29 = .ok (.iload_n 1, 1) := dk_27 (dk_at dksX0_owner_1 6 rfl rfl)
theorem dX0_owner_30 : decode cX0_owner 30 = .ok (.iload_n 2, 1) := dk_28 (dk_at dksX0_owner_1 7 rfl rfl)
theorem dX0_owner_31 : decode cX0_owner 31 = .ok (.iastore, 1) := dk_79 (dk_at dksX0_owner_1 8 rfl rfl)
theorem dX0_owner_32 : decode cX0_owner 32 = .ok (.iconst 1, 1) := dk_4 (dk_at dksX0_owner_1 9 rfl rfl)
theorem dX0_owner_33 : decode cX0_owner 33 = .ok (.ireturn, 1) := dk_172 (dk_at dksX0_owner_1 10 rfl rfl)
abbrev cX0_goes : ByteArray := prog_1_method_71_code
def yX0_goes : MethodName := ⟨RX0, "goes", "(IZ)I"⟩
def dkwX0_goes_1 : List UInt8 := [28, 153, 0, 10, 42, 180, 1, 209, 167, 0, 4, 29, 172]
abbrev dktX0_goes_1 : List UInt8 := dkwX0_goes_1 ++ []
def dkwX0_goes_0 : List UInt8 := [27, 184, 1, 200, 154, 0, 5, 2, 172, 42, 27, 182, 1, 212, 62, 29, 2, 160, 0, 7, 2, 167, 0, 15]
abbrev dktX0_goes_0 : List UInt8 := dkwX0_goes_0 ++ dktX0_goes_1
theorem dksX0_goes_0 : cX0_goes.data.toList.drop 0 = dktX0_goes_0 := by decide +kernel
theorem dksX0_goes_1 : cX0_goes.data.toList.drop 24 = dktX0_goes_1 := dk_seg dksX0_goes_0 24 rfl rfl
theorem dX0_goes_0 : decode cX0_goes 0 = .ok (.iload_n 1, 1) := dk_27 (dk_at dksX0_goes_0 0 rfl rfl)
theorem dX0_goes_1 : decode cX0_goes 1 = .ok (.invokestatic 456, 3) := dk_184 1 200 (dk_at dksX0_goes_0 1 rfl rfl)
theorem dX0_goes_4 : decode cX0_goes 4 = .ok (.ifCond .ne 5, 3) := dk_154 0 5 (dk_at dksX0_goes_0 4 rfl rfl)
theorem dX0_goes_7 : decode cX0_goes 7 = .ok (.iconst (-1), 1) := dk_2 (dk_at dksX0_goes_0 7 rfl rfl)
theorem dX0_goes_8 : decode cX0_goes 8 = .ok (.ireturn, 1) := dk_172 (dk_at dksX0_goes_0 8 rfl rfl)
theorem dX0_goes_9 : decode cX0_goes 9 = .ok (.aload_n 0, 1) := dk_42 (dk_at dksX0_goes_0 9 rfl rfl)
theorem dX0_goes_10 : decode cX0_goes 10 = .ok (.iload_n 1, 1) := dk_27 (dk_at dksX0_goes_0 10 rfl rfl)
theorem dX0_goes_11 : decode cX0_goes 11 = .ok (.invokevirtual 468, 3) := dk_182 1 212 (dk_at dksX0_goes_0 11 rfl rfl)
theorem dX0_goes_14 : decode cX0_goes 14 = .ok (.istore_n 3, 1) := dk_62 (dk_at dksX0_goes_0 14 rfl rfl)
theorem dX0_goes_15 : decode cX0_goes 15 = .ok (.iload_n 3, 1) := dk_29 (dk_at dksX0_goes_0 15 rfl rfl)
theorem dX0_goes_16 : decode cX0_goes 16 = .ok (.iconst (-1), 1) := dk_2 (dk_at dksX0_goes_0 16 rfl rfl)
theorem dX0_goes_17 : decode cX0_goes 17 = .ok (.if_icmp .ne 7, 3) := dk_160 0 7 (dk_at dksX0_goes_0 17 rfl rfl)
theorem dX0_goes_20 : decode cX0_goes 20 = .ok (.iconst (-1), 1) := dk_2 (dk_at dksX0_goes_0 20 rfl rfl)
theorem dX0_goes_21 : decode cX0_goes 21 = .ok (.goto 15, 3) := dk_167 0 15 (dk_at dksX0_goes_0 21 rfl rfl)
theorem dX0_goes_24 : decode cX0_goes 24 = .ok (.iload_n 2, 1) := dk_28 (dk_at dksX0_goes_1 0 rfl rfl)
theorem dX0_goes_25 : decode cX0_goes 25 = .ok (.ifCond .eq 10, 3) := dk_153 0 10 (dk_at dksX0_goes_1 1 rfl rfl)
theorem dX0_goes_28 : decode cX0_goes 28 = .ok (.aload_n 0, 1) := dk_42 (dk_at dksX0_goes_1 4 rfl rfl)
theorem dX0_goes_29 : decode cX0_goes 29 = .ok (.getfield 465, 3) := dk_180 1 209 (dk_at dksX0_goes_1 5 rfl rfl)
theorem dX0_goes_32 : decode cX0_goes 32 = .ok (.goto 4, 3) := dk_167 0 4 (dk_at dksX0_goes_1 8 rfl rfl)
theorem dX0_goes_35 : decode cX0_goes 35 = .ok (.iload_n 3, 1) := dk_29 (dk_at dksX0_goes_1 11 rfl rfl)
theorem dX0_goes_36 : decode cX0_goes 36 = .ok (.ireturn, 1) := dk_172 (dk_at dksX0_goes_1 12 rfl rfl)
abbrev cX0_endOf : ByteArray := prog_1_method_70_code
def yX0_endOf : MethodName := ⟨RX0, "endOf", "(I)I"⟩
def dkwX0_endOf_2 : List UInt8 := [181, 1, 209, 167, 255, 212, 28, 172]
abbrev dktX0_endOf_2 : List UInt8 := dkwX0_endOf_2 ++ []
def dkwX0_endOf_1 : List UInt8 := [16, 10, 160, 0, 5, 2, 172, 42, 180, 0, 68, 180, 1, 203, 28, 46, 61, 42, 89, 180, 1, 209, 4, 96]
abbrev dktX0_endOf_1 : List UInt8 := dkwX0_endOf_1 ++ dktX0_endOf_2
def dkwX0_endOf_0 : List UInt8 := [27, 61, 42, 3, 181, 1, 209, 42, 180, 0, 68, 180, 1, 203, 28, 46, 2, 159, 0, 37, 42, 180, 1, 209]
abbrev dktX0_endOf_0 : List UInt8 := dkwX0_endOf_0 ++ dktX0_endOf_1
theorem dksX0_endOf_0 : cX0_endOf.data.toList.drop 0 = dktX0_endOf_0 := by decide +kernel
theorem dksX0_endOf_1 : cX0_endOf.data.toList.drop 24 = dktX0_endOf_1 := dk_seg dksX0_endOf_0 24 rfl rfl
theorem dksX0_endOf_2 : cX0_endOf.data.toList.drop 48 = dktX0_endOf_2 := dk_seg dksX0_endOf_1 24 rfl rfl
theorem dX0_endOf_0 : decode cX0_endOf 0 = .ok (.iload_n 1, 1) := dk_27 (dk_at dksX0_endOf_0 0 rfl rfl)
theorem dX0_endOf_1 : decode cX0_endOf 1 = .ok (.istore_n 2, 1) := dk_61 (dk_at dksX0_endOf_0 1 rfl rfl)
theorem dX0_endOf_2 : decode cX0_endOf 2 = .ok (.aload_n 0, 1) := dk_42 (dk_at dksX0_endOf_0 2 rfl rfl)
theorem dX0_endOf_3 : decode cX0_endOf 3 = .ok (.iconst 0, 1) := dk_3 (dk_at dksX0_endOf_0 3 rfl rfl)
theorem dX0_endOf_4 : decode cX0_endOf 4 = .ok (.putfield 465, 3) := dk_181 1 209 (dk_at dksX0_endOf_0 4 rfl rfl)
theorem dX0_endOf_7 : decode cX0_endOf 7 = .ok (.aload_n 0, 1) := dk_42 (dk_at dksX0_endOf_0 7 rfl rfl)
theorem dX0_endOf_8 : decode cX0_endOf 8 = .ok (.getfield 68, 3) := dk_180 0 68 (dk_at dksX0_endOf_0 8 rfl rfl)
theorem dX0_endOf_11 : decode cX0_endOf 11 = .ok (.getfield 459, 3) := dk_180 1 203 (dk_at dksX0_endOf_0 11 rfl rfl)
theorem dX0_endOf_14 : decode cX0_endOf 14 = .ok (.iload_n 2, 1) := dk_28 (dk_at dksX0_endOf_0 14 rfl rfl)
theorem dX0_endOf_15 : decode cX0_endOf 15 = .ok (.iaload, 1) := dk_46 (dk_at dksX0_endOf_0 15 rfl rfl)
theorem dX0_endOf_16 : decode cX0_endOf 16 = .ok (.iconst (-1), 1) := dk_2 (dk_at dksX0_endOf_0 16 rfl rfl)
theorem dX0_endOf_17 : decode cX0_endOf 17 = .ok (.if_icmp .eq 37, 3) := dk_159 0 37 (dk_at dksX0_endOf_0 17 rfl rfl)
theorem dX0_endOf_20 : decode cX0_endOf 20 = .ok (.aload_n 0, 1) := dk_42 (dk_at dksX0_endOf_0 20 rfl rfl)
theorem dX0_endOf_21 : decode cX0_endOf 21 = .ok (.getfield 465, 3) := dk_180 1 209 (dk_at dksX0_endOf_0 21 rfl rfl)
theorem dX0_endOf_24 : decode cX0_endOf 24 = .ok (.bipush 10, 2) := dk_16 10 (dk_at dksX0_endOf_1 0 rfl rfl)
theorem dX0_endOf_26 : decode cX0_endOf 26 = .ok (.if_icmp .ne 5, 3) := dk_160 0 5 (dk_at dksX0_endOf_1 2 rfl rfl)
theorem dX0_endOf_29 : decode cX0_endOf 29 = .ok (.iconst (-1), 1) := dk_2 (dk_at dksX0_endOf_1 5 rfl rfl)
theorem dX0_endOf_30 : decode cX0_endOf 30 = .ok (.ireturn, 1) := dk_172 (dk_at dksX0_endOf_1 6 rfl rfl)
theorem dX0_endOf_31 : decode cX0_endOf 31 = .ok (.aload_n 0, 1) := dk_42 (dk_at dksX0_endOf_1 7 rfl rfl)
theorem dX0_endOf_32 : decode cX0_endOf 32 = .ok (.getfield 68, 3) := dk_180 0 68 (dk_at dksX0_endOf_1 8 rfl rfl)
theorem dX0_endOf_35 : decode cX0_endOf 35 = .ok (.getfield 459, 3) := dk_180 1 203 (dk_at dksX0_endOf_1 11 rfl rfl)
theorem dX0_endOf_38 : decode cX0_endOf 38 = .ok (.iload_n 2, 1) := dk_28 (dk_at dksX0_endOf_1 14 rfl rfl)
theorem dX0_endOf_39 : decode cX0_endOf 39 = .ok (.iaload, 1) := dk_46 (dk_at dksX0_endOf_1 15 rfl rfl)
theorem dX0_endOf_40 : decode cX0_endOf 40 = .ok (.istore_n 2, 1) := dk_61 (dk_at dksX0_endOf_1 16 rfl rfl)
theorem dX0_endOf_41 : decode cX0_endOf 41 = .ok (.aload_n 0, 1) := dk_42 (dk_at dksX0_endOf_1 17 rfl rfl)
theorem dX0_endOf_42 : decode cX0_endOf 42 = .ok (.dup, 1) := dk_89 (dk_at dksX0_endOf_1 18 rfl rfl)
theorem dX0_endOf_43 : decode cX0_endOf 43 = .ok (.getfield 465, 3) := dk_180 1 209 (dk_at dksX0_endOf_1 19 rfl rfl)
theorem dX0_endOf_46 : decode cX0_endOf 46 = .ok (.iconst 1, 1) := dk_4 (dk_at dksX0_endOf_1 22 rfl rfl)
theorem dX0_endOf_47 : decode cX0_endOf 47 = .ok (.iadd, 1) := dk_96 (dk_at dksX0_endOf_1 23 rfl rfl)
theorem dX0_endOf_48 : decode cX0_endOf 48 = .ok (.putfield 465, 3) := dk_181 1 209 (dk_at dksX0_endOf_2 0 rfl rfl)
theorem dX0_endOf_51 : decode cX0_endOf 51 = .ok (.goto (-44), 3) := dk_167 255 212 (dk_at dksX0_endOf_2 3 rfl rfl)
theorem dX0_endOf_54 : decode cX0_endOf 54 = .ok (.iload_n 2, 1) := dk_28 (dk_at dksX0_endOf_2 6 rfl rfl)
theorem dX0_endOf_55 : decode cX0_endOf 55 = .ok (.ireturn, 1) := dk_172 (dk_at dksX0_endOf_2 7 rfl rfl)
abbrev cX0_sent : ByteArray := prog_1_method_73_code
def yX0_sent : MethodName := ⟨RX0, "sent", "(III)I"⟩
def dkwX0_sent_2 : List UInt8 := [167, 0, 4, 2, 172]
abbrev dktX0_sent_2 : List UInt8 := dkwX0_sent_2 ++ []
def dkwX0_sent_1 : List UInt8 := [180, 0, 111, 42, 180, 0, 68, 180, 0, 183, 27, 50, 180, 1, 194, 28, 182, 1, 218, 180, 1, 222, 29, 46]
abbrev dktX0_sent_1 : List UInt8 := dkwX0_sent_1 ++ dktX0_sent_2
def dkwX0_sent_0 : List UInt8 := [42, 27, 182, 0, 125, 153, 0, 45, 28, 184, 1, 215, 153, 0, 38, 29, 184, 1, 200, 153, 0, 31, 42]
abbrev dktX0_sent_0 : List UInt8 := dkwX0_sent_0 ++ dktX0_sent_1
theorem dksX0_sent_0 : cX0_sent.data.toList.drop 0 = dktX0_sent_0 := by decide +kernel
theorem dksX0_sent_1 : cX0_sent.data.toList.drop 23 = dktX0_sent_1 := dk_seg dksX0_sent_0 23 rfl rfl
theorem dksX0_sent_2 : cX0_sent.data.toList.drop 47 = dktX0_sent_2 := dk_seg dksX0_sent_1 24 rfl rfl
theorem dX0_sent_0 : decode cX0_sent 0 = .ok (.aload_n 0, 1) := dk_42 (dk_at dksX0_sent_0 0 rfl rfl)
theorem dX0_sent_1 : decode cX0_sent 1 = .ok (.iload_n 1, 1) := dk_27 (dk_at dksX0_sent_0 1 rfl rfl)
theorem dX0_sent_2 : decode cX0_sent 2 = .ok (.invokevirtual 125, 3) := dk_182 0 125 (dk_at dksX0_sent_0 2 rfl rfl)
theorem dX0_sent_5 : decode cX0_sent 5 = .ok (.ifCond .eq 45, 3) := dk_153 0 45 (dk_at dksX0_sent_0 5 rfl rfl)
theorem dX0_sent_8 : decode cX0_sent 8 = .ok (.iload_n 2, 1) := dk_28 (dk_at dksX0_sent_0 8 rfl rfl)
theorem dX0_sent_9 : decode cX0_sent 9 = .ok (.invokestatic 471, 3) := dk_184 1 215 (dk_at dksX0_sent_0 9 rfl rfl)
theorem dX0_sent_12 : decode cX0_sent 12 = .ok (.ifCond .eq 38, 3) := dk_153 0 38 (dk_at dksX0_sent_0 12 rfl rfl)
theorem dX0_sent_15 : decode cX0_sent 15 = .ok (.iload_n 3, 1) := dk_29 (dk_at dksX0_sent_0 15 rfl rfl)
theorem dX0_sent_16 : decode cX0_sent 16 = .ok (.invokestatic 456, 3) := dk_184 1 200 (dk_at dksX0_sent_0 16 rfl rfl)
theorem dX0_sent_19 : decode cX0_sent 19 = .ok (.ifCond .eq 31, 3) := dk_153 0 31 (dk_at dksX0_sent_0 19 rfl rfl)
theorem dX0_sent_22 : decode cX0_sent 22 = .ok (.aload_n 0, 1) := dk_42 (dk_at dksX0_sent_0 22 rfl rfl)
theorem dX0_sent_23 : decode cX0_sent 23 = .ok (.getfield 111, 3) := dk_180 0 111 (dk_at dksX0_sent_1 0 rfl rfl)
theorem dX0_sent_26 : decode cX0_sent 26 = .ok (.aload_n 0, 1) := dk_42 (dk_at dksX0_sent_1 3 rfl rfl)
theorem dX0_sent_27 : decode cX0_sent 27 = .ok (.getfield 68, 3) := dk_180 0 68 (dk_at dksX0_sent_1 4 rfl rfl)
theorem dX0_sent_30 : decode cX0_sent 30 = .ok (.getfield 183, 3) := dk_180 0 183 (dk_at dksX0_sent_1 7 rfl rfl)
theorem dX0_sent_33 : decode cX0_sent 33 = .ok (.iload_n 1, 1) := dk_27 (dk_at dksX0_sent_1 10 rfl rfl)
theorem dX0_sent_34 : decode cX0_sent 34 = .ok (.aaload, 1) := dk_50 (dk_at dksX0_sent_1 11 rfl rfl)
theorem dX0_sent_35 : decode cX0_sent 35 = .ok (.getfield 450, 3) := dk_180 1 194 (dk_at dksX0_sent_1 12 rfl rfl)
theorem dX0_sent_38 : decode cX0_sent 38 = .ok (.iload_n 2, 1) := dk_28 (dk_at dksX0_sent_1 15 rfl rfl)
theorem dX0_sent_39 : decode cX0_sent 39 = .ok (.invokevirtual 474, 3) := dk_182 1 218 (dk_at dksX0_sent_1 16 rfl rfl)
theorem dX0_sent_42 : decode cX0_sent 42 = .ok (.getfield 478, 3) := dk_180 1 222 (dk_at dksX0_sent_1 19 rfl rfl)
theorem dX0_sent_45 : decode cX0_sent 45 = .ok (.iload_n 3, 1) := dk_29 (dk_at dksX0_sent_1 22 rfl rfl)
theorem dX0_sent_46 : decode cX0_sent 46 = .ok (.iaload, 1) := dk_46 (dk_at dksX0_sent_1 23 rfl rfl)
theorem dX0_sent_47 : decode cX0_sent 47 = .ok (.goto 4, 3) := dk_167 0 4 (dk_at dksX0_sent_2 0 rfl rfl)
theorem dX0_sent_50 : decode cX0_sent 50 = .ok (.iconst (-1), 1) := dk_2 (dk_at dksX0_sent_2 3 rfl rfl)
theorem dX0_sent_51 : decode cX0_sent 51 = .ok (.ireturn, 1) := dk_172 (dk_at dksX0_sent_2 4 rfl rfl)
abbrev cX0_isMade : ByteArray := prog_1_method_72_code
def yX0_isMade : MethodName := ⟨RX0, "isMade", "(I)Z"⟩
def dkwX0_isMade_0 : List UInt8 := [26, 3, 17, 3, 231, 184, 0, 3, 172]
abbrev dktX0_isMade_0 : List UInt8 := dkwX0_isMade_0 ++ []
theorem dksX0_isMade_0 : cX0_isMade.data.toList.drop 0 = dktX0_isMade_0 := by decide +kernel
theorem dX0_isMade_0 : decode cX0_isMade 0 = .ok (.iload_n 0, 1) := dk_26 (dk_at dksX0_isMade_0 0 rfl rfl)
theorem dX0_isMade_1 : decode cX0_isMade 1 = .ok (.iconst 0, 1) := dk_3 (dk_at dksX0_isMade_0 1 rfl rfl)
theorem dX0_isMade_2 : decode cX0_isMade 2 = .ok (.sipush 999, 3) := dk_17 3 231 (dk_at dksX0_isMade_0 2 rfl rfl)
theorem dX0_isMade_5 : decode cX0_isMade 5 = .ok (.invokestatic 3, 3) := dk_184 0 3 (dk_at dksX0_isMade_0 5 rfl rfl)
theorem dX0_isMade_8 : decode cX0_isMade 8 = .ok (.ireturn, 1) := dk_172 (dk_at dksX0_isMade_0 8 rfl rfl)
abbrev cX0_steps : ByteArray := prog_1_method_74_code
def yX0_steps : MethodName := ⟨RX0, "steps", "(II)I"⟩
def dkwX0_steps_1 : List UInt8 := [180, 0, 183, 27, 50, 180, 1, 194, 28, 182, 1, 218, 180, 1, 225, 167, 0, 4, 2, 172]
abbrev dktX0_steps_1 : List UInt8 := dkwX0_steps_1 ++ []
def dkwX0_steps_0 : List UInt8 := [42, 27, 182, 0, 125, 153, 0, 36, 28, 184, 1, 215, 153, 0, 29, 42, 180, 0, 111, 42, 180, 0, 68]
abbrev dktX0_steps_0 : List UInt8 := dkwX0_steps_0 ++ dktX0_steps_1
theorem dksX0_steps_0 : cX0_steps.data.toList.drop 0 = dktX0_steps_0 := by decide +kernel
theorem dksX0_steps_1 : cX0_steps.data.toList.drop 23 = dktX0_steps_1 := dk_seg dksX0_steps_0 23 rfl rfl
theorem dX0_steps_0 : decode cX0_steps 0 = .ok (.aload_n 0, 1) := dk_42 (dk_at dksX0_steps_0 0 rfl rfl)
theorem dX0_steps_1 : decode cX0_steps 1 = .ok (.iload_n 1, 1) := dk_27 (dk_at dksX0_steps_0 1 rfl rfl)
theorem dX0_steps_2 : decode cX0_steps 2 = .ok (.invokevirtual 125, 3) := dk_182 0 125 (dk_at dksX0_steps_0 2 rfl rfl)
theorem dX0_steps_5 : decode cX0_steps 5 = .ok (.ifCond .eq 36, 3) := dk_153 0 36 (dk_at dksX0_steps_0 5 rfl rfl)
theorem dX0_steps_8 : decode cX0_steps 8 = .ok (.iload_n 2, 1) := dk_28 (dk_at dksX0_steps_0 8 rfl rfl)
theorem dX0_steps_9 : decode cX0_steps 9 = .ok (.invokestatic 471, 3) := dk_184 1 215 (dk_at dksX0_steps_0 9 rfl rfl)
theorem dX0_steps_12 : decode cX0_steps 12 = .ok (.ifCond .eq 29, 3) := dk_153 0 29 (dk_at dksX0_steps_0 12 rfl rfl)
theorem dX0_steps_15 : decode cX0_steps 15 = .ok (.aload_n 0, 1) := dk_42 (dk_at dksX0_steps_0 15 rfl rfl)
theorem dX0_steps_16 : decode cX0_steps 16 = .ok (.getfield 111, 3) := dk_180 0 111 (dk_at dksX0_steps_0 16 rfl rfl)
theorem dX0_steps_19 : decode cX0_steps 19 = .ok (.aload_n 0, 1) := dk_42 (dk_at dksX0_steps_0 19 rfl rfl)
theorem dX0_steps_20 : decode cX0_steps 20 = .ok (.getfield 68, 3) := dk_180 0 68 (dk_at dksX0_steps_0 20 rfl rfl)
theorem dX0_steps_23 : decode cX0_steps 23 = .ok (.getfield 183, 3) := dk_180 0 183 (dk_at dksX0_steps_1 0 rfl rfl)
theorem dX0_steps_26 : decode cX0_steps 26 = .ok (.iload_n 1, 1) := dk_27 (dk_at dksX0_steps_1 3 rfl rfl)
theorem dX0_steps_27 : decode cX0_steps 27 = .ok (.aaload, 1) := dk_50 (dk_at dksX0_steps_1 4 rfl rfl)
theorem dX0_steps_28 : decode cX0_steps 28 = .ok (.getfield 450, 3) := dk_180 1 194 (dk_at dksX0_steps_1 5 rfl rfl)
theorem dX0_steps_31 : decode cX0_steps 31 = .ok (.iload_n 2, 1) := dk_28 (dk_at dksX0_steps_1 8 rfl rfl)
theorem dX0_steps_32 : decode cX0_steps 32 = .ok (.invokevirtual 474, 3) := dk_182 1 218 (dk_at dksX0_steps_1 9 rfl rfl)
theorem dX0_steps_35 : decode cX0_steps 35 = .ok (.getfield 481, 3) := dk_180 1 225 (dk_at dksX0_steps_1 12 rfl rfl)
theorem dX0_steps_38 : decode cX0_steps 38 = .ok (.goto 4, 3) := dk_167 0 4 (dk_at dksX0_steps_1 15 rfl rfl)
theorem dX0_steps_41 : decode cX0_steps 41 = .ok (.iconst (-1), 1) := dk_2 (dk_at dksX0_steps_1 18 rfl rfl)
theorem dX0_steps_42 : decode cX0_steps 42 = .ok (.ireturn, 1) := dk_172 (dk_at dksX0_steps_1 19 rfl rfl)
abbrev cX0_taken : ByteArray := prog_1_method_76_code
def yX0_taken : MethodName := ⟨RX0, "taken", "(II)I"⟩
def dkwX0_taken_3 : List UInt8 := [132, 5, 1, 167, 255, 233, 21, 4, 172]
abbrev dktX0_taken_3 : List UInt8 := dkwX0_taken_3 ++ []
def dkwX0_taken_2 : List UInt8 := [172, 3, 54, 5, 21, 5, 16, 100, 162, 0, 22, 21, 4, 42, 27, 21, 5, 29, 182, 1, 228, 128, 54, 4]
abbrev dktX0_taken_2 : List UInt8 := dkwX0_taken_2 ++ dktX0_taken_3
def dkwX0_taken_1 : List UInt8 := [3, 3, 182, 1, 56, 180, 1, 60, 62, 3, 54, 4, 28, 2, 159, 0, 11, 42, 27, 28, 29, 182, 1, 228]
abbrev dktX0_taken_1 : List UInt8 := dkwX0_taken_1 ++ dktX0_taken_2
def dkwX0_taken_0 : List UInt8 := [42, 27, 182, 0, 125, 153, 0, 15, 28, 2, 159, 0, 12, 28, 184, 1, 215, 154, 0, 5, 2, 172, 42, 27]
abbrev dktX0_taken_0 : List UInt8 := dkwX0_taken_0 ++ dktX0_taken_1
theorem dksX0_taken_0 : cX0_taken.data.toList.drop 0 = dktX0_taken_0 := by decide +kernel
theorem dksX0_taken_1 : cX0_taken.data.toList.drop 24 = dktX0_taken_1 := dk_seg dksX0_taken_0 24 rfl rfl
theorem dksX0_taken_2 : cX0_taken.data.toList.drop 48 = dktX0_taken_2 := dk_seg dksX0_taken_1 24 rfl rfl
theorem dksX0_taken_3 : cX0_taken.data.toList.drop 72 = dktX0_taken_3 := dk_seg dksX0_taken_2 24 rfl rfl
theorem dX0_taken_0 : decode cX0_taken 0 = .ok (.aload_n 0, 1) := dk_42 (dk_at dksX0_taken_0 0 rfl rfl)
theorem dX0_taken_1 : decode cX0_taken 1 = .ok (.iload_n 1, 1) := dk_27 (dk_at dksX0_taken_0 1 rfl rfl)
theorem dX0_taken_2 : decode cX0_taken 2 = .ok (.invokevirtual 125, 3) := dk_182 0 125 (dk_at dksX0_taken_0 2 rfl rfl)
theorem dX0_taken_5 : decode cX0_taken 5 = .ok (.ifCond .eq 15, 3) := dk_153 0 15 (dk_at dksX0_taken_0 5 rfl rfl)
theorem dX0_taken_8 : decode cX0_taken 8 = .ok (.iload_n 2, 1) := dk_28 (dk_at dksX0_taken_0 8 rfl rfl)
theorem dX0_taken_9 : decode cX0_taken 9 = .ok (.iconst (-1), 1) := dk_2 (dk_at dksX0_taken_0 9 rfl rfl)
theorem dX0_taken_10 : decode cX0_taken 10 = .ok (.if_icmp .eq 12, 3) := dk_159 0 12 (dk_at dksX0_taken_0 10 rfl rfl)
theorem dX0_taken_13 : decode cX0_taken 13 = .ok (.iload_n 2, 1) := dk_28 (dk_at dksX0_taken_0 13 rfl rfl)
theorem dX0_taken_14 : decode cX0_taken 14 = .ok (.invokestatic 471, 3) := dk_184 1 215 (dk_at dksX0_taken_0 14 rfl rfl)
theorem dX0_taken_17 : decode cX0_taken 17 = .ok (.ifCond .ne 5, 3) := dk_154 0 5 (dk_at dksX0_taken_0 17 rfl rfl)
theorem dX0_taken_20 : decode cX0_taken 20 = .ok (.iconst (-1), 1) := dk_2 (dk_at dksX0_taken_0 20 rfl rfl)
theorem dX0_taken_21 : decode cX0_taken 21 = .ok (.ireturn, 1) := dk_172 (dk_at dksX0_taken_0 21 rfl rfl)
theorem dX0_taken_22 : decode cX0_taken 22 = .ok (.aload_n 0, 1) := dk_42 (dk_at dksX0_taken_0 22 rfl rfl)
theorem dX0_taken_23 : decode cX0_taken 23 = .ok (.iload_n 1, 1) := dk_27 (dk_at dksX0_taken_0 23 rfl rfl)
theorem dX0_taken_24 : decode cX0_taken 24 = .ok (.iconst 0, 1) := dk_3 (dk_at dksX0_taken_1 0 rfl rfl)
theorem dX0_taken_25 : decode cX0_taken 25 = .ok (.iconst 0, 1) := dk_3 (dk_at dksX0_taken_1 1 rfl rfl)
theorem dX0_taken_26 : decode cX0_taken 26 = .ok (.invokevirtual 312, 3) := dk_182 1 56 (dk_at dksX0_taken_1 2 rfl rfl)
theorem dX0_taken_29 : decode cX0_taken 29 = .ok (.getfield 316, 3) := dk_180 1 60 (dk_at dksX0_taken_1 5 rfl rfl)
theorem dX0_taken_32 : decode cX0_taken 32 = .ok (.istore_n 3, 1) := dk_62 (dk_at dksX0_taken_1 8 rfl rfl)
theorem dX0_taken_33 : decode cX0_taken 33 = .ok (.iconst 0, 1) := dk_3 (dk_at dksX0_taken_1 9 rfl rfl)
theorem dX0_taken_34 : decode cX0_taken 34 = .ok (.istore 4, 2) := dk_54 4 (dk_at dksX0_taken_1 10 rfl rfl)
theorem dX0_taken_36 : decode cX0_taken 36 = .ok (.iload_n 2, 1) := dk_28 (dk_at dksX0_taken_1 12 rfl rfl)
theorem dX0_taken_37 : decode cX0_taken 37 = .ok (.iconst (-1), 1) := dk_2 (dk_at dksX0_taken_1 13 rfl rfl)
theorem dX0_taken_38 : decode cX0_taken 38 = .ok (.if_icmp .eq 11, 3) := dk_159 0 11 (dk_at dksX0_taken_1 14 rfl rfl)
theorem dX0_taken_41 : decode cX0_taken 41 = .ok (.aload_n 0, 1) := dk_42 (dk_at dksX0_taken_1 17 rfl rfl)
theorem dX0_taken_42 : decode cX0_taken 42 = .ok (.iload_n 1, 1) := dk_27 (dk_at dksX0_taken_1 18 rfl rfl)
theorem dX0_taken_43 : decode cX0_taken 43 = .ok (.iload_n 2, 1) := dk_28 (dk_at dksX0_taken_1 19 rfl rfl)
theorem dX0_taken_44 : decode cX0_taken 44 = .ok (.iload_n 3, 1) := dk_29 (dk_at dksX0_taken_1 20 rfl rfl)
theorem dX0_taken_45 : decode cX0_taken 45 = .ok (.invokevirtual 484, 3) := dk_182 1 228 (dk_at dksX0_taken_1 21 rfl rfl)
theorem dX0_taken_48 : decode cX0_taken 48 = .ok (.ireturn, 1) := dk_172 (dk_at dksX0_taken_2 0 rfl rfl)
theorem dX0_taken_49 : decode cX0_taken 49 = .ok (.iconst 0, 1) := dk_3 (dk_at dksX0_taken_2 1 rfl rfl)
theorem dX0_taken_50 : decode cX0_taken 50 = .ok (.istore 5, 2) := dk_54 5 (dk_at dksX0_taken_2 2 rfl rfl)
theorem dX0_taken_52 : decode cX0_taken 52 = .ok (.iload 5, 2) := dk_21 5 (dk_at dksX0_taken_2 4 rfl rfl)
theorem dX0_taken_54 : decode cX0_taken 54 = .ok (.bipush 100, 2) := dk_16 100 (dk_at dksX0_taken_2 6 rfl rfl)
theorem dX0_taken_56 : decode cX0_taken 56 = .ok (.if_icmp .ge 22, 3) := dk_162 0 22 (dk_at dksX0_taken_2 8 rfl rfl)
theorem dX0_taken_59 : decode cX0_taken 59 = .ok (.iload 4, 2) := dk_21 4 (dk_at dksX0_taken_2 11 rfl rfl)
theorem dX0_taken_61 : decode cX0_taken 61 = .ok (.aload_n 0, 1) := dk_42 (dk_at dksX0_taken_2 13 rfl rfl)
theorem dX0_taken_62 : decode cX0_taken 62 = .ok (.iload_n 1, 1) := dk_27 (dk_at dksX0_taken_2 14 rfl rfl)
theorem dX0_taken_63 : decode cX0_taken 63 = .ok (.iload 5, 2) := dk_21 5 (dk_at dksX0_taken_2 15 rfl rfl)
theorem dX0_taken_65 : decode cX0_taken 65 = .ok (.iload_n 3, 1) := dk_29 (dk_at dksX0_taken_2 17 rfl rfl)
theorem dX0_taken_66 : decode cX0_taken 66 = .ok (.invokevirtual 484, 3) := dk_182 1 228 (dk_at dksX0_taken_2 18 rfl rfl)
theorem dX0_taken_69 : decode cX0_taken 69 = .ok (.ior, 1) := dk_128 (dk_at dksX0_taken_2 21 rfl rfl)
theorem dX0_taken_70 : decode cX0_taken 70 = .ok (.istore 4, 2) := dk_54 4 (dk_at dksX0_taken_2 22 rfl rfl)
theorem dX0_taken_72 : decode cX0_taken 72 = .ok (.iinc 5 1, 3) := dk_132 5 1 (dk_at dksX0_taken_3 0 rfl rfl)
theorem dX0_taken_75 : decode cX0_taken 75 = .ok (.goto (-23), 3) := dk_167 255 233 (dk_at dksX0_taken_3 3 rfl rfl)
theorem dX0_taken_78 : decode cX0_taken 78 = .ok (.iload 4, 2) := dk_21 4 (dk_at dksX0_taken_3 6 rfl rfl)
theorem dX0_taken_80 : decode cX0_taken 80 = .ok (.ireturn, 1) := dk_172 (dk_at dksX0_taken_3 8 rfl rfl)
abbrev cX0_takenBy : ByteArray := prog_1_method_75_code
def yX0_takenBy : MethodName := ⟨RX0, "takenBy", "(III)I"⟩
def dkwX0_takenBy_4 : List UInt8 := [172]
abbrev dktX0_takenBy_4 : List UInt8 := dkwX0_takenBy_4 ++ []
def dkwX0_takenBy_3 : List UInt8 := [180, 0, 111, 180, 1, 222, 21, 5, 46, 167, 0, 4, 3, 128, 54, 4, 132, 5, 1, 167, 255, 194, 21, 4]
abbrev dktX0_takenBy_3 : List UInt8 := dkwX0_takenBy_3 ++ dktX0_takenBy_4
def dkwX0_takenBy_2 : List UInt8 := [159, 0, 22, 29, 2, 159, 0, 17, 42, 180, 0, 68, 180, 1, 206, 21, 6, 46, 29, 159, 0, 16, 42]
abbrev dktX0_takenBy_2 : List UInt8 := dkwX0_takenBy_2 ++ dktX0_takenBy_3
def dkwX0_takenBy_1 : List UInt8 := [3, 54, 5, 21, 5, 16, 10, 162, 0, 61, 42, 21, 5, 182, 1, 212, 54, 6, 21, 4, 21, 6, 2]
abbrev dktX0_takenBy_1 : List UInt8 := dkwX0_takenBy_1 ++ dktX0_takenBy_2
def dkwX0_takenBy_0 : List UInt8 := [3, 54, 4, 42, 180, 0, 111, 42, 180, 0, 68, 180, 0, 183, 27, 50, 180, 1, 194, 28, 182, 1, 218, 87]
abbrev dktX0_takenBy_0 : List UInt8 := dkwX0_takenBy_0 ++ dktX0_takenBy_1
theorem dksX0_takenBy_0 : cX0_takenBy.data.toList.drop 0 = dktX0_takenBy_0 := by decide +kernel
theorem dksX0_takenBy_1 : cX0_takenBy.data.toList.drop 24 = dktX0_takenBy_1 := dk_seg dksX0_takenBy_0 24 rfl rfl
theorem dksX0_takenBy_2 : cX0_takenBy.data.toList.drop 47 = dktX0_takenBy_2 := dk_seg dksX0_takenBy_1 23 rfl rfl
theorem dksX0_takenBy_3 : cX0_takenBy.data.toList.drop 70 = dktX0_takenBy_3 := dk_seg dksX0_takenBy_2 23 rfl rfl
theorem dksX0_takenBy_4 : cX0_takenBy.data.toList.drop 94 = dktX0_takenBy_4 := dk_seg dksX0_takenBy_3 24 rfl rfl
theorem dX0_takenBy_0 : decode cX0_takenBy 0 = .ok (.iconst 0, 1) := dk_3 (dk_at dksX0_takenBy_0 0 rfl rfl)
theorem dX0_takenBy_1 : decode cX0_takenBy 1 = .ok (.istore 4, 2) := dk_54 4 (dk_at dksX0_takenBy_0 1 rfl rfl)
theorem dX0_takenBy_3 : decode cX0_takenBy 3 = .ok (.aload_n 0, 1) := dk_42 (dk_at dksX0_takenBy_0 3 rfl rfl)
theorem dX0_takenBy_4 : decode cX0_takenBy 4 = .ok (.getfield 111, 3) := dk_180 0 111 (dk_at dksX0_takenBy_0 4 rfl rfl)
theorem dX0_takenBy_7 : decode cX0_takenBy 7 = .ok (.aload_n 0, 1) := dk_42 (dk_at dksX0_takenBy_0 7 rfl rfl)
theorem dX0_takenBy_8 : decode cX0_takenBy 8 = .ok (.getfield 68, 3) := dk_180 0 68 (dk_at dksX0_takenBy_0 8 rfl rfl)
theorem dX0_takenBy_11 : decode cX0_takenBy 11 = .ok (.getfield 183, 3) := dk_180 0 183 (dk_at dksX0_takenBy_0 11 rfl rfl)
theorem dX0_takenBy_14 : decode cX0_takenBy 14 = .ok (.iload_n 1, 1) := dk_27 (dk_at dksX0_takenBy_0 14 rfl rfl)
theorem dX0_takenBy_15 : decode cX0_takenBy 15 = .ok (.aaload, 1) := dk_50 (dk_at dksX0_takenBy_0 15 rfl rfl)
theorem dX0_takenBy_16 : decode cX0_takenBy 16 = .ok (.getfield 450, 3) := dk_180 1 194 (dk_at dksX0_takenBy_0 16 rfl rfl)
theorem dX0_takenBy_19 : decode cX0_takenBy 19 = .ok (.iload_n 2, 1) := dk_28 (dk_at dksX0_takenBy_0 19 rfl rfl)
theorem dX0_takenBy_20 : decode cX0_takenBy 20 = .ok (.invokevirtual 474, 3) := dk_182 1 218 (dk_at dksX0_takenBy_0 20 rfl rfl)
theorem dX0_takenBy_23 : decode cX0_takenBy 23 = .ok (.pop, 1) := dk_87 (dk_at dksX0_takenBy_0 23 rfl rfl)
theorem dX0_takenBy_24 : decode cX0_takenBy 24 = .ok (.iconst 0, 1) := dk_3 (dk_at dksX0_takenBy_1 0 rfl rfl)
theorem dX0_takenBy_25 : decode cX0_takenBy 25 = .ok (.istore 5, 2) := dk_54 5 (dk_at dksX0_takenBy_1 1 rfl rfl)
theorem dX0_takenBy_27 : decode cX0_takenBy 27 = .ok (.iload 5, 2) := dk_21 5 (dk_at dksX0_takenBy_1 3 rfl rfl)
theorem dX0_takenBy_29 : decode cX0_takenBy 29 = .ok (.bipush 10, 2) := dk_16 10 (dk_at dksX0_takenBy_1 5 rfl rfl)
theorem dX0_takenBy_31 : decode cX0_takenBy 31 = .ok (.if_icmp .ge 61, 3) := dk_162 0 61 (dk_at dksX0_takenBy_1 7 rfl rfl)
theorem dX0_takenBy_34 : decode cX0_takenBy 34 = .ok (.aload_n 0, 1) := dk_42 (dk_at dksX0_takenBy_1 10 rfl rfl)
theorem dX0_takenBy_35 : decode cX0_takenBy 35 = .ok (.iload 5, 2) := dk_21 5 (dk_at dksX0_takenBy_1 11 rfl rfl)
theorem dX0_takenBy_37 : decode cX0_takenBy 37 = .ok (.invokevirtual 468, 3) := dk_182 1 212 (dk_at dksX0_takenBy_1 13 rfl rfl)
theorem dX0_takenBy_40 : decode cX0_takenBy 40 = .ok (.istore 6, 2) := dk_54 6 (dk_at dksX0_takenBy_1 16 rfl rfl)
theorem dX0_takenBy_42 : decode cX0_takenBy 42 = .ok (.iload 4, 2) := dk_21 4 (dk_at dksX0_takenBy_1 18 rfl rfl)
theorem dX0_takenBy_44 : decode cX0_takenBy 44 = .ok (.iload 6, 2) := dk_21 6 (dk_at dksX0_takenBy_1 20 rfl rfl)
theorem dX0_takenBy_46 : decode cX0_takenBy 46 = .ok (.iconst (-1), 1) := dk_2 (dk_at dksX0_takenBy_1 22 rfl rfl)
theorem dX0_takenBy_47 : decode cX0_takenBy 47 = .ok (.if_icmp .eq 22, 3) := dk_159 0 22 (dk_at dksX0_takenBy_2 0 rfl rfl)
theorem dX0_takenBy_50 : decode cX0_takenBy 50 = .ok (.iload_n 3, 1) := dk_29 (dk_at dksX0_takenBy_2 3 rfl rfl)
theorem dX0_takenBy_51 : decode cX0_takenBy 51 = .ok (.iconst (-1), 1) := dk_2 (dk_at dksX0_takenBy_2 4 rfl rfl)
theorem dX0_takenBy_52 : decode cX0_takenBy 52 = .ok (.if_icmp .eq 17, 3) := dk_159 0 17 (dk_at dksX0_takenBy_2 5 rfl rfl)
theorem dX0_takenBy_55 : decode cX0_takenBy 55 = .ok (.aload_n 0, 1) := dk_42 (dk_at dksX0_takenBy_2 8 rfl rfl)
theorem dX0_takenBy_56 : decode cX0_takenBy 56 = .ok (.getfield 68, 3) := dk_180 0 68 (dk_at dksX0_takenBy_2 9 rfl rfl)
theorem dX0_takenBy_59 : decode cX0_takenBy 59 = .ok (.getfield 462, 3) := dk_180 1 206 (dk_at dksX0_takenBy_2 12 rfl rfl)
theorem dX0_takenBy_62 : decode cX0_takenBy 62 = .ok (.iload 6, 2) := dk_21 6 (dk_at dksX0_takenBy_2 15 rfl rfl)
theorem dX0_takenBy_64 : decode cX0_takenBy 64 = .ok (.iaload, 1) := dk_46 (dk_at dksX0_takenBy_2 17 rfl rfl)
theorem dX0_takenBy_65 : decode cX0_takenBy 65 = .ok (.iload_n 3, 1) := dk_29 (dk_at dksX0_takenBy_2 18 rfl rfl)
theorem dX0_takenBy_66 : decode cX0_takenBy 66 = .ok (.if_icmp .eq 16, 3) := dk_159 0 16 (dk_at dksX0_takenBy_2 19 rfl rfl)
theorem dX0_takenBy_69 : decode cX0_takenBy 69 = .ok (.aload_n 0, 1) := dk_42 (dk_at dksX0_takenBy_2 22 rfl rfl)
theorem dX0_takenBy_70 : decode cX0_takenBy 70 = .ok (.getfield 111, 3) := dk_180 0 111 (dk_at dksX0_takenBy_3 0 rfl rfl)
theorem dX0_takenBy_73 : decode cX0_takenBy 73 = .ok (.getfield 478, 3) := dk_180 1 222 (dk_at dksX0_takenBy_3 3 rfl rfl)
theorem dX0_takenBy_76 : decode cX0_takenBy 76 = .ok (.iload 5, 2) := dk_21 5 (dk_at dksX0_takenBy_3 6 rfl rfl)
theorem dX0_takenBy_78 : decode cX0_takenBy 78 = .ok (.iaload, 1) := dk_46 (dk_at dksX0_takenBy_3 8 rfl rfl)
theorem dX0_takenBy_79 : decode cX0_takenBy 79 = .ok (.goto 4, 3) := dk_167 0 4 (dk_at dksX0_takenBy_3 9 rfl rfl)
theorem dX0_takenBy_82 : decode cX0_takenBy 82 = .ok (.iconst 0, 1) := dk_3 (dk_at dksX0_takenBy_3 12 rfl rfl)
theorem dX0_takenBy_83 : decode cX0_takenBy 83 = .ok (.ior, 1) := dk_128 (dk_at dksX0_takenBy_3 13 rfl rfl)
theorem dX0_takenBy_84 : decode cX0_takenBy 84 = .ok (.istore 4, 2) := dk_54 4 (dk_at dksX0_takenBy_3 14 rfl rfl)
theorem dX0_takenBy_86 : decode cX0_takenBy 86 = .ok (.iinc 5 1, 3) := dk_132 5 1 (dk_at dksX0_takenBy_3 16 rfl rfl)
theorem dX0_takenBy_89 : decode cX0_takenBy 89 = .ok (.goto (-62), 3) := dk_167 255 194 (dk_at dksX0_takenBy_3 19 rfl rfl)
theorem dX0_takenBy_92 : decode cX0_takenBy 92 = .ok (.iload 4, 2) := dk_21 4 (dk_at dksX0_takenBy_3 22 rfl rfl)
theorem dX0_takenBy_94 : decode cX0_takenBy 94 = .ok (.ireturn, 1) := dk_172 (dk_at dksX0_takenBy_4 0 rfl rfl)
abbrev cX0_word : ByteArray := prog_1_method_77_code
def yX0_word : MethodName := ⟨RX0, "word", "(I)I"⟩
def dkwX0_word_8 : List UInt8 := [180, 1, 234, 4, 96, 181, 1, 234, 42, 180, 0, 68, 180, 1, 241, 21, 6, 27, 145, 84, 21, 6, 172]
abbrev dktX0_word_8 : List UInt8 := dkwX0_word_8 ++ []
def dkwX0_word_7 : List UInt8 := [180, 1, 234, 54, 6, 42, 180, 0, 68, 180, 1, 237, 21, 6, 22, 4, 80, 42, 180, 0, 68, 89]
abbrev dktX0_word_7 : List UInt8 := dkwX0_word_7 ++ dktX0_word_8
def dkwX0_word_6 : List UInt8 := [160, 0, 52, 42, 180, 0, 68, 180, 1, 234, 16, 20, 160, 0, 6, 16, 254, 172, 42, 180, 0, 68]
abbrev dktX0_word_6 : List UInt8 := dkwX0_word_6 ++ dktX0_word_7
def dkwX0_word_5 : List UInt8 := [21, 6, 51, 133, 129, 55, 4, 132, 6, 1, 167, 255, 228, 42, 22, 4, 182, 1, 231, 54, 6, 21, 6, 2]
abbrev dktX0_word_5 : List UInt8 := dkwX0_word_5 ++ dktX0_word_6
def dkwX0_word_4 : List UInt8 := [9, 55, 4, 3, 54, 6, 21, 6, 28, 162, 0, 28, 22, 4, 16, 8, 121, 42, 180, 0, 68, 180, 0, 142]
abbrev dktX0_word_4 : List UInt8 := dkwX0_word_4 ++ dktX0_word_5
def dkwX0_word_3 : List UInt8 := [159, 0, 10, 42, 4, 29, 182, 0, 152, 172, 28, 16, 8, 164, 0, 11, 42, 5, 16, 8, 182, 0, 152, 172]
abbrev dktX0_word_3 : List UInt8 := dkwX0_word_3 ++ dktX0_word_4
def dkwX0_word_2 : List UInt8 := [21, 4, 51, 16, 97, 16, 122, 184, 0, 3, 154, 0, 6, 21, 4, 62, 132, 4, 255, 167, 255, 225, 29, 2]
abbrev dktX0_word_2 : List UInt8 := dkwX0_word_2 ++ dktX0_word_3
def dkwX0_word_1 : List UInt8 := [154, 0, 6, 16, 254, 172, 28, 4, 100, 54, 4, 21, 4, 155, 0, 32, 42, 180, 0, 68, 180, 0, 142]
abbrev dktX0_word_1 : List UInt8 := dkwX0_word_1 ++ dktX0_word_2
def dkwX0_word_0 : List UInt8 := [42, 182, 0, 166, 61, 28, 154, 0, 7, 3, 167, 0, 4, 2, 62, 27, 3, 16, 7, 184, 0, 3]
abbrev dktX0_word_0 : List UInt8 := dkwX0_word_0 ++ dktX0_word_1
theorem dksX0_word_0 : cX0_word.data.toList.drop 0 = dktX0_word_0 := by decide +kernel
theorem dksX0_word_1 : cX0_word.data.toList.drop 22 = dktX0_word_1 := dk_seg dksX0_word_0 22 rfl rfl
theorem dksX0_word_2 : cX0_word.data.toList.drop 45 = dktX0_word_2 := dk_seg dksX0_word_1 23 rfl rfl
theorem dksX0_word_3 : cX0_word.data.toList.drop 69 = dktX0_word_3 := dk_seg dksX0_word_2 24 rfl rfl
theorem dksX0_word_4 : cX0_word.data.toList.drop 93 = dktX0_word_4 := dk_seg dksX0_word_3 24 rfl rfl
theorem dksX0_word_5 : cX0_word.data.toList.drop 117 = dktX0_word_5 := dk_seg dksX0_word_4 24 rfl rfl
theorem dksX0_word_6 : cX0_word.data.toList.drop 141 = dktX0_word_6 := dk_seg dksX0_word_5 24 rfl rfl
theorem dksX0_word_7 : cX0_word.data.toList.drop 163 = dktX0_word_7 := dk_seg dksX0_word_6 22 rfl rfl
theorem dksX0_word_8 : cX0_word.data.toList.drop 185 = dktX0_word_8 := dk_seg dksX0_word_7 22 rfl rfl
theorem dX0_word_0 : decode cX0_word 0 = .ok (.aload_n 0, 1) := dk_42 (dk_at dksX0_word_0 0 rfl rfl)
theorem dX0_word_1 : decode cX0_word 1 = .ok (.invokevirtual 166, 3) := dk_182 0 166 (dk_at dksX0_word_0 1 rfl rfl)
theorem dX0_word_4 : decode cX0_word 4 = .ok (.istore_n 2, 1) := dk_61 (dk_at dksX0_word_0 4 rfl rfl)
theorem dX0_word_5 : decode cX0_word 5 = .ok (.iload_n 2, 1) := dk_28 (dk_at dksX0_word_0 5 rfl rfl)
theorem dX0_word_6 : decode cX0_word 6 = .ok (.ifCond .ne 7, 3) := dk_154 0 7 (dk_at dksX0_word_0 6 rfl rfl)
theorem dX0_word_9 : decode cX0_word 9 = .ok (.iconst 0, 1) := dk_3 (dk_at dksX0_word_0 9 rfl rfl)
theorem dX0_word_10 : decode cX0_word 10 = .ok (.goto 4, 3) := dk_167 0 4 (dk_at dksX0_word_0 10 rfl rfl)
theorem dX0_word_13 : decode cX0_word 13 = .ok (.iconst (-1), 1) := dk_2 (dk_at dksX0_word_0 13 rfl rfl)
theorem dX0_word_14 : decode cX0_word 14 = .ok (.istore_n 3, 1) := dk_62 (dk_at dksX0_word_0 14 rfl rfl)
theorem dX0_word_15 : decode cX0_word 15 = .ok (.iload_n 1, 1) := dk_27 (dk_at dksX0_word_0 15 rfl rfl)
theorem dX0_word_16 : decode cX0_word 16 = .ok (.iconst 0, 1) := dk_3 (dk_at dksX0_word_0 16 rfl rfl)
theorem dX0_word_17 : decode cX0_word 17 = .ok (.bipush 7, 2) := dk_16 7 (dk_at dksX0_word_0 17 rfl rfl)
theorem dX0_word_19 : decode cX0_word 19 = .ok (.invokestatic 3, 3) := dk_184 0 3 (dk_at dksX0_word_0 19 rfl rfl)
theorem dX0_word_22 : decode cX0_word 22 = .ok (.ifCond .ne 6, 3) := dk_154 0 6 (dk_at dksX0_word_1 0 rfl rfl)
theorem dX0_word_25 : decode cX0_word 25 = .ok (.bipush (-2), 2) := dk_16 254 (dk_at dksX0_word_1 3 rfl rfl)
theorem dX0_word_27 : decode cX0_word 27 = .ok (.ireturn, 1) := dk_172 (dk_at dksX0_word_1 5 rfl rfl)
theorem dX0_word_28 : decode cX0_word 28 = .ok (.iload_n 2, 1) := dk_28 (dk_at dksX0_word_1 6 rfl rfl)
theorem dX0_word_29 : decode cX0_word 29 = .ok (.iconst 1, 1) := dk_4 (dk_at dksX0_word_1 7 rfl rfl)
theorem dX0_word_30 : decode cX0_word 30 = .ok (.isub, 1) := dk_100 (dk_at dksX0_word_1 8 rfl rfl)
theorem dX0_word_31 : decode cX0_word 31 = .ok (.istore 4, 2) := dk_54 4 (dk_at dksX0_word_1 9 rfl rfl)
theorem dX0_word_33 : decode cX0_word 33 = .ok (.iload 4, 2) := dk_21 4 (dk_at dksX0_word_1 11 rfl rfl)
theorem dX0_word_35 : decode cX0_word 35 = .ok (.ifCond .lt 32, 3) := dk_155 0 32 (dk_at dksX0_word_1 13 rfl rfl)
theorem dX0_word_38 : decode cX0_word 38 = .ok (.aload_n 0, 1) := dk_42 (dk_at dksX0_word_1 16 rfl rfl)
theorem dX0_word_39 : decode cX0_word 39 = .ok (.getfield 68, 3) := dk_180 0 68 (dk_at dksX0_word_1 17 rfl rfl)
theorem dX0_word_42 : decode cX0_word 42 = .ok (.getfield 142, 3) := dk_180 0 142 (dk_at dksX0_word_1 20 rfl rfl)
theorem dX0_word_45 : decode cX0_word 45 = .ok (.iload 4, 2) := dk_21 4 (dk_at dksX0_word_2 0 rfl rfl)
theorem dX0_word_47 : decode cX0_word 47 = .ok (.baload, 1) := dk_51 (dk_at dksX0_word_2 2 rfl rfl)
theorem dX0_word_48 : decode cX0_word 48 = .ok (.bipush 97, 2) := dk_16 97 (dk_at dksX0_word_2 3 rfl rfl)
theorem dX0_word_50 : decode cX0_word 50 = .ok (.bipush 122, 2) := dk_16 122 (dk_at dksX0_word_2 5 rfl rfl)
theorem dX0_word_52 : decode cX0_word 52 = .ok (.invokestatic 3, 3) := dk_184 0 3 (dk_at dksX0_word_2 7 rfl rfl)
theorem dX0_word_55 : decode cX0_word 55 = .ok (.ifCond .ne 6, 3) := dk_154 0 6 (dk_at dksX0_word_2 10 rfl rfl)
theorem dX0_word_58 : decode cX0_word 58 = .ok (.iload 4, 2) := dk_21 4 (dk_at dksX0_word_2 13 rfl rfl)
theorem dX0_word_60 : decode cX0_word 60 = .ok (.istore_n 3, 1) := dk_62 (dk_at dksX0_word_2 15 rfl rfl)
theorem dX0_word_61 : decode cX0_word 61 = .ok (.iinc 4 (-1), 3) := dk_132 4 255 (dk_at dksX0_word_2 16 rfl rfl)
theorem dX0_word_64 : decode cX0_word 64 = .ok (.goto (-31), 3) := dk_167 255 225 (dk_at dksX0_word_2 19 rfl rfl)
theorem dX0_word_67 : decode cX0_word 67 = .ok (.iload_n 3, 1) := dk_29 (dk_at dksX0_word_2 22 rfl rfl)
theorem dX0_word_68 : decode cX0_word 68 = .ok (.iconst (-1), 1) := dk_2 (dk_at dksX0_word_2 23 rfl rfl)
theorem dX0_word_69 : decode cX0_word 69 = .ok (.if_icmp .eq 10, 3) := dk_159 0 10 (dk_at dksX0_word_3 0 rfl rfl)
theorem dX0_word_72 : decode cX0_word 72 = .ok (.aload_n 0, 1) := dk_42 (dk_at dksX0_word_3 3 rfl rfl)
theorem dX0_word_73 : decode cX0_word 73 = .ok (.iconst 1, 1) := dk_4 (dk_at dksX0_word_3 4 rfl rfl)
theorem dX0_word_74 : decode cX0_word 74 = .ok (.iload_n 3, 1) := dk_29 (dk_at dksX0_word_3 5 rfl rfl)
theorem dX0_word_75 : decode cX0_word 75 = .ok (.invokevirtual 152, 3) := dk_182 0 152 (dk_at dksX0_word_3 6 rfl rfl)
theorem dX0_word_78 : decode cX0_word 78 = .ok (.ireturn, 1) := dk_172 (dk_at dksX0_word_3 9 rfl rfl)
theorem dX0_word_79 : decode cX0_word 79 = .ok (.iload_n 2, 1) := dk_28 (dk_at dksX0_word_3 10 rfl rfl)
theorem dX0_word_80 : decode cX0_word 80 = .ok (.bipush 8, 2) := dk_16 8 (dk_at dksX0_word_3 11 rfl rfl)
theorem dX0_word_82 : decode cX0_word 82 = .ok (.if_icmp .le 11, 3) := dk_164 0 11 (dk_at dksX0_word_3 13 rfl rfl)
theorem dX0_word_85 : decode cX0_word 85 = .ok (.aload_n 0, 1) := dk_42 (dk_at dksX0_word_3 16 rfl rfl)
theorem dX0_word_86 : decode cX0_word 86 = .ok (.iconst 2, 1) := dk_5 (dk_at dksX0_word_3 17 rfl rfl)
theorem dX0_word_87 : decode cX0_word 87 = .ok (.bipush 8, 2) := dk_16 8 (dk_at dksX0_word_3 18 rfl rfl)
theorem dX0_word_89 : decode cX0_word 89 = .ok (.invokevirtual 152, 3) := dk_182 0 152 (dk_at dksX0_word_3 20 rfl rfl)
theorem dX0_word_92 : decode cX0_word 92 = .ok (.ireturn, 1) := dk_172 (dk_at dksX0_word_3 23 rfl rfl)
theorem dX0_word_93 : decode cX0_word 93 = .ok (.lconst 0, 1) := dk_9 (dk_at dksX0_word_4 0 rfl rfl)
theorem dX0_word_94 : decode cX0_word 94 = .ok (.lstore 4, 2) := dk_55 4 (dk_at dksX0_word_4 1 rfl rfl)
theorem dX0_word_96 : decode cX0_word 96 = .ok (.iconst 0, 1) := dk_3 (dk_at dksX0_word_4 3 rfl rfl)
theorem dX0_word_97 : decode cX0_word 97 = .ok (.istore 6, 2) := dk_54 6 (dk_at dksX0_word_4 4 rfl rfl)
theorem dX0_word_99 : decode cX0_word 99 = .ok (.iload 6, 2) := dk_21 6 (dk_at dksX0_word_4 6 rfl rfl)
theorem dX0_word_101 : decode cX0_word 101 = .ok (.iload_n 2, 1) := dk_28 (dk_at dksX0_word_4 8 rfl rfl)
theorem dX0_word_102 : decode cX0_word 102 = .ok (.if_icmp .ge 28, 3) := dk_162 0 28 (dk_at dksX0_word_4 9 rfl rfl)
theorem dX0_word_105 : decode cX0_word 105 = .ok (.lload 4, 2) := dk_22 4 (dk_at dksX0_word_4 12 rfl rfl)
theorem dX0_word_107 : decode cX0_word 107 = .ok (.bipush 8, 2) := dk_16 8 (dk_at dksX0_word_4 14 rfl rfl)
theorem dX0_word_109 : decode cX0_word 109 = .ok (.lshl, 1) := dk_121 (dk_at dksX0_word_4 16 rfl rfl)
theorem dX0_word_110 : decode cX0_word 110 = .ok (.aload_n 0, 1) := dk_42 (dk_at dksX0_word_4 17 rfl rfl)
theorem dX0_word_111 : decode cX0_word 111 = .ok (.getfield 68, 3) := dk_180 0 68 (dk_at dksX0_word_4 18 rfl rfl)
theorem dX0_word_114 : decode cX0_word 114 = .ok (.getfield 142, 3) := dk_180 0 142 (dk_at dksX0_word_4 21 rfl rfl)
theorem dX0_word_117 : decode cX0_word 117 = .ok (.iload 6, 2) := dk_21 6 (dk_at dksX0_word_5 0 rfl rfl)
theorem dX0_word_119 : decode cX0_word 119 = .ok (.baload, 1) := dk_51 (dk_at dksX0_word_5 2 rfl rfl)
theorem dX0_word_120 : decode cX0_word 120 = .ok (.i2l, 1) := dk_133 (dk_at dksX0_word_5 3 rfl rfl)
theorem dX0_word_121 : decode cX0_word 121 = .ok (.lor, 1) := dk_129 (dk_at dksX0_word_5 4 rfl rfl)
theorem dX0_word_122 : decode cX0_word 122 = .ok (.lstore 4, 2) := dk_55 4 (dk_at dksX0_word_5 5 rfl rfl)
theorem dX0_word_124 : decode cX0_word 124 = .ok (.iinc 6 1, 3) := dk_132 6 1 (dk_at dksX0_word_5 7 rfl rfl)
theorem dX0_word_127 : decode cX0_word 127 = .ok (.goto (-28), 3) := dk_167 255 228 (dk_at dksX0_word_5 10 rfl rfl)
theorem dX0_word_130 : decode cX0_word 130 = .ok (.aload_n 0, 1) := dk_42 (dk_at dksX0_word_5 13 rfl rfl)
theorem dX0_word_131 : decode cX0_word 131 = .ok (.lload 4, 2) := dk_22 4 (dk_at dksX0_word_5 14 rfl rfl)
theorem dX0_word_133 : decode cX0_word 133 = .ok (.invokevirtual 487, 3) := dk_182 1 231 (dk_at dksX0_word_5 16 rfl rfl)
theorem dX0_word_136 : decode cX0_word 136 = .ok (.istore 6, 2) := dk_54 6 (dk_at dksX0_word_5 19 rfl rfl)
theorem dX0_word_138 : decode cX0_word 138 = .ok (.iload 6, 2) := dk_21 6 (dk_at dksX0_word_5 21 rfl rfl)
theorem dX0_word_140 : decode cX0_word 140 = .ok (.iconst (-1), 1) := dk_2 (dk_at dksX0_word_5 23 rfl rfl)
theorem dX0_word_141 : decode cX0_word 141 = .ok (.if_icmp .ne 52, 3) := dk_160 0 52 (dk_at dksX0_word_6 0 rfl rfl)
theorem dX0_word_144 : decode cX0_word 144 = .ok (.aload_n 0, 1) := dk_42 (dk_at dksX0_word_6 3 rfl rfl)
theorem dX0_word_145 : decode cX0_word 145 = .ok (.getfield 68, 3) := dk_180 0 68 (dk_at dksX0_word_6 4 rfl rfl)
theorem dX0_word_148 : decode cX0_word 148 = .ok (.getfield 490, 3) := dk_180 1 234 (dk_at dksX0_word_6 7 rfl rfl)
theorem dX0_word_151 : decode cX0_word 151 = .ok (.bipush 20, 2) := dk_16 20 (dk_at dksX0_word_6 10 rfl rfl)
theorem dX0_word_153 : decode cX0_word 153 = .ok (.if_icmp .ne 6, 3) := dk_160 0 6 (dk_at dksX0_word_6 12 rfl rfl)
theorem dX0_word_156 : decode cX0_word 156 = .ok (.bipush (-2), 2) := dk_16 254 (dk_at dksX0_word_6 15 rfl rfl)
theorem dX0_word_158 : decode cX0_word 158 = .ok (.ireturn, 1) := dk_172 (dk_at dksX0_word_6 17 rfl rfl)
theorem dX0_word_159 : decode cX0_word 159 = .ok (.aload_n 0, 1) := dk_42 (dk_at dksX0_word_6 18 rfl rfl)
theorem dX0_word_160 : decode cX0_word 160 = .ok (.getfield 68, 3) := dk_180 0 68 (dk_at dksX0_word_6 19 rfl rfl)
theorem dX0_word_163 : decode cX0_word 163 = .ok (.getfield 490, 3) := dk_180 1 234 (dk_at dksX0_word_7 0 rfl rfl)
theorem dX0_word_166 : decode cX0_word 166 = .ok (.istore 6, 2) := dk_54 6 (dk_at dksX0_word_7 3 rfl rfl)
theorem dX0_word_168 : decode cX0_word 168 = .ok (.aload_n 0, 1) := dk_42 (dk_at dksX0_word_7 5 rfl rfl)
theorem dX0_word_169 : decode cX0_word 169 = .ok (.getfield 68, 3) := dk_180 0 68 (dk_at dksX0_word_7 6 rfl rfl)
theorem dX0_word_172 : decode cX0_word 172 = .ok (.getfield 493, 3) := dk_180 1 237 (dk_at dksX0_word_7 9 rfl rfl)
theorem dX0_word_175 : decode cX0_word 175 = .ok (.iload 6, 2) := dk_21 6 (dk_at dksX0_word_7 12 rfl rfl)
theorem dX0_word_177 : decode cX0_word 177 = .ok (.lload 4, 2) := dk_22 4 (dk_at dksX0_word_7 14 rfl rfl)
theorem dX0_word_179 : decode cX0_word 179 = .ok (.lastore, 1) := dk_80 (dk_at dksX0_word_7 16 rfl rfl)
theorem dX0_word_180 : decode cX0_word 180 = .ok (.aload_n 0, 1) := dk_42 (dk_at dksX0_word_7 17 rfl rfl)
theorem dX0_word_181 : decode cX0_word 181 = .ok (.getfield 68, 3) := dk_180 0 68 (dk_at dksX0_word_7 18 rfl rfl)
theorem dX0_word_184 : decode cX0_word 184 = .ok (.dup, 1) := dk_89 (dk_at dksX0_word_7 21 rfl rfl)
theorem dX0_word_185 : decode cX0_word 185 = .ok (.getfield 490, 3) := dk_180 1 234 (dk_at dksX0_word_8 0 rfl rfl)
theorem dX0_word_188 : decode cX0_word 188 = .ok (.iconst 1, 1) := dk_4 (dk_at dksX0_word_8 3 rfl rfl)
theorem dX0_word_189 : decode cX0_word 189 = .ok (.iadd, 1) := dk_96 (dk_at dksX0_word_8 4 rfl rfl)
theorem dX0_word_190 : decode cX0_word 190 = .ok (.putfield 490, 3) := dk_181 1 234 (dk_at dksX0_word_8 5 rfl rfl)
theorem dX0_word_193 : decode cX0_word 193 = .ok (.aload_n 0, 1) := dk_42 (dk_at dksX0_word_8 8 rfl rfl)
theorem dX0_word_194 : decode cX0_word 194 = .ok (.getfield 68, 3) := dk_180 0 68 (dk_at dksX0_word_8 9 rfl rfl)
theorem dX0_word_197 : decode cX0_word 197 = .ok (.getfield 497, 3) := dk_180 1 241 (dk_at dksX0_word_8 12 rfl rfl)
theorem dX0_word_200 : decode cX0_word 200 = .ok (.iload 6, 2) := dk_21 6 (dk_at dksX0_word_8 15 rfl rfl)
theorem dX0_word_202 : decode cX0_word 202 = .ok (.iload_n 1, 1) := dk_27 (dk_at dksX0_word_8 17 rfl rfl)
theorem dX0_word_203 : decode cX0_word 203 = .ok (.i2b, 1) := dk_145 (dk_at dksX0_word_8 18 rfl rfl)
theorem dX0_word_204 : decode cX0_word 204 = .ok (.bastore, 1) := dk_84 (dk_at dksX0_word_8 19 rfl rfl)
theorem dX0_word_205 : decode cX0_word 205 = .ok (.iload 6, 2) := dk_21 6 (dk_at dksX0_word_8 20 rfl rfl)
theorem dX0_word_207 : decode cX0_word 207 = .ok (.ireturn, 1) := dk_172 (dk_at dksX0_word_8 22 rfl rfl)
abbrev cX0_place : ByteArray := prog_1_method_78_code
def yX0_place : MethodName := ⟨RX0, "place", "(J)I"⟩
def dkwX0_place_1 : List UInt8 := [154, 0, 5, 29, 172, 132, 3, 1, 167, 255, 226, 2, 172]
abbrev dktX0_place_1 : List UInt8 := dkwX0_place_1 ++ []
def dkwX0_place_0 : List UInt8 := [3, 62, 29, 42, 180, 0, 68, 180, 1, 234, 162, 0, 25, 42, 180, 0, 68, 180, 1, 237, 29, 47, 31, 148]
abbrev dktX0_place_0 : List UInt8 := dkwX0_place_0 ++ dktX0_place_1
theorem dksX0_place_0 : cX0_place.data.toList.drop 0 = dktX0_place_0 := by decide +kernel
theorem dksX0_place_1 : cX0_place.data.toList.drop 24 = dktX0_place_1 := dk_seg dksX0_place_0 24 rfl rfl
theorem dX0_place_0 : decode cX0_place 0 = .ok (.iconst 0, 1) := dk_3 (dk_at dksX0_place_0 0 rfl rfl)
theorem dX0_place_1 : decode cX0_place 1 = .ok (.istore_n 3, 1) := dk_62 (dk_at dksX0_place_0 1 rfl rfl)
theorem dX0_place_2 : decode cX0_place 2 = .ok (.iload_n 3, 1) := dk_29 (dk_at dksX0_place_0 2 rfl rfl)
theorem dX0_place_3 : decode cX0_place 3 = .ok (.aload_n 0, 1) := dk_42 (dk_at dksX0_place_0 3 rfl rfl)
theorem dX0_place_4 : decode cX0_place 4 = .ok (.getfield 68, 3) := dk_180 0 68 (dk_at dksX0_place_0 4 rfl rfl)
theorem dX0_place_7 : decode cX0_place 7 = .ok (.getfield 490, 3) := dk_180 1 234 (dk_at dksX0_place_0 7 rfl rfl)
theorem dX0_place_10 : decode cX0_place 10 = .ok (.if_icmp .ge 25, 3) := dk_162 0 25 (dk_at dksX0_place_0 10 rfl rfl)
theorem dX0_place_13 : decode cX0_place 13 = .ok (.aload_n 0, 1) := dk_42 (dk_at dksX0_place_0 13 rfl rfl)
theorem dX0_place_14 : decode cX0_place 14 = .ok (.getfield 68, 3) := dk_180 0 68 (dk_at dksX0_place_0 14 rfl rfl)
theorem dX0_place_17 : decode cX0_place 17 = .ok (.getfield 493, 3) := dk_180 1 237 (dk_at dksX0_place_0 17 rfl rfl)
theorem dX0_place_20 : decode cX0_place 20 = .ok (.iload_n 3, 1) := dk_29 (dk_at dksX0_place_0 20 rfl rfl)
theorem dX0_place_21 : decode cX0_place 21 = .ok (.laload, 1) := dk_47 (dk_at dksX0_place_0 21 rfl rfl)
theorem dX0_place_22 : decode cX0_place 22 = .ok (.lload_n 1, 1) := dk_31 (dk_at dksX0_place_0 22 rfl rfl)
theorem dX0_place_23 : decode cX0_place 23 = .ok (.lcmp, 1) := dk_148 (dk_at dksX0_place_0 23 rfl rfl)
theorem dX0_place_24 : decode cX0_place 24 = .ok (.ifCond .ne 5, 3) := dk_154 0 5 (dk_at dksX0_place_1 0 rfl rfl)
theorem dX0_place_27 : decode cX0_place 27 = .ok (.iload_n 3, 1) := dk_29 (dk_at dksX0_place_1 3 rfl rfl)
theorem dX0_place_28 : decode cX0_place 28 = .ok (.ireturn, 1) := dk_172 (dk_at dksX0_place_1 4 rfl rfl)
theorem dX0_place_29 : decode cX0_place 29 = .ok (.iinc 3 1, 3) := dk_132 3 1 (dk_at dksX0_place_1 5 rfl rfl)
theorem dX0_place_32 : decode cX0_place 32 = .ok (.goto (-30), 3) := dk_167 255 226 (dk_at dksX0_place_1 8 rfl rfl)
theorem dX0_place_35 : decode cX0_place 35 = .ok (.iconst (-1), 1) := dk_2 (dk_at dksX0_place_1 11 rfl rfl)
theorem dX0_place_36 : decode cX0_place 36 = .ok (.ireturn, 1) := dk_172 (dk_at dksX0_place_1 12 rfl rfl)
abbrev cX0_pattern : ByteArray := prog_1_method_79_code
def yX0_pattern : MethodName := ⟨RX0, "pattern", "(II)I"⟩
def dkwX0_pattern_3 : List UInt8 := [181, 1, 244, 42, 180, 0, 68, 180, 1, 244, 4, 100, 172]
abbrev dktX0_pattern_3 : List UInt8 := dkwX0_pattern_3 ++ []
def dkwX0_pattern_2 : List UInt8 := [180, 1, 244, 187, 1, 251, 89, 27, 28, 183, 1, 253, 83, 42, 180, 0, 68, 89, 180, 1, 244, 4, 96]
abbrev dktX0_pattern_2 : List UInt8 := dkwX0_pattern_2 ++ dktX0_pattern_3
def dkwX0_pattern_1 : List UInt8 := [16, 157, 16, 99, 184, 0, 3, 154, 0, 5, 2, 172, 42, 180, 0, 68, 180, 1, 247, 42, 180, 0, 68]
abbrev dktX0_pattern_1 : List UInt8 := dkwX0_pattern_1 ++ dktX0_pattern_2
def dkwX0_pattern_0 : List UInt8 := [42, 180, 0, 68, 180, 1, 244, 16, 8, 159, 0, 25, 27, 4, 17, 0, 255, 184, 0, 3, 153, 0, 14, 28]
abbrev dktX0_pattern_0 : List UInt8 := dkwX0_pattern_0 ++ dktX0_pattern_1
theorem dksX0_pattern_0 : cX0_pattern.data.toList.drop 0 = dktX0_pattern_0 := by decide +kernel
theorem dksX0_pattern_1 : cX0_pattern.data.toList.drop 24 = dktX0_pattern_1 := dk_seg dksX0_pattern_0 24 rfl rfl
theorem dksX0_pattern_2 : cX0_pattern.data.toList.drop 47 = dktX0_pattern_2 := dk_seg dksX0_pattern_1 23 rfl rfl
theorem dksX0_pattern_3 : cX0_pattern.data.toList.drop 70 = dktX0_pattern_3 := dk_seg dksX0_pattern_2 23 rfl rfl
theorem dX0_pattern_0 : decode cX0_pattern 0 = .ok (.aload_n 0, 1) := dk_42 (dk_at dksX0_pattern_0 0 rfl rfl)
theorem dX0_pattern_1 : decode cX0_pattern 1 = .ok (.getfield 68, 3) := dk_180 0 68 (dk_at dksX0_pattern_0 1 rfl rfl)
theorem dX0_pattern_4 : decode cX0_pattern 4 = .ok (.getfield 500, 3) := dk_180 1 244 (dk_at dksX0_pattern_0 4 rfl rfl)
theorem dX0_pattern_7 : decode cX0_pattern 7 = .ok (.bipush 8, 2) := dk_16 8 (dk_at dksX0_pattern_0 7 rfl rfl)
theorem dX0_pattern_9 : decode cX0_pattern 9 = .ok (.if_icmp .eq 25, 3) := dk_159 0 25 (dk_at dksX0_pattern_0 9 rfl rfl)
theorem dX0_pattern_12 : decode cX0_pattern 12 = .ok (.iload_n 1, 1) := dk_27 (dk_at dksX0_pattern_0 12 rfl rfl)
theorem dX0_pattern_13 : decode cX0_pattern 13 = .ok (.iconst 1, 1) := dk_4 (dk_at dksX0_pattern_0 13 rfl rfl)
theorem dX0_pattern_14 : decode cX0_pattern 14 = .ok (.sipush 255, 3) := dk_17 0 255 (dk_at dksX0_pattern_0 14 rfl rfl)
theorem dX0_pattern_17 : decode cX0_pattern 17 = .ok (.invokestatic 3, 3) := dk_184 0 3 (dk_at dksX0_pattern_0 17 rfl rfl)
theorem dX0_pattern_20 : decode cX0_pattern 20 = .ok (.ifCond .eq 14, 3) := dk_153 0 14 (dk_at dksX0_pattern_0 20 rfl rfl)
theorem dX0_pattern_23 : decode cX0_pattern 23 = .ok (.iload_n 2, 1) := dk_28 (dk_at dksX0_pattern_0 23 rfl rfl)
theorem dX0_pattern_24 : decode cX0_pattern 24 = .ok (.bipush (-99), 2) := dk_16 157 (dk_at dksX0_pattern_1 0 rfl rfl)
theorem dX0_pattern_26 : decode cX0_pattern 26 = .ok (.bipush 99, 2) := dk_16 99 (dk_at dksX0_pattern_1 2 rfl rfl)
theorem dX0_pattern_28 : decode cX0_pattern 28 = .ok (.invokestatic 3, 3) := dk_184 0 3 (dk_at dksX0_pattern_1 4 rfl rfl)
theorem dX0_pattern_31 : decode cX0_pattern 31 = .ok (.ifCond .ne 5, 3) := dk_154 0 5 (dk_at dksX0_pattern_1 7 rfl rfl)
theorem dX0_pattern_34 : decode cX0_pattern 34 = .ok (.iconst (-1), 1) := dk_2 (dk_at dksX0_pattern_1 10 rfl rfl)
theorem dX0_pattern_35 : decode cX0_pattern 35 = .ok (.ireturn, 1) := dk_172 (dk_at dksX0_pattern_1 11 rfl rfl)
theorem dX0_pattern_36 : decode cX0_pattern 36 = .ok (.aload_n 0, 1) := dk_42 (dk_at dksX0_pattern_1 12 rfl rfl)
theorem dX0_pattern_37 : decode cX0_pattern 37 = .ok (.getfield 68, 3) := dk_180 0 68 (dk_at dksX0_pattern_1 13 rfl rfl)
theorem dX0_pattern_40 : decode cX0_pattern 40 = .ok (.getfield 503, 3) := dk_180 1 247 (dk_at dksX0_pattern_1 16 rfl rfl)
theorem dX0_pattern_43 : decode cX0_pattern 43 = .ok (.aload_n 0, 1) := dk_42 (dk_at dksX0_pattern_1 19 rfl rfl)
theorem dX0_pattern_44 : decode cX0_pattern 44 = .ok (.getfield 68, 3) := dk_180 0 68 (dk_at dksX0_pattern_1 20 rfl rfl)
theorem dX0_pattern_47 : decode cX0_pattern 47 = .ok (.getfield 500, 3) := dk_180 1 244 (dk_at dksX0_pattern_2 0 rfl rfl)
theorem dX0_pattern_50 : decode cX0_pattern 50 = .ok (.new 507, 3) := dk_187 1 251 (dk_at dksX0_pattern_2 3 rfl rfl)
theorem dX0_pattern_53 : decode cX0_pattern 53 = .ok (.dup, 1) := dk_89 (dk_at dksX0_pattern_2 6 rfl rfl)
theorem dX0_pattern_54 : decode cX0_pattern 54 = .ok (.iload_n 1, 1) := dk_27 (dk_at dksX0_pattern_2 7 rfl rfl)
theorem dX0_pattern_55 : decode cX0_pattern 55 = .ok (.iload_n 2, 1) := dk_28 (dk_at dksX0_pattern_2 8 rfl rfl)
theorem dX0_pattern_56 : decode cX0_pattern 56 = .ok (.invokespecial 509, 3) := dk_183 1 253 (dk_at dksX0_pattern_2 9 rfl rfl)
theorem dX0_pattern_59 : decode cX0_pattern 59 = .ok (.aastore, 1) := dk_83 (dk_at dksX0_pattern_2 12 rfl rfl)
theorem dX0_pattern_60 : decode cX0_pattern 60 = .ok (.aload_n 0, 1) := dk_42 (dk_at dksX0_pattern_2 13 rfl rfl)
theorem dX0_pattern_61 : decode cX0_pattern 61 = .ok (.getfield 68, 3) := dk_180 0 68 (dk_at dksX0_pattern_2 14 rfl rfl)
theorem dX0_pattern_64 : decode cX0_pattern 64 = .ok (.dup, 1) := dk_89 (dk_at dksX0_pattern_2 17 rfl rfl)
theorem dX0_pattern_65 : decode cX0_pattern 65 = .ok (.getfield 500, 3) := dk_180 1 244 (dk_at dksX0_pattern_2 18 rfl rfl)
theorem dX0_pattern_68 : decode cX0_pattern 68 = .ok (.iconst 1, 1) := dk_4 (dk_at dksX0_pattern_2 21 rfl rfl)
theorem dX0_pattern_69 : decode cX0_pattern 69 = .ok (.iadd, 1) := dk_96 (dk_at dksX0_pattern_2 22 rfl rfl)
theorem dX0_pattern_70 : decode cX0_pattern 70 = .ok (.putfield 500, 3) := dk_181 1 244 (dk_at dksX0_pattern_3 0 rfl rfl)
theorem dX0_pattern_73 : decode cX0_pattern 73 = .ok (.aload_n 0, 1) := dk_42 (dk_at dksX0_pattern_3 3 rfl rfl)
theorem dX0_pattern_74 : decode cX0_pattern 74 = .ok (.getfield 68, 3) := dk_180 0 68 (dk_at dksX0_pattern_3 4 rfl rfl)
theorem dX0_pattern_77 : decode cX0_pattern 77 = .ok (.getfield 500, 3) := dk_180 1 244 (dk_at dksX0_pattern_3 7 rfl rfl)
theorem dX0_pattern_80 : decode cX0_pattern 80 = .ok (.iconst 1, 1) := dk_4 (dk_at dksX0_pattern_3 10 rfl rfl)
theorem dX0_pattern_81 : decode cX0_pattern 81 = .ok (.isub, 1) := dk_100 (dk_at dksX0_pattern_3 11 rfl rfl)
theorem dX0_pattern_82 : decode cX0_pattern 82 = .ok (.ireturn, 1) := dk_172 (dk_at dksX0_pattern_3 12 rfl rfl)
abbrev cX0_letter : ByteArray := prog_1_method_80_code
def yX0_letter : MethodName := ⟨RX0, "letter", "()I"⟩
def dkwX0_letter_4 : List UInt8 := [182, 2, 3, 172]
abbrev dktX0_letter_4 : List UInt8 := dkwX0_letter_4 ++ []
def dkwX0_letter_3 : List UInt8 := [180, 0, 68, 180, 0, 142, 3, 44, 3, 27, 184, 0, 160, 42, 180, 0, 68, 44, 181, 2, 0, 42]
abbrev dktX0_letter_3 : List UInt8 := dkwX0_letter_3 ++ dktX0_letter_4
def dkwX0_letter_2 : List UInt8 := [16, 32, 159, 0, 10, 42, 4, 28, 182, 0, 152, 172, 132, 2, 1, 167, 255, 202, 27, 188, 8, 77, 42]
abbrev dktX0_letter_2 : List UInt8 := dkwX0_letter_2 ++ dktX0_letter_3
def dkwX0_letter_1 : List UInt8 := [16, 97, 16, 122, 184, 0, 3, 154, 0, 28, 29, 16, 46, 159, 0, 22, 29, 16, 10, 159, 0, 16, 29]
abbrev dktX0_letter_1 : List UInt8 := dkwX0_letter_1 ++ dktX0_letter_2
def dkwX0_letter_0 : List UInt8 := [42, 182, 0, 166, 60, 3, 61, 28, 27, 162, 0, 55, 42, 180, 0, 68, 180, 0, 142, 28, 51, 62, 29]
abbrev dktX0_letter_0 : List UInt8 := dkwX0_letter_0 ++ dktX0_letter_1
theorem dksX0_letter_0 : cX0_letter.data.toList.drop 0 = dktX0_letter_0 := by decide +kernel
theorem dksX0_letter_1 : cX0_letter.data.toList.drop 23 = dktX0_letter_1 := dk_seg dksX0_letter_0 23 rfl rfl
theorem dksX0_letter_2 : cX0_letter.data.toList.drop 46 = dktX0_letter_2 := dk_seg dksX0_letter_1 23 rfl rfl
theorem dksX0_letter_3 : cX0_letter.data.toList.drop 69 = dktX0_letter_3 := dk_seg dksX0_letter_2 23 rfl rfl
theorem dksX0_letter_4 : cX0_letter.data.toList.drop 91 = dktX0_letter_4 := dk_seg dksX0_letter_3 22 rfl rfl
theorem dX0_letter_0 : decode cX0_letter 0 = .ok (.aload_n 0, 1) := dk_42 (dk_at dksX0_letter_0 0 rfl rfl)
theorem dX0_letter_1 : decode cX0_letter 1 = .ok (.invokevirtual 166, 3) := dk_182 0 166 (dk_at dksX0_letter_0 1 rfl rfl)
theorem dX0_letter_4 : decode cX0_letter 4 = .ok (.istore_n 1, 1) := dk_60 (dk_at dksX0_letter_0 4 rfl rfl)
theorem dX0_letter_5 : decode cX0_letter 5 = .ok (.iconst 0, 1) := dk_3 (dk_at dksX0_letter_0 5 rfl rfl)
theorem dX0_letter_6 : decode cX0_letter 6 = .ok (.istore_n 2, 1) := dk_61 (dk_at dksX0_letter_0 6 rfl rfl)
theorem dX0_letter_7 : decode cX0_letter 7 = .ok (.iload_n 2, 1) := dk_28 (dk_at dksX0_letter_0 7 rfl rfl)
theorem dX0_letter_8 : decode cX0_letter 8 = .ok (.iload_n 1, 1) := dk_27 (dk_at dksX0_letter_0 8 rfl rfl)
theorem dX0_letter_9 : decode cX0_letter 9 = .ok (.if_icmp .ge 55, 3) := dk_162 0 55 (dk_at dksX0_letter_0 9 rfl rfl)
theorem dX0_letter_12 : decode cX0_letter 12 = .ok (.aload_n 0, 1) := dk_42 (dk_at dksX0_letter_0 12 rfl rfl)
theorem dX0_letter_13 : decode cX0_letter 13 = .ok (.getfield 68, 3) := dk_180 0 68 (dk_at dksX0_letter_0 13 rfl rfl)
theorem dX0_letter_16 : decode cX0_letter 16 = .ok (.getfield 142, 3) := dk_180 0 142 (dk_at dksX0_letter_0 16 rfl rfl)
theorem dX0_letter_19 : decode cX0_letter 19 = .ok (.iload_n 2, 1) := dk_28 (dk_at dksX0_letter_0 19 rfl rfl)
theorem dX0_letter_20 : decode cX0_letter 20 = .ok (.baload, 1) := dk_51 (dk_at dksX0_letter_0 20 rfl rfl)
theorem dX0_letter_21 : decode cX0_letter 21 = .ok (.istore_n 3, 1) := dk_62 (dk_at dksX0_letter_0 21 rfl rfl)
theorem dX0_letter_22 : decode cX0_letter 22 = .ok (.iload_n 3, 1) := dk_29 (dk_at dksX0_letter_0 22 rfl rfl)
theorem dX0_letter_23 : decode cX0_letter 23 = .ok (.bipush 97, 2) := dk_16 97 (dk_at dksX0_letter_1 0 rfl rfl)
theorem dX0_letter_25 : decode cX0_letter 25 = .ok (.bipush 122, 2) := dk_16 122 (dk_at dksX0_letter_1 2 rfl rfl)
theorem dX0_letter_27 : decode cX0_letter 27 = .ok (.invokestatic 3, 3) := dk_184 0 3 (dk_at dksX0_letter_1 4 rfl rfl)
theorem dX0_letter_30 : decode cX0_letter 30 = .ok (.ifCond .ne 28, 3) := dk_154 0 28 (dk_at dksX0_letter_1 7 rfl rfl)
theorem dX0_letter_33 : decode cX0_letter 33 = .ok (.iload_n 3, 1) := dk_29 (dk_at dksX0_letter_1 10 rfl rfl)
theorem dX0_letter_34 : decode cX0_letter 34 = .ok (.bipush 46, 2) := dk_16 46 (dk_at dksX0_letter_1 11 rfl rfl)
theorem dX0_letter_36 : decode cX0_letter 36 = .ok (.if_icmp .eq 22, 3) := dk_159 0 22 (dk_at dksX0_letter_1 13 rfl rfl)
theorem dX0_letter_39 : decode cX0_letter 39 = .ok (.iload_n 3, 1) := dk_29 (dk_at dksX0_letter_1 16 rfl rfl)
theorem dX0_letter_40 : decode cX0_letter 40 = .ok (.bipush 10, 2) := dk_16 10 (dk_at dksX0_letter_1 17 rfl rfl)
theorem dX0_letter_42 : decode cX0_letter 42 = .ok (.if_icmp .eq 16, 3) := dk_159 0 16 (dk_at dksX0_letter_1 19 rfl rfl)
theorem dX0_letter_45 : decode cX0_letter 45 = .ok (.iload_n 3, 1) := dk_29 (dk_at dksX0_letter_1 22 rfl rfl)
theorem dX0_letter_46 : decode cX0_letter 46 = .ok (.bipush 32, 2) := dk_16 32 (dk_at dksX0_letter_2 0 rfl rfl)
theorem dX0_letter_48 : decode cX0_letter 48 = .ok (.if_icmp .eq 10, 3) := dk_159 0 10 (dk_at dksX0_letter_2 2 rfl rfl)
theorem dX0_letter_51 : decode cX0_letter 51 = .ok (.aload_n 0, 1) := dk_42 (dk_at dksX0_letter_2 5 rfl rfl)
theorem dX0_letter_52 : decode cX0_letter 52 = .ok (.iconst 1, 1) := dk_4 (dk_at dksX0_letter_2 6 rfl rfl)
theorem dX0_letter_53 : decode cX0_letter 53 = .ok (.iload_n 2, 1) := dk_28 (dk_at dksX0_letter_2 7 rfl rfl)
theorem dX0_letter_54 : decode cX0_letter 54 = .ok (.invokevirtual 152, 3) := dk_182 0 152 (dk_at dksX0_letter_2 8 rfl rfl)
theorem dX0_letter_57 : decode cX0_letter 57 = .ok (.ireturn, 1) := dk_172 (dk_at dksX0_letter_2 11 rfl rfl)
theorem dX0_letter_58 : decode cX0_letter 58 = .ok (.iinc 2 1, 3) := dk_132 2 1 (dk_at dksX0_letter_2 12 rfl rfl)
theorem dX0_letter_61 : decode cX0_letter 61 = .ok (.goto (-54), 3) := dk_167 255 202 (dk_at dksX0_letter_2 15 rfl rfl)
theorem dX0_letter_64 : decode cX0_letter 64 = .ok (.iload_n 1, 1) := dk_27 (dk_at dksX0_letter_2 18 rfl rfl)
theorem dX0_letter_65 : decode cX0_letter 65 = .ok (.newarray .byte, 2) := dk_188_8 (dk_at dksX0_letter_2 19 rfl rfl)
theorem dX0_letter_67 : decode cX0_letter 67 = .ok (.astore_n 2, 1) := dk_77 (dk_at dksX0_letter_2 21 rfl rfl)
theorem dX0_letter_68 : decode cX0_letter 68 = .ok (.aload_n 0, 1) := dk_42 (dk_at dksX0_letter_2 22 rfl rfl)
theorem dX0_letter_69 : decode cX0_letter 69 = .ok (.getfield 68, 3) := dk_180 0 68 (dk_at dksX0_letter_3 0 rfl rfl)
theorem dX0_letter_72 : decode cX0_letter 72 = .ok (.getfield 142, 3) := dk_180 0 142 (dk_at dksX0_letter_3 3 rfl rfl)
theorem dX0_letter_75 : decode cX0_letter 75 = .ok (.iconst 0, 1) := dk_3 (dk_at dksX0_letter_3 6 rfl rfl)
theorem dX0_letter_76 : decode cX0_letter 76 = .ok (.aload_n 2, 1) := dk_44 (dk_at dksX0_letter_3 7 rfl rfl)
theorem dX0_letter_77 : decode cX0_letter 77 = .ok (.iconst 0, 1) := dk_3 (dk_at dksX0_letter_3 8 rfl rfl)
theorem dX0_letter_78 : decode cX0_letter 78 = .ok (.iload_n 1, 1) := dk_27 (dk_at dksX0_letter_3 9 rfl rfl)
theorem dX0_letter_79 : decode cX0_letter 79 = .ok (.invokestatic 160, 3) := dk_184 0 160 (dk_at dksX0_letter_3 10 rfl rfl)
theorem dX0_letter_82 : decode cX0_letter 82 = .ok (.aload_n 0, 1) := dk_42 (dk_at dksX0_letter_3 13 rfl rfl)
theorem dX0_letter_83 : decode cX0_letter 83 = .ok (.getfield 68, 3) := dk_180 0 68 (dk_at dksX0_letter_3 14 rfl rfl)
theorem dX0_letter_86 : decode cX0_letter 86 = .ok (.aload_n 2, 1) := dk_44 (dk_at dksX0_letter_3 17 rfl rfl)
theorem dX0_letter_87 : decode cX0_letter 87 = .ok (.putfield 512, 3) := dk_181 2 0 (dk_at dksX0_letter_3 18 rfl rfl)
theorem dX0_letter_90 : decode cX0_letter 90 = .ok (.aload_n 0, 1) := dk_42 (dk_at dksX0_letter_3 21 rfl rfl)
theorem dX0_letter_91 : decode cX0_letter 91 = .ok (.invokevirtual 515, 3) := dk_182 2 3 (dk_at dksX0_letter_4 0 rfl rfl)
theorem dX0_letter_94 : decode cX0_letter 94 = .ok (.ireturn, 1) := dk_172 (dk_at dksX0_letter_4 3 rfl rfl)
abbrev cX0_sentences : ByteArray := prog_1_method_81_code
def yX0_sentences : MethodName := ⟨RX0, "sentences", "()I"⟩
def dkwX0_sentences_7 : List UInt8 := [132, 1, 1, 3, 61, 3, 54, 4, 132, 7, 1, 167, 255, 96, 27, 172]
abbrev dktX0_sentences_7 : List UInt8 := dkwX0_sentences_7 ++ []
def dkwX0_sentences_6 : List UInt8 := [21, 8, 16, 46, 160, 0, 26, 21, 4, 154, 0, 6, 167, 0, 18, 42, 180, 0, 115, 27, 28, 79]
abbrev dktX0_sentences_6 : List UInt8 := dkwX0_sentences_6 ++ dktX0_sentences_7
def dkwX0_sentences_5 : List UInt8 := [3, 167, 0, 15, 4, 42, 180, 0, 68, 180, 1, 241, 21, 9, 51, 120, 128, 61, 9, 55, 5, 3, 62]
abbrev dktX0_sentences_5 : List UInt8 := dkwX0_sentences_5 ++ dktX0_sentences_6
def dkwX0_sentences_4 : List UInt8 := [16, 8, 164, 0, 7, 2, 167, 0, 9, 42, 22, 5, 182, 1, 231, 54, 9, 28, 21, 9, 2, 160, 0, 7]
abbrev dktX0_sentences_4 : List UInt8 := dkwX0_sentences_4 ++ dktX0_sentences_5
def dkwX0_sentences_3 : List UInt8 := [16, 8, 121, 21, 8, 133, 129, 55, 5, 132, 3, 1, 4, 54, 4, 167, 0, 85, 29, 153, 0, 9, 29]
abbrev dktX0_sentences_3 : List UInt8 := dkwX0_sentences_3 ++ dktX0_sentences_4
def dkwX0_sentences_2 : List UInt8 := [21, 7, 51, 167, 0, 5, 16, 46, 54, 8, 21, 8, 16, 97, 16, 122, 184, 0, 3, 153, 0, 23, 22, 5]
abbrev dktX0_sentences_2 : List UInt8 := dkwX0_sentences_2 ++ dktX0_sentences_3
def dkwX0_sentences_1 : List UInt8 := [190, 163, 0, 153, 21, 7, 42, 180, 0, 68, 180, 2, 0, 190, 162, 0, 16, 42, 180, 0, 68, 180, 2, 0]
abbrev dktX0_sentences_1 : List UInt8 := dkwX0_sentences_1 ++ dktX0_sentences_2
def dkwX0_sentences_0 : List UInt8 := [3, 60, 3, 61, 3, 62, 3, 54, 4, 9, 55, 5, 3, 54, 7, 21, 7, 42, 180, 0, 68, 180, 2, 0]
abbrev dktX0_sentences_0 : List UInt8 := dkwX0_sentences_0 ++ dktX0_sentences_1
theorem dksX0_sentences_0 : cX0_sentences.data.toList.drop 0 = dktX0_sentences_0 := by decide +kernel
theorem dksX0_sentences_1 : cX0_sentences.data.toList.drop 24 = dktX0_sentences_1 := dk_seg dksX0_sentences_0 24 rfl rfl
theorem dksX0_sentences_2 : cX0_sentences.data.toList.drop 48 = dktX0_sentences_2 := dk_seg dksX0_sentences_1 24 rfl rfl
theorem dksX0_sentences_3 : cX0_sentences.data.toList.drop 72 = dktX0_sentences_3 := dk_seg dksX0_sentences_2 24 rfl rfl
theorem dksX0_sentences_4 : cX0_sentences.data.toList.drop 95 = dktX0_sentences_4 := dk_seg dksX0_sentences_3 23 rfl rfl
theorem dksX0_sentences_5 : cX0_sentences.data.toList.drop 119 = dktX0_sentences_5 := dk_seg dksX0_sentences_4 24 rfl rfl
theorem dksX0_sentences_6 : cX0_sentences.data.toList.drop 142 = dktX0_sentences_6 := dk_seg dksX0_sentences_5 23 rfl rfl
theorem dksX0_sentences_7 : cX0_sentences.data.toList.drop 164 = dktX0_sentences_7 := dk_seg dksX0_sentences_6 22 rfl rfl
theorem dX0_sentences_0 : decode cX0_sentences 0 = .ok (.iconst 0, 1) := dk_3 (dk_at dksX0_sentences_0 0 rfl rfl)
theorem dX0_sentences_1 : decode cX0_sentences 1 = .ok (.istore_n 1, 1) := dk_60 (dk_at dksX0_sentences_0 1 rfl rfl)
theorem dX0_sentences_2 : decode cX0_sentences 2 = .ok (.iconst 0, 1) := dk_3 (dk_at dksX0_sentences_0 2 rfl rfl)
theorem dX0_sentences_3 : decode cX0_sentences 3 = .ok (.istore_n 2, 1) := dk_61 (dk_at dksX0_sentences_0 3 rfl rfl)
theorem dX0_sentences_4 : decode cX0_sentences 4 = .ok (.iconst 0, 1) := dk_3 (dk_at dksX0_sentences_0 4 rfl rfl)
theorem dX0_sentences_5 : decode cX0_sentences 5 = .ok (.istore_n 3, 1) := dk_62 (dk_at dksX0_sentences_0 5 rfl rfl)
theorem dX0_sentences_6 : decode cX0_sentences 6 = .ok (.iconst 0, 1) := dk_3 (dk_at dksX0_sentences_0 6 rfl rfl)
theorem dX0_sentences_7 : decode cX0_sentences 7 = .ok (.istore 4, 2) := dk_54 4 (dk_at dksX0_sentences_0 7 rfl rfl)
theorem dX0_sentences_9 : decode cX0_sentences 9 = .ok (.lconst 0, 1) := dk_9 (dk_at dksX0_sentences_0 9 rfl rfl)
theorem dX0_sentences_10 : decode cX0_sentences 10 = .ok (.lstore 5, 2) := dk_55 5 (dk_at dksX0_sentences_0 10 rfl rfl)
theorem dX0_sentences_12 : decode cX0_sentences 12 = .ok (.iconst 0, 1) := dk_3 (dk_at dksX0_sentences_0 12 rfl rfl)
theorem dX0_sentences_13 : decode cX0_sentences 13 = .ok (.istore 7, 2) := dk_54 7 (dk_at dksX0_sentences_0 13 rfl rfl)
theorem dX0_sentences_15 : decode cX0_sentences 15 = .ok (.iload 7, 2) := dk_21 7 (dk_at dksX0_sentences_0 15 rfl rfl)
theorem dX0_sentences_17 : decode cX0_sentences 17 = .ok (.aload_n 0, 1) := dk_42 (dk_at dksX0_sentences_0 17 rfl rfl)
theorem dX0_sentences_18 : decode cX0_sentences 18 = .ok (.getfield 68, 3) := dk_180 0 68 (dk_at dksX0_sentences_0 18 rfl rfl)
theorem dX0_sentences_21 : decode cX0_sentences 21 = .ok (.getfield 512, 3) := dk_180 2 0 (dk_at dksX0_sentences_0 21 rfl rfl)
theorem dX0_sentences_24 : decode cX0_sentences 24 = .ok (.arraylength, 1) := dk_190 (dk_at dksX0_sentences_1 0 rfl rfl)
theorem dX0_sentences_25 : decode cX0_sentences 25 = .ok (.if_icmp .gt 153, 3) := dk_163 0 153 (dk_at dksX0_sentences_1 1 rfl rfl)
theorem dX0_sentences_28 : decode cX0_sentences 28 = .ok (.iload 7, 2) := dk_21 7 (dk_at dksX0_sentences_1 4 rfl rfl)
theorem dX0_sentences_30 : decode cX0_sentences 30 = .ok (.aload_n 0, 1) := dk_42 (dk_at dksX0_sentences_1 6 rfl rfl)
theorem dX0_sentences_31 : decode cX0_sentences 31 = .ok (.getfield 68, 3) := dk_180 0 68 (dk_at dksX0_sentences_1 7 rfl rfl)
theorem dX0_sentences_34 : decode cX0_sentences 34 = .ok (.getfield 512, 3) := dk_180 2 0 (dk_at dksX0_sentences_1 10 rfl rfl)
theorem dX0_sentences_37 : decode cX0_sentences 37 = .ok (.arraylength, 1) := dk_190 (dk_at dksX0_sentences_1 13 rfl rfl)
theorem dX0_sentences_38 : decode cX0_sentences 38 = .ok (.if_icmp .ge 16, 3) := dk_162 0 16 (dk_at dksX0_sentences_1 14 rfl rfl)
theorem dX0_sentences_41 : decode cX0_sentences 41 = .ok (.aload_n 0, 1) := dk_42 (dk_at dksX0_sentences_1 17 rfl rfl)
theorem dX0_sentences_42 : decode cX0_sentences 42 = .ok (.getfield 68, 3) := dk_180 0 68 (dk_at dksX0_sentences_1 18 rfl rfl)
theorem dX0_sentences_45 : decode cX0_sentences 45 = .ok (.getfield 512, 3) := dk_180 2 0 (dk_at dksX0_sentences_1 21 rfl rfl)
theorem dX0_sentences_48 : decode cX0_sentences 48 = .ok (.iload 7, 2) := dk_21 7 (dk_at dksX0_sentences_2 0 rfl rfl)
theorem dX0_sentences_50 : decode cX0_sentences 50 = .ok (.baload, 1) := dk_51 (dk_at dksX0_sentences_2 2 rfl rfl)
theorem dX0_sentences_51 : decode cX0_sentences 51 = .ok (.goto 5, 3) := dk_167 0 5 (dk_at dksX0_sentences_2 3 rfl rfl)
theorem dX0_sentences_54 : decode cX0_sentences 54 = .ok (.bipush 46, 2) := dk_16 46 (dk_at dksX0_sentences_2 6 rfl rfl)
theorem dX0_sentences_56 : decode cX0_sentences 56 = .ok (.istore 8, 2) := dk_54 8 (dk_at dksX0_sentences_2 8 rfl rfl)
theorem dX0_sentences_58 : decode cX0_sentences 58 = .ok (.iload 8, 2) := dk_21 8 (dk_at dksX0_sentences_2 10 rfl rfl)
theorem dX0_sentences_60 : decode cX0_sentences 60 = .ok (.bipush 97, 2) := dk_16 97 (dk_at dksX0_sentences_2 12 rfl rfl)
theorem dX0_sentences_62 : decode cX0_sentences 62 = .ok (.bipush 122, 2) := dk_16 122 (dk_at dksX0_sentences_2 14 rfl rfl)
theorem dX0_sentences_64 : decode cX0_sentences 64 = .ok (.invokestatic 3, 3) := dk_184 0 3 (dk_at dksX0_sentences_2 16 rfl rfl)
theorem dX0_sentences_67 : decode cX0_sentences 67 = .ok (.ifCond .eq 23, 3) := dk_153 0 23 (dk_at dksX0_sentences_2 19 rfl rfl)
theorem dX0_sentences_70 : decode cX0_sentences 70 = .ok (.lload 5, 2) := dk_22 5 (dk_at dksX0_sentences_2 22 rfl rfl)
theorem dX0_sentences_72 : decode cX0_sentences 72 = .ok (.bipush 8, 2) := dk_16 8 (dk_at dksX0_sentences_3 0 rfl rfl)
theorem dX0_sentences_74 : decode cX0_sentences 74 = .ok (.lshl, 1) := dk_121 (dk_at dksX0_sentences_3 2 rfl rfl)
theorem dX0_sentences_75 : decode cX0_sentences 75 = .ok (.iload 8, 2) := dk_21 8 (dk_at dksX0_sentences_3 3 rfl rfl)
theorem dX0_sentences_77 : decode cX0_sentences 77 = .ok (.i2l, 1) := dk_133 (dk_at dksX0_sentences_3 5 rfl rfl)
theorem dX0_sentences_78 : decode cX0_sentences 78 = .ok (.lor, 1) := dk_129 (dk_at dksX0_sentences_3 6 rfl rfl)
theorem dX0_sentences_79 : decode cX0_sentences 79 = .ok (.lstore 5, 2) := dk_55 5 (dk_at dksX0_sentences_3 7 rfl rfl)
theorem dX0_sentences_81 : decode cX0_sentences 81 = .ok (.iinc 3 1, 3) := dk_132 3 1 (dk_at dksX0_sentences_3 9 rfl rfl)
theorem dX0_sentences_84 : decode cX0_sentences 84 = .ok (.iconst 1, 1) := dk_4 (dk_at dksX0_sentences_3 12 rfl rfl)
theorem dX0_sentences_85 : decode cX0_sentences 85 = .ok (.istore 4, 2) := dk_54 4 (dk_at dksX0_sentences_3 13 rfl rfl)
theorem dX0_sentences_87 : decode cX0_sentences 87 = .ok (.goto 85, 3) := dk_167 0 85 (dk_at dksX0_sentences_3 15 rfl rfl)
theorem dX0_sentences_90 : decode cX0_sentences 90 = .ok (.iload_n 3, 1) := dk_29 (dk_at dksX0_sentences_3 18 rfl rfl)
theorem dX0_sentences_91 : decode cX0_sentences 91 = .ok (.ifCond .eq 9, 3) := dk_153 0 9 (dk_at dksX0_sentences_3 19 rfl rfl)
theorem dX0_sentences_94 : decode cX0_sentences 94 = .ok (.iload_n 3, 1) := dk_29 (dk_at dksX0_sentences_3 22 rfl rfl)
theorem dX0_sentences_95 : decode cX0_sentences 95 = .ok (.bipush 8, 2) := dk_16 8 (dk_at dksX0_sentences_4 0 rfl rfl)
theorem dX0_sentences_97 : decode cX0_sentences 97 = .ok (.if_icmp .le 7, 3) := dk_164 0 7 (dk_at dksX0_sentences_4 2 rfl rfl)
theorem dX0_sentences_100 : decode cX0_sentences 100 = .ok (.iconst (-1), 1) := dk_2 (dk_at dksX0_sentences_4 5 rfl rfl)
theorem dX0_sentences_101 : decode cX0_sentences 101 = .ok (.goto 9, 3) := dk_167 0 9 (dk_at dksX0_sentences_4 6 rfl rfl)
theorem dX0_sentences_104 : decode cX0_sentences 104 = .ok (.aload_n 0, 1) := dk_42 (dk_at dksX0_sentences_4 9 rfl rfl)
theorem dX0_sentences_105 : decode cX0_sentences 105 = .ok (.lload 5, 2) := dk_22 5 (dk_at dksX0_sentences_4 10 rfl rfl)
theorem dX0_sentences_107 : decode cX0_sentences 107 = .ok (.invokevirtual 487, 3) := dk_182 1 231 (dk_at dksX0_sentences_4 12 rfl rfl)
theorem dX0_sentences_110 : decode cX0_sentences 110 = .ok (.istore 9, 2) := dk_54 9 (dk_at dksX0_sentences_4 15 rfl rfl)
theorem dX0_sentences_112 : decode cX0_sentences 112 = .ok (.iload_n 2, 1) := dk_28 (dk_at dksX0_sentences_4 17 rfl rfl)
theorem dX0_sentences_113 : decode cX0_sentences 113 = .ok (.iload 9, 2) := dk_21 9 (dk_at dksX0_sentences_4 18 rfl rfl)
theorem dX0_sentences_115 : decode cX0_sentences 115 = .ok (.iconst (-1), 1) := dk_2 (dk_at dksX0_sentences_4 20 rfl rfl)
theorem dX0_sentences_116 : decode cX0_sentences 116 = .ok (.if_icmp .ne 7, 3) := dk_160 0 7 (dk_at dksX0_sentences_4 21 rfl rfl)
theorem dX0_sentences_119 : decode cX0_sentences 119 = .ok (.iconst 0, 1) := dk_3 (dk_at dksX0_sentences_5 0 rfl rfl)
theorem dX0_sentences_120 : decode cX0_sentences 120 = .ok (.goto 15, 3) := dk_167 0 15 (dk_at dksX0_sentences_5 1 rfl rfl)
theorem dX0_sentences_123 : decode cX0_sentences 123 = .ok (.iconst 1, 1) := dk_4 (dk_at dksX0_sentences_5 4 rfl rfl)
theorem dX0_sentences_124 : decode cX0_sentences 124 = .ok (.aload_n 0, 1) := dk_42 (dk_at dksX0_sentences_5 5 rfl rfl)
theorem dX0_sentences_125 : decode cX0_sentences 125 = .ok (.getfield 68, 3) := dk_180 0 68 (dk_at dksX0_sentences_5 6 rfl rfl)
theorem dX0_sentences_128 : decode cX0_sentences 128 = .ok (.getfield 497, 3) := dk_180 1 241 (dk_at dksX0_sentences_5 9 rfl rfl)
theorem dX0_sentences_131 : decode cX0_sentences 131 = .ok (.iload 9, 2) := dk_21 9 (dk_at dksX0_sentences_5 12 rfl rfl)
theorem dX0_sentences_133 : decode cX0_sentences 133 = .ok (.baload, 1) := dk_51 (dk_at dksX0_sentences_5 14 rfl rfl)
theorem dX0_sentences_134 : decode cX0_sentences 134 = .ok (.ishl, 1) := dk_120 (dk_at dksX0_sentences_5 15 rfl rfl)
theorem dX0_sentences_135 : decode cX0_sentences 135 = .ok (.ior, 1) := dk_128 (dk_at dksX0_sentences_5 16 rfl rfl)
theorem dX0_sentences_136 : decode cX0_sentences 136 = .ok (.istore_n 2, 1) := dk_61 (dk_at dksX0_sentences_5 17 rfl rfl)
theorem dX0_sentences_137 : decode cX0_sentences 137 = .ok (.lconst 0, 1) := dk_9 (dk_at dksX0_sentences_5 18 rfl rfl)
theorem dX0_sentences_138 : decode cX0_sentences 138 = .ok (.lstore 5, 2) := dk_55 5 (dk_at dksX0_sentences_5 19 rfl rfl)
theorem dX0_sentences_140 : decode cX0_sentences 140 = .ok (.iconst 0, 1) := dk_3 (dk_at dksX0_sentences_5 21 rfl rfl)
theorem dX0_sentences_141 : decode cX0_sentences 141 = .ok (.istore_n 3, 1) := dk_62 (dk_at dksX0_sentences_5 22 rfl rfl)
theorem dX0_sentences_142 : decode cX0_sentences 142 = .ok (.iload 8, 2) := dk_21 8 (dk_at dksX0_sentences_6 0 rfl rfl)
theorem dX0_sentences_144 : decode cX0_sentences 144 = .ok (.bipush 46, 2) := dk_16 46 (dk_at dksX0_sentences_6 2 rfl rfl)
theorem dX0_sentences_146 : decode cX0_sentences 146 = .ok (.if_icmp .ne 26, 3) := dk_160 0 26 (dk_at dksX0_sentences_6 4 rfl rfl)
theorem dX0_sentences_149 : decode cX0_sentences 149 = .ok (.iload 4, 2) := dk_21 4 (dk_at dksX0_sentences_6 7 rfl rfl)
theorem dX0_sentences_151 : decode cX0_sentences 151 = .ok (.ifCond .ne 6, 3) := dk_154 0 6 (dk_at dksX0_sentences_6 9 rfl rfl)
theorem dX0_sentences_154 : decode cX0_sentences 154 = .ok (.goto 18, 3) := dk_167 0 18 (dk_at dksX0_sentences_6 12 rfl rfl)
theorem dX0_sentences_157 : decode cX0_sentences 157 = .ok (.aload_n 0, 1) := dk_42 (dk_at dksX0_sentences_6 15 rfl rfl)
theorem dX0_sentences_158 : decode cX0_sentences 158 = .ok (.getfield 115, 3) := dk_180 0 115 (dk_at dksX0_sentences_6 16 rfl rfl)
theorem dX0_sentences_161 : decode cX0_sentences 161 = .ok (.iload_n 1, 1) := dk_27 (dk_at dksX0_sentences_6 19 rfl rfl)
theorem dX0_sentences_162 : decode cX0_sentences 162 = .ok (.iload_n 2, 1) := dk_28 (dk_at dksX0_sentences_6 20 rfl rfl)
theorem dX0_sentences_163 : decode cX0_sentences 163 = .ok (.iastore, 1) := dk_79 (dk_at dksX0_sentences_6 21 rfl rfl)
theorem dX0_sentences_164 : decode cX0_sentences 164 = .ok (.iinc 1 1, 3) := dk_132 1 1 (dk_at dksX0_sentences_7 0 rfl rfl)
theorem dX0_sentences_167 : decode cX0_sentences 167 = .ok (.iconst 0, 1) := dk_3 (dk_at dksX0_sentences_7 3 rfl rfl)
theorem dX0_sentences_168 : decode cX0_sentences 168 = .ok (.istore_n 2, 1) := dk_61 (dk_at dksX0_sentences_7 4 rfl rfl)
theorem dX0_sentences_169 : decode cX0_sentences 169 = .ok (.iconst 0, 1) := dk_3 (dk_at dksX0_sentences_7 5 rfl rfl)
theorem dX0_sentences_170 : decode cX0_sentences 170 = .ok (.istore 4, 2) := dk_54 4 (dk_at dksX0_sentences_7 6 rfl rfl)
theorem dX0_sentences_172 : decode cX0_sentences 172 = .ok (.iinc 7 1, 3) := dk_132 7 1 (dk_at dksX0_sentences_7 8 rfl rfl)
theorem dX0_sentences_175 : decode cX0_sentences 175 = .ok (.goto (-160), 3) := dk_167 255 96 (dk_at dksX0_sentences_7 11 rfl rfl)
theorem dX0_sentences_178 : decode cX0_sentences 178 = .ok (.iload_n 1, 1) := dk_27 (dk_at dksX0_sentences_7 14 rfl rfl)
theorem dX0_sentences_179 : decode cX0_sentences 179 = .ok (.ireturn, 1) := dk_172 (dk_at dksX0_sentences_7 15 rfl rfl)
abbrev cX0_sentence : ByteArray := prog_1_method_82_code
def yX0_sentence : MethodName := ⟨RX0, "sentence", "(I)I"⟩
def dkwX0_sentence_1 : List UInt8 := [172]
abbrev dktX0_sentence_1 : List UInt8 := dkwX0_sentence_1 ++ []
def dkwX0_sentence_0 : List UInt8 := [27, 3, 42, 182, 2, 3, 4, 100, 184, 0, 3, 153, 0, 12, 42, 180, 0, 115, 27, 46, 167, 0, 4, 2]
abbrev dktX0_sentence_0 : List UInt8 := dkwX0_sentence_0 ++ dktX0_sentence_1
theorem dksX0_sentence_0 : cX0_sentence.data.toList.drop 0 = dktX0_sentence_0 := by decide +kernel
theorem dksX0_sentence_1 : cX0_sentence.data.toList.drop 24 = dktX0_sentence_1 := dk_seg dksX0_sentence_0 24 rfl rfl
theorem dX0_sentence_0 : decode cX0_sentence 0 = .ok (.iload_n 1, 1) := dk_27 (dk_at dksX0_sentence_0 0 rfl rfl)
theorem dX0_sentence_1 : decode cX0_sentence 1 = .ok (.iconst 0, 1) := dk_3 (dk_at dksX0_sentence_0 1 rfl rfl)
theorem dX0_sentence_2 : decode cX0_sentence 2 = .ok (.aload_n 0, 1) := dk_42 (dk_at dksX0_sentence_0 2 rfl rfl)
theorem dX0_sentence_3 : decode cX0_sentence 3 = .ok (.invokevirtual 515, 3) := dk_182 2 3 (dk_at dksX0_sentence_0 3 rfl rfl)
theorem dX0_sentence_6 : decode cX0_sentence 6 = .ok (.iconst 1, 1) := dk_4 (dk_at dksX0_sentence_0 6 rfl rfl)
theorem dX0_sentence_7 : decode cX0_sentence 7 = .ok (.isub, 1) := dk_100 (dk_at dksX0_sentence_0 7 rfl rfl)
theorem dX0_sentence_8 : decode cX0_sentence 8 = .ok (.invokestatic 3, 3) := dk_184 0 3 (dk_at dksX0_sentence_0 8 rfl rfl)
theorem dX0_sentence_11 : decode cX0_sentence 11 = .ok (.ifCond .eq 12, 3) := dk_153 0 12 (dk_at dksX0_sentence_0 11 rfl rfl)
theorem dX0_sentence_14 : decode cX0_sentence 14 = .ok (.aload_n 0, 1) := dk_42 (dk_at dksX0_sentence_0 14 rfl rfl)
theorem dX0_sentence_15 : decode cX0_sentence 15 = .ok (.getfield 115, 3) := dk_180 0 115 (dk_at dksX0_sentence_0 15 rfl rfl)
theorem dX0_sentence_18 : decode cX0_sentence 18 = .ok (.iload_n 1, 1) := dk_27 (dk_at dksX0_sentence_0 18 rfl rfl)
theorem dX0_sentence_19 : decode cX0_sentence 19 = .ok (.iaload, 1) := dk_46 (dk_at dksX0_sentence_0 19 rfl rfl)
theorem dX0_sentence_20 : decode cX0_sentence 20 = .ok (.goto 4, 3) := dk_167 0 4 (dk_at dksX0_sentence_0 20 rfl rfl)
theorem dX0_sentence_23 : decode cX0_sentence 23 = .ok (.iconst (-1), 1) := dk_2 (dk_at dksX0_sentence_0 23 rfl rfl)
theorem dX0_sentence_24 : decode cX0_sentence 24 = .ok (.ireturn, 1) := dk_172 (dk_at dksX0_sentence_1 0 rfl rfl)
abbrev cX0_holds : ByteArray := prog_1_method_84_code
def yX0_holds : MethodName := ⟨RX0, "holds", "(I)I"⟩
def dkwX0_holds_1 : List UInt8 := [182, 2, 9, 167, 0, 4, 2, 172]
abbrev dktX0_holds_1 : List UInt8 := dkwX0_holds_1 ++ []
def dkwX0_holds_0 : List UInt8 := [27, 3, 42, 180, 0, 68, 180, 1, 244, 4, 100, 184, 0, 3, 153, 0, 15, 42, 27, 42, 182, 2, 3]
abbrev dktX0_holds_0 : List UInt8 := dkwX0_holds_0 ++ dktX0_holds_1
theorem dksX0_holds_0 : cX0_holds.data.toList.drop 0 = dktX0_holds_0 := by decide +kernel
theorem dksX0_holds_1 : cX0_holds.data.toList.drop 23 = dktX0_holds_1 := dk_seg dksX0_holds_0 23 rfl rfl
theorem dX0_holds_0 : decode cX0_holds 0 = .ok (.iload_n 1, 1) := dk_27 (dk_at dksX0_holds_0 0 rfl rfl)
theorem dX0_holds_1 : decode cX0_holds 1 = .ok (.iconst 0, 1) := dk_3 (dk_at dksX0_holds_0 1 rfl rfl)
theorem dX0_holds_2 : decode cX0_holds 2 = .ok (.aload_n 0, 1) := dk_42 (dk_at dksX0_holds_0 2 rfl rfl)
theorem dX0_holds_3 : decode cX0_holds 3 = .ok (.getfield 68, 3) := dk_180 0 68 (dk_at dksX0_holds_0 3 rfl rfl)
theorem dX0_holds_6 : decode cX0_holds 6 = .ok (.getfield 500, 3) := dk_180 1 244 (dk_at dksX0_holds_0 6 rfl rfl)
theorem dX0_holds_9 : decode cX0_holds 9 = .ok (.iconst 1, 1) := dk_4 (dk_at dksX0_holds_0 9 rfl rfl)
theorem dX0_holds_10 : decode cX0_holds 10 = .ok (.isub, 1) := dk_100 (dk_at dksX0_holds_0 10 rfl rfl)
theorem dX0_holds_11 : decode cX0_holds 11 = .ok (.invokestatic 3, 3) := dk_184 0 3 (dk_at dksX0_holds_0 11 rfl rfl)
theorem dX0_holds_14 : decode cX0_holds 14 = .ok (.ifCond .eq 15, 3) := dk_153 0 15 (dk_at dksX0_holds_0 14 rfl rfl)
theorem dX0_holds_17 : decode cX0_holds 17 = .ok (.aload_n 0, 1) := dk_42 (dk_at dksX0_holds_0 17 rfl rfl)
theorem dX0_holds_18 : decode cX0_holds 18 = .ok (.iload_n 1, 1) := dk_27 (dk_at dksX0_holds_0 18 rfl rfl)
theorem dX0_holds_19 : decode cX0_holds 19 = .ok (.aload_n 0, 1) := dk_42 (dk_at dksX0_holds_0 19 rfl rfl)
theorem dX0_holds_20 : decode cX0_holds 20 = .ok (.invokevirtual 515, 3) := dk_182 2 3 (dk_at dksX0_holds_0 20 rfl rfl)
theorem dX0_holds_23 : decode cX0_holds 23 = .ok (.invokevirtual 521, 3) := dk_182 2 9 (dk_at dksX0_holds_1 0 rfl rfl)
theorem dX0_holds_26 : decode cX0_holds 26 = .ok (.goto 4, 3) := dk_167 0 4 (dk_at dksX0_holds_1 3 rfl rfl)
theorem dX0_holds_29 : decode cX0_holds 29 = .ok (.iconst (-1), 1) := dk_2 (dk_at dksX0_holds_1 6 rfl rfl)
theorem dX0_holds_30 : decode cX0_holds 30 = .ok (.ireturn, 1) := dk_172 (dk_at dksX0_holds_1 7 rfl rfl)
abbrev cX0_holdsIn : ByteArray := prog_1_method_83_code
def yX0_holdsIn : MethodName := ⟨RX0, "holdsIn", "(II)I"⟩
def dkwX0_holdsIn_1 : List UInt8 := [180, 0, 115, 21, 4, 46, 29, 126, 29, 160, 0, 6, 21, 4, 172, 132, 4, 1, 167, 255, 231, 2, 172]
abbrev dktX0_holdsIn_1 : List UInt8 := dkwX0_holdsIn_1 ++ []
def dkwX0_holdsIn_0 : List UInt8 := [42, 180, 0, 68, 180, 1, 247, 27, 50, 180, 2, 6, 62, 3, 54, 4, 21, 4, 28, 162, 0, 25, 42]
abbrev dktX0_holdsIn_0 : List UInt8 := dkwX0_holdsIn_0 ++ dktX0_holdsIn_1
theorem dksX0_holdsIn_0 : cX0_holdsIn.data.toList.drop 0 = dktX0_holdsIn_0 := by decide +kernel
theorem dksX0_holdsIn_1 : cX0_holdsIn.data.toList.drop 23 = dktX0_holdsIn_1 := dk_seg dksX0_holdsIn_0 23 rfl rfl
theorem dX0_holdsIn_0 : decode cX0_holdsIn 0 = .ok (.aload_n 0, 1) := dk_42 (dk_at dksX0_holdsIn_0 0 rfl rfl)
theorem dX0_holdsIn_1 : decode cX0_holdsIn 1 = .ok (.getfield 68, 3) := dk_180 0 68 (dk_at dksX0_holdsIn_0 1 rfl rfl)
theorem dX0_holdsIn_4 : decode cX0_holdsIn 4 = .ok (.getfield 503, 3) := dk_180 1 247 (dk_at dksX0_holdsIn_0 4 rfl rfl)
theorem dX0_holdsIn_7 : decode cX0_holdsIn 7 = .ok (.iload_n 1, 1) := dk_27 (dk_at dksX0_holdsIn_0 7 rfl rfl)
theorem dX0_holdsIn_8 : decode cX0_holdsIn 8 = .ok (.aaload, 1) := dk_50 (dk_at dksX0_holdsIn_0 8 rfl rfl)
theorem dX0_holdsIn_9 : decode cX0_holdsIn 9 = .ok (.getfield 518, 3) := dk_180 2 6 (dk_at dksX0_holdsIn_0 9 rfl rfl)
theorem dX0_holdsIn_12 : decode cX0_holdsIn 12 = .ok (.istore_n 3, 1) := dk_62 (dk_at dksX0_holdsIn_0 12 rfl rfl)
theorem dX0_holdsIn_13 : decode cX0_holdsIn 13 = .ok (.iconst 0, 1) := dk_3 (dk_at dksX0_holdsIn_0 13 rfl rfl)
theorem dX0_holdsIn_14 : decode cX0_holdsIn 14 = .ok (.istore 4, 2) := dk_54 4 (dk_at dksX0_holdsIn_0 14 rfl rfl)
theorem dX0_holdsIn_16 : decode cX0_holdsIn 16 = .ok (.iload 4, 2) := dk_21 4 (dk_at dksX0_holdsIn_0 16 rfl rfl)
theorem dX0_holdsIn_18 : decode cX0_holdsIn 18 = .ok (.iload_n 2, 1) := dk_28 (dk_at dksX0_holdsIn_0 18 rfl rfl)
theorem dX0_holdsIn_19 : decode cX0_holdsIn 19 = .ok (.if_icmp .ge 25, 3) := dk_162 0 25 (dk_at dksX0_holdsIn_0 19 rfl rfl)
theorem dX0_holdsIn_22 : decode cX0_holdsIn 22 = .ok (.aload_n 0, 1) := dk_42 (dk_at dksX0_holdsIn_0 22 rfl rfl)
theorem dX0_holdsIn_23 : decode cX0_holdsIn 23 = .ok (.getfield 115, 3) := dk_180 0 115 (dk_at dksX0_holdsIn_1 0 rfl rfl)
theorem dX0_holdsIn_26 : decode cX0_holdsIn 26 = .ok (.iload 4, 2) := dk_21 4 (dk_at dksX0_holdsIn_1 3 rfl rfl)
theorem dX0_holdsIn_28 : decode cX0_holdsIn 28 = .ok (.iaload, 1) := dk_46 (dk_at dksX0_holdsIn_1 5 rfl rfl)
theorem dX0_holdsIn_29 : decode cX0_holdsIn 29 = .ok (.iload_n 3, 1) := dk_29 (dk_at dksX0_holdsIn_1 6 rfl rfl)
theorem dX0_holdsIn_30 : decode cX0_holdsIn 30 = .ok (.iand, 1) := dk_126 (dk_at dksX0_holdsIn_1 7 rfl rfl)
theorem dX0_holdsIn_31 : decode cX0_holdsIn 31 = .ok (.iload_n 3, 1) := dk_29 (dk_at dksX0_holdsIn_1 8 rfl rfl)
theorem dX0_holdsIn_32 : decode cX0_holdsIn 32 = .ok (.if_icmp .ne 6, 3) := dk_160 0 6 (dk_at dksX0_holdsIn_1 9 rfl rfl)
theorem dX0_holdsIn_35 : decode cX0_holdsIn 35 = .ok (.iload 4, 2) := dk_21 4 (dk_at dksX0_holdsIn_1 12 rfl rfl)
theorem dX0_holdsIn_37 : decode cX0_holdsIn 37 = .ok (.ireturn, 1) := dk_172 (dk_at dksX0_holdsIn_1 14 rfl rfl)
theorem dX0_holdsIn_38 : decode cX0_holdsIn 38 = .ok (.iinc 4 1, 3) := dk_132 4 1 (dk_at dksX0_holdsIn_1 15 rfl rfl)
theorem dX0_holdsIn_41 : decode cX0_holdsIn 41 = .ok (.goto (-25), 3) := dk_167 255 231 (dk_at dksX0_holdsIn_1 18 rfl rfl)
theorem dX0_holdsIn_44 : decode cX0_holdsIn 44 = .ok (.iconst (-1), 1) := dk_2 (dk_at dksX0_holdsIn_1 21 rfl rfl)
theorem dX0_holdsIn_45 : decode cX0_holdsIn 45 = .ok (.ireturn, 1) := dk_172 (dk_at dksX0_holdsIn_1 22 rfl rfl)
abbrev cX0_presses : ByteArray := prog_1_method_85_code
def yX0_presses : MethodName := ⟨RX0, "presses", "()I"⟩
def dkwX0_presses_2 : List UInt8 := [60, 132, 3, 1, 167, 255, 213, 27, 172]
abbrev dktX0_presses_2 : List UInt8 := dkwX0_presses_2 ++ []
def dkwX0_presses_1 : List UInt8 := [182, 2, 9, 2, 160, 0, 7, 3, 167, 0, 15, 42, 180, 0, 68, 180, 1, 247, 29, 50, 180, 2, 12, 96]
abbrev dktX0_presses_1 : List UInt8 := dkwX0_presses_1 ++ dktX0_presses_2
def dkwX0_presses_0 : List UInt8 := [3, 60, 42, 182, 2, 3, 61, 3, 62, 29, 42, 180, 0, 68, 180, 1, 244, 162, 0, 38, 27, 42, 29, 28]
abbrev dktX0_presses_0 : List UInt8 := dkwX0_presses_0 ++ dktX0_presses_1
theorem dksX0_presses_0 : cX0_presses.data.toList.drop 0 = dktX0_presses_0 := by decide +kernel
theorem dksX0_presses_1 : cX0_presses.data.toList.drop 24 = dktX0_presses_1 := dk_seg dksX0_presses_0 24 rfl rfl
theorem dksX0_presses_2 : cX0_presses.data.toList.drop 48 = dktX0_presses_2 := dk_seg dksX0_presses_1 24 rfl rfl
theorem dX0_presses_0 : decode cX0_presses 0 = .ok (.iconst 0, 1) := dk_3 (dk_at dksX0_presses_0 0 rfl rfl)
theorem dX0_presses_1 : decode cX0_presses 1 = .ok (.istore_n 1, 1) := dk_60 (dk_at dksX0_presses_0 1 rfl rfl)
theorem dX0_presses_2 : decode cX0_presses 2 = .ok (.aload_n 0, 1) := dk_42 (dk_at dksX0_presses_0 2 rfl rfl)
theorem dX0_presses_3 : decode cX0_presses 3 = .ok (.invokevirtual 515, 3) := dk_182 2 3 (dk_at dksX0_presses_0 3 rfl rfl)
theorem dX0_presses_6 : decode cX0_presses 6 = .ok (.istore_n 2, 1) := dk_61 (dk_at dksX0_presses_0 6 rfl rfl)
theorem dX0_presses_7 : decode cX0_presses 7 = .ok (.iconst 0, 1) := dk_3 (dk_at dksX0_presses_0 7 rfl rfl)
theorem dX0_presses_8 : decode cX0_presses 8 = .ok (.istore_n 3, 1) := dk_62 (dk_at dksX0_presses_0 8 rfl rfl)
theorem dX0_presses_9 : decode cX0_presses 9 = .ok (.iload_n 3, 1) := dk_29 (dk_at dksX0_presses_0 9 rfl rfl)
theorem dX0_presses_10 : decode cX0_presses 10 = .ok (.aload_n 0, 1) := dk_42 (dk_at dksX0_presses_0 10 rfl rfl)
theorem dX0_presses_11 : decode cX0_presses 11 = .ok (.getfield 68, 3) := dk_180 0 68 (dk_at dksX0_presses_0 11 rfl rfl)
theorem dX0_presses_14 : decode cX0_presses 14 = .ok (.getfield 500, 3) := dk_180 1 244 (dk_at dksX0_presses_0 14 rfl rfl)
theorem dX0_presses_17 : decode cX0_presses 17 = .ok (.if_icmp .ge 38, 3) := dk_162 0 38 (dk_at dksX0_presses_0 17 rfl rfl)
theorem dX0_presses_20 : decode cX0_presses 20 = .ok (.iload_n 1, 1) := dk_27 (dk_at dksX0_presses_0 20 rfl rfl)
theorem dX0_presses_21 : decode cX0_presses 21 = .ok (.aload_n 0, 1) := dk_42 (dk_at dksX0_presses_0 21 rfl rfl)
theorem dX0_presses_22 : decode cX0_presses 22 = .ok (.iload_n 3, 1) := dk_29 (dk_at dksX0_presses_0 22 rfl rfl)
theorem dX0_presses_23 : decode cX0_presses 23 = .ok (.iload_n 2, 1) := dk_28 (dk_at dksX0_presses_0 23 rfl rfl)
theorem dX0_presses_24 : decode cX0_presses 24 = .ok (.invokevirtual 521, 3) := dk_182 2 9 (dk_at dksX0_presses_1 0 rfl rfl)
theorem dX0_presses_27 : decode cX0_presses 27 = .ok (.iconst (-1), 1) := dk_2 (dk_at dksX0_presses_1 3 rfl rfl)
theorem dX0_presses_28 : decode cX0_presses 28 = .ok (.if_icmp .ne 7, 3) := dk_160 0 7 (dk_at dksX0_presses_1 4 rfl rfl)
theorem dX0_presses_31 : decode cX0_presses 31 = .ok (.iconst 0, 1) := dk_3 (dk_at dksX0_presses_1 7 rfl rfl)
theorem dX0_presses_32 : decode cX0_presses 32 = .ok (.goto 15, 3) := dk_167 0 15 (dk_at dksX0_presses_1 8 rfl rfl)
theorem dX0_presses_35 : decode cX0_presses 35 = .ok (.aload_n 0, 1) := dk_42 (dk_at dksX0_presses_1 11 rfl rfl)
theorem dX0_presses_36 : decode cX0_presses 36 = .ok (.getfield 68, 3) := dk_180 0 68 (dk_at dksX0_presses_1 12 rfl rfl)
theorem dX0_presses_39 : decode cX0_presses 39 = .ok (.getfield 503, 3) := dk_180 1 247 (dk_at dksX0_presses_1 15 rfl rfl)
theorem dX0_presses_42 : decode cX0_presses 42 = .ok (.iload_n 3, 1) := dk_29 (dk_at dksX0_presses_1 18 rfl rfl)
theorem dX0_presses_43 : decode cX0_presses 43 = .ok (.aaload, 1) := dk_50 (dk_at dksX0_presses_1 19 rfl rfl)
theorem dX0_presses_44 : decode cX0_presses 44 = .ok (.getfield 524, 3) := dk_180 2 12 (dk_at dksX0_presses_1 20 rfl rfl)
theorem dX0_presses_47 : decode cX0_presses 47 = .ok (.iadd, 1) := dk_96 (dk_at dksX0_presses_1 23 rfl rfl)
theorem dX0_presses_48 : decode cX0_presses 48 = .ok (.istore_n 1, 1) := dk_60 (dk_at dksX0_presses_2 0 rfl rfl)
theorem dX0_presses_49 : decode cX0_presses 49 = .ok (.iinc 3 1, 3) := dk_132 3 1 (dk_at dksX0_presses_2 1 rfl rfl)
theorem dX0_presses_52 : decode cX0_presses 52 = .ok (.goto (-43), 3) := dk_167 255 213 (dk_at dksX0_presses_2 4 rfl rfl)
theorem dX0_presses_55 : decode cX0_presses 55 = .ok (.iload_n 1, 1) := dk_27 (dk_at dksX0_presses_2 7 rfl rfl)
theorem dX0_presses_56 : decode cX0_presses 56 = .ok (.ireturn, 1) := dk_172 (dk_at dksX0_presses_2 8 rfl rfl)
abbrev cX0_picture : ByteArray := prog_1_method_86_code
def yX0_picture : MethodName := ⟨RX0, "picture", "(ZII)Z"⟩
def dkwX0_picture_2 : List UInt8 := [50, 29, 181, 2, 16, 167, 0, 16, 42, 180, 0, 68, 180, 0, 174, 28, 50, 29, 181, 2, 19, 4, 172]
abbrev dktX0_picture_2 : List UInt8 := dkwX0_picture_2 ++ []
def dkwX0_picture_1 : List UInt8 := [3, 19, 2, 15, 184, 0, 3, 154, 0, 5, 3, 172, 27, 153, 0, 19, 42, 180, 0, 68, 180, 0, 183, 28]
abbrev dktX0_picture_1 : List UInt8 := dkwX0_picture_1 ++ dktX0_picture_2
def dkwX0_picture_0 : List UInt8 := [27, 153, 0, 14, 42, 28, 182, 0, 125, 153, 0, 25, 167, 0, 11, 42, 28, 182, 0, 213, 153, 0, 14, 29]
abbrev dktX0_picture_0 : List UInt8 := dkwX0_picture_0 ++ dktX0_picture_1
theorem dksX0_picture_0 : cX0_picture.data.toList.drop 0 = dktX0_picture_0 := by decide +kernel
theorem dksX0_picture_1 : cX0_picture.data.toList.drop 24 = dktX0_picture_1 := dk_seg dksX0_picture_0 24 rfl rfl
theorem dksX0_picture_2 : cX0_picture.data.toList.drop 48 = dktX0_picture_2 := dk_seg dksX0_picture_1 24 rfl rfl
theorem dX0_picture_0 : decode cX0_picture 0 = .ok (.iload_n 1, 1) := dk_27 (dk_at dksX0_picture_0 0 rfl rfl)
theorem dX0_picture_1 : decode cX0_picture 1 = .ok (.ifCond .eq 14, 3) := dk_153 0 14 (dk_at dksX0_picture_0 1 rfl rfl)
theorem dX0_picture_4 : decode cX0_picture 4 = .ok (.aload_n 0, 1) := dk_42 (dk_at dksX0_picture_0 4 rfl rfl)
theorem dX0_picture_5 : decode cX0_picture 5 = .ok (.iload_n 2, 1) := dk_28 (dk_at dksX0_picture_0 5 rfl rfl)
theorem dX0_picture_6 : decode cX0_picture 6 = .ok (.invokevirtual 125, 3) := dk_182 0 125 (dk_at dksX0_picture_0 6 rfl rfl)
theorem dX0_picture_9 : decode cX0_picture 9 = .ok (.ifCond .eq 25, 3) := dk_153 0 25 (dk_at dksX0_picture_0 9 rfl rfl)
theorem dX0_picture_12 : decode cX0_picture 12 = .ok (.goto 11, 3) := dk_167 0 11 (dk_at dksX0_picture_0 12 rfl rfl)
theorem dX0_picture_15 : decode cX0_picture 15 = .ok (.aload_n 0, 1) := dk_42 (dk_at dksX0_picture_0 15 rfl rfl)
theorem dX0_picture_16 : decode cX0_picture 16 = .ok (.iload_n 2, 1) := dk_28 (dk_at dksX0_picture_0 16 rfl rfl)
theorem dX0_picture_17 : decode cX0_picture 17 = .ok (.invokevirtual 213, 3) := dk_182 0 213 (dk_at dksX0_picture_0 17 rfl rfl)
theorem dX0_picture_20 : decode cX0_picture 20 = .ok (.ifCond .eq 14, 3) := dk_153 0 14 (dk_at dksX0_picture_0 20 rfl rfl)
theorem dX0_picture_23 : decode cX0_picture 23 = .ok (.iload_n 3, 1) := dk_29 (dk_at dksX0_picture_0 23 rfl rfl)
theorem dX0_picture_24 : decode cX0_picture 24 = .ok (.iconst 0, 1) := dk_3 (dk_at dksX0_picture_1 0 rfl rfl)
theorem dX0_picture_25 : decode cX0_picture 25 = .ok (.ldc_w 527, 3) := dk_19 2 15 (dk_at dksX0_picture_1 1 rfl rfl)
theorem dX0_picture_28 : decode cX0_picture 28 = .ok (.invokestatic 3, 3) := dk_184 0 3 (dk_at dksX0_picture_1 4 rfl rfl)
theorem dX0_picture_31 : decode cX0_picture 31 = .ok (.ifCond .ne 5, 3) := dk_154 0 5 (dk_at dksX0_picture_1 7 rfl rfl)
theorem dX0_picture_34 : decode cX0_picture 34 = .ok (.iconst 0, 1) := dk_3 (dk_at dksX0_picture_1 10 rfl rfl)
theorem dX0_picture_35 : decode cX0_picture 35 = .ok (.ireturn, 1) := dk_172 (dk_at dksX0_picture_1 11 rfl rfl)
theorem dX0_picture_36 : decode cX0_picture 36 = .ok (.iload_n 1, 1) := dk_27 (dk_at dksX0_picture_1 12 rfl rfl)
theorem dX0_picture_37 : decode cX0_picture 37 = .ok (.ifCond .eq 19, 3) := dk_153 0 19 (dk_at dksX0_picture_1 13 rfl rfl)
theorem dX0_picture_40 : decode cX0_picture 40 = .ok (.aload_n 0, 1) := dk_42 (dk_at dksX0_picture_1 16 rfl rfl)
theorem dX0_picture_41 : decode cX0_picture 41 = .ok (.getfield 68, 3) := dk_180 0 68 (dk_at dksX0_picture_1 17 rfl rfl)
theorem dX0_picture_44 : decode cX0_picture 44 = .ok (.getfield 183, 3) := dk_180 0 183 (dk_at dksX0_picture_1 20 rfl rfl)
theorem dX0_picture_47 : decode cX0_picture 47 = .ok (.iload_n 2, 1) := dk_28 (dk_at dksX0_picture_1 23 rfl rfl)
theorem dX0_picture_48 : decode cX0_picture 48 = .ok (.aaload, 1) := dk_50 (dk_at dksX0_picture_2 0 rfl rfl)
theorem dX0_picture_49 : decode cX0_picture 49 = .ok (.iload_n 3, 1) := dk_29 (dk_at dksX0_picture_2 1 rfl rfl)
theorem dX0_picture_50 : decode cX0_picture 50 = .ok (.putfield 528, 3) := dk_181 2 16 (dk_at dksX0_picture_2 2 rfl rfl)
theorem dX0_picture_53 : decode cX0_picture 53 = .ok (.goto 16, 3) := dk_167 0 16 (dk_at dksX0_picture_2 5 rfl rfl)
theorem dX0_picture_56 : decode cX0_picture 56 = .ok (.aload_n 0, 1) := dk_42 (dk_at dksX0_picture_2 8 rfl rfl)
theorem dX0_picture_57 : decode cX0_picture 57 = .ok (.getfield 68, 3) := dk_180 0 68 (dk_at dksX0_picture_2 9 rfl rfl)
theorem dX0_picture_60 : decode cX0_picture 60 = .ok (.getfield 174, 3) := dk_180 0 174 (dk_at dksX0_picture_2 12 rfl rfl)
theorem dX0_picture_63 : decode cX0_picture 63 = .ok (.iload_n 2, 1) := dk_28 (dk_at dksX0_picture_2 15 rfl rfl)
theorem dX0_picture_64 : decode cX0_picture 64 = .ok (.aaload, 1) := dk_50 (dk_at dksX0_picture_2 16 rfl rfl)
theorem dX0_picture_65 : decode cX0_picture 65 = .ok (.iload_n 3, 1) := dk_29 (dk_at dksX0_picture_2 17 rfl rfl)
theorem dX0_picture_66 : decode cX0_picture 66 = .ok (.putfield 531, 3) := dk_181 2 19 (dk_at dksX0_picture_2 18 rfl rfl)
theorem dX0_picture_69 : decode cX0_picture 69 = .ok (.iconst 1, 1) := dk_4 (dk_at dksX0_picture_2 21 rfl rfl)
theorem dX0_picture_70 : decode cX0_picture 70 = .ok (.ireturn, 1) := dk_172 (dk_at dksX0_picture_2 22 rfl rfl)
abbrev cX0_unlike : ByteArray := prog_1_method_90_code
def yX0_unlike : MethodName := ⟨RX0, "unlike", "(II)I"⟩
def dkwX0_unlike_1 : List UInt8 := [167, 0, 4, 2, 172]
abbrev dktX0_unlike_1 : List UInt8 := dkwX0_unlike_1 ++ []
def dkwX0_unlike_0 : List UInt8 := [42, 27, 182, 0, 125, 153, 0, 20, 42, 28, 182, 0, 213, 153, 0, 12, 42, 27, 28, 182, 2, 26]
abbrev dktX0_unlike_0 : List UInt8 := dkwX0_unlike_0 ++ dktX0_unlike_1
theorem dksX0_unlike_0 : cX0_unlike.data.toList.drop 0 = dktX0_unlike_0 := by decide +kernel
theorem dksX0_unlike_1 : cX0_unlike.data.toList.drop 22 = dktX0_unlike_1 := dk_seg dksX0_unlike_0 22 rfl rfl
theorem dX0_unlike_0 : decode cX0_unlike 0 = .ok (.aload_n 0, 1) := dk_42 (dk_at dksX0_unlike_0 0 rfl rfl)
theorem dX0_unlike_1 : decode cX0_unlike 1 = .ok (.iload_n 1, 1) := dk_27 (dk_at dksX0_unlike_0 1 rfl rfl)
theorem dX0_unlike_2 : decode cX0_unlike 2 = .ok (.invokevirtual 125, 3) := dk_182 0 125 (dk_at dksX0_unlike_0 2 rfl rfl)
theorem dX0_unlike_5 : decode cX0_unlike 5 = .ok (.ifCond .eq 20, 3) := dk_153 0 20 (dk_at dksX0_unlike_0 5 rfl rfl)
theorem dX0_unlike_8 : decode cX0_unlike 8 = .ok (.aload_n 0, 1) := dk_42 (dk_at dksX0_unlike_0 8 rfl rfl)
theorem dX0_unlike_9 : decode cX0_unlike 9 = .ok (.iload_n 2, 1) := dk_28 (dk_at dksX0_unlike_0 9 rfl rfl)
theorem dX0_unlike_10 : decode cX0_unlike 10 = .ok (.invokevirtual 213, 3) := dk_182 0 213 (dk_at dksX0_unlike_0 10 rfl rfl)
theorem dX0_unlike_13 : decode cX0_unlike 13 = .ok (.ifCond .eq 12, 3) := dk_153 0 12 (dk_at dksX0_unlike_0 13 rfl rfl)
theorem dX0_unlike_16 : decode cX0_unlike 16 = .ok (.aload_n 0, 1) := dk_42 (dk_at dksX0_unlike_0 16 rfl rfl)
theorem dX0_unlike_17 : decode cX0_unlike 17 = .ok (.iload_n 1, 1) := dk_27 (dk_at dksX0_unlike_0 17 rfl rfl)
theorem dX0_unlike_18 : decode cX0_unlike 18 = .ok (.iload_n 2, 1) := dk_28 (dk_at dksX0_unlike_0 18 rfl rfl)
theorem dX0_unlike_19 : decode cX0_unlike 19 = .ok (.invokevirtual 538, 3) := dk_182 2 26 (dk_at dksX0_unlike_0 19 rfl rfl)
theorem dX0_unlike_22 : decode cX0_unlike 22 = .ok (.goto 4, 3) := dk_167 0 4 (dk_at dksX0_unlike_1 0 rfl rfl)
theorem dX0_unlike_25 : decode cX0_unlike 25 = .ok (.iconst (-1), 1) := dk_2 (dk_at dksX0_unlike_1 3 rfl rfl)
theorem dX0_unlike_26 : decode cX0_unlike 26 = .ok (.ireturn, 1) := dk_172 (dk_at dksX0_unlike_1 4 rfl rfl)
abbrev cX0_unlikeOf : ByteArray := prog_1_method_89_code
def yX0_unlikeOf : MethodName := ⟨RX0, "unlikeOf", "(II)I"⟩
def dkwX0_unlikeOf_4 : List UInt8 := [172]
abbrev dktX0_unlikeOf_4 : List UInt8 := dkwX0_unlikeOf_4 ++ []
def dkwX0_unlikeOf_3 : List UInt8 := [184, 0, 232, 54, 4, 132, 6, 1, 167, 255, 207, 29, 184, 2, 23, 62, 132, 5, 1, 167, 255, 187, 21, 4]
abbrev dktX0_unlikeOf_3 : List UInt8 := dkwX0_unlikeOf_3 ++ dktX0_unlikeOf_4
def dkwX0_unlikeOf_2 : List UInt8 := [6, 112, 4, 100, 184, 2, 20, 42, 180, 0, 68, 180, 0, 174, 28, 50, 180, 2, 19, 130, 184, 1, 80]
abbrev dktX0_unlikeOf_2 : List UInt8 := dkwX0_unlikeOf_2 ++ dktX0_unlikeOf_3
def dkwX0_unlikeOf_1 : List UInt8 := [162, 0, 69, 3, 54, 6, 21, 6, 16, 9, 162, 0, 48, 21, 4, 29, 21, 6, 6, 108, 4, 100, 21, 6]
abbrev dktX0_unlikeOf_1 : List UInt8 := dkwX0_unlikeOf_1 ++ dktX0_unlikeOf_2
def dkwX0_unlikeOf_0 : List UInt8 := [42, 180, 0, 68, 180, 0, 183, 27, 50, 180, 2, 16, 62, 16, 25, 54, 4, 3, 54, 5, 21, 5, 7]
abbrev dktX0_unlikeOf_0 : List UInt8 := dkwX0_unlikeOf_0 ++ dktX0_unlikeOf_1
theorem dksX0_unlikeOf_0 : cX0_unlikeOf.data.toList.drop 0 = dktX0_unlikeOf_0 := by decide +kernel
theorem dksX0_unlikeOf_1 : cX0_unlikeOf.data.toList.drop 23 = dktX0_unlikeOf_1 := dk_seg dksX0_unlikeOf_0 23 rfl rfl
theorem dksX0_unlikeOf_2 : cX0_unlikeOf.data.toList.drop 47 = dktX0_unlikeOf_2 := dk_seg dksX0_unlikeOf_1 24 rfl rfl
theorem dksX0_unlikeOf_3 : cX0_unlikeOf.data.toList.drop 70 = dktX0_unlikeOf_3 := dk_seg dksX0_unlikeOf_2 23 rfl rfl
theorem dksX0_unlikeOf_4 : cX0_unlikeOf.data.toList.drop 94 = dktX0_unlikeOf_4 := dk_seg dksX0_unlikeOf_3 24 rfl rfl
theorem dX0_unlikeOf_0 : decode cX0_unlikeOf 0 = .ok (.aload_n 0, 1) := dk_42 (dk_at dksX0_unlikeOf_0 0 rfl rfl)
theorem dX0_unlikeOf_1 : decode cX0_unlikeOf 1 = .ok (.getfield 68, 3) := dk_180 0 68 (dk_at dksX0_unlikeOf_0 1 rfl rfl)
theorem dX0_unlikeOf_4 : decode cX0_unlikeOf 4 = .ok (.getfield 183, 3) := dk_180 0 183 (dk_at dksX0_unlikeOf_0 4 rfl rfl)
theorem dX0_unlikeOf_7 : decode cX0_unlikeOf 7 = .ok (.iload_n 1, 1) := dk_27 (dk_at dksX0_unlikeOf_0 7 rfl rfl)
theorem dX0_unlikeOf_8 : decode cX0_unlikeOf 8 = .ok (.aaload, 1) := dk_50 (dk_at dksX0_unlikeOf_0 8 rfl rfl)
theorem dX0_unlikeOf_9 : decode cX0_unlikeOf 9 = .ok (.getfield 528, 3) := dk_180 2 16 (dk_at dksX0_unlikeOf_0 9 rfl rfl)
theorem dX0_unlikeOf_12 : decode cX0_unlikeOf 12 = .ok (.istore_n 3, 1) := dk_62 (dk_at dksX0_unlikeOf_0 12 rfl rfl)
theorem dX0_unlikeOf_13 : decode cX0_unlikeOf 13 = .ok (.bipush 25, 2) := dk_16 25 (dk_at dksX0_unlikeOf_0 13 rfl rfl)
theorem dX0_unlikeOf_15 : decode cX0_unlikeOf 15 = .ok (.istore 4, 2) := dk_54 4 (dk_at dksX0_unlikeOf_0 15 rfl rfl)
theorem dX0_unlikeOf_17 : decode cX0_unlikeOf 17 = .ok (.iconst 0, 1) := dk_3 (dk_at dksX0_unlikeOf_0 17 rfl rfl)
theorem dX0_unlikeOf_18 : decode cX0_unlikeOf 18 = .ok (.istore 5, 2) := dk_54 5 (dk_at dksX0_unlikeOf_0 18 rfl rfl)
theorem dX0_unlikeOf_20 : decode cX0_unlikeOf 20 = .ok (.iload 5, 2) := dk_21 5 (dk_at dksX0_unlikeOf_0 20 rfl rfl)
theorem dX0_unlikeOf_22 : decode cX0_unlikeOf 22 = .ok (.iconst 4, 1) := dk_7 (dk_at dksX0_unlikeOf_0 22 rfl rfl)
theorem dX0_unlikeOf_23 : decode cX0_unlikeOf 23 = .ok (.if_icmp .ge 69, 3) := dk_162 0 69 (dk_at dksX0_unlikeOf_1 0 rfl rfl)
theorem dX0_unlikeOf_26 : decode cX0_unlikeOf 26 = .ok (.iconst 0, 1) := dk_3 (dk_at dksX0_unlikeOf_1 3 rfl rfl)
theorem dX0_unlikeOf_27 : decode cX0_unlikeOf 27 = .ok (.istore 6, 2) := dk_54 6 (dk_at dksX0_unlikeOf_1 4 rfl rfl)
theorem dX0_unlikeOf_29 : decode cX0_unlikeOf 29 = .ok (.iload 6, 2) := dk_21 6 (dk_at dksX0_unlikeOf_1 6 rfl rfl)
theorem dX0_unlikeOf_31 : decode cX0_unlikeOf 31 = .ok (.bipush 9, 2) := dk_16 9 (dk_at dksX0_unlikeOf_1 8 rfl rfl)
theorem dX0_unlikeOf_33 : decode cX0_unlikeOf 33 = .ok (.if_icmp .ge 48, 3) := dk_162 0 48 (dk_at dksX0_unlikeOf_1 10 rfl rfl)
theorem dX0_unlikeOf_36 : decode cX0_unlikeOf 36 = .ok (.iload 4, 2) := dk_21 4 (dk_at dksX0_unlikeOf_1 13 rfl rfl)
theorem dX0_unlikeOf_38 : decode cX0_unlikeOf 38 = .ok (.iload_n 3, 1) := dk_29 (dk_at dksX0_unlikeOf_1 15 rfl rfl)
theorem dX0_unlikeOf_39 : decode cX0_unlikeOf 39 = .ok (.iload 6, 2) := dk_21 6 (dk_at dksX0_unlikeOf_1 16 rfl rfl)
theorem dX0_unlikeOf_41 : decode cX0_unlikeOf 41 = .ok (.iconst 3, 1) := dk_6 (dk_at dksX0_unlikeOf_1 18 rfl rfl)
theorem dX0_unlikeOf_42 : decode cX0_unlikeOf 42 = .ok (.idiv, 1) := dk_108 (dk_at dksX0_unlikeOf_1 19 rfl rfl)
theorem dX0_unlikeOf_43 : decode cX0_unlikeOf 43 = .ok (.iconst 1, 1) := dk_4 (dk_at dksX0_unlikeOf_1 20 rfl rfl)
theorem dX0_unlikeOf_44 : decode cX0_unlikeOf 44 = .ok (.isub, 1) := dk_100 (dk_at dksX0_unlikeOf_1 21 rfl rfl)
theorem dX0_unlikeOf_45 : decode cX0_unlikeOf 45 = .ok (.iload 6, 2) := dk_21 6 (dk_at dksX0_unlikeOf_1 22 rfl rfl)
theorem dX0_unlikeOf_47 : decode cX0_unlikeOf 47 = .ok (.iconst 3, 1) := dk_6 (dk_at dksX0_unlikeOf_2 0 rfl rfl)
theorem dX0_unlikeOf_48 : decode cX0_unlikeOf 48 = .ok (.irem, 1) := dk_112 (dk_at dksX0_unlikeOf_2 1 rfl rfl)
theorem dX0_unlikeOf_49 : decode cX0_unlikeOf 49 = .ok (.iconst 1, 1) := dk_4 (dk_at dksX0_unlikeOf_2 2 rfl rfl)
theorem dX0_unlikeOf_50 : decode cX0_unlikeOf 50 = .ok (.isub, 1) := dk_100 (dk_at dksX0_unlikeOf_2 3 rfl rfl)
theorem dX0_unlikeOf_51 : decode cX0_unlikeOf 51 = .ok (.invokestatic 532, 3) := dk_184 2 20 (dk_at dksX0_unlikeOf_2 4 rfl rfl)
theorem dX0_unlikeOf_54 : decode cX0_unlikeOf 54 = .ok (.aload_n 0, 1) := dk_42 (dk_at dksX0_unlikeOf_2 7 rfl rfl)
theorem dX0_unlikeOf_55 : decode cX0_unlikeOf 55 = .ok (.getfield 68, 3) := dk_180 0 68 (dk_at dksX0_unlikeOf_2 8 rfl rfl)
theorem dX0_unlikeOf_58 : decode cX0_unlikeOf 58 = .ok (.getfield 174, 3) := dk_180 0 174 (dk_at dksX0_unlikeOf_2 11 rfl rfl)
theorem dX0_unlikeOf_61 : decode cX0_unlikeOf 61 = .ok (.iload_n 2, 1) := dk_28 (dk_at dksX0_unlikeOf_2 14 rfl rfl)
theorem dX0_unlikeOf_62 : decode cX0_unlikeOf 62 = .ok (.aaload, 1) := dk_50 (dk_at dksX0_unlikeOf_2 15 rfl rfl)
theorem dX0_unlikeOf_63 : decode cX0_unlikeOf 63 = .ok (.getfield 531, 3) := dk_180 2 19 (dk_at dksX0_unlikeOf_2 16 rfl rfl)
theorem dX0_unlikeOf_66 : decode cX0_unlikeOf 66 = .ok (.ixor, 1) := dk_130 (dk_at dksX0_unlikeOf_2 19 rfl rfl)
theorem dX0_unlikeOf_67 : decode cX0_unlikeOf 67 = .ok (.invokestatic 336, 3) := dk_184 1 80 (dk_at dksX0_unlikeOf_2 20 rfl rfl)
theorem dX0_unlikeOf_70 : decode cX0_unlikeOf 70 = .ok (.invokestatic 232, 3) := dk_184 0 232 (dk_at dksX0_unlikeOf_3 0 rfl rfl)
theorem dX0_unlikeOf_73 : decode cX0_unlikeOf 73 = .ok (.istore 4, 2) := dk_54 4 (dk_at dksX0_unlikeOf_3 3 rfl rfl)
theorem dX0_unlikeOf_75 : decode cX0_unlikeOf 75 = .ok (.iinc 6 1, 3) := dk_132 6 1 (dk_at dksX0_unlikeOf_3 5 rfl rfl)
theorem dX0_unlikeOf_78 : decode cX0_unlikeOf 78 = .ok (.goto (-49), 3) := dk_167 255 207 (dk_at dksX0_unlikeOf_3 8 rfl rfl)
theorem dX0_unlikeOf_81 : decode cX0_unlikeOf 81 = .ok (.iload_n 3, 1) := dk_29 (dk_at dksX0_unlikeOf_3 11 rfl rfl)
theorem dX0_unlikeOf_82 : decode cX0_unlikeOf 82 = .ok (.invokestatic 535, 3) := dk_184 2 23 (dk_at dksX0_unlikeOf_3 12 rfl rfl)
theorem dX0_unlikeOf_85 : decode cX0_unlikeOf 85 = .ok (.istore_n 3, 1) := dk_62 (dk_at dksX0_unlikeOf_3 15 rfl rfl)
theorem dX0_unlikeOf_86 : decode cX0_unlikeOf 86 = .ok (.iinc 5 1, 3) := dk_132 5 1 (dk_at dksX0_unlikeOf_3 16 rfl rfl)
theorem dX0_unlikeOf_89 : decode cX0_unlikeOf 89 = .ok (.goto (-69), 3) := dk_167 255 187 (dk_at dksX0_unlikeOf_3 19 rfl rfl)
theorem dX0_unlikeOf_92 : decode cX0_unlikeOf 92 = .ok (.iload 4, 2) := dk_21 4 (dk_at dksX0_unlikeOf_3 22 rfl rfl)
theorem dX0_unlikeOf_94 : decode cX0_unlikeOf 94 = .ok (.ireturn, 1) := dk_172 (dk_at dksX0_unlikeOf_4 0 rfl rfl)
abbrev cX0_moved : ByteArray := prog_1_method_88_code
def yX0_moved : MethodName := ⟨RX0, "moved", "(III)I"⟩
def dkwX0_moved_3 : List UInt8 := [172]
abbrev dktX0_moved_3 : List UInt8 := dkwX0_moved_3 ++ []
def dkwX0_moved_2 : List UInt8 := [29, 26, 21, 4, 122, 4, 126, 8, 21, 5, 104, 21, 6, 96, 120, 128, 62, 132, 4, 1, 167, 255, 193, 29]
abbrev dktX0_moved_2 : List UInt8 := dkwX0_moved_2 ++ dktX0_moved_3
def dkwX0_moved_1 : List UInt8 := [28, 96, 54, 6, 21, 5, 3, 7, 184, 0, 3, 153, 0, 30, 21, 6, 3, 7, 184, 0, 3, 153, 0, 20]
abbrev dktX0_moved_1 : List UInt8 := dkwX0_moved_1 ++ dktX0_moved_2
def dkwX0_moved_0 : List UInt8 := [3, 62, 3, 54, 4, 21, 4, 16, 25, 162, 0, 62, 21, 4, 8, 108, 27, 96, 54, 5, 21, 4, 8, 112]
abbrev dktX0_moved_0 : List UInt8 := dkwX0_moved_0 ++ dktX0_moved_1
theorem dksX0_moved_0 : cX0_moved.data.toList.drop 0 = dktX0_moved_0 := by decide +kernel
theorem dksX0_moved_1 : cX0_moved.data.toList.drop 24 = dktX0_moved_1 := dk_seg dksX0_moved_0 24 rfl rfl
theorem dksX0_moved_2 : cX0_moved.data.toList.drop 48 = dktX0_moved_2 := dk_seg dksX0_moved_1 24 rfl rfl
theorem dksX0_moved_3 : cX0_moved.data.toList.drop 72 = dktX0_moved_3 := dk_seg dksX0_moved_2 24 rfl rfl
theorem dX0_moved_0 : decode cX0_moved 0 = .ok (.iconst 0, 1) := dk_3 (dk_at dksX0_moved_0 0 rfl rfl)
theorem dX0_moved_1 : decode cX0_moved 1 = .ok (.istore_n 3, 1) := dk_62 (dk_at dksX0_moved_0 1 rfl rfl)
theorem dX0_moved_2 : decode cX0_moved 2 = .ok (.iconst 0, 1) := dk_3 (dk_at dksX0_moved_0 2 rfl rfl)
theorem dX0_moved_3 : decode cX0_moved 3 = .ok (.istore 4, 2) := dk_54 4 (dk_at dksX0_moved_0 3 rfl rfl)
theorem dX0_moved_5 : decode cX0_moved 5 = .ok (.iload 4, 2) := dk_21 4 (dk_at dksX0_moved_0 5 rfl rfl)
theorem dX0_moved_7 : decode cX0_moved 7 = .ok (.bipush 25, 2) := dk_16 25 (dk_at dksX0_moved_0 7 rfl rfl)
theorem dX0_moved_9 : decode cX0_moved 9 = .ok (.if_icmp .ge 62, 3) := dk_162 0 62 (dk_at dksX0_moved_0 9 rfl rfl)
theorem dX0_moved_12 : decode cX0_moved 12 = .ok (.iload 4, 2) := dk_21 4 (dk_at dksX0_moved_0 12 rfl rfl)
theorem dX0_moved_14 : decode cX0_moved 14 = .ok (.iconst 5, 1) := dk_8 (dk_at dksX0_moved_0 14 rfl rfl)
theorem dX0_moved_15 : decode cX0_moved 15 = .ok (.idiv, 1) := dk_108 (dk_at dksX0_moved_0 15 rfl rfl)
theorem dX0_moved_16 : decode cX0_moved 16 = .ok (.iload_n 1, 1) := dk_27 (dk_at dksX0_moved_0 16 rfl rfl)
theorem dX0_moved_17 : decode cX0_moved 17 = .ok (.iadd, 1) := dk_96 (dk_at dksX0_moved_0 17 rfl rfl)
theorem dX0_moved_18 : decode cX0_moved 18 = .ok (.istore 5, 2) := dk_54 5 (dk_at dksX0_moved_0 18 rfl rfl)
theorem dX0_moved_20 : decode cX0_moved 20 = .ok (.iload 4, 2) := dk_21 4 (dk_at dksX0_moved_0 20 rfl rfl)
theorem dX0_moved_22 : decode cX0_moved 22 = .ok (.iconst 5, 1) := dk_8 (dk_at dksX0_moved_0 22 rfl rfl)
theorem dX0_moved_23 : decode cX0_moved 23 = .ok (.irem, 1) := dk_112 (dk_at dksX0_moved_0 23 rfl rfl)
theorem dX0_moved_24 : decode cX0_moved 24 = .ok (.iload_n 2, 1) := dk_28 (dk_at dksX0_moved_1 0 rfl rfl)
theorem dX0_moved_25 : decode cX0_moved 25 = .ok (.iadd, 1) := dk_96 (dk_at dksX0_moved_1 1 rfl rfl)
theorem dX0_moved_26 : decode cX0_moved 26 = .ok (.istore 6, 2) := dk_54 6 (dk_at dksX0_moved_1 2 rfl rfl)
theorem dX0_moved_28 : decode cX0_moved 28 = .ok (.iload 5, 2) := dk_21 5 (dk_at dksX0_moved_1 4 rfl rfl)
theorem dX0_moved_30 : decode cX0_moved 30 = .ok (.iconst 0, 1) := dk_3 (dk_at dksX0_moved_1 6 rfl rfl)
theorem dX0_moved_31 : decode cX0_moved 31 = .ok (.iconst 4, 1) := dk_7 (dk_at dksX0_moved_1 7 rfl rfl)
theorem dX0_moved_32 : decode cX0_moved 32 = .ok (.invokestatic 3, 3) := dk_184 0 3 (dk_at dksX0_moved_1 8 rfl rfl)
theorem dX0_moved_35 : decode cX0_moved 35 = .ok (.ifCond .eq 30, 3) := dk_153 0 30 (dk_at dksX0_moved_1 11 rfl rfl)
theorem dX0_moved_38 : decode cX0_moved 38 = .ok (.iload 6, 2) := dk_21 6 (dk_at dksX0_moved_1 14 rfl rfl)
theorem dX0_moved_40 : decode cX0_moved 40 = .ok (.iconst 0, 1) := dk_3 (dk_at dksX0_moved_1 16 rfl rfl)
theorem dX0_moved_41 : decode cX0_moved 41 = .ok (.iconst 4, 1) := dk_7 (dk_at dksX0_moved_1 17 rfl rfl)
theorem dX0_moved_42 : decode cX0_moved 42 = .ok (.invokestatic 3, 3) := dk_184 0 3 (dk_at dksX0_moved_1 18 rfl rfl)
theorem dX0_moved_45 : decode cX0_moved 45 = .ok (.ifCond .eq 20, 3) := dk_153 0 20 (dk_at dksX0_moved_1 21 rfl rfl)
theorem dX0_moved_48 : decode cX0_moved 48 = .ok (.iload_n 3, 1) := dk_29 (dk_at dksX0_moved_2 0 rfl rfl)
theorem dX0_moved_49 : decode cX0_moved 49 = .ok (.iload_n 0, 1) := dk_26 (dk_at dksX0_moved_2 1 rfl rfl)
theorem dX0_moved_50 : decode cX0_moved 50 = .ok (.iload 4, 2) := dk_21 4 (dk_at dksX0_moved_2 2 rfl rfl)
theorem dX0_moved_52 : decode cX0_moved 52 = .ok (.ishr, 1) := dk_122 (dk_at dksX0_moved_2 4 rfl rfl)
theorem dX0_moved_53 : decode cX0_moved 53 = .ok (.iconst 1, 1) := dk_4 (dk_at dksX0_moved_2 5 rfl rfl)
theorem dX0_moved_54 : decode cX0_moved 54 = .ok (.iand, 1) := dk_126 (dk_at dksX0_moved_2 6 rfl rfl)
theorem dX0_moved_55 : decode cX0_moved 55 = .ok (.iconst 5, 1) := dk_8 (dk_at dksX0_moved_2 7 rfl rfl)
theorem dX0_moved_56 : decode cX0_moved 56 = .ok (.iload 5, 2) := dk_21 5 (dk_at dksX0_moved_2 8 rfl rfl)
theorem dX0_moved_58 : decode cX0_moved 58 = .ok (.imul, 1) := dk_104 (dk_at dksX0_moved_2 10 rfl rfl)
theorem dX0_moved_59 : decode cX0_moved 59 = .ok (.iload 6, 2) := dk_21 6 (dk_at dksX0_moved_2 11 rfl rfl)
theorem dX0_moved_61 : decode cX0_moved 61 = .ok (.iadd, 1) := dk_96 (dk_at dksX0_moved_2 13 rfl rfl)
theorem dX0_moved_62 : decode cX0_moved 62 = .ok (.ishl, 1) := dk_120 (dk_at dksX0_moved_2 14 rfl rfl)
theorem dX0_moved_63 : decode cX0_moved 63 = .ok (.ior, 1) := dk_128 (dk_at dksX0_moved_2 15 rfl rfl)
theorem dX0_moved_64 : decode cX0_moved 64 = .ok (.istore_n 3, 1) := dk_62 (dk_at dksX0_moved_2 16 rfl rfl)
theorem dX0_moved_65 : decode cX0_moved 65 = .ok (.iinc 4 1, 3) := dk_132 4 1 (dk_at dksX0_moved_2 17 rfl rfl)
theorem dX0_moved_68 : decode cX0_moved 68 = .ok (.goto (-63), 3) := dk_167 255 193 (dk_at dksX0_moved_2 20 rfl rfl)
theorem dX0_moved_71 : decode cX0_moved 71 = .ok (.iload_n 3, 1) := dk_29 (dk_at dksX0_moved_2 23 rfl rfl)
theorem dX0_moved_72 : decode cX0_moved 72 = .ok (.ireturn, 1) := dk_172 (dk_at dksX0_moved_3 0 rfl rfl)
abbrev cX0_turned : ByteArray := prog_1_method_87_code
def yX0_turned : MethodName := ⟨RX0, "turned", "(I)I"⟩
def dkwX0_turned_1 : List UInt8 := [100, 28, 8, 108, 100, 120, 128, 60, 132, 2, 1, 167, 255, 225, 27, 172]
abbrev dktX0_turned_1 : List UInt8 := dkwX0_turned_1 ++ []
def dkwX0_turned_0 : List UInt8 := [3, 60, 3, 61, 28, 16, 25, 162, 0, 31, 27, 26, 28, 122, 4, 126, 8, 28, 8, 112, 104, 8, 96, 4]
abbrev dktX0_turned_0 : List UInt8 := dkwX0_turned_0 ++ dktX0_turned_1
theorem dksX0_turned_0 : cX0_turned.data.toList.drop 0 = dktX0_turned_0 := by decide +kernel
theorem dksX0_turned_1 : cX0_turned.data.toList.drop 24 = dktX0_turned_1 := dk_seg dksX0_turned_0 24 rfl rfl
theorem dX0_turned_0 : decode cX0_turned 0 = .ok (.iconst 0, 1) := dk_3 (dk_at dksX0_turned_0 0 rfl rfl)
theorem dX0_turned_1 : decode cX0_turned 1 = .ok (.istore_n 1, 1) := dk_60 (dk_at dksX0_turned_0 1 rfl rfl)
theorem dX0_turned_2 : decode cX0_turned 2 = .ok (.iconst 0, 1) := dk_3 (dk_at dksX0_turned_0 2 rfl rfl)
theorem dX0_turned_3 : decode cX0_turned 3 = .ok (.istore_n 2, 1) := dk_61 (dk_at dksX0_turned_0 3 rfl rfl)
theorem dX0_turned_4 : decode cX0_turned 4 = .ok (.iload_n 2, 1) := dk_28 (dk_at dksX0_turned_0 4 rfl rfl)
theorem dX0_turned_5 : decode cX0_turned 5 = .ok (.bipush 25, 2) := dk_16 25 (dk_at dksX0_turned_0 5 rfl rfl)
theorem dX0_turned_7 : decode cX0_turned 7 = .ok (.if_icmp .ge 31, 3) := dk_162 0 31 (dk_at dksX0_turned_0 7 rfl rfl)
theorem dX0_turned_10 : decode cX0_turned 10 = .ok (.iload_n 1, 1) := dk_27 (dk_at dksX0_turned_0 10 rfl rfl)
theorem dX0_turned_11 : decode cX0_turned 11 = .ok (.iload_n 0, 1) := dk_26 (dk_at dksX0_turned_0 11 rfl rfl)
theorem dX0_turned_12 : decode cX0_turned 12 = .ok (.iload_n 2, 1) := dk_28 (dk_at dksX0_turned_0 12 rfl rfl)
theorem dX0_turned_13 : decode cX0_turned 13 = .ok (.ishr, 1) := dk_122 (dk_at dksX0_turned_0 13 rfl rfl)
theorem dX0_turned_14 : decode cX0_turned 14 = .ok (.iconst 1, 1) := dk_4 (dk_at dksX0_turned_0 14 rfl rfl)
theorem dX0_turned_15 : decode cX0_turned 15 = .ok (.iand, 1) := dk_126 (dk_at dksX0_turned_0 15 rfl rfl)
theorem dX0_turned_16 : decode cX0_turned 16 = .ok (.iconst 5, 1) := dk_8 (dk_at dksX0_turned_0 16 rfl rfl)
theorem dX0_turned_17 : decode cX0_turned 17 = .ok (.iload_n 2, 1) := dk_28 (dk_at dksX0_turned_0 17 rfl rfl)
theorem dX0_turned_18 : decode cX0_turned 18 = .ok (.iconst 5, 1) := dk_8 (dk_at dksX0_turned_0 18 rfl rfl)
theorem dX0_turned_19 : decode cX0_turned 19 = .ok (.irem, 1) := dk_112 (dk_at dksX0_turned_0 19 rfl rfl)
theorem dX0_turned_20 : decode cX0_turned 20 = .ok (.imul, 1) := dk_104 (dk_at dksX0_turned_0 20 rfl rfl)
theorem dX0_turned_21 : decode cX0_turned 21 = .ok (.iconst 5, 1) := dk_8 (dk_at dksX0_turned_0 21 rfl rfl)
theorem dX0_turned_22 : decode cX0_turned 22 = .ok (.iadd, 1) := dk_96 (dk_at dksX0_turned_0 22 rfl rfl)
theorem dX0_turned_23 : decode cX0_turned 23 = .ok (.iconst 1, 1) := dk_4 (dk_at dksX0_turned_0 23 rfl rfl)
theorem dX0_turned_24 : decode cX0_turned 24 = .ok (.isub, 1) := dk_100 (dk_at dksX0_turned_1 0 rfl rfl)
theorem dX0_turned_25 : decode cX0_turned 25 = .ok (.iload_n 2, 1) := dk_28 (dk_at dksX0_turned_1 1 rfl rfl)
theorem dX0_turned_26 : decode cX0_turned 26 = .ok (.iconst 5, 1) := dk_8 (dk_at dksX0_turned_1 2 rfl rfl)
theorem dX0_turned_27 : decode cX0_turned 27 = .ok (.idiv, 1) := dk_108 (dk_at dksX0_turned_1 3 rfl rfl)
theorem dX0_turned_28 : decode cX0_turned 28 = .ok (.isub, 1) := dk_100 (dk_at dksX0_turned_1 4 rfl rfl)
theorem dX0_turned_29 : decode cX0_turned 29 = .ok (.ishl, 1) := dk_120 (dk_at dksX0_turned_1 5 rfl rfl)
theorem dX0_turned_30 : decode cX0_turned 30 = .ok (.ior, 1) := dk_128 (dk_at dksX0_turned_1 6 rfl rfl)
theorem dX0_turned_31 : decode cX0_turned 31 = .ok (.istore_n 1, 1) := dk_60 (dk_at dksX0_turned_1 7 rfl rfl)
theorem dX0_turned_32 : decode cX0_turned 32 = .ok (.iinc 2 1, 3) := dk_132 2 1 (dk_at dksX0_turned_1 8 rfl rfl)
theorem dX0_turned_35 : decode cX0_turned 35 = .ok (.goto (-31), 3) := dk_167 255 225 (dk_at dksX0_turned_1 11 rfl rfl)
theorem dX0_turned_38 : decode cX0_turned 38 = .ok (.iload_n 1, 1) := dk_27 (dk_at dksX0_turned_1 14 rfl rfl)
theorem dX0_turned_39 : decode cX0_turned 39 = .ok (.ireturn, 1) := dk_172 (dk_at dksX0_turned_1 15 rfl rfl)
abbrev cX0_near : ByteArray := prog_1_method_91_code
def yX0_near : MethodName := ⟨RX0, "near", "(I)I"⟩
def dkwX0_near_2 : List UInt8 := [162, 0, 5, 29, 61, 132, 3, 1, 167, 255, 225, 28, 172]
abbrev dktX0_near_2 : List UInt8 := dkwX0_near_2 ++ []
def dkwX0_near_1 : List UInt8 := [29, 42, 180, 0, 68, 180, 0, 118, 162, 0, 26, 42, 27, 29, 182, 2, 26, 42, 27, 28, 182, 2, 26]
abbrev dktX0_near_1 : List UInt8 := dkwX0_near_1 ++ dktX0_near_2
def dkwX0_near_0 : List UInt8 := [42, 27, 182, 0, 125, 153, 0, 13, 42, 180, 0, 68, 180, 0, 118, 154, 0, 5, 2, 172, 3, 61, 4, 62]
abbrev dktX0_near_0 : List UInt8 := dkwX0_near_0 ++ dktX0_near_1
theorem dksX0_near_0 : cX0_near.data.toList.drop 0 = dktX0_near_0 := by decide +kernel
theorem dksX0_near_1 : cX0_near.data.toList.drop 24 = dktX0_near_1 := dk_seg dksX0_near_0 24 rfl rfl
theorem dksX0_near_2 : cX0_near.data.toList.drop 47 = dktX0_near_2 := dk_seg dksX0_near_1 23 rfl rfl
theorem dX0_near_0 : decode cX0_near 0 = .ok (.aload_n 0, 1) := dk_42 (dk_at dksX0_near_0 0 rfl rfl)
theorem dX0_near_1 : decode cX0_near 1 = .ok (.iload_n 1, 1) := dk_27 (dk_at dksX0_near_0 1 rfl rfl)
theorem dX0_near_2 : decode cX0_near 2 = .ok (.invokevirtual 125, 3) := dk_182 0 125 (dk_at dksX0_near_0 2 rfl rfl)
theorem dX0_near_5 : decode cX0_near 5 = .ok (.ifCond .eq 13, 3) := dk_153 0 13 (dk_at dksX0_near_0 5 rfl rfl)
theorem dX0_near_8 : decode cX0_near 8 = .ok (.aload_n 0, 1) := dk_42 (dk_at dksX0_near_0 8 rfl rfl)
theorem dX0_near_9 : decode cX0_near 9 = .ok (.getfield 68, 3) := dk_180 0 68 (dk_at dksX0_near_0 9 rfl rfl)
theorem dX0_near_12 : decode cX0_near 12 = .ok (.getfield 118, 3) := dk_180 0 118 (dk_at dksX0_near_0 12 rfl rfl)
theorem dX0_near_15 : decode cX0_near 15 = .ok (.ifCond .ne 5, 3) := dk_154 0 5 (dk_at dksX0_near_0 15 rfl rfl)
theorem dX0_near_18 : decode cX0_near 18 = .ok (.iconst (-1), 1) := dk_2 (dk_at dksX0_near_0 18 rfl rfl)
theorem dX0_near_19 : decode cX0_near 19 = .ok (.ireturn, 1) := dk_172 (dk_at dksX0_near_0 19 rfl rfl)
theorem dX0_near_20 : decode cX0_near 20 = .ok (.iconst 0, 1) := dk_3 (dk_at dksX0_near_0 20 rfl rfl)
theorem dX0_near_21 : decode cX0_near 21 = .ok (.istore_n 2, 1) := dk_61 (dk_at dksX0_near_0 21 rfl rfl)
theorem dX0_near_22 : decode cX0_near 22 = .ok (.iconst 1, 1) := dk_4 (dk_at dksX0_near_0 22 rfl rfl)
theorem dX0_near_23 : decode cX0_near 23 = .ok (.istore_n 3, 1) := dk_62 (dk_at dksX0_near_0 23 rfl rfl)
theorem dX0_near_24 : decode cX0_near 24 = .ok (.iload_n 3, 1) := dk_29 (dk_at dksX0_near_1 0 rfl rfl)
theorem dX0_near_25 : decode cX0_near 25 = .ok (.aload_n 0, 1) := dk_42 (dk_at dksX0_near_1 1 rfl rfl)
theorem dX0_near_26 : decode cX0_near 26 = .ok (.getfield 68, 3) := dk_180 0 68 (dk_at dksX0_near_1 2 rfl rfl)
theorem dX0_near_29 : decode cX0_near 29 = .ok (.getfield 118, 3) := dk_180 0 118 (dk_at dksX0_near_1 5 rfl rfl)
theorem dX0_near_32 : decode cX0_near 32 = .ok (.if_icmp .ge 26, 3) := dk_162 0 26 (dk_at dksX0_near_1 8 rfl rfl)
theorem dX0_near_35 : decode cX0_near 35 = .ok (.aload_n 0, 1) := dk_42 (dk_at dksX0_near_1 11 rfl rfl)
theorem dX0_near_36 : decode cX0_near 36 = .ok (.iload_n 1, 1) := dk_27 (dk_at dksX0_near_1 12 rfl rfl)
theorem dX0_near_37 : decode cX0_near 37 = .ok (.iload_n 3, 1) := dk_29 (dk_at dksX0_near_1 13 rfl rfl)
theorem dX0_near_38 : decode cX0_near 38 = .ok (.invokevirtual 538, 3) := dk_182 2 26 (dk_at dksX0_near_1 14 rfl rfl)
theorem dX0_near_41 : decode cX0_near 41 = .ok (.aload_n 0, 1) := dk_42 (dk_at dksX0_near_1 17 rfl rfl)
theorem dX0_near_42 : decode cX0_near 42 = .ok (.iload_n 1, 1) := dk_27 (dk_at dksX0_near_1 18 rfl rfl)
theorem dX0_near_43 : decode cX0_near 43 = .ok (.iload_n 2, 1) := dk_28 (dk_at dksX0_near_1 19 rfl rfl)
theorem dX0_near_44 : decode cX0_near 44 = .ok (.invokevirtual 538, 3) := dk_182 2 26 (dk_at dksX0_near_1 20 rfl rfl)
theorem dX0_near_47 : decode cX0_near 47 = .ok (.if_icmp .ge 5, 3) := dk_162 0 5 (dk_at dksX0_near_2 0 rfl rfl)
theorem dX0_near_50 : decode cX0_near 50 = .ok (.iload_n 3, 1) := dk_29 (dk_at dksX0_near_2 3 rfl rfl)
theorem dX0_near_51 : decode cX0_near 51 = .ok (.istore_n 2, 1) := dk_61 (dk_at dksX0_near_2 4 rfl rfl)
theorem dX0_near_52 : decode cX0_near 52 = .ok (.iinc 3 1, 3) := dk_132 3 1 (dk_at dksX0_near_2 5 rfl rfl)
theorem dX0_near_55 : decode cX0_near 55 = .ok (.goto (-31), 3) := dk_167 255 225 (dk_at dksX0_near_2 8 rfl rfl)
theorem dX0_near_58 : decode cX0_near 58 = .ok (.iload_n 2, 1) := dk_28 (dk_at dksX0_near_2 11 rfl rfl)
theorem dX0_near_59 : decode cX0_near 59 = .ok (.ireturn, 1) := dk_172 (dk_at dksX0_near_2 12 rfl rfl)
abbrev cX0_count : ByteArray := prog_1_method_92_code
def yX0_count : MethodName := ⟨RX0, "count", "(I)I"⟩
def dkwX0_count_7 : List UInt8 := [42, 180, 0, 68, 180, 1, 234, 172, 42, 180, 0, 68, 180, 1, 244, 172, 42, 182, 2, 3, 172, 16, 254, 172]
abbrev dktX0_count_7 : List UInt8 := dkwX0_count_7 ++ []
def dkwX0_count_6 : List UInt8 := [42, 180, 0, 68, 180, 1, 66, 172, 42, 180, 0, 68, 180, 1, 68, 172, 42, 180, 0, 68, 180, 1, 70, 172]
abbrev dktX0_count_6 : List UInt8 := dkwX0_count_6 ++ dktX0_count_7
def dkwX0_count_5 : List UInt8 := [42, 180, 0, 68, 180, 0, 118, 172, 42, 180, 0, 68, 180, 0, 122, 172, 42, 180, 0, 68, 180, 1, 98, 172]
abbrev dktX0_count_5 : List UInt8 := dkwX0_count_5 ++ dktX0_count_6
def dkwX0_count_4 : List UInt8 := [170, 0, 0, 0, 118, 0, 0, 0, 0, 0, 0, 0, 8, 0, 0, 0, 49, 0, 0, 0, 57, 0, 0, 0, 65, 0, 0, 0, 73, 0, 0, 0, 81, 0, 0, 0, 89, 0, 0, 0, 97, 0, 0, 0, 105, 0, 0, 0, 113]
abbrev dktX0_count_4 : List UInt8 := dkwX0_count_4 ++ dktX0_count_5
def dkwX0_count_3 : List UInt8 := [180, 0, 253, 27, 16, 30, 100, 46, 172, 27]
abbrev dktX0_count_3 : List UInt8 := dkwX0_count_3 ++ dktX0_count_4
def dkwX0_count_2 : List UInt8 := [16, 20, 100, 50, 180, 0, 216, 172, 27, 16, 30, 16, 37, 184, 0, 3, 153, 0, 16, 42, 180, 0, 68]
abbrev dktX0_count_2 : List UInt8 := dkwX0_count_2 ++ dktX0_count_3
def dkwX0_count_1 : List UInt8 := [180, 1, 140, 172, 42, 27, 16, 20, 100, 182, 0, 213, 153, 0, 19, 42, 180, 0, 68, 180, 0, 174, 27]
abbrev dktX0_count_1 : List UInt8 := dkwX0_count_1 ++ dktX0_count_2
def dkwX0_count_0 : List UInt8 := [42, 27, 16, 10, 100, 182, 0, 125, 153, 0, 19, 42, 180, 0, 68, 180, 0, 183, 27, 16, 10, 100, 50]
abbrev dktX0_count_0 : List UInt8 := dkwX0_count_0 ++ dktX0_count_1
theorem dksX0_count_0 : cX0_count.data.toList.drop 0 = dktX0_count_0 := by decide +kernel
theorem dksX0_count_1 : cX0_count.data.toList.drop 23 = dktX0_count_1 := dk_seg dksX0_count_0 23 rfl rfl
theorem dksX0_count_2 : cX0_count.data.toList.drop 46 = dktX0_count_2 := dk_seg dksX0_count_1 23 rfl rfl
theorem dksX0_count_3 : cX0_count.data.toList.drop 69 = dktX0_count_3 := dk_seg dksX0_count_2 23 rfl rfl
theorem dksX0_count_4 : cX0_count.data.toList.drop 79 = dktX0_count_4 := dk_seg dksX0_count_3 10 rfl rfl
theorem dksX0_count_5 : cX0_count.data.toList.drop 128 = dktX0_count_5 := dk_seg dksX0_count_4 49 rfl rfl
theorem dksX0_count_6 : cX0_count.data.toList.drop 152 = dktX0_count_6 := dk_seg dksX0_count_5 24 rfl rfl
theorem dksX0_count_7 : cX0_count.data.toList.drop 176 = dktX0_count_7 := dk_seg dksX0_count_6 24 rfl rfl
theorem dX0_count_0 : decode cX0_count 0 = .ok (.aload_n 0, 1) := dk_42 (dk_at dksX0_count_0 0 rfl rfl)
theorem dX0_count_1 : decode cX0_count 1 = .ok (.iload_n 1, 1) := dk_27 (dk_at dksX0_count_0 1 rfl rfl)
theorem dX0_count_2 : decode cX0_count 2 = .ok (.bipush 10, 2) := dk_16 10 (dk_at dksX0_count_0 2 rfl rfl)
theorem dX0_count_4 : decode cX0_count 4 = .ok (.isub, 1) := dk_100 (dk_at dksX0_count_0 4 rfl rfl)
theorem dX0_count_5 : decode cX0_count 5 = .ok (.invokevirtual 125, 3) := dk_182 0 125 (dk_at dksX0_count_0 5 rfl rfl)
theorem dX0_count_8 : decode cX0_count 8 = .ok (.ifCond .eq 19, 3) := dk_153 0 19 (dk_at dksX0_count_0 8 rfl rfl)
theorem dX0_count_11 : decode cX0_count 11 = .ok (.aload_n 0, 1) := dk_42 (dk_at dksX0_count_0 11 rfl rfl)
theorem dX0_count_12 : decode cX0_count 12 = .ok (.getfield 68, 3) := dk_180 0 68 (dk_at dksX0_count_0 12 rfl rfl)
theorem dX0_count_15 : decode cX0_count 15 = .ok (.getfield 183, 3) := dk_180 0 183 (dk_at dksX0_count_0 15 rfl rfl)
theorem dX0_count_18 : decode cX0_count 18 = .ok (.iload_n 1, 1) := dk_27 (dk_at dksX0_count_0 18 rfl rfl)
theorem dX0_count_19 : decode cX0_count 19 = .ok (.bipush 10, 2) := dk_16 10 (dk_at dksX0_count_0 19 rfl rfl)
theorem dX0_count_21 : decode cX0_count 21 = .ok (.isub, 1) := dk_100 (dk_at dksX0_count_0 21 rfl rfl)
theorem dX0_count_22 : decode cX0_count 22 = .ok (.aaload, 1) := dk_50 (dk_at dksX0_count_0 22 rfl rfl)
theorem dX0_count_23 : decode cX0_count 23 = .ok (.getfield 396, 3) := dk_180 1 140 (dk_at dksX0_count_1 0 rfl rfl)
theorem dX0_count_26 : decode cX0_count 26 = .ok (.ireturn, 1) := dk_172 (dk_at dksX0_count_1 3 rfl rfl)
theorem dX0_count_27 : decode cX0_count 27 = .ok (.aload_n 0, 1) := dk_42 (dk_at dksX0_count_1 4 rfl rfl)
theorem dX0_count_28 : decode cX0_count 28 = .ok (.iload_n 1, 1) := dk_27 (dk_at dksX0_count_1 5 rfl rfl)
theorem dX0_count_29 : decode cX0_count 29 = .ok (.bipush 20, 2) := dk_16 20 (dk_at dksX0_count_1 6 rfl rfl)
theorem dX0_count_31 : decode cX0_count 31 = .ok (.isub, 1) := dk_100 (dk_at dksX0_count_1 8 rfl rfl)
theorem dX0_count_32 : decode cX0_count 32 = .ok (.invokevirtual 213, 3) := dk_182 0 213 (dk_at dksX0_count_1 9 rfl rfl)
theorem dX0_count_35 : decode cX0_count 35 = .ok (.ifCond .eq 19, 3) := dk_153 0 19 (dk_at dksX0_count_1 12 rfl rfl)
theorem dX0_count_38 : decode cX0_count 38 = .ok (.aload_n 0, 1) := dk_42 (dk_at dksX0_count_1 15 rfl rfl)
theorem dX0_count_39 : decode cX0_count 39 = .ok (.getfield 68, 3) := dk_180 0 68 (dk_at dksX0_count_1 16 rfl rfl)
theorem dX0_count_42 : decode cX0_count 42 = .ok (.getfield 174, 3) := dk_180 0 174 (dk_at dksX0_count_1 19 rfl rfl)
theorem dX0_count_45 : decode cX0_count 45 = .ok (.iload_n 1, 1) := dk_27 (dk_at dksX0_count_1 22 rfl rfl)
theorem dX0_count_46 : decode cX0_count 46 = .ok (.bipush 20, 2) := dk_16 20 (dk_at dksX0_count_2 0 rfl rfl)
theorem dX0_count_48 : decode cX0_count 48 = .ok (.isub, 1) := dk_100 (dk_at dksX0_count_2 2 rfl rfl)
theorem dX0_count_49 : decode cX0_count 49 = .ok (.aaload, 1) := dk_50 (dk_at dksX0_count_2 3 rfl rfl)
theorem dX0_count_50 : decode cX0_count 50 = .ok (.getfield 216, 3) := dk_180 0 216 (dk_at dksX0_count_2 4 rfl rfl)
theorem dX0_count_53 : decode cX0_count 53 = .ok (.ireturn, 1) := dk_172 (dk_at dksX0_count_2 7 rfl rfl)
theorem dX0_count_54 : decode cX0_count 54 = .ok (.iload_n 1, 1) := dk_27 (dk_at dksX0_count_2 8 rfl rfl)
theorem dX0_count_55 : decode cX0_count 55 = .ok (.bipush 30, 2) := dk_16 30 (dk_at dksX0_count_2 9 rfl rfl)
theorem dX0_count_57 : decode cX0_count 57 = .ok (.bipush 37, 2) := dk_16 37 (dk_at dksX0_count_2 11 rfl rfl)
theorem dX0_count_59 : decode cX0_count 59 = .ok (.invokestatic 3, 3) := dk_184 0 3 (dk_at dksX0_count_2 13 rfl rfl)
theorem dX0_count_62 : decode cX0_count 62 = .ok (.ifCond .eq 16, 3) := dk_153 0 16 (dk_at dksX0_count_2 16 rfl rfl)
theorem dX0_count_65 : decode cX0_count 65 = .ok (.aload_n 0, 1) := dk_42 (dk_at dksX0_count_2 19 rfl rfl)
theorem dX0_count_66 : decode cX0_count 66 = .ok (.getfield 68, 3) := dk_180 0 68 (dk_at dksX0_count_2 20 rfl rfl)
theorem dX0_count_69 : decode cX0_count 69 = .ok (.getfield 253, 3) := dk_180 0 253 (dk_at dksX0_count_3 0 rfl rfl)
theorem dX0_count_72 : decode cX0_count 72 = .ok (.iload_n 1, 1) := dk_27 (dk_at dksX0_count_3 3 rfl rfl)
theorem dX0_count_73 : decode cX0_count 73 = .ok (.bipush 30, 2) := dk_16 30 (dk_at dksX0_count_3 4 rfl rfl)
theorem dX0_count_75 : decode cX0_count 75 = .ok (.isub, 1) := dk_100 (dk_at dksX0_count_3 6 rfl rfl)
theorem dX0_count_76 : decode cX0_count 76 = .ok (.iaload, 1) := dk_46 (dk_at dksX0_count_3 7 rfl rfl)
theorem dX0_count_77 : decode cX0_count 77 = .ok (.ireturn, 1) := dk_172 (dk_at dksX0_count_3 8 rfl rfl)
theorem dX0_count_78 : decode cX0_count 78 = .ok (.iload_n 1, 1) := dk_27 (dk_at dksX0_count_3 9 rfl rfl)
theorem dX0_count_79 : decode cX0_count 79 = .ok (.tableswitch 118 0 8 #[49, 57, 65, 73, 81, 89, 97, 105, 113], 49) := by decide +kernel
theorem dX0_count_128 : decode cX0_count 128 = .ok (.aload_n 0, 1) := dk_42 (dk_at dksX0_count_5 0 rfl rfl)
theorem dX0_count_129 : decode cX0_count 129 = .ok (.getfield 68, 3) := dk_180 0 68 (dk_at dksX0_count_5 1 rfl rfl)
theorem dX0_count_132 : decode cX0_count 132 = .ok (.getfield 118, 3) := dk_180 0 118 (dk_at dksX0_count_5 4 rfl rfl)
theorem dX0_count_135 : decode cX0_count 135 = .ok (.ireturn, 1) := dk_172 (dk_at dksX0_count_5 7 rfl rfl)
theorem dX0_count_136 : decode cX0_count 136 = .ok (.aload_n 0, 1) := dk_42 (dk_at dksX0_count_5 8 rfl rfl)
theorem dX0_count_137 : decode cX0_count 137 = .ok (.getfield 68, 3) := dk_180 0 68 (dk_at dksX0_count_5 9 rfl rfl)
theorem dX0_count_140 : decode cX0_count 140 = .ok (.getfield 122, 3) := dk_180 0 122 (dk_at dksX0_count_5 12 rfl rfl)
theorem dX0_count_143 : decode cX0_count 143 = .ok (.ireturn, 1) := dk_172 (dk_at dksX0_count_5 15 rfl rfl)
theorem dX0_count_144 : decode cX0_count 144 = .ok (.aload_n 0, 1) := dk_42 (dk_at dksX0_count_5 16 rfl rfl)
theorem dX0_count_145 : decode cX0_count 145 = .ok (.getfield 68, 3) := dk_180 0 68 (dk_at dksX0_count_5 17 rfl rfl)
theorem dX0_count_148 : decode cX0_count 148 = .ok (.getfield 354, 3) := dk_180 1 98 (dk_at dksX0_count_5 20 rfl rfl)
theorem dX0_count_151 : decode cX0_count 151 = .ok (.ireturn, 1) := dk_172 (dk_at dksX0_count_5 23 rfl rfl)
theorem dX0_count_152 : decode cX0_count 152 = .ok (.aload_n 0, 1) := dk_42 (dk_at dksX0_count_6 0 rfl rfl)
theorem dX0_count_153 : decode cX0_count 153 = .ok (.getfield 68, 3) := dk_180 0 68 (dk_at dksX0_count_6 1 rfl rfl)
theorem dX0_count_156 : decode cX0_count 156 = .ok (.getfield 322, 3) := dk_180 1 66 (dk_at dksX0_count_6 4 rfl rfl)
theorem dX0_count_159 : decode cX0_count 159 = .ok (.ireturn, 1) := dk_172 (dk_at dksX0_count_6 7 rfl rfl)
theorem dX0_count_160 : decode cX0_count 160 = .ok (.aload_n 0, 1) := dk_42 (dk_at dksX0_count_6 8 rfl rfl)
theorem dX0_count_161 : decode cX0_count 161 = .ok (.getfield 68, 3) := dk_180 0 68 (dk_at dksX0_count_6 9 rfl rfl)
theorem dX0_count_164 : decode cX0_count 164 = .ok (.getfield 324, 3) := dk_180 1 68 (dk_at dksX0_count_6 12 rfl rfl)
theorem dX0_count_167 : decode cX0_count 167 = .ok (.ireturn, 1) := dk_172 (dk_at dksX0_count_6 15 rfl rfl)
theorem dX0_count_168 : decode cX0_count 168 = .ok (.aload_n 0, 1) := dk_42 (dk_at dksX0_count_6 16 rfl rfl)
theorem dX0_count_169 : decode cX0_count 169 = .ok (.getfield 68, 3) := dk_180 0 68 (dk_at dksX0_count_6 17 rfl rfl)
theorem dX0_count_172 : decode cX0_count 172 = .ok (.getfield 326, 3) := dk_180 1 70 (dk_at dksX0_count_6 20 rfl rfl)
theorem dX0_count_175 : decode cX0_count 175 = .ok (.ireturn, 1) := dk_172 (dk_at dksX0_count_6 23 rfl rfl)
theorem dX0_count_176 : decode cX0_count 176 = .ok (.aload_n 0, 1) := dk_42 (dk_at dksX0_count_7 0 rfl rfl)
theorem dX0_count_177 : decode cX0_count 177 = .ok (.getfield 68, 3) := dk_180 0 68 (dk_at dksX0_count_7 1 rfl rfl)
theorem dX0_count_180 : decode cX0_count 180 = .ok (.getfield 490, 3) := dk_180 1 234 (dk_at dksX0_count_7 4 rfl rfl)
theorem dX0_count_183 : decode cX0_count 183 = .ok (.ireturn, 1) := dk_172 (dk_at dksX0_count_7 7 rfl rfl)
theorem dX0_count_184 : decode cX0_count 184 = .ok (.aload_n 0, 1) := dk_42 (dk_at dksX0_count_7 8 rfl rfl)
theorem dX0_count_185 : decode cX0_count 185 = .ok (.getfield 68, 3) := dk_180 0 68 (dk_at dksX0_count_7 9 rfl rfl)
theorem dX0_count_188 : decode cX0_count 188 = .ok (.getfield 500, 3) := dk_180 1 244 (dk_at dksX0_count_7 12 rfl rfl)
theorem dX0_count_191 : decode cX0_count 191 = .ok (.ireturn, 1) := dk_172 (dk_at dksX0_count_7 15 rfl rfl)
theorem dX0_count_192 : decode cX0_count 192 = .ok (.aload_n 0, 1) := dk_42 (dk_at dksX0_count_7 16 rfl rfl)
theorem dX0_count_193 : decode cX0_count 193 = .ok (.invokevirtual 515, 3) := dk_182 2 3 (dk_at dksX0_count_7 17 rfl rfl)
theorem dX0_count_196 : decode cX0_count 196 = .ok (.ireturn, 1) := dk_172 (dk_at dksX0_count_7 20 rfl rfl)
theorem dX0_count_197 : decode cX0_count 197 = .ok (.bipush (-2), 2) := dk_16 254 (dk_at dksX0_count_7 21 rfl rfl)
theorem dX0_count_199 : decode cX0_count 199 = .ok (.ireturn, 1) := dk_172 (dk_at dksX0_count_7 23 rfl rfl)
abbrev cX0_image : ByteArray := prog_1_method_93_code
def yX0_image : MethodName := ⟨RX0, "image", "(I)Z"⟩
def dkwX0_image_1 : List UInt8 := [183, 2, 29, 83, 4, 172]
abbrev dktX0_image_1 : List UInt8 := dkwX0_image_1 ++ []
def dkwX0_image_0 : List UInt8 := [27, 3, 5, 184, 0, 3, 154, 0, 5, 3, 172, 42, 180, 0, 72, 27, 187, 0, 65, 89, 42, 180, 0, 68]
abbrev dktX0_image_0 : List UInt8 := dkwX0_image_0 ++ dktX0_image_1
theorem dksX0_image_0 : cX0_image.data.toList.drop 0 = dktX0_image_0 := by decide +kernel
theorem dksX0_image_1 : cX0_image.data.toList.drop 24 = dktX0_image_1 := dk_seg dksX0_image_0 24 rfl rfl
theorem dX0_image_0 : decode cX0_image 0 = .ok (.iload_n 1, 1) := dk_27 (dk_at dksX0_image_0 0 rfl rfl)
theorem dX0_image_1 : decode cX0_image 1 = .ok (.iconst 0, 1) := dk_3 (dk_at dksX0_image_0 1 rfl rfl)
theorem dX0_image_2 : decode cX0_image 2 = .ok (.iconst 2, 1) := dk_5 (dk_at dksX0_image_0 2 rfl rfl)
theorem dX0_image_3 : decode cX0_image 3 = .ok (.invokestatic 3, 3) := dk_184 0 3 (dk_at dksX0_image_0 3 rfl rfl)
theorem dX0_image_6 : decode cX0_image 6 = .ok (.ifCond .ne 5, 3) := dk_154 0 5 (dk_at dksX0_image_0 6 rfl rfl)
theorem dX0_image_9 : decode cX0_image 9 = .ok (.iconst 0, 1) := dk_3 (dk_at dksX0_image_0 9 rfl rfl)
theorem dX0_image_10 : decode cX0_image 10 = .ok (.ireturn, 1) := dk_172 (dk_at dksX0_image_0 10 rfl rfl)
theorem dX0_image_11 : decode cX0_image 11 = .ok (.aload_n 0, 1) := dk_42 (dk_at dksX0_image_0 11 rfl rfl)
theorem dX0_image_12 : decode cX0_image 12 = .ok (.getfield 72, 3) := dk_180 0 72 (dk_at dksX0_image_0 12 rfl rfl)
theorem dX0_image_15 : decode cX0_image 15 = .ok (.iload_n 1, 1) := dk_27 (dk_at dksX0_image_0 15 rfl rfl)
theorem dX0_image_16 : decode cX0_image 16 = .ok (.new 65, 3) := dk_187 0 65 (dk_at dksX0_image_0 16 rfl rfl)
theorem dX0_image_19 : decode cX0_image 19 = .ok (.dup, 1) := dk_89 (dk_at dksX0_image_0 19 rfl rfl)
theorem dX0_image_20 : decode cX0_image 20 = .ok (.aload_n 0, 1) := dk_42 (dk_at dksX0_image_0 20 rfl rfl)
theorem dX0_image_21 : decode cX0_image 21 = .ok (.getfield 68, 3) := dk_180 0 68 (dk_at dksX0_image_0 21 rfl rfl)
theorem dX0_image_24 : decode cX0_image 24 = .ok (.invokespecial 541, 3) := dk_183 2 29 (dk_at dksX0_image_1 0 rfl rfl)
theorem dX0_image_27 : decode cX0_image 27 = .ok (.aastore, 1) := dk_83 (dk_at dksX0_image_1 3 rfl rfl)
theorem dX0_image_28 : decode cX0_image 28 = .ok (.iconst 1, 1) := dk_4 (dk_at dksX0_image_1 4 rfl rfl)
theorem dX0_image_29 : decode cX0_image 29 = .ok (.ireturn, 1) := dk_172 (dk_at dksX0_image_1 5 rfl rfl)
abbrev cX0_again : ByteArray := prog_1_method_94_code
def yX0_again : MethodName := ⟨RX0, "again", "(I)Z"⟩
def dkwX0_again_1 : List UInt8 := [89, 42, 180, 0, 72, 27, 50, 183, 2, 29, 181, 0, 68, 4, 172]
abbrev dktX0_again_1 : List UInt8 := dkwX0_again_1 ++ []
def dkwX0_again_0 : List UInt8 := [27, 3, 5, 184, 0, 3, 153, 0, 12, 42, 180, 0, 72, 27, 50, 199, 0, 5, 3, 172, 42, 187, 0, 65]
abbrev dktX0_again_0 : List UInt8 := dkwX0_again_0 ++ dktX0_again_1
theorem dksX0_again_0 : cX0_again.data.toList.drop 0 = dktX0_again_0 := by decide +kernel
theorem dksX0_again_1 : cX0_again.data.toList.drop 24 = dktX0_again_1 := dk_seg dksX0_again_0 24 rfl rfl
theorem dX0_again_0 : decode cX0_again 0 = .ok (.iload_n 1, 1) := dk_27 (dk_at dksX0_again_0 0 rfl rfl)
theorem dX0_again_1 : decode cX0_again 1 = .ok (.iconst 0, 1) := dk_3 (dk_at dksX0_again_0 1 rfl rfl)
theorem dX0_again_2 : decode cX0_again 2 = .ok (.iconst 2, 1) := dk_5 (dk_at dksX0_again_0 2 rfl rfl)
theorem dX0_again_3 : decode cX0_again 3 = .ok (.invokestatic 3, 3) := dk_184 0 3 (dk_at dksX0_again_0 3 rfl rfl)
theorem dX0_again_6 : decode cX0_again 6 = .ok (.ifCond .eq 12, 3) := dk_153 0 12 (dk_at dksX0_again_0 6 rfl rfl)
theorem dX0_again_9 : decode cX0_again 9 = .ok (.aload_n 0, 1) := dk_42 (dk_at dksX0_again_0 9 rfl rfl)
theorem dX0_again_10 : decode cX0_again 10 = .ok (.getfield 72, 3) := dk_180 0 72 (dk_at dksX0_again_0 10 rfl rfl)
theorem dX0_again_13 : decode cX0_again 13 = .ok (.iload_n 1, 1) := dk_27 (dk_at dksX0_again_0 13 rfl rfl)
theorem dX0_again_14 : decode cX0_again 14 = .ok (.aaload, 1) := dk_50 (dk_at dksX0_again_0 14 rfl rfl)
theorem dX0_again_15 : decode cX0_again 15 = .ok (.ifnonnull 5, 3) := dk_199 0 5 (dk_at dksX0_again_0 15 rfl rfl)
theorem dX0_again_18 : decode cX0_again 18 = .ok (.iconst 0, 1) := dk_3 (dk_at dksX0_again_0 18 rfl rfl)
theorem dX0_again_19 : decode cX0_again 19 = .ok (.ireturn, 1) := dk_172 (dk_at dksX0_again_0 19 rfl rfl)
theorem dX0_again_20 : decode cX0_again 20 = .ok (.aload_n 0, 1) := dk_42 (dk_at dksX0_again_0 20 rfl rfl)
theorem dX0_again_21 : decode cX0_again 21 = .ok (.new 65, 3) := dk_187 0 65 (dk_at dksX0_again_0 21 rfl rfl)
theorem dX0_again_24 : decode cX0_again 24 = .ok (.dup, 1) := dk_89 (dk_at dksX0_again_1 0 rfl rfl)
theorem dX0_again_25 : decode cX0_again 25 = .ok (.aload_n 0, 1) := dk_42 (dk_at dksX0_again_1 1 rfl rfl)
theorem dX0_again_26 : decode cX0_again 26 = .ok (.getfield 72, 3) := dk_180 0 72 (dk_at dksX0_again_1 2 rfl rfl)
theorem dX0_again_29 : decode cX0_again 29 = .ok (.iload_n 1, 1) := dk_27 (dk_at dksX0_again_1 5 rfl rfl)
theorem dX0_again_30 : decode cX0_again 30 = .ok (.aaload, 1) := dk_50 (dk_at dksX0_again_1 6 rfl rfl)
theorem dX0_again_31 : decode cX0_again 31 = .ok (.invokespecial 541, 3) := dk_183 2 29 (dk_at dksX0_again_1 7 rfl rfl)
theorem dX0_again_34 : decode cX0_again 34 = .ok (.putfield 68, 3) := dk_181 0 68 (dk_at dksX0_again_1 10 rfl rfl)
theorem dX0_again_37 : decode cX0_again 37 = .ok (.iconst 1, 1) := dk_4 (dk_at dksX0_again_1 13 rfl rfl)
theorem dX0_again_38 : decode cX0_again 38 = .ok (.ireturn, 1) := dk_172 (dk_at dksX0_again_1 14 rfl rfl)
theorem q100 : (Jvm.Cond.initialized "PretendDesk") ∈ lw_all := lw_g (lw_at lw_m1 1 rfl) rfl
theorem q130 : (Jvm.Cond.instantiable "PretendDesk" (17 : Nat)) ∈ lw_all := lw_g (lw_at lw_m1 31 rfl) rfl
theorem q132 : (Jvm.Cond.instanceMethod ({ cls := "PretendDesk", name := "<init>", desc := "()V" } : Jvm.MethodName)) ∈ lw_all := lw_g (lw_at lw_m1 33 rfl) rfl
theorem q133 : (Jvm.Cond.code ({ cls := "PretendDesk", name := "<init>", desc := "()V" } : Jvm.MethodName) prog_1_method_4_code (2 : Nat) (Option.none : Option Jvm.ClassFile.FieldType)) ∈ lw_all := lw_g (lw_at lw_m1 34 rfl) rfl
theorem q134 : (Jvm.Cond.methodLink "PretendDesk" (7 : Nat) ({ cls := "java/lang/Object", name := "<init>", desc := "()V" } : Jvm.MethodName)) ∈ lw_all := lw_g (lw_at lw_m1 35 rfl) rfl
theorem q137 : (Jvm.Cond.classLink "PretendDesk" (13 : Nat) "PretendDesk$Ruler") ∈ lw_all := lw_g (lw_at lw_m1 38 rfl) rfl
theorem q139 : (Jvm.Cond.methodLinkNest "PretendDesk" (15 : Nat) ({ cls := "PretendDesk$Ruler", name := "<init>", desc := "(LPretendDesk;)V" } : Jvm.MethodName) "PretendDesk") ∈ lw_tbl := lw_at lw_m1 40 rfl
theorem q159 : (Jvm.Cond.fieldLink "PretendDesk" (270 : Nat) "PretendDesk$Tree" "many" "I") ∈ lw_all := lw_g (lw_at lw_m1 60 rfl) rfl
theorem q174 : (Jvm.Cond.fieldLink "PretendDesk" (259 : Nat) "PretendDesk$Ruler" "a" "LPretendDesk$Tree;") ∈ lw_all := lw_g (lw_at lw_m1 75 rfl) rfl
theorem q176 : (Jvm.Cond.fieldLink "PretendDesk" (298 : Nat) "PretendDesk$Ruler" "b" "LPretendDesk$Tree;") ∈ lw_all := lw_g (lw_at lw_m1 77 rfl) rfl
theorem q189 : (Jvm.Cond.classLink "PretendDesk" (26 : Nat) "java/lang/String") ∈ lw_all := lw_g (lw_at lw_m1 90 rfl) rfl
theorem q191 : (Jvm.Cond.stringRef "PretendDesk" (28 : Nat) "box") ∈ lw_tbl := lw_at lw_m1 92 rfl
theorem q192 : (Jvm.Cond.stringRef "PretendDesk" (30 : Nat) "form") ∈ lw_tbl := lw_at lw_m1 93 rfl
theorem q193 : (Jvm.Cond.stringRef "PretendDesk" (32 : Nat) "pass") ∈ lw_tbl := lw_at lw_m1 94 rfl
theorem q194 : (Jvm.Cond.stringRef "PretendDesk" (34 : Nat) "card") ∈ lw_tbl := lw_at lw_m1 95 rfl
theorem q195 : (Jvm.Cond.stringRef "PretendDesk" (36 : Nat) "pin") ∈ lw_tbl := lw_at lw_m1 96 rfl
theorem q196 : (Jvm.Cond.stringRef "PretendDesk" (38 : Nat) "logo") ∈ lw_tbl := lw_at lw_m1 97 rfl
theorem q197 : (Jvm.Cond.stringRef "PretendDesk" (40 : Nat) "text") ∈ lw_tbl := lw_at lw_m1 98 rfl
theorem q198 : (Jvm.Cond.stringRef "PretendDesk" (42 : Nat) "link") ∈ lw_tbl := lw_at lw_m1 99 rfl
theorem q199 : (Jvm.Cond.stringRef "PretendDesk" (48 : Nat) "read") ∈ lw_tbl := lw_at lw_m1 100 rfl
theorem q200 : (Jvm.Cond.stringRef "PretendDesk" (50 : Nat) "mix") ∈ lw_tbl := lw_at lw_m1 101 rfl
theorem q201 : (Jvm.Cond.stringRef "PretendDesk" (52 : Nat) "put") ∈ lw_tbl := lw_at lw_m1 102 rfl
theorem q202 : (Jvm.Cond.stringRef "PretendDesk" (54 : Nat) "send") ∈ lw_tbl := lw_at lw_m1 103 rfl
theorem q203 : (Jvm.Cond.stringRef "PretendDesk" (56 : Nat) "if") ∈ lw_tbl := lw_at lw_m1 104 rfl
theorem q204 : (Jvm.Cond.stringRef "PretendDesk" (58 : Nat) "go") ∈ lw_tbl := lw_at lw_m1 105 rfl
theorem q205 : (Jvm.Cond.stringRef "PretendDesk" (60 : Nat) "stop") ∈ lw_tbl := lw_at lw_m1 106 rfl
theorem q206 : (Jvm.Cond.classLink "PretendDesk" (65 : Nat) "PretendDesk$Desk") ∈ lw_all := lw_g (lw_at lw_m1 107 rfl) rfl
theorem q208 : (Jvm.Cond.methodLink "PretendDesk" (67 : Nat) ({ cls := "PretendDesk$Desk", name := "<init>", desc := "()V" } : Jvm.MethodName)) ∈ lw_all := lw_g (lw_at lw_m1 109 rfl) rfl
theorem q222 : (Jvm.Cond.fieldLink "PretendDesk" (142 : Nat) "PretendDesk$Desk" "tape" "[B") ∈ lw_all := lw_g (lw_at lw_m1 123 rfl) rfl
theorem q224 : (Jvm.Cond.fieldLink "PretendDesk" (135 : Nat) "PretendDesk$Desk" "size" "I") ∈ lw_all := lw_g (lw_at lw_m1 125 rfl) rfl
theorem q226 : (Jvm.Cond.fieldLink "PretendDesk" (146 : Nat) "PretendDesk$Desk" "lastFault" "I") ∈ lw_all := lw_g (lw_at lw_m1 127 rfl) rfl
theorem q228 : (Jvm.Cond.fieldLink "PretendDesk" (149 : Nat) "PretendDesk$Desk" "lastPlace" "I") ∈ lw_all := lw_g (lw_at lw_m1 129 rfl) rfl
theorem q231 : (Jvm.Cond.fieldLink "PretendDesk" (118 : Nat) "PretendDesk$Desk" "houses" "I") ∈ lw_all := lw_g (lw_at lw_m1 132 rfl) rfl
theorem q233 : (Jvm.Cond.fieldLink "PretendDesk" (122 : Nat) "PretendDesk$Desk" "pages" "I") ∈ lw_all := lw_g (lw_at lw_m1 134 rfl) rfl
theorem q235 : (Jvm.Cond.fieldLink "PretendDesk" (354 : Nat) "PretendDesk$Desk" "cases" "I") ∈ lw_all := lw_g (lw_at lw_m1 136 rfl) rfl
theorem q237 : (Jvm.Cond.fieldLink "PretendDesk" (322 : Nat) "PretendDesk$Desk" "a" "I") ∈ lw_all := lw_g (lw_at lw_m1 138 rfl) rfl
theorem q240 : (Jvm.Cond.fieldLink "PretendDesk" (324 : Nat) "PretendDesk$Desk" "b" "I") ∈ lw_all := lw_g (lw_at lw_m1 141 rfl) rfl
theorem q243 : (Jvm.Cond.fieldLink "PretendDesk" (326 : Nat) "PretendDesk$Desk" "c" "I") ∈ lw_all := lw_g (lw_at lw_m1 144 rfl) rfl
theorem q245 : (Jvm.Cond.fieldLink "PretendDesk" (490 : Nat) "PretendDesk$Desk" "words" "I") ∈ lw_all := lw_g (lw_at lw_m1 146 rfl) rfl
theorem q247 : (Jvm.Cond.fieldLink "PretendDesk" (500 : Nat) "PretendDesk$Desk" "patterns" "I") ∈ lw_all := lw_g (lw_at lw_m1 148 rfl) rfl
theorem q250 : (Jvm.Cond.fieldLink "PretendDesk" (174 : Nat) "PretendDesk$Desk" "house" "[LPretendDesk$House;") ∈ lw_all := lw_g (lw_at lw_m1 151 rfl) rfl
theorem q252 : (Jvm.Cond.fieldLink "PretendDesk" (183 : Nat) "PretendDesk$Desk" "page" "[LPretendDesk$Came;") ∈ lw_all := lw_g (lw_at lw_m1 153 rfl) rfl
theorem q254 : (Jvm.Cond.fieldLink "PretendDesk" (357 : Nat) "PretendDesk$Desk" "kept" "[LPretendDesk$Case;") ∈ lw_all := lw_g (lw_at lw_m1 155 rfl) rfl
theorem q257 : (Jvm.Cond.fieldLink "PretendDesk" (253 : Nat) "PretendDesk$Desk" "worth" "[I") ∈ lw_all := lw_g (lw_at lw_m1 158 rfl) rfl
theorem q259 : (Jvm.Cond.fieldLink "PretendDesk" (459 : Nat) "PretendDesk$Desk" "relay" "[I") ∈ lw_all := lw_g (lw_at lw_m1 160 rfl) rfl
theorem q261 : (Jvm.Cond.fieldLink "PretendDesk" (462 : Nat) "PretendDesk$Desk" "owner" "[I") ∈ lw_all := lw_g (lw_at lw_m1 162 rfl) rfl
theorem q263 : (Jvm.Cond.fieldLink "PretendDesk" (493 : Nat) "PretendDesk$Desk" "word" "[J") ∈ lw_all := lw_g (lw_at lw_m1 164 rfl) rfl
theorem q265 : (Jvm.Cond.fieldLink "PretendDesk" (497 : Nat) "PretendDesk$Desk" "meaning" "[B") ∈ lw_all := lw_g (lw_at lw_m1 166 rfl) rfl
theorem q267 : (Jvm.Cond.fieldLink "PretendDesk" (503 : Nat) "PretendDesk$Desk" "pattern" "[LPretendDesk$Pattern;") ∈ lw_all := lw_g (lw_at lw_m1 168 rfl) rfl
theorem q269 : (Jvm.Cond.fieldLink "PretendDesk" (512 : Nat) "PretendDesk$Desk" "letter" "[B") ∈ lw_all := lw_g (lw_at lw_m1 170 rfl) rfl
theorem q271 : (Jvm.Cond.fieldLink "PretendDesk" (228 : Nat) "PretendDesk$Desk" "alike" "[B") ∈ lw_all := lw_g (lw_at lw_m1 172 rfl) rfl
theorem q322 : (Jvm.Cond.classLink "PretendDesk" (79 : Nat) "PretendDesk$Look") ∈ lw_all := lw_g (lw_at lw_m1 223 rfl) rfl
theorem q324 : (Jvm.Cond.methodLinkNest "PretendDesk" (81 : Nat) ({ cls := "PretendDesk$Look", name := "<init>", desc := "(LPretendDesk;)V" } : Jvm.MethodName) "PretendDesk") ∈ lw_tbl := lw_at lw_m1 225 rfl
theorem q330 : (Jvm.Cond.fieldLink "PretendDesk" (316 : Nat) "PretendDesk$Look" "like" "I") ∈ lw_all := lw_g (lw_at lw_m1 231 rfl) rfl
theorem q333 : (Jvm.Cond.fieldLink "PretendDesk" (373 : Nat) "PretendDesk$Look" "look" "I") ∈ lw_all := lw_g (lw_at lw_m1 234 rfl) rfl
theorem q336 : (Jvm.Cond.fieldLink "PretendDesk" (319 : Nat) "PretendDesk$Look" "ask" "I") ∈ lw_all := lw_g (lw_at lw_m1 237 rfl) rfl
theorem q347 : (Jvm.Cond.classLink "PretendDesk" (101 : Nat) "PretendDesk$Forger") ∈ lw_all := lw_g (lw_at lw_m2 8 rfl) rfl
theorem q349 : (Jvm.Cond.methodLinkNest "PretendDesk" (103 : Nat) ({ cls := "PretendDesk$Forger", name := "<init>", desc := "(LPretendDesk;)V" } : Jvm.MethodName) "PretendDesk") ∈ lw_tbl := lw_at lw_m2 10 rfl
theorem q355 : (Jvm.Cond.fieldLink "PretendDesk" (419 : Nat) "PretendDesk$Forger" "set" "I") ∈ lw_all := lw_g (lw_at lw_m2 16 rfl) rfl
theorem q357 : (Jvm.Cond.fieldLink "PretendDesk" (416 : Nat) "PretendDesk$Forger" "price" "I") ∈ lw_all := lw_g (lw_at lw_m2 18 rfl) rfl
theorem q359 : (Jvm.Cond.fieldLink "PretendDesk" (422 : Nat) "PretendDesk$Forger" "said" "I") ∈ lw_all := lw_g (lw_at lw_m2 20 rfl) rfl
theorem q372 : (Jvm.Cond.classLink "PretendDesk" (108 : Nat) "PretendDesk$Stepper") ∈ lw_all := lw_g (lw_at lw_m2 33 rfl) rfl
theorem q374 : (Jvm.Cond.methodLinkNest "PretendDesk" (110 : Nat) ({ cls := "PretendDesk$Stepper", name := "<init>", desc := "()V" } : Jvm.MethodName) "PretendDesk") ∈ lw_tbl := lw_at lw_m2 35 rfl
theorem q381 : (Jvm.Cond.fieldLink "PretendDesk" (478 : Nat) "PretendDesk$Stepper" "sent" "[I") ∈ lw_all := lw_g (lw_at lw_m2 42 rfl) rfl
theorem q383 : (Jvm.Cond.fieldLink "PretendDesk" (481 : Nat) "PretendDesk$Stepper" "done" "I") ∈ lw_all := lw_g (lw_at lw_m2 44 rfl) rfl
theorem q394 : (Jvm.Cond.fieldLink "PretendDesk" (18 : Nat) "PretendDesk" "ruler" "LPretendDesk$Ruler;") ∈ lw_all := lw_g (lw_at lw_m2 55 rfl) rfl
theorem q396 : (Jvm.Cond.fieldLink "PretendDesk" (22 : Nat) "PretendDesk" "asIs" "[I") ∈ lw_all := lw_g (lw_at lw_m2 57 rfl) rfl
theorem q397 : (Jvm.Cond.fieldLink "PretendDesk" (44 : Nat) "PretendDesk" "kinds" "[Ljava/lang/String;") ∈ lw_all := lw_g (lw_at lw_m2 58 rfl) rfl
theorem q400 : (Jvm.Cond.fieldLink "PretendDesk" (62 : Nat) "PretendDesk" "acts" "[Ljava/lang/String;") ∈ lw_all := lw_g (lw_at lw_m2 61 rfl) rfl
theorem q404 : (Jvm.Cond.fieldLink "PretendDesk" (68 : Nat) "PretendDesk" "desk" "LPretendDesk$Desk;") ∈ lw_all := lw_g (lw_at lw_m2 65 rfl) rfl
theorem q405 : (Jvm.Cond.fieldLink "PretendDesk" (72 : Nat) "PretendDesk" "images" "[LPretendDesk$Desk;") ∈ lw_all := lw_g (lw_at lw_m2 66 rfl) rfl
theorem q406 : (Jvm.Cond.fieldLink "PretendDesk" (76 : Nat) "PretendDesk" "spelt" "[I") ∈ lw_all := lw_g (lw_at lw_m2 67 rfl) rfl
theorem q408 : (Jvm.Cond.fieldLink "PretendDesk" (82 : Nat) "PretendDesk" "look" "LPretendDesk$Look;") ∈ lw_all := lw_g (lw_at lw_m2 69 rfl) rfl
theorem q409 : (Jvm.Cond.fieldLink "PretendDesk" (86 : Nat) "PretendDesk" "caseLook" "[I") ∈ lw_all := lw_g (lw_at lw_m2 70 rfl) rfl
theorem q410 : (Jvm.Cond.fieldLink "PretendDesk" (89 : Nat) "PretendDesk" "caseAsk" "[I") ∈ lw_all := lw_g (lw_at lw_m2 71 rfl) rfl
theorem q411 : (Jvm.Cond.fieldLink "PretendDesk" (92 : Nat) "PretendDesk" "caseAge" "[I") ∈ lw_all := lw_g (lw_at lw_m2 72 rfl) rfl
theorem q412 : (Jvm.Cond.fieldLink "PretendDesk" (95 : Nat) "PretendDesk" "best" "[I") ∈ lw_all := lw_g (lw_at lw_m2 73 rfl) rfl
theorem q413 : (Jvm.Cond.fieldLink "PretendDesk" (98 : Nat) "PretendDesk" "tried" "[I") ∈ lw_all := lw_g (lw_at lw_m2 74 rfl) rfl
theorem q414 : (Jvm.Cond.fieldLink "PretendDesk" (104 : Nat) "PretendDesk" "forger" "LPretendDesk$Forger;") ∈ lw_all := lw_g (lw_at lw_m2 75 rfl) rfl
theorem q415 : (Jvm.Cond.fieldLink "PretendDesk" (465 : Nat) "PretendDesk" "hands" "I") ∈ lw_all := lw_g (lw_at lw_m2 76 rfl) rfl
theorem q416 : (Jvm.Cond.fieldLink "PretendDesk" (111 : Nat) "PretendDesk" "stepper" "LPretendDesk$Stepper;") ∈ lw_all := lw_g (lw_at lw_m2 77 rfl) rfl
theorem q417 : (Jvm.Cond.fieldLink "PretendDesk" (115 : Nat) "PretendDesk" "meant" "[I") ∈ lw_all := lw_g (lw_at lw_m2 78 rfl) rfl
theorem q418 : (Jvm.Cond.laysFinal "PretendDesk" "PretendDesk" "ruler" "LPretendDesk$Ruler;") ∈ lw_all := lw_g (lw_at lw_m2 79 rfl) rfl
theorem q419 : (Jvm.Cond.soleField "PretendDesk" "ruler") ∈ lw_all := lw_g (lw_at lw_m2 80 rfl) rfl
theorem q420 : (Jvm.Cond.laysFinal "PretendDesk" "PretendDesk" "asIs" "[I") ∈ lw_all := lw_g (lw_at lw_m2 81 rfl) rfl
theorem q421 : (Jvm.Cond.soleField "PretendDesk" "asIs") ∈ lw_all := lw_g (lw_at lw_m2 82 rfl) rfl
theorem q422 : (Jvm.Cond.laysFinal "PretendDesk" "PretendDesk" "kinds" "[Ljava/lang/String;") ∈ lw_all := lw_g (lw_at lw_m2 83 rfl) rfl
theorem q423 : (Jvm.Cond.soleField "PretendDesk" "kinds") ∈ lw_all := lw_g (lw_at lw_m2 84 rfl) rfl
theorem q424 : (Jvm.Cond.laysFinal "PretendDesk" "PretendDesk" "acts" "[Ljava/lang/String;") ∈ lw_all := lw_g (lw_at lw_m2 85 rfl) rfl
theorem q425 : (Jvm.Cond.soleField "PretendDesk" "acts") ∈ lw_all := lw_g (lw_at lw_m2 86 rfl) rfl
theorem q426 : (Jvm.Cond.lays "PretendDesk" "PretendDesk" "desk" "LPretendDesk$Desk;") ∈ lw_all := lw_g (lw_at lw_m2 87 rfl) rfl
theorem q427 : (Jvm.Cond.soleField "PretendDesk" "desk") ∈ lw_all := lw_g (lw_at lw_m2 88 rfl) rfl
theorem q428 : (Jvm.Cond.laysFinal "PretendDesk" "PretendDesk" "images" "[LPretendDesk$Desk;") ∈ lw_all := lw_g (lw_at lw_m2 89 rfl) rfl
theorem q429 : (Jvm.Cond.soleField "PretendDesk" "images") ∈ lw_all := lw_g (lw_at lw_m2 90 rfl) rfl
theorem q430 : (Jvm.Cond.laysFinal "PretendDesk" "PretendDesk" "spelt" "[I") ∈ lw_all := lw_g (lw_at lw_m2 91 rfl) rfl
theorem q431 : (Jvm.Cond.soleField "PretendDesk" "spelt") ∈ lw_all := lw_g (lw_at lw_m2 92 rfl) rfl
theorem q432 : (Jvm.Cond.laysFinal "PretendDesk" "PretendDesk" "look" "LPretendDesk$Look;") ∈ lw_all := lw_g (lw_at lw_m2 93 rfl) rfl
theorem q433 : (Jvm.Cond.soleField "PretendDesk" "look") ∈ lw_all := lw_g (lw_at lw_m2 94 rfl) rfl
theorem q434 : (Jvm.Cond.laysFinal "PretendDesk" "PretendDesk" "caseLook" "[I") ∈ lw_all := lw_g (lw_at lw_m2 95 rfl) rfl
theorem q435 : (Jvm.Cond.soleField "PretendDesk" "caseLook") ∈ lw_all := lw_g (lw_at lw_m2 96 rfl) rfl
theorem q436 : (Jvm.Cond.laysFinal "PretendDesk" "PretendDesk" "caseAsk" "[I") ∈ lw_all := lw_g (lw_at lw_m2 97 rfl) rfl
theorem q437 : (Jvm.Cond.soleField "PretendDesk" "caseAsk") ∈ lw_all := lw_g (lw_at lw_m2 98 rfl) rfl
theorem q438 : (Jvm.Cond.laysFinal "PretendDesk" "PretendDesk" "caseAge" "[I") ∈ lw_all := lw_g (lw_at lw_m2 99 rfl) rfl
theorem q439 : (Jvm.Cond.soleField "PretendDesk" "caseAge") ∈ lw_all := lw_g (lw_at lw_m2 100 rfl) rfl
theorem q440 : (Jvm.Cond.laysFinal "PretendDesk" "PretendDesk" "best" "[I") ∈ lw_all := lw_g (lw_at lw_m2 101 rfl) rfl
theorem q441 : (Jvm.Cond.soleField "PretendDesk" "best") ∈ lw_all := lw_g (lw_at lw_m2 102 rfl) rfl
theorem q442 : (Jvm.Cond.laysFinal "PretendDesk" "PretendDesk" "tried" "[I") ∈ lw_all := lw_g (lw_at lw_m2 103 rfl) rfl
theorem q443 : (Jvm.Cond.soleField "PretendDesk" "tried") ∈ lw_all := lw_g (lw_at lw_m2 104 rfl) rfl
theorem q444 : (Jvm.Cond.laysFinal "PretendDesk" "PretendDesk" "forger" "LPretendDesk$Forger;") ∈ lw_all := lw_g (lw_at lw_m2 105 rfl) rfl
theorem q445 : (Jvm.Cond.soleField "PretendDesk" "forger") ∈ lw_all := lw_g (lw_at lw_m2 106 rfl) rfl
theorem q446 : (Jvm.Cond.lays "PretendDesk" "PretendDesk" "hands" "I") ∈ lw_all := lw_g (lw_at lw_m2 107 rfl) rfl
theorem q447 : (Jvm.Cond.soleField "PretendDesk" "hands") ∈ lw_all := lw_g (lw_at lw_m2 108 rfl) rfl
theorem q448 : (Jvm.Cond.laysFinal "PretendDesk" "PretendDesk" "stepper" "LPretendDesk$Stepper;") ∈ lw_all := lw_g (lw_at lw_m2 109 rfl) rfl
theorem q449 : (Jvm.Cond.soleField "PretendDesk" "stepper") ∈ lw_all := lw_g (lw_at lw_m2 110 rfl) rfl
theorem q450 : (Jvm.Cond.laysFinal "PretendDesk" "PretendDesk" "meant" "[I") ∈ lw_all := lw_g (lw_at lw_m2 111 rfl) rfl
theorem q451 : (Jvm.Cond.soleField "PretendDesk" "meant") ∈ lw_all := lw_g (lw_at lw_m2 112 rfl) rfl
theorem q452 : (Jvm.Cond.superclass "PretendDesk" "java/lang/Object") ∈ lw_all := lw_g (lw_at lw_m2 113 rfl) rfl
theorem q454 : (Jvm.Cond.instanceMethod ({ cls := "PretendDesk", name := "feed", desc := "(IIIII)I" } : Jvm.MethodName)) ∈ lw_all := lw_g (lw_at lw_m2 115 rfl) rfl
theorem q455 : (Jvm.Cond.selects "PretendDesk" ({ cls := "PretendDesk", name := "feed", desc := "(IIIII)I" } : Jvm.MethodName) ({ cls := "PretendDesk", name := "feed", desc := "(IIIII)I" } : Jvm.MethodName)) ∈ lw_all := lw_g (lw_at lw_m2 116 rfl) rfl
theorem q456 : (Jvm.Cond.code ({ cls := "PretendDesk", name := "feed", desc := "(IIIII)I" } : Jvm.MethodName) prog_1_method_8_code (6 : Nat) (Option.some Jvm.ClassFile.FieldType.int)) ∈ lw_all := lw_g (lw_at lw_m2 117 rfl) rfl
theorem q457 : (Jvm.Cond.methodLink "PretendDesk" (138 : Nat) ({ cls := "PretendDesk", name := "four", desc := "(I)V" } : Jvm.MethodName)) ∈ lw_all := lw_g (lw_at lw_m2 118 rfl) rfl
theorem q458 : (Jvm.Cond.privateMethod ({ cls := "PretendDesk", name := "four", desc := "(I)V" } : Jvm.MethodName)) ∈ lw_tbl := lw_at lw_m2 119 rfl
theorem q459 : (Jvm.Cond.instanceMethod ({ cls := "PretendDesk", name := "four", desc := "(I)V" } : Jvm.MethodName)) ∈ lw_all := lw_g (lw_at lw_m2 120 rfl) rfl
theorem q460 : (Jvm.Cond.code ({ cls := "PretendDesk", name := "four", desc := "(I)V" } : Jvm.MethodName) prog_1_method_9_code (3 : Nat) (Option.none : Option Jvm.ClassFile.FieldType)) ∈ lw_all := lw_g (lw_at lw_m2 121 rfl) rfl
theorem q462 : (Jvm.Cond.instanceMethod ({ cls := "PretendDesk", name := "end", desc := "(I)I" } : Jvm.MethodName)) ∈ lw_all := lw_g (lw_at lw_m2 123 rfl) rfl
theorem q463 : (Jvm.Cond.selects "PretendDesk" ({ cls := "PretendDesk", name := "end", desc := "(I)I" } : Jvm.MethodName) ({ cls := "PretendDesk", name := "end", desc := "(I)I" } : Jvm.MethodName)) ∈ lw_all := lw_g (lw_at lw_m2 124 rfl) rfl
theorem q464 : (Jvm.Cond.code ({ cls := "PretendDesk", name := "end", desc := "(I)I" } : Jvm.MethodName) prog_1_method_10_code (2 : Nat) (Option.some Jvm.ClassFile.FieldType.int)) ∈ lw_all := lw_g (lw_at lw_m2 125 rfl) rfl
theorem q465 : (Jvm.Cond.methodLink "PretendDesk" (3 : Nat) ({ cls := "PretendDesk", name := "in", desc := "(III)Z" } : Jvm.MethodName)) ∈ lw_all := lw_g (lw_at lw_m2 126 rfl) rfl
theorem q466 : (Jvm.Cond.static ({ cls := "PretendDesk", name := "in", desc := "(III)Z" } : Jvm.MethodName)) ∈ lw_all := lw_g (lw_at lw_m2 127 rfl) rfl
theorem q467 : (Jvm.Cond.code ({ cls := "PretendDesk", name := "in", desc := "(III)Z" } : Jvm.MethodName) prog_1_method_1_code (3 : Nat) (Option.some Jvm.ClassFile.FieldType.boolean)) ∈ lw_all := lw_g (lw_at lw_m2 128 rfl) rfl
theorem q469 : (Jvm.Cond.instanceMethod ({ cls := "PretendDesk", name := "house", desc := "()I" } : Jvm.MethodName)) ∈ lw_all := lw_g (lw_at lw_m2 130 rfl) rfl
theorem q470 : (Jvm.Cond.selects "PretendDesk" ({ cls := "PretendDesk", name := "house", desc := "()I" } : Jvm.MethodName) ({ cls := "PretendDesk", name := "house", desc := "()I" } : Jvm.MethodName)) ∈ lw_all := lw_g (lw_at lw_m2 131 rfl) rfl
theorem q471 : (Jvm.Cond.code ({ cls := "PretendDesk", name := "house", desc := "()I" } : Jvm.MethodName) prog_1_method_15_code (3 : Nat) (Option.some Jvm.ClassFile.FieldType.int)) ∈ lw_all := lw_g (lw_at lw_m2 132 rfl) rfl
theorem q472 : (Jvm.Cond.methodLink "PretendDesk" (166 : Nat) ({ cls := "PretendDesk", name := "take", desc := "()I" } : Jvm.MethodName)) ∈ lw_all := lw_g (lw_at lw_m2 133 rfl) rfl
theorem q473 : (Jvm.Cond.privateMethod ({ cls := "PretendDesk", name := "take", desc := "()I" } : Jvm.MethodName)) ∈ lw_tbl := lw_at lw_m2 134 rfl
theorem q474 : (Jvm.Cond.instanceMethod ({ cls := "PretendDesk", name := "take", desc := "()I" } : Jvm.MethodName)) ∈ lw_all := lw_g (lw_at lw_m2 135 rfl) rfl
theorem q475 : (Jvm.Cond.code ({ cls := "PretendDesk", name := "take", desc := "()I" } : Jvm.MethodName) prog_1_method_12_code (2 : Nat) (Option.some Jvm.ClassFile.FieldType.int)) ∈ lw_all := lw_g (lw_at lw_m2 136 rfl) rfl
theorem q476 : (Jvm.Cond.methodLink "PretendDesk" (152 : Nat) ({ cls := "PretendDesk", name := "fails", desc := "(II)I" } : Jvm.MethodName)) ∈ lw_all := lw_g (lw_at lw_m2 137 rfl) rfl
theorem q477 : (Jvm.Cond.privateMethod ({ cls := "PretendDesk", name := "fails", desc := "(II)I" } : Jvm.MethodName)) ∈ lw_tbl := lw_at lw_m2 138 rfl
theorem q478 : (Jvm.Cond.instanceMethod ({ cls := "PretendDesk", name := "fails", desc := "(II)I" } : Jvm.MethodName)) ∈ lw_all := lw_g (lw_at lw_m2 139 rfl) rfl
theorem q479 : (Jvm.Cond.code ({ cls := "PretendDesk", name := "fails", desc := "(II)I" } : Jvm.MethodName) prog_1_method_11_code (3 : Nat) (Option.some Jvm.ClassFile.FieldType.int)) ∈ lw_all := lw_g (lw_at lw_m2 140 rfl) rfl
theorem q480 : (Jvm.Cond.methodLink "PretendDesk" (170 : Nat) ({ cls := "PretendDesk", name := "readName", desc := "(I)[B" } : Jvm.MethodName)) ∈ lw_all := lw_g (lw_at lw_m2 141 rfl) rfl
theorem q481 : (Jvm.Cond.privateMethod ({ cls := "PretendDesk", name := "readName", desc := "(I)[B" } : Jvm.MethodName)) ∈ lw_tbl := lw_at lw_m2 142 rfl
theorem q482 : (Jvm.Cond.instanceMethod ({ cls := "PretendDesk", name := "readName", desc := "(I)[B" } : Jvm.MethodName)) ∈ lw_all := lw_g (lw_at lw_m2 143 rfl) rfl
theorem q483 : (Jvm.Cond.code ({ cls := "PretendDesk", name := "readName", desc := "(I)[B" } : Jvm.MethodName) prog_1_method_14_code (4 : Nat) (Option.some (Jvm.ClassFile.FieldType.array Jvm.ClassFile.FieldType.byte))) ∈ lw_all := lw_g (lw_at lw_m2 144 rfl) rfl
theorem q484 : (Jvm.Cond.methodLink "PretendDesk" (156 : Nat) ({ cls := "PretendDesk", name := "sign", desc := "(I)I" } : Jvm.MethodName)) ∈ lw_all := lw_g (lw_at lw_m2 145 rfl) rfl
theorem q485 : (Jvm.Cond.static ({ cls := "PretendDesk", name := "sign", desc := "(I)I" } : Jvm.MethodName)) ∈ lw_all := lw_g (lw_at lw_m2 146 rfl) rfl
theorem q486 : (Jvm.Cond.code ({ cls := "PretendDesk", name := "sign", desc := "(I)I" } : Jvm.MethodName) prog_1_method_13_code (1 : Nat) (Option.some Jvm.ClassFile.FieldType.int)) ∈ lw_all := lw_g (lw_at lw_m2 147 rfl) rfl
theorem q487 : (Jvm.Cond.methodLink "PretendDesk" (160 : Nat) ({ cls := "java/lang/System", name := "arraycopy", desc := "(Ljava/lang/Object;ILjava/lang/Object;II)V" } : Jvm.MethodName)) ∈ lw_all := lw_g (lw_at lw_m2 148 rfl) rfl
theorem q490 : (Jvm.Cond.classLink "PretendDesk" (178 : Nat) "PretendDesk$House") ∈ lw_all := lw_g (lw_at lw_m2 151 rfl) rfl
theorem q492 : (Jvm.Cond.methodLink "PretendDesk" (180 : Nat) ({ cls := "PretendDesk$House", name := "<init>", desc := "([B)V" } : Jvm.MethodName)) ∈ lw_all := lw_g (lw_at lw_m2 153 rfl) rfl
theorem q500 : (Jvm.Cond.fieldLink "PretendDesk" (241 : Nat) "PretendDesk$House" "name" "[B") ∈ lw_all := lw_g (lw_at lw_m2 161 rfl) rfl
theorem q502 : (Jvm.Cond.fieldLink "PretendDesk" (221 : Nat) "PretendDesk$House" "own" "[LPretendDesk$Page;") ∈ lw_all := lw_g (lw_at lw_m2 163 rfl) rfl
theorem q504 : (Jvm.Cond.fieldLink "PretendDesk" (216 : Nat) "PretendDesk$House" "pages" "I") ∈ lw_all := lw_g (lw_at lw_m2 165 rfl) rfl
theorem q506 : (Jvm.Cond.fieldLink "PretendDesk" (531 : Nat) "PretendDesk$House" "picture" "I") ∈ lw_all := lw_g (lw_at lw_m2 167 rfl) rfl
theorem q517 : (Jvm.Cond.instanceMethod ({ cls := "PretendDesk", name := "name", desc := "(I)Z" } : Jvm.MethodName)) ∈ lw_all := lw_g (lw_at lw_m2 178 rfl) rfl
theorem q518 : (Jvm.Cond.selects "PretendDesk" ({ cls := "PretendDesk", name := "name", desc := "(I)Z" } : Jvm.MethodName) ({ cls := "PretendDesk", name := "name", desc := "(I)Z" } : Jvm.MethodName)) ∈ lw_all := lw_g (lw_at lw_m2 179 rfl) rfl
theorem q519 : (Jvm.Cond.code ({ cls := "PretendDesk", name := "name", desc := "(I)Z" } : Jvm.MethodName) prog_1_method_16_code (4 : Nat) (Option.some Jvm.ClassFile.FieldType.boolean)) ∈ lw_all := lw_g (lw_at lw_m2 180 rfl) rfl
theorem q520 : (Jvm.Cond.methodLink "PretendDesk" (125 : Nat) ({ cls := "PretendDesk", name := "isPage", desc := "(I)Z" } : Jvm.MethodName)) ∈ lw_all := lw_g (lw_at lw_m2 181 rfl) rfl
theorem q521 : (Jvm.Cond.privateMethod ({ cls := "PretendDesk", name := "isPage", desc := "(I)Z" } : Jvm.MethodName)) ∈ lw_tbl := lw_at lw_m2 182 rfl
theorem q522 : (Jvm.Cond.instanceMethod ({ cls := "PretendDesk", name := "isPage", desc := "(I)Z" } : Jvm.MethodName)) ∈ lw_all := lw_g (lw_at lw_m2 183 rfl) rfl
theorem q523 : (Jvm.Cond.code ({ cls := "PretendDesk", name := "isPage", desc := "(I)Z" } : Jvm.MethodName) prog_1_method_6_code (2 : Nat) (Option.some Jvm.ClassFile.FieldType.boolean)) ∈ lw_all := lw_g (lw_at lw_m2 184 rfl) rfl
theorem q525 : (Jvm.Cond.instanceMethod ({ cls := "PretendDesk", name := "own", desc := "(I)I" } : Jvm.MethodName)) ∈ lw_all := lw_g (lw_at lw_m2 186 rfl) rfl
theorem q526 : (Jvm.Cond.selects "PretendDesk" ({ cls := "PretendDesk", name := "own", desc := "(I)I" } : Jvm.MethodName) ({ cls := "PretendDesk", name := "own", desc := "(I)I" } : Jvm.MethodName)) ∈ lw_all := lw_g (lw_at lw_m2 187 rfl) rfl
theorem q527 : (Jvm.Cond.code ({ cls := "PretendDesk", name := "own", desc := "(I)I" } : Jvm.MethodName) prog_1_method_18_code (5 : Nat) (Option.some Jvm.ClassFile.FieldType.int)) ∈ lw_all := lw_g (lw_at lw_m2 188 rfl) rfl
theorem q528 : (Jvm.Cond.methodLink "PretendDesk" (213 : Nat) ({ cls := "PretendDesk", name := "isHouse", desc := "(I)Z" } : Jvm.MethodName)) ∈ lw_all := lw_g (lw_at lw_m2 189 rfl) rfl
theorem q529 : (Jvm.Cond.privateMethod ({ cls := "PretendDesk", name := "isHouse", desc := "(I)Z" } : Jvm.MethodName)) ∈ lw_tbl := lw_at lw_m2 190 rfl
theorem q530 : (Jvm.Cond.instanceMethod ({ cls := "PretendDesk", name := "isHouse", desc := "(I)Z" } : Jvm.MethodName)) ∈ lw_all := lw_g (lw_at lw_m2 191 rfl) rfl
theorem q531 : (Jvm.Cond.code ({ cls := "PretendDesk", name := "isHouse", desc := "(I)Z" } : Jvm.MethodName) prog_1_method_5_code (2 : Nat) (Option.some Jvm.ClassFile.FieldType.boolean)) ∈ lw_all := lw_g (lw_at lw_m2 192 rfl) rfl
theorem q532 : (Jvm.Cond.methodLink "PretendDesk" (217 : Nat) ({ cls := "PretendDesk", name := "readPage", desc := "(I)LPretendDesk$Page;" } : Jvm.MethodName)) ∈ lw_all := lw_g (lw_at lw_m2 193 rfl) rfl
theorem q533 : (Jvm.Cond.privateMethod ({ cls := "PretendDesk", name := "readPage", desc := "(I)LPretendDesk$Page;" } : Jvm.MethodName)) ∈ lw_tbl := lw_at lw_m2 194 rfl
theorem q534 : (Jvm.Cond.instanceMethod ({ cls := "PretendDesk", name := "readPage", desc := "(I)LPretendDesk$Page;" } : Jvm.MethodName)) ∈ lw_all := lw_g (lw_at lw_m2 195 rfl) rfl
theorem q535 : (Jvm.Cond.codeWith ({ cls := "PretendDesk", name := "readPage", desc := "(I)LPretendDesk$Page;" } : Jvm.MethodName) prog_1_method_17_code (4 : Nat) (Option.some (Jvm.ClassFile.FieldType.object "PretendDesk$Page")) [((10 : Nat), (14 : Nat), (17 : Nat), (199 : Nat))]) ∈ lw_all := lw_g (lw_at lw_m2 196 rfl) rfl
theorem q536 : (Jvm.Cond.classLink "PretendDesk" (199 : Nat) "PretendDesk$Wrong") ∈ lw_all := lw_g (lw_at lw_m2 197 rfl) rfl
theorem q537 : (Jvm.Cond.classLink "PretendDesk" (192 : Nat) "PretendDesk$Reader") ∈ lw_all := lw_g (lw_at lw_m2 198 rfl) rfl
theorem q539 : (Jvm.Cond.methodLink "PretendDesk" (194 : Nat) ({ cls := "PretendDesk$Reader", name := "<init>", desc := "(LPretendDesk;I)V" } : Jvm.MethodName)) ∈ lw_all := lw_g (lw_at lw_m2 200 rfl) rfl
theorem q557 : (Jvm.Cond.fieldLink "PretendDesk" (278 : Nat) "PretendDesk$Page" "box" "[LPretendDesk$Box;") ∈ lw_all := lw_g (lw_at lw_m2 218 rfl) rfl
theorem q561 : (Jvm.Cond.fieldLink "PretendDesk" (273 : Nat) "PretendDesk$Page" "boxes" "I") ∈ lw_all := lw_g (lw_at lw_m2 222 rfl) rfl
theorem q568 : (Jvm.Cond.fieldLink "PretendDesk" (207 : Nat) "PretendDesk$Reader" "page" "LPretendDesk$Page;") ∈ lw_all := lw_g (lw_at lw_m2 229 rfl) rfl
theorem q586 : (Jvm.Cond.fieldLink "PretendDesk" (204 : Nat) "PretendDesk$Reader" "fault" "I") ∈ lw_all := lw_g (lw_at lw_m3 7 rfl) rfl
theorem q588 : (Jvm.Cond.fieldLink "PretendDesk" (444 : Nat) "PretendDesk$ProgramReader" "fault" "I") ∈ lw_all := lw_g (lw_at lw_m3 9 rfl) rfl
theorem q591 : (Jvm.Cond.fieldLink "PretendDesk" (210 : Nat) "PretendDesk$Reader" "faultPlace" "I") ∈ lw_all := lw_g (lw_at lw_m3 12 rfl) rfl
theorem q593 : (Jvm.Cond.fieldLink "PretendDesk" (445 : Nat) "PretendDesk$ProgramReader" "faultPlace" "I") ∈ lw_all := lw_g (lw_at lw_m3 14 rfl) rfl
theorem q621 : (Jvm.Cond.methodLink "PretendDesk" (197 : Nat) ({ cls := "PretendDesk$Reader", name := "text", desc := "()V" } : Jvm.MethodName)) ∈ lw_all := lw_g (lw_at lw_m3 42 rfl) rfl
theorem q752 : (Jvm.Cond.fieldLink "PretendDesk" (201 : Nat) "PretendDesk$Wrong" "place" "I") ∈ lw_all := lw_g (lw_at lw_m3 173 rfl) rfl
theorem q782 : (Jvm.Cond.fieldLink "PretendDesk" (281 : Nat) "PretendDesk$Box" "kind" "I") ∈ lw_all := lw_g (lw_at lw_m3 203 rfl) rfl
theorem q786 : (Jvm.Cond.fieldLink "PretendDesk" (286 : Nat) "PretendDesk$Box" "colour" "I") ∈ lw_all := lw_g (lw_at lw_m3 207 rfl) rfl
theorem q789 : (Jvm.Cond.fieldLink "PretendDesk" (292 : Nat) "PretendDesk$Box" "land" "I") ∈ lw_all := lw_g (lw_at lw_m3 210 rfl) rfl
theorem q792 : (Jvm.Cond.fieldLink "PretendDesk" (295 : Nat) "PretendDesk$Box" "day" "I") ∈ lw_all := lw_g (lw_at lw_m3 213 rfl) rfl
theorem q795 : (Jvm.Cond.fieldLink "PretendDesk" (289 : Nat) "PretendDesk$Box" "inside" "I") ∈ lw_all := lw_g (lw_at lw_m3 216 rfl) rfl
theorem q829 : (Jvm.Cond.instanceMethod ({ cls := "PretendDesk", name := "page", desc := "()I" } : Jvm.MethodName)) ∈ lw_all := lw_g (lw_at lw_m4 10 rfl) rfl
theorem q830 : (Jvm.Cond.selects "PretendDesk" ({ cls := "PretendDesk", name := "page", desc := "()I" } : Jvm.MethodName) ({ cls := "PretendDesk", name := "page", desc := "()I" } : Jvm.MethodName)) ∈ lw_all := lw_g (lw_at lw_m4 11 rfl) rfl
theorem q831 : (Jvm.Cond.code ({ cls := "PretendDesk", name := "page", desc := "()I" } : Jvm.MethodName) prog_1_method_19_code (3 : Nat) (Option.some Jvm.ClassFile.FieldType.int)) ∈ lw_all := lw_g (lw_at lw_m4 12 rfl) rfl
theorem q832 : (Jvm.Cond.classLink "PretendDesk" (188 : Nat) "PretendDesk$Came") ∈ lw_all := lw_g (lw_at lw_m4 13 rfl) rfl
theorem q834 : (Jvm.Cond.methodLink "PretendDesk" (225 : Nat) ({ cls := "PretendDesk$Came", name := "<init>", desc := "(LPretendDesk$Page;)V" } : Jvm.MethodName)) ∈ lw_all := lw_g (lw_at lw_m4 15 rfl) rfl
theorem q855 : (Jvm.Cond.fieldLink "PretendDesk" (451 : Nat) "PretendDesk$Program" "lines" "I") ∈ lw_all := lw_g (lw_at lw_m4 36 rfl) rfl
theorem q871 : (Jvm.Cond.fieldLink "PretendDesk" (263 : Nat) "PretendDesk$Came" "page" "LPretendDesk$Page;") ∈ lw_all := lw_g (lw_at lw_m4 52 rfl) rfl
theorem q874 : (Jvm.Cond.fieldLink "PretendDesk" (187 : Nat) "PretendDesk$Came" "name" "[B") ∈ lw_all := lw_g (lw_at lw_m4 55 rfl) rfl
theorem q876 : (Jvm.Cond.fieldLink "PretendDesk" (450 : Nat) "PretendDesk$Came" "program" "LPretendDesk$Program;") ∈ lw_all := lw_g (lw_at lw_m4 57 rfl) rfl
theorem q878 : (Jvm.Cond.fieldLink "PretendDesk" (247 : Nat) "PretendDesk$Came" "since" "I") ∈ lw_all := lw_g (lw_at lw_m4 59 rfl) rfl
theorem q880 : (Jvm.Cond.fieldLink "PretendDesk" (250 : Nat) "PretendDesk$Came" "pieces" "I") ∈ lw_all := lw_g (lw_at lw_m4 61 rfl) rfl
theorem q883 : (Jvm.Cond.fieldLink "PretendDesk" (396 : Nat) "PretendDesk$Came" "changes" "I") ∈ lw_all := lw_g (lw_at lw_m4 64 rfl) rfl
theorem q885 : (Jvm.Cond.fieldLink "PretendDesk" (528 : Nat) "PretendDesk$Came" "picture" "I") ∈ lw_all := lw_g (lw_at lw_m4 66 rfl) rfl
theorem q888 : (Jvm.Cond.fieldLink "PretendDesk" (399 : Nat) "PretendDesk$Came" "change" "[LPretendDesk$Change;") ∈ lw_all := lw_g (lw_at lw_m4 69 rfl) rfl
theorem q907 : (Jvm.Cond.instanceMethod ({ cls := "PretendDesk", name := "fault", desc := "(I)I" } : Jvm.MethodName)) ∈ lw_all := lw_g (lw_at lw_m4 88 rfl) rfl
theorem q908 : (Jvm.Cond.selects "PretendDesk" ({ cls := "PretendDesk", name := "fault", desc := "(I)I" } : Jvm.MethodName) ({ cls := "PretendDesk", name := "fault", desc := "(I)I" } : Jvm.MethodName)) ∈ lw_all := lw_g (lw_at lw_m4 89 rfl) rfl
theorem q909 : (Jvm.Cond.code ({ cls := "PretendDesk", name := "fault", desc := "(I)I" } : Jvm.MethodName) prog_1_method_20_code (2 : Nat) (Option.some Jvm.ClassFile.FieldType.int)) ∈ lw_all := lw_g (lw_at lw_m4 90 rfl) rfl
theorem q911 : (Jvm.Cond.instanceMethod ({ cls := "PretendDesk", name := "alike", desc := "(III)Z" } : Jvm.MethodName)) ∈ lw_all := lw_g (lw_at lw_m4 92 rfl) rfl
theorem q912 : (Jvm.Cond.selects "PretendDesk" ({ cls := "PretendDesk", name := "alike", desc := "(III)Z" } : Jvm.MethodName) ({ cls := "PretendDesk", name := "alike", desc := "(III)Z" } : Jvm.MethodName)) ∈ lw_all := lw_g (lw_at lw_m4 93 rfl) rfl
theorem q913 : (Jvm.Cond.code ({ cls := "PretendDesk", name := "alike", desc := "(III)Z" } : Jvm.MethodName) prog_1_method_21_code (6 : Nat) (Option.some Jvm.ClassFile.FieldType.boolean)) ∈ lw_all := lw_g (lw_at lw_m4 94 rfl) rfl
theorem q915 : (Jvm.Cond.instanceMethod ({ cls := "PretendDesk", name := "spell", desc := "(II)I" } : Jvm.MethodName)) ∈ lw_all := lw_g (lw_at lw_m4 96 rfl) rfl
theorem q916 : (Jvm.Cond.selects "PretendDesk" ({ cls := "PretendDesk", name := "spell", desc := "(II)I" } : Jvm.MethodName) ({ cls := "PretendDesk", name := "spell", desc := "(II)I" } : Jvm.MethodName)) ∈ lw_all := lw_g (lw_at lw_m4 97 rfl) rfl
theorem q917 : (Jvm.Cond.code ({ cls := "PretendDesk", name := "spell", desc := "(II)I" } : Jvm.MethodName) prog_1_method_24_code (3 : Nat) (Option.some Jvm.ClassFile.FieldType.int)) ∈ lw_all := lw_g (lw_at lw_m4 98 rfl) rfl
theorem q918 : (Jvm.Cond.methodLink "PretendDesk" (242 : Nat) ({ cls := "PretendDesk", name := "spellOf", desc := "([B[B)I" } : Jvm.MethodName)) ∈ lw_all := lw_g (lw_at lw_m4 99 rfl) rfl
theorem q919 : (Jvm.Cond.privateMethod ({ cls := "PretendDesk", name := "spellOf", desc := "([B[B)I" } : Jvm.MethodName)) ∈ lw_tbl := lw_at lw_m4 100 rfl
theorem q920 : (Jvm.Cond.instanceMethod ({ cls := "PretendDesk", name := "spellOf", desc := "([B[B)I" } : Jvm.MethodName)) ∈ lw_all := lw_g (lw_at lw_m4 101 rfl) rfl
theorem q921 : (Jvm.Cond.code ({ cls := "PretendDesk", name := "spellOf", desc := "([B[B)I" } : Jvm.MethodName) prog_1_method_23_code (8 : Nat) (Option.some Jvm.ClassFile.FieldType.int)) ∈ lw_all := lw_g (lw_at lw_m4 102 rfl) rfl
theorem q922 : (Jvm.Cond.constant "PretendDesk" (231 : Nat) (100000 : Int32)) ∈ lw_all := lw_g (lw_at lw_m4 103 rfl) rfl
theorem q923 : (Jvm.Cond.methodLink "PretendDesk" (232 : Nat) ({ cls := "java/lang/Math", name := "min", desc := "(II)I" } : Jvm.MethodName)) ∈ lw_all := lw_g (lw_at lw_m4 104 rfl) rfl
theorem q926 : (Jvm.Cond.methodLink "PretendDesk" (237 : Nat) ({ cls := "PretendDesk", name := "turn", desc := "(BB)I" } : Jvm.MethodName)) ∈ lw_all := lw_g (lw_at lw_m4 107 rfl) rfl
theorem q927 : (Jvm.Cond.privateMethod ({ cls := "PretendDesk", name := "turn", desc := "(BB)I" } : Jvm.MethodName)) ∈ lw_tbl := lw_at lw_m4 108 rfl
theorem q928 : (Jvm.Cond.instanceMethod ({ cls := "PretendDesk", name := "turn", desc := "(BB)I" } : Jvm.MethodName)) ∈ lw_all := lw_g (lw_at lw_m4 109 rfl) rfl
theorem q929 : (Jvm.Cond.code ({ cls := "PretendDesk", name := "turn", desc := "(BB)I" } : Jvm.MethodName) prog_1_method_22_code (4 : Nat) (Option.some Jvm.ClassFile.FieldType.int)) ∈ lw_all := lw_g (lw_at lw_m4 110 rfl) rfl
theorem q931 : (Jvm.Cond.instanceMethod ({ cls := "PretendDesk", name := "stands", desc := "(III)Z" } : Jvm.MethodName)) ∈ lw_all := lw_g (lw_at lw_m4 112 rfl) rfl
theorem q932 : (Jvm.Cond.selects "PretendDesk" ({ cls := "PretendDesk", name := "stands", desc := "(III)Z" } : Jvm.MethodName) ({ cls := "PretendDesk", name := "stands", desc := "(III)Z" } : Jvm.MethodName)) ∈ lw_all := lw_g (lw_at lw_m4 113 rfl) rfl
theorem q933 : (Jvm.Cond.code ({ cls := "PretendDesk", name := "stands", desc := "(III)Z" } : Jvm.MethodName) prog_1_method_26_code (4 : Nat) (Option.some Jvm.ClassFile.FieldType.boolean)) ∈ lw_all := lw_g (lw_at lw_m4 114 rfl) rfl
theorem q934 : (Jvm.Cond.methodLink "PretendDesk" (132 : Nat) ({ cls := "PretendDesk", name := "isDay", desc := "(I)Z" } : Jvm.MethodName)) ∈ lw_all := lw_g (lw_at lw_m4 115 rfl) rfl
theorem q935 : (Jvm.Cond.static ({ cls := "PretendDesk", name := "isDay", desc := "(I)Z" } : Jvm.MethodName)) ∈ lw_all := lw_g (lw_at lw_m4 116 rfl) rfl
theorem q936 : (Jvm.Cond.code ({ cls := "PretendDesk", name := "isDay", desc := "(I)Z" } : Jvm.MethodName) prog_1_method_3_code (1 : Nat) (Option.some Jvm.ClassFile.FieldType.boolean)) ∈ lw_all := lw_g (lw_at lw_m4 117 rfl) rfl
theorem q937 : (Jvm.Cond.constant "PretendDesk" (246 : Nat) (1048575 : Int32)) ∈ lw_all := lw_g (lw_at lw_m4 118 rfl) rfl
theorem q939 : (Jvm.Cond.instanceMethod ({ cls := "PretendDesk", name := "worth", desc := "(II)Z" } : Jvm.MethodName)) ∈ lw_all := lw_g (lw_at lw_m4 120 rfl) rfl
theorem q940 : (Jvm.Cond.selects "PretendDesk" ({ cls := "PretendDesk", name := "worth", desc := "(II)Z" } : Jvm.MethodName) ({ cls := "PretendDesk", name := "worth", desc := "(II)Z" } : Jvm.MethodName)) ∈ lw_all := lw_g (lw_at lw_m4 121 rfl) rfl
theorem q941 : (Jvm.Cond.code ({ cls := "PretendDesk", name := "worth", desc := "(II)Z" } : Jvm.MethodName) prog_1_method_27_code (3 : Nat) (Option.some Jvm.ClassFile.FieldType.boolean)) ∈ lw_all := lw_g (lw_at lw_m4 122 rfl) rfl
theorem q943 : (Jvm.Cond.instanceMethod ({ cls := "PretendDesk", name := "boxes", desc := "(III)I" } : Jvm.MethodName)) ∈ lw_all := lw_g (lw_at lw_m4 124 rfl) rfl
theorem q944 : (Jvm.Cond.selects "PretendDesk" ({ cls := "PretendDesk", name := "boxes", desc := "(III)I" } : Jvm.MethodName) ({ cls := "PretendDesk", name := "boxes", desc := "(III)I" } : Jvm.MethodName)) ∈ lw_all := lw_g (lw_at lw_m4 125 rfl) rfl
theorem q945 : (Jvm.Cond.code ({ cls := "PretendDesk", name := "boxes", desc := "(III)I" } : Jvm.MethodName) prog_1_method_28_code (4 : Nat) (Option.some Jvm.ClassFile.FieldType.int)) ∈ lw_all := lw_g (lw_at lw_m4 126 rfl) rfl
theorem q946 : (Jvm.Cond.methodLink "PretendDesk" (256 : Nat) ({ cls := "PretendDesk", name := "isSeen", desc := "(III)Z" } : Jvm.MethodName)) ∈ lw_all := lw_g (lw_at lw_m4 127 rfl) rfl
theorem q947 : (Jvm.Cond.privateMethod ({ cls := "PretendDesk", name := "isSeen", desc := "(III)Z" } : Jvm.MethodName)) ∈ lw_tbl := lw_at lw_m4 128 rfl
theorem q948 : (Jvm.Cond.instanceMethod ({ cls := "PretendDesk", name := "isSeen", desc := "(III)Z" } : Jvm.MethodName)) ∈ lw_all := lw_g (lw_at lw_m4 129 rfl) rfl
theorem q949 : (Jvm.Cond.code ({ cls := "PretendDesk", name := "isSeen", desc := "(III)Z" } : Jvm.MethodName) prog_1_method_7_code (4 : Nat) (Option.some Jvm.ClassFile.FieldType.boolean)) ∈ lw_all := lw_g (lw_at lw_m4 130 rfl) rfl
theorem q950 : (Jvm.Cond.methodLink "PretendDesk" (129 : Nat) ({ cls := "PretendDesk", name := "isLand", desc := "(I)Z" } : Jvm.MethodName)) ∈ lw_all := lw_g (lw_at lw_m4 131 rfl) rfl
theorem q951 : (Jvm.Cond.static ({ cls := "PretendDesk", name := "isLand", desc := "(I)Z" } : Jvm.MethodName)) ∈ lw_all := lw_g (lw_at lw_m4 132 rfl) rfl
theorem q952 : (Jvm.Cond.code ({ cls := "PretendDesk", name := "isLand", desc := "(I)Z" } : Jvm.MethodName) prog_1_method_2_code (1 : Nat) (Option.some Jvm.ClassFile.FieldType.boolean)) ∈ lw_all := lw_g (lw_at lw_m4 133 rfl) rfl
theorem q953 : (Jvm.Cond.methodLink "PretendDesk" (264 : Nat) ({ cls := "PretendDesk$Tree", name := "open", desc := "(LPretendDesk$Page;III[I)LPretendDesk$Tree;" } : Jvm.MethodName)) ∈ lw_all := lw_g (lw_at lw_m4 134 rfl) rfl
theorem q966 : (Jvm.Cond.instanceMethod ({ cls := "PretendDesk", name := "box", desc := "(III)I" } : Jvm.MethodName)) ∈ lw_all := lw_g (lw_at lw_m4 147 rfl) rfl
theorem q967 : (Jvm.Cond.selects "PretendDesk" ({ cls := "PretendDesk", name := "box", desc := "(III)I" } : Jvm.MethodName) ({ cls := "PretendDesk", name := "box", desc := "(III)I" } : Jvm.MethodName)) ∈ lw_all := lw_g (lw_at lw_m4 148 rfl) rfl
theorem q968 : (Jvm.Cond.code ({ cls := "PretendDesk", name := "box", desc := "(III)I" } : Jvm.MethodName) prog_1_method_29_code (5 : Nat) (Option.some Jvm.ClassFile.FieldType.int)) ∈ lw_all := lw_g (lw_at lw_m4 149 rfl) rfl
theorem q970 : (Jvm.Cond.instanceMethod ({ cls := "PretendDesk", name := "far", desc := "(IIII)I" } : Jvm.MethodName)) ∈ lw_all := lw_g (lw_at lw_m4 151 rfl) rfl
theorem q971 : (Jvm.Cond.selects "PretendDesk" ({ cls := "PretendDesk", name := "far", desc := "(IIII)I" } : Jvm.MethodName) ({ cls := "PretendDesk", name := "far", desc := "(IIII)I" } : Jvm.MethodName)) ∈ lw_all := lw_g (lw_at lw_m4 152 rfl) rfl
theorem q972 : (Jvm.Cond.code ({ cls := "PretendDesk", name := "far", desc := "(IIII)I" } : Jvm.MethodName) prog_1_method_30_code (5 : Nat) (Option.some Jvm.ClassFile.FieldType.int)) ∈ lw_all := lw_g (lw_at lw_m4 153 rfl) rfl
theorem q973 : (Jvm.Cond.methodLink "PretendDesk" (301 : Nat) ({ cls := "PretendDesk$Ruler", name := "far", desc := "()I" } : Jvm.MethodName)) ∈ lw_all := lw_g (lw_at lw_m4 154 rfl) rfl
theorem q992 : (Jvm.Cond.instanceMethod ({ cls := "PretendDesk", name := "look", desc := "(IIII)I" } : Jvm.MethodName)) ∈ lw_all := lw_g (lw_at lw_m4 173 rfl) rfl
theorem q993 : (Jvm.Cond.selects "PretendDesk" ({ cls := "PretendDesk", name := "look", desc := "(IIII)I" } : Jvm.MethodName) ({ cls := "PretendDesk", name := "look", desc := "(IIII)I" } : Jvm.MethodName)) ∈ lw_all := lw_g (lw_at lw_m4 174 rfl) rfl
theorem q994 : (Jvm.Cond.code ({ cls := "PretendDesk", name := "look", desc := "(IIII)I" } : Jvm.MethodName) prog_1_method_33_code (5 : Nat) (Option.some Jvm.ClassFile.FieldType.int)) ∈ lw_all := lw_g (lw_at lw_m4 175 rfl) rfl
theorem q995 : (Jvm.Cond.methodLink "PretendDesk" (308 : Nat) ({ cls := "PretendDesk", name := "lookAt", desc := "(III)I" } : Jvm.MethodName)) ∈ lw_all := lw_g (lw_at lw_m4 176 rfl) rfl
theorem q996 : (Jvm.Cond.privateMethod ({ cls := "PretendDesk", name := "lookAt", desc := "(III)I" } : Jvm.MethodName)) ∈ lw_tbl := lw_at lw_m4 177 rfl
theorem q997 : (Jvm.Cond.instanceMethod ({ cls := "PretendDesk", name := "lookAt", desc := "(III)I" } : Jvm.MethodName)) ∈ lw_all := lw_g (lw_at lw_m4 178 rfl) rfl
theorem q998 : (Jvm.Cond.code ({ cls := "PretendDesk", name := "lookAt", desc := "(III)I" } : Jvm.MethodName) prog_1_method_31_code (6 : Nat) (Option.some Jvm.ClassFile.FieldType.int)) ∈ lw_all := lw_g (lw_at lw_m4 179 rfl) rfl
theorem q1000 : (Jvm.Cond.instanceMethod ({ cls := "PretendDesk", name := "like", desc := "(III)I" } : Jvm.MethodName)) ∈ lw_all := lw_g (lw_at lw_m4 181 rfl) rfl
theorem q1001 : (Jvm.Cond.selects "PretendDesk" ({ cls := "PretendDesk", name := "like", desc := "(III)I" } : Jvm.MethodName) ({ cls := "PretendDesk", name := "like", desc := "(III)I" } : Jvm.MethodName)) ∈ lw_all := lw_g (lw_at lw_m4 182 rfl) rfl
theorem q1002 : (Jvm.Cond.code ({ cls := "PretendDesk", name := "like", desc := "(III)I" } : Jvm.MethodName) prog_1_method_34_code (4 : Nat) (Option.some Jvm.ClassFile.FieldType.int)) ∈ lw_all := lw_g (lw_at lw_m4 183 rfl) rfl
theorem q1003 : (Jvm.Cond.methodLink "PretendDesk" (312 : Nat) ({ cls := "PretendDesk", name := "lookOf", desc := "(III)LPretendDesk$Look;" } : Jvm.MethodName)) ∈ lw_all := lw_g (lw_at lw_m4 184 rfl) rfl
theorem q1004 : (Jvm.Cond.privateMethod ({ cls := "PretendDesk", name := "lookOf", desc := "(III)LPretendDesk$Look;" } : Jvm.MethodName)) ∈ lw_tbl := lw_at lw_m4 185 rfl
theorem q1005 : (Jvm.Cond.instanceMethod ({ cls := "PretendDesk", name := "lookOf", desc := "(III)LPretendDesk$Look;" } : Jvm.MethodName)) ∈ lw_all := lw_g (lw_at lw_m4 186 rfl) rfl
theorem q1006 : (Jvm.Cond.code ({ cls := "PretendDesk", name := "lookOf", desc := "(III)LPretendDesk$Look;" } : Jvm.MethodName) prog_1_method_32_code (4 : Nat) (Option.some (Jvm.ClassFile.FieldType.object "PretendDesk$Look"))) ∈ lw_all := lw_g (lw_at lw_m4 187 rfl) rfl
theorem q1007 : (Jvm.Cond.methodLink "PretendDesk" (304 : Nat) ({ cls := "PretendDesk$Look", name := "at", desc := "(LPretendDesk$Page;III[I)LPretendDesk$Look;" } : Jvm.MethodName)) ∈ lw_all := lw_g (lw_at lw_m4 188 rfl) rfl
theorem q1014 : (Jvm.Cond.instanceMethod ({ cls := "PretendDesk", name := "asks", desc := "(III)I" } : Jvm.MethodName)) ∈ lw_all := lw_g (lw_at lw_m4 195 rfl) rfl
theorem q1015 : (Jvm.Cond.selects "PretendDesk" ({ cls := "PretendDesk", name := "asks", desc := "(III)I" } : Jvm.MethodName) ({ cls := "PretendDesk", name := "asks", desc := "(III)I" } : Jvm.MethodName)) ∈ lw_all := lw_g (lw_at lw_m4 196 rfl) rfl
theorem q1016 : (Jvm.Cond.code ({ cls := "PretendDesk", name := "asks", desc := "(III)I" } : Jvm.MethodName) prog_1_method_35_code (4 : Nat) (Option.some Jvm.ClassFile.FieldType.int)) ∈ lw_all := lw_g (lw_at lw_m4 197 rfl) rfl
theorem q1018 : (Jvm.Cond.instanceMethod ({ cls := "PretendDesk", name := "strange", desc := "()I" } : Jvm.MethodName)) ∈ lw_all := lw_g (lw_at lw_m4 199 rfl) rfl
theorem q1019 : (Jvm.Cond.selects "PretendDesk" ({ cls := "PretendDesk", name := "strange", desc := "()I" } : Jvm.MethodName) ({ cls := "PretendDesk", name := "strange", desc := "()I" } : Jvm.MethodName)) ∈ lw_all := lw_g (lw_at lw_m4 200 rfl) rfl
theorem q1020 : (Jvm.Cond.code ({ cls := "PretendDesk", name := "strange", desc := "()I" } : Jvm.MethodName) prog_1_method_36_code (5 : Nat) (Option.some Jvm.ClassFile.FieldType.int)) ∈ lw_all := lw_g (lw_at lw_m4 201 rfl) rfl
theorem q1022 : (Jvm.Cond.instanceMethod ({ cls := "PretendDesk", name := "marks", desc := "(III)Z" } : Jvm.MethodName)) ∈ lw_all := lw_g (lw_at lw_m4 203 rfl) rfl
theorem q1023 : (Jvm.Cond.selects "PretendDesk" ({ cls := "PretendDesk", name := "marks", desc := "(III)Z" } : Jvm.MethodName) ({ cls := "PretendDesk", name := "marks", desc := "(III)Z" } : Jvm.MethodName)) ∈ lw_all := lw_g (lw_at lw_m4 204 rfl) rfl
theorem q1024 : (Jvm.Cond.code ({ cls := "PretendDesk", name := "marks", desc := "(III)Z" } : Jvm.MethodName) prog_1_method_37_code (4 : Nat) (Option.some Jvm.ClassFile.FieldType.boolean)) ∈ lw_all := lw_g (lw_at lw_m4 205 rfl) rfl
theorem q1026 : (Jvm.Cond.instanceMethod ({ cls := "PretendDesk", name := "signs", desc := "(III)I" } : Jvm.MethodName)) ∈ lw_all := lw_g (lw_at lw_m4 207 rfl) rfl
theorem q1027 : (Jvm.Cond.selects "PretendDesk" ({ cls := "PretendDesk", name := "signs", desc := "(III)I" } : Jvm.MethodName) ({ cls := "PretendDesk", name := "signs", desc := "(III)I" } : Jvm.MethodName)) ∈ lw_all := lw_g (lw_at lw_m4 208 rfl) rfl
theorem q1028 : (Jvm.Cond.code ({ cls := "PretendDesk", name := "signs", desc := "(III)I" } : Jvm.MethodName) prog_1_method_40_code (4 : Nat) (Option.some Jvm.ClassFile.FieldType.int)) ∈ lw_all := lw_g (lw_at lw_m4 209 rfl) rfl
theorem q1029 : (Jvm.Cond.methodLink "PretendDesk" (344 : Nat) ({ cls := "PretendDesk", name := "signsOf", desc := "(III)I" } : Jvm.MethodName)) ∈ lw_all := lw_g (lw_at lw_m4 210 rfl) rfl
theorem q1030 : (Jvm.Cond.privateMethod ({ cls := "PretendDesk", name := "signsOf", desc := "(III)I" } : Jvm.MethodName)) ∈ lw_tbl := lw_at lw_m4 211 rfl
theorem q1031 : (Jvm.Cond.instanceMethod ({ cls := "PretendDesk", name := "signsOf", desc := "(III)I" } : Jvm.MethodName)) ∈ lw_all := lw_g (lw_at lw_m4 212 rfl) rfl
theorem q1032 : (Jvm.Cond.code ({ cls := "PretendDesk", name := "signsOf", desc := "(III)I" } : Jvm.MethodName) prog_1_method_38_code (4 : Nat) (Option.some Jvm.ClassFile.FieldType.int)) ∈ lw_all := lw_g (lw_at lw_m4 213 rfl) rfl
theorem q1033 : (Jvm.Cond.methodLink "PretendDesk" (329 : Nat) ({ cls := "PretendDesk$Came", name := "age", desc := "(I)I" } : Jvm.MethodName)) ∈ lw_all := lw_g (lw_at lw_m4 214 rfl) rfl
theorem q1040 : (Jvm.Cond.methodLinkNest "PretendDesk" (332 : Nat) ({ cls := "PretendDesk$Look", name := "signs", desc := "(LPretendDesk$Came;IIII)I" } : Jvm.MethodName) "PretendDesk") ∈ lw_tbl := lw_at lw_m4 221 rfl
theorem q1045 : (Jvm.Cond.static ({ cls := "PretendDesk", name := "isName", desc := "([B[B)Z" } : Jvm.MethodName)) ∈ lw_all := lw_g (lw_at lw_m4 226 rfl) rfl
theorem q1046 : (Jvm.Cond.code ({ cls := "PretendDesk", name := "isName", desc := "([B[B)Z" } : Jvm.MethodName) prog_1_method_25_code (3 : Nat) (Option.some Jvm.ClassFile.FieldType.boolean)) ∈ lw_all := lw_g (lw_at lw_m4 227 rfl) rfl
theorem q1048 : (Jvm.Cond.instanceMethod ({ cls := "PretendDesk", name := "say", desc := "(III)I" } : Jvm.MethodName)) ∈ lw_all := lw_g (lw_at lw_m4 229 rfl) rfl
theorem q1049 : (Jvm.Cond.selects "PretendDesk" ({ cls := "PretendDesk", name := "say", desc := "(III)I" } : Jvm.MethodName) ({ cls := "PretendDesk", name := "say", desc := "(III)I" } : Jvm.MethodName)) ∈ lw_all := lw_g (lw_at lw_m4 230 rfl) rfl
theorem q1050 : (Jvm.Cond.code ({ cls := "PretendDesk", name := "say", desc := "(III)I" } : Jvm.MethodName) prog_1_method_41_code (4 : Nat) (Option.some Jvm.ClassFile.FieldType.int)) ∈ lw_all := lw_g (lw_at lw_m4 231 rfl) rfl
theorem q1051 : (Jvm.Cond.methodLink "PretendDesk" (347 : Nat) ({ cls := "PretendDesk", name := "say", desc := "(I)I" } : Jvm.MethodName)) ∈ lw_all := lw_g (lw_at lw_m4 232 rfl) rfl
theorem q1052 : (Jvm.Cond.static ({ cls := "PretendDesk", name := "say", desc := "(I)I" } : Jvm.MethodName)) ∈ lw_all := lw_g (lw_at lw_m4 233 rfl) rfl
theorem q1053 : (Jvm.Cond.code ({ cls := "PretendDesk", name := "say", desc := "(I)I" } : Jvm.MethodName) prog_1_method_39_code (1 : Nat) (Option.some Jvm.ClassFile.FieldType.int)) ∈ lw_all := lw_g (lw_at lw_m4 234 rfl) rfl
theorem q1054 : (Jvm.Cond.methodLink "PretendDesk" (336 : Nat) ({ cls := "java/lang/Integer", name := "bitCount", desc := "(I)I" } : Jvm.MethodName)) ∈ lw_all := lw_g (lw_at lw_m4 235 rfl) rfl
theorem q1060 : (Jvm.Cond.methodLink "PretendDesk" (341 : Nat) ({ cls := "java/lang/Math", name := "max", desc := "(II)I" } : Jvm.MethodName)) ∈ lw_all := lw_g (lw_at lw_m5 1 rfl) rfl
theorem q1062 : (Jvm.Cond.instanceMethod ({ cls := "PretendDesk", name := "differs", desc := "(IIIII)I" } : Jvm.MethodName)) ∈ lw_all := lw_g (lw_at lw_m5 3 rfl) rfl
theorem q1063 : (Jvm.Cond.selects "PretendDesk" ({ cls := "PretendDesk", name := "differs", desc := "(IIIII)I" } : Jvm.MethodName) ({ cls := "PretendDesk", name := "differs", desc := "(IIIII)I" } : Jvm.MethodName)) ∈ lw_all := lw_g (lw_at lw_m5 4 rfl) rfl
theorem q1064 : (Jvm.Cond.code ({ cls := "PretendDesk", name := "differs", desc := "(IIIII)I" } : Jvm.MethodName) prog_1_method_43_code (6 : Nat) (Option.some Jvm.ClassFile.FieldType.int)) ∈ lw_all := lw_g (lw_at lw_m5 5 rfl) rfl
theorem q1065 : (Jvm.Cond.methodLink "PretendDesk" (350 : Nat) ({ cls := "PretendDesk", name := "differsOf", desc := "(IIIII)I" } : Jvm.MethodName)) ∈ lw_all := lw_g (lw_at lw_m5 6 rfl) rfl
theorem q1066 : (Jvm.Cond.privateMethod ({ cls := "PretendDesk", name := "differsOf", desc := "(IIIII)I" } : Jvm.MethodName)) ∈ lw_tbl := lw_at lw_m5 7 rfl
theorem q1067 : (Jvm.Cond.instanceMethod ({ cls := "PretendDesk", name := "differsOf", desc := "(IIIII)I" } : Jvm.MethodName)) ∈ lw_all := lw_g (lw_at lw_m5 8 rfl) rfl
theorem q1068 : (Jvm.Cond.code ({ cls := "PretendDesk", name := "differsOf", desc := "(IIIII)I" } : Jvm.MethodName) prog_1_method_42_code (6 : Nat) (Option.some Jvm.ClassFile.FieldType.int)) ∈ lw_all := lw_g (lw_at lw_m5 9 rfl) rfl
theorem q1070 : (Jvm.Cond.instanceMethod ({ cls := "PretendDesk", name := "hides", desc := "(II)I" } : Jvm.MethodName)) ∈ lw_all := lw_g (lw_at lw_m5 11 rfl) rfl
theorem q1071 : (Jvm.Cond.selects "PretendDesk" ({ cls := "PretendDesk", name := "hides", desc := "(II)I" } : Jvm.MethodName) ({ cls := "PretendDesk", name := "hides", desc := "(II)I" } : Jvm.MethodName)) ∈ lw_all := lw_g (lw_at lw_m5 12 rfl) rfl
theorem q1072 : (Jvm.Cond.code ({ cls := "PretendDesk", name := "hides", desc := "(II)I" } : Jvm.MethodName) prog_1_method_44_code (6 : Nat) (Option.some Jvm.ClassFile.FieldType.int)) ∈ lw_all := lw_g (lw_at lw_m5 13 rfl) rfl
theorem q1074 : (Jvm.Cond.instanceMethod ({ cls := "PretendDesk", name := "late", desc := "(II)I" } : Jvm.MethodName)) ∈ lw_all := lw_g (lw_at lw_m5 15 rfl) rfl
theorem q1075 : (Jvm.Cond.selects "PretendDesk" ({ cls := "PretendDesk", name := "late", desc := "(II)I" } : Jvm.MethodName) ({ cls := "PretendDesk", name := "late", desc := "(II)I" } : Jvm.MethodName)) ∈ lw_all := lw_g (lw_at lw_m5 16 rfl) rfl
theorem q1076 : (Jvm.Cond.code ({ cls := "PretendDesk", name := "late", desc := "(II)I" } : Jvm.MethodName) prog_1_method_45_code (6 : Nat) (Option.some Jvm.ClassFile.FieldType.int)) ∈ lw_all := lw_g (lw_at lw_m5 17 rfl) rfl
theorem q1078 : (Jvm.Cond.instanceMethod ({ cls := "PretendDesk", name := "keep", desc := "(IIZ)I" } : Jvm.MethodName)) ∈ lw_all := lw_g (lw_at lw_m5 19 rfl) rfl
theorem q1079 : (Jvm.Cond.selects "PretendDesk" ({ cls := "PretendDesk", name := "keep", desc := "(IIZ)I" } : Jvm.MethodName) ({ cls := "PretendDesk", name := "keep", desc := "(IIZ)I" } : Jvm.MethodName)) ∈ lw_all := lw_g (lw_at lw_m5 20 rfl) rfl
theorem q1080 : (Jvm.Cond.code ({ cls := "PretendDesk", name := "keep", desc := "(IIZ)I" } : Jvm.MethodName) prog_1_method_46_code (4 : Nat) (Option.some Jvm.ClassFile.FieldType.int)) ∈ lw_all := lw_g (lw_at lw_m5 21 rfl) rfl
theorem q1081 : (Jvm.Cond.classLink "PretendDesk" (361 : Nat) "PretendDesk$Case") ∈ lw_all := lw_g (lw_at lw_m5 22 rfl) rfl
theorem q1083 : (Jvm.Cond.methodLink "PretendDesk" (363 : Nat) ({ cls := "PretendDesk$Case", name := "<init>", desc := "(IIZ)V" } : Jvm.MethodName)) ∈ lw_all := lw_g (lw_at lw_m5 24 rfl) rfl
theorem q1088 : (Jvm.Cond.fieldLink "PretendDesk" (366 : Nat) "PretendDesk$Case" "page" "I") ∈ lw_all := lw_g (lw_at lw_m5 29 rfl) rfl
theorem q1090 : (Jvm.Cond.fieldLink "PretendDesk" (368 : Nat) "PretendDesk$Case" "day" "I") ∈ lw_all := lw_g (lw_at lw_m5 31 rfl) rfl
theorem q1092 : (Jvm.Cond.fieldLink "PretendDesk" (375 : Nat) "PretendDesk$Case" "pretends" "Z") ∈ lw_all := lw_g (lw_at lw_m5 33 rfl) rfl
theorem q1101 : (Jvm.Cond.instanceMethod ({ cls := "PretendDesk", name := "fit", desc := "(II)I" } : Jvm.MethodName)) ∈ lw_all := lw_g (lw_at lw_m5 42 rfl) rfl
theorem q1102 : (Jvm.Cond.selects "PretendDesk" ({ cls := "PretendDesk", name := "fit", desc := "(II)I" } : Jvm.MethodName) ({ cls := "PretendDesk", name := "fit", desc := "(II)I" } : Jvm.MethodName)) ∈ lw_all := lw_g (lw_at lw_m5 43 rfl) rfl
theorem q1103 : (Jvm.Cond.code ({ cls := "PretendDesk", name := "fit", desc := "(II)I" } : Jvm.MethodName) prog_1_method_52_code (3 : Nat) (Option.some Jvm.ClassFile.FieldType.int)) ∈ lw_all := lw_g (lw_at lw_m5 44 rfl) rfl
theorem q1104 : (Jvm.Cond.methodLink "PretendDesk" (393 : Nat) ({ cls := "PretendDesk", name := "fitsMarks", desc := "(I)Z" } : Jvm.MethodName)) ∈ lw_all := lw_g (lw_at lw_m5 45 rfl) rfl
theorem q1105 : (Jvm.Cond.privateMethod ({ cls := "PretendDesk", name := "fitsMarks", desc := "(I)Z" } : Jvm.MethodName)) ∈ lw_tbl := lw_at lw_m5 46 rfl
theorem q1106 : (Jvm.Cond.instanceMethod ({ cls := "PretendDesk", name := "fitsMarks", desc := "(I)Z" } : Jvm.MethodName)) ∈ lw_all := lw_g (lw_at lw_m5 47 rfl) rfl
theorem q1107 : (Jvm.Cond.code ({ cls := "PretendDesk", name := "fitsMarks", desc := "(I)Z" } : Jvm.MethodName) prog_1_method_51_code (10 : Nat) (Option.some Jvm.ClassFile.FieldType.boolean)) ∈ lw_all := lw_g (lw_at lw_m5 48 rfl) rfl
theorem q1108 : (Jvm.Cond.methodLink "PretendDesk" (379 : Nat) ({ cls := "PretendDesk", name := "pretenders", desc := "()I" } : Jvm.MethodName)) ∈ lw_all := lw_g (lw_at lw_m5 49 rfl) rfl
theorem q1109 : (Jvm.Cond.privateMethod ({ cls := "PretendDesk", name := "pretenders", desc := "()I" } : Jvm.MethodName)) ∈ lw_tbl := lw_at lw_m5 50 rfl
theorem q1110 : (Jvm.Cond.instanceMethod ({ cls := "PretendDesk", name := "pretenders", desc := "()I" } : Jvm.MethodName)) ∈ lw_all := lw_g (lw_at lw_m5 51 rfl) rfl
theorem q1111 : (Jvm.Cond.code ({ cls := "PretendDesk", name := "pretenders", desc := "()I" } : Jvm.MethodName) prog_1_method_49_code (3 : Nat) (Option.some Jvm.ClassFile.FieldType.int)) ∈ lw_all := lw_g (lw_at lw_m5 52 rfl) rfl
theorem q1112 : (Jvm.Cond.methodLink "PretendDesk" (382 : Nat) ({ cls := "PretendDesk", name := "layCases", desc := "()V" } : Jvm.MethodName)) ∈ lw_all := lw_g (lw_at lw_m5 53 rfl) rfl
theorem q1113 : (Jvm.Cond.privateMethod ({ cls := "PretendDesk", name := "layCases", desc := "()V" } : Jvm.MethodName)) ∈ lw_tbl := lw_at lw_m5 54 rfl
theorem q1114 : (Jvm.Cond.instanceMethod ({ cls := "PretendDesk", name := "layCases", desc := "()V" } : Jvm.MethodName)) ∈ lw_all := lw_g (lw_at lw_m5 55 rfl) rfl
theorem q1115 : (Jvm.Cond.code ({ cls := "PretendDesk", name := "layCases", desc := "()V" } : Jvm.MethodName) prog_1_method_47_code (6 : Nat) (Option.none : Option Jvm.ClassFile.FieldType)) ∈ lw_all := lw_g (lw_at lw_m5 56 rfl) rfl
theorem q1116 : (Jvm.Cond.methodLink "PretendDesk" (369 : Nat) ({ cls := "PretendDesk", name := "isName", desc := "([B[B)Z" } : Jvm.MethodName)) ∈ lw_all := lw_g (lw_at lw_m5 57 rfl) rfl
theorem q1117 : (Jvm.Cond.methodLink "PretendDesk" (385 : Nat) ({ cls := "PretendDesk", name := "cried", desc := "(Z)I" } : Jvm.MethodName)) ∈ lw_all := lw_g (lw_at lw_m5 58 rfl) rfl
theorem q1118 : (Jvm.Cond.privateMethod ({ cls := "PretendDesk", name := "cried", desc := "(Z)I" } : Jvm.MethodName)) ∈ lw_tbl := lw_at lw_m5 59 rfl
theorem q1119 : (Jvm.Cond.instanceMethod ({ cls := "PretendDesk", name := "cried", desc := "(Z)I" } : Jvm.MethodName)) ∈ lw_all := lw_g (lw_at lw_m5 60 rfl) rfl
theorem q1120 : (Jvm.Cond.code ({ cls := "PretendDesk", name := "cried", desc := "(Z)I" } : Jvm.MethodName) prog_1_method_48_code (4 : Nat) (Option.some Jvm.ClassFile.FieldType.int)) ∈ lw_all := lw_g (lw_at lw_m5 61 rfl) rfl
theorem q1121 : (Jvm.Cond.methodLink "PretendDesk" (389 : Nat) ({ cls := "PretendDesk", name := "isLessRow", desc := "()Z" } : Jvm.MethodName)) ∈ lw_all := lw_g (lw_at lw_m5 62 rfl) rfl
theorem q1122 : (Jvm.Cond.privateMethod ({ cls := "PretendDesk", name := "isLessRow", desc := "()Z" } : Jvm.MethodName)) ∈ lw_tbl := lw_at lw_m5 63 rfl
theorem q1123 : (Jvm.Cond.instanceMethod ({ cls := "PretendDesk", name := "isLessRow", desc := "()Z" } : Jvm.MethodName)) ∈ lw_all := lw_g (lw_at lw_m5 64 rfl) rfl
theorem q1124 : (Jvm.Cond.code ({ cls := "PretendDesk", name := "isLessRow", desc := "()Z" } : Jvm.MethodName) prog_1_method_50_code (2 : Nat) (Option.some Jvm.ClassFile.FieldType.boolean)) ∈ lw_all := lw_g (lw_at lw_m5 65 rfl) rfl
theorem q1126 : (Jvm.Cond.instanceMethod ({ cls := "PretendDesk", name := "change", desc := "(IIIII)I" } : Jvm.MethodName)) ∈ lw_all := lw_g (lw_at lw_m5 67 rfl) rfl
theorem q1127 : (Jvm.Cond.selects "PretendDesk" ({ cls := "PretendDesk", name := "change", desc := "(IIIII)I" } : Jvm.MethodName) ({ cls := "PretendDesk", name := "change", desc := "(IIIII)I" } : Jvm.MethodName)) ∈ lw_all := lw_g (lw_at lw_m5 68 rfl) rfl
theorem q1128 : (Jvm.Cond.code ({ cls := "PretendDesk", name := "change", desc := "(IIIII)I" } : Jvm.MethodName) prog_1_method_53_code (7 : Nat) (Option.some Jvm.ClassFile.FieldType.int)) ∈ lw_all := lw_g (lw_at lw_m5 69 rfl) rfl
theorem q1129 : (Jvm.Cond.classLink "PretendDesk" (403 : Nat) "PretendDesk$Change") ∈ lw_all := lw_g (lw_at lw_m5 70 rfl) rfl
theorem q1131 : (Jvm.Cond.methodLink "PretendDesk" (405 : Nat) ({ cls := "PretendDesk$Change", name := "<init>", desc := "(IIII)V" } : Jvm.MethodName)) ∈ lw_all := lw_g (lw_at lw_m5 72 rfl) rfl
theorem q1153 : (Jvm.Cond.instanceMethod ({ cls := "PretendDesk", name := "pass", desc := "(IIIII)I" } : Jvm.MethodName)) ∈ lw_all := lw_g (lw_at lw_m5 94 rfl) rfl
theorem q1154 : (Jvm.Cond.selects "PretendDesk" ({ cls := "PretendDesk", name := "pass", desc := "(IIIII)I" } : Jvm.MethodName) ({ cls := "PretendDesk", name := "pass", desc := "(IIIII)I" } : Jvm.MethodName)) ∈ lw_all := lw_g (lw_at lw_m5 95 rfl) rfl
theorem q1155 : (Jvm.Cond.code ({ cls := "PretendDesk", name := "pass", desc := "(IIIII)I" } : Jvm.MethodName) prog_1_method_55_code (6 : Nat) (Option.some Jvm.ClassFile.FieldType.int)) ∈ lw_all := lw_g (lw_at lw_m5 96 rfl) rfl
theorem q1156 : (Jvm.Cond.methodLink "PretendDesk" (408 : Nat) ({ cls := "PretendDesk", name := "isForged", desc := "(IIII)Z" } : Jvm.MethodName)) ∈ lw_all := lw_g (lw_at lw_m5 97 rfl) rfl
theorem q1157 : (Jvm.Cond.privateMethod ({ cls := "PretendDesk", name := "isForged", desc := "(IIII)Z" } : Jvm.MethodName)) ∈ lw_tbl := lw_at lw_m5 98 rfl
theorem q1158 : (Jvm.Cond.instanceMethod ({ cls := "PretendDesk", name := "isForged", desc := "(IIII)Z" } : Jvm.MethodName)) ∈ lw_all := lw_g (lw_at lw_m5 99 rfl) rfl
theorem q1159 : (Jvm.Cond.code ({ cls := "PretendDesk", name := "isForged", desc := "(IIII)Z" } : Jvm.MethodName) prog_1_method_54_code (5 : Nat) (Option.some Jvm.ClassFile.FieldType.boolean)) ∈ lw_all := lw_g (lw_at lw_m5 100 rfl) rfl
theorem q1160 : (Jvm.Cond.methodLink "PretendDesk" (412 : Nat) ({ cls := "PretendDesk$Forger", name := "passes", desc := "(LPretendDesk$Came;IIII)Z" } : Jvm.MethodName)) ∈ lw_all := lw_g (lw_at lw_m5 101 rfl) rfl
theorem q1175 : (Jvm.Cond.instanceMethod ({ cls := "PretendDesk", name := "met", desc := "(IIII)I" } : Jvm.MethodName)) ∈ lw_all := lw_g (lw_at lw_m5 116 rfl) rfl
theorem q1176 : (Jvm.Cond.selects "PretendDesk" ({ cls := "PretendDesk", name := "met", desc := "(IIII)I" } : Jvm.MethodName) ({ cls := "PretendDesk", name := "met", desc := "(IIII)I" } : Jvm.MethodName)) ∈ lw_all := lw_g (lw_at lw_m5 117 rfl) rfl
theorem q1177 : (Jvm.Cond.code ({ cls := "PretendDesk", name := "met", desc := "(IIII)I" } : Jvm.MethodName) prog_1_method_56_code (6 : Nat) (Option.some Jvm.ClassFile.FieldType.int)) ∈ lw_all := lw_g (lw_at lw_m5 118 rfl) rfl
theorem q1179 : (Jvm.Cond.instanceMethod ({ cls := "PretendDesk", name := "odds", desc := "(III)I" } : Jvm.MethodName)) ∈ lw_all := lw_g (lw_at lw_m5 120 rfl) rfl
theorem q1180 : (Jvm.Cond.selects "PretendDesk" ({ cls := "PretendDesk", name := "odds", desc := "(III)I" } : Jvm.MethodName) ({ cls := "PretendDesk", name := "odds", desc := "(III)I" } : Jvm.MethodName)) ∈ lw_all := lw_g (lw_at lw_m5 121 rfl) rfl
theorem q1181 : (Jvm.Cond.code ({ cls := "PretendDesk", name := "odds", desc := "(III)I" } : Jvm.MethodName) prog_1_method_60_code (4 : Nat) (Option.some Jvm.ClassFile.FieldType.int)) ∈ lw_all := lw_g (lw_at lw_m5 122 rfl) rfl
theorem q1182 : (Jvm.Cond.methodLink "PretendDesk" (428 : Nat) ({ cls := "PretendDesk", name := "waysOf", desc := "(II)I" } : Jvm.MethodName)) ∈ lw_all := lw_g (lw_at lw_m5 123 rfl) rfl
theorem q1183 : (Jvm.Cond.privateMethod ({ cls := "PretendDesk", name := "waysOf", desc := "(II)I" } : Jvm.MethodName)) ∈ lw_tbl := lw_at lw_m5 124 rfl
theorem q1184 : (Jvm.Cond.instanceMethod ({ cls := "PretendDesk", name := "waysOf", desc := "(II)I" } : Jvm.MethodName)) ∈ lw_all := lw_g (lw_at lw_m5 125 rfl) rfl
theorem q1185 : (Jvm.Cond.code ({ cls := "PretendDesk", name := "waysOf", desc := "(II)I" } : Jvm.MethodName) prog_1_method_58_code (7 : Nat) (Option.some Jvm.ClassFile.FieldType.int)) ∈ lw_all := lw_g (lw_at lw_m5 126 rfl) rfl
theorem q1186 : (Jvm.Cond.methodLink "PretendDesk" (425 : Nat) ({ cls := "PretendDesk", name := "choose", desc := "(II)I" } : Jvm.MethodName)) ∈ lw_all := lw_g (lw_at lw_m5 127 rfl) rfl
theorem q1187 : (Jvm.Cond.static ({ cls := "PretendDesk", name := "choose", desc := "(II)I" } : Jvm.MethodName)) ∈ lw_all := lw_g (lw_at lw_m5 128 rfl) rfl
theorem q1188 : (Jvm.Cond.code ({ cls := "PretendDesk", name := "choose", desc := "(II)I" } : Jvm.MethodName) prog_1_method_57_code (5 : Nat) (Option.some Jvm.ClassFile.FieldType.int)) ∈ lw_all := lw_g (lw_at lw_m5 129 rfl) rfl
theorem q1189 : (Jvm.Cond.methodLink "PretendDesk" (431 : Nat) ({ cls := "PretendDesk", name := "dealsOf", desc := "(I)I" } : Jvm.MethodName)) ∈ lw_all := lw_g (lw_at lw_m5 130 rfl) rfl
theorem q1190 : (Jvm.Cond.privateMethod ({ cls := "PretendDesk", name := "dealsOf", desc := "(I)I" } : Jvm.MethodName)) ∈ lw_tbl := lw_at lw_m5 131 rfl
theorem q1191 : (Jvm.Cond.instanceMethod ({ cls := "PretendDesk", name := "dealsOf", desc := "(I)I" } : Jvm.MethodName)) ∈ lw_all := lw_g (lw_at lw_m5 132 rfl) rfl
theorem q1192 : (Jvm.Cond.code ({ cls := "PretendDesk", name := "dealsOf", desc := "(I)I" } : Jvm.MethodName) prog_1_method_59_code (2 : Nat) (Option.some Jvm.ClassFile.FieldType.int)) ∈ lw_all := lw_g (lw_at lw_m5 133 rfl) rfl
theorem q1194 : (Jvm.Cond.instanceMethod ({ cls := "PretendDesk", name := "ring", desc := "(II)I" } : Jvm.MethodName)) ∈ lw_all := lw_g (lw_at lw_m5 135 rfl) rfl
theorem q1195 : (Jvm.Cond.selects "PretendDesk" ({ cls := "PretendDesk", name := "ring", desc := "(II)I" } : Jvm.MethodName) ({ cls := "PretendDesk", name := "ring", desc := "(II)I" } : Jvm.MethodName)) ∈ lw_all := lw_g (lw_at lw_m5 136 rfl) rfl
theorem q1196 : (Jvm.Cond.code ({ cls := "PretendDesk", name := "ring", desc := "(II)I" } : Jvm.MethodName) prog_1_method_61_code (8 : Nat) (Option.some Jvm.ClassFile.FieldType.int)) ∈ lw_all := lw_g (lw_at lw_m5 137 rfl) rfl
theorem q1198 : (Jvm.Cond.instanceMethod ({ cls := "PretendDesk", name := "sketch", desc := "(II)I" } : Jvm.MethodName)) ∈ lw_all := lw_g (lw_at lw_m5 139 rfl) rfl
theorem q1199 : (Jvm.Cond.selects "PretendDesk" ({ cls := "PretendDesk", name := "sketch", desc := "(II)I" } : Jvm.MethodName) ({ cls := "PretendDesk", name := "sketch", desc := "(II)I" } : Jvm.MethodName)) ∈ lw_all := lw_g (lw_at lw_m5 140 rfl) rfl
theorem q1200 : (Jvm.Cond.code ({ cls := "PretendDesk", name := "sketch", desc := "(II)I" } : Jvm.MethodName) prog_1_method_62_code (3 : Nat) (Option.some Jvm.ClassFile.FieldType.int)) ∈ lw_all := lw_g (lw_at lw_m5 141 rfl) rfl
theorem q1201 : (Jvm.Cond.methodLink "PretendDesk" (434 : Nat) ({ cls := "PretendDesk$Page", name := "sketch", desc := "()I" } : Jvm.MethodName)) ∈ lw_all := lw_g (lw_at lw_m5 142 rfl) rfl
theorem q1207 : (Jvm.Cond.instanceMethod ({ cls := "PretendDesk", name := "leaves", desc := "(II)I" } : Jvm.MethodName)) ∈ lw_all := lw_g (lw_at lw_m5 148 rfl) rfl
theorem q1208 : (Jvm.Cond.selects "PretendDesk" ({ cls := "PretendDesk", name := "leaves", desc := "(II)I" } : Jvm.MethodName) ({ cls := "PretendDesk", name := "leaves", desc := "(II)I" } : Jvm.MethodName)) ∈ lw_all := lw_g (lw_at lw_m5 149 rfl) rfl
theorem q1209 : (Jvm.Cond.code ({ cls := "PretendDesk", name := "leaves", desc := "(II)I" } : Jvm.MethodName) prog_1_method_64_code (4 : Nat) (Option.some Jvm.ClassFile.FieldType.int)) ∈ lw_all := lw_g (lw_at lw_m5 150 rfl) rfl
theorem q1210 : (Jvm.Cond.methodLink "PretendDesk" (437 : Nat) ({ cls := "PretendDesk", name := "fits", desc := "(II)I" } : Jvm.MethodName)) ∈ lw_all := lw_g (lw_at lw_m5 151 rfl) rfl
theorem q1211 : (Jvm.Cond.privateMethod ({ cls := "PretendDesk", name := "fits", desc := "(II)I" } : Jvm.MethodName)) ∈ lw_tbl := lw_at lw_m5 152 rfl
theorem q1212 : (Jvm.Cond.instanceMethod ({ cls := "PretendDesk", name := "fits", desc := "(II)I" } : Jvm.MethodName)) ∈ lw_all := lw_g (lw_at lw_m5 153 rfl) rfl
theorem q1213 : (Jvm.Cond.code ({ cls := "PretendDesk", name := "fits", desc := "(II)I" } : Jvm.MethodName) prog_1_method_63_code (5 : Nat) (Option.some Jvm.ClassFile.FieldType.int)) ∈ lw_all := lw_g (lw_at lw_m5 154 rfl) rfl
theorem q1215 : (Jvm.Cond.instanceMethod ({ cls := "PretendDesk", name := "warn", desc := "(III)I" } : Jvm.MethodName)) ∈ lw_all := lw_g (lw_at lw_m5 156 rfl) rfl
theorem q1216 : (Jvm.Cond.selects "PretendDesk" ({ cls := "PretendDesk", name := "warn", desc := "(III)I" } : Jvm.MethodName) ({ cls := "PretendDesk", name := "warn", desc := "(III)I" } : Jvm.MethodName)) ∈ lw_all := lw_g (lw_at lw_m5 157 rfl) rfl
theorem q1217 : (Jvm.Cond.code ({ cls := "PretendDesk", name := "warn", desc := "(III)I" } : Jvm.MethodName) prog_1_method_65_code (6 : Nat) (Option.some Jvm.ClassFile.FieldType.int)) ∈ lw_all := lw_g (lw_at lw_m5 158 rfl) rfl
theorem q1219 : (Jvm.Cond.instanceMethod ({ cls := "PretendDesk", name := "program", desc := "(I)I" } : Jvm.MethodName)) ∈ lw_all := lw_g (lw_at lw_m5 160 rfl) rfl
theorem q1220 : (Jvm.Cond.selects "PretendDesk" ({ cls := "PretendDesk", name := "program", desc := "(I)I" } : Jvm.MethodName) ({ cls := "PretendDesk", name := "program", desc := "(I)I" } : Jvm.MethodName)) ∈ lw_all := lw_g (lw_at lw_m5 161 rfl) rfl
theorem q1221 : (Jvm.Cond.codeWith ({ cls := "PretendDesk", name := "program", desc := "(I)I" } : Jvm.MethodName) prog_1_method_66_code (5 : Nat) (Option.some Jvm.ClassFile.FieldType.int) [((26 : Nat), (30 : Nat), (33 : Nat), (199 : Nat))]) ∈ lw_all := lw_g (lw_at lw_m5 162 rfl) rfl
theorem q1222 : (Jvm.Cond.classLink "PretendDesk" (440 : Nat) "PretendDesk$ProgramReader") ∈ lw_all := lw_g (lw_at lw_m5 163 rfl) rfl
theorem q1224 : (Jvm.Cond.methodLink "PretendDesk" (442 : Nat) ({ cls := "PretendDesk$ProgramReader", name := "<init>", desc := "(LPretendDesk;I)V" } : Jvm.MethodName)) ∈ lw_all := lw_g (lw_at lw_m5 165 rfl) rfl
theorem q1231 : (Jvm.Cond.fieldLink "PretendDesk" (446 : Nat) "PretendDesk$ProgramReader" "program" "LPretendDesk$Program;") ∈ lw_all := lw_g (lw_at lw_m5 172 rfl) rfl
theorem q1248 : (Jvm.Cond.methodLink "PretendDesk" (443 : Nat) ({ cls := "PretendDesk$ProgramReader", name := "text", desc := "()V" } : Jvm.MethodName)) ∈ lw_all := lw_g (lw_at lw_m5 189 rfl) rfl
theorem q1294 : (Jvm.Cond.instanceMethod ({ cls := "PretendDesk", name := "relay", desc := "(II)Z" } : Jvm.MethodName)) ∈ lw_all := lw_g (lw_at lw_m5 235 rfl) rfl
theorem q1295 : (Jvm.Cond.selects "PretendDesk" ({ cls := "PretendDesk", name := "relay", desc := "(II)Z" } : Jvm.MethodName) ({ cls := "PretendDesk", name := "relay", desc := "(II)Z" } : Jvm.MethodName)) ∈ lw_all := lw_g (lw_at lw_m5 236 rfl) rfl
theorem q1296 : (Jvm.Cond.code ({ cls := "PretendDesk", name := "relay", desc := "(II)Z" } : Jvm.MethodName) prog_1_method_68_code (3 : Nat) (Option.some Jvm.ClassFile.FieldType.boolean)) ∈ lw_all := lw_g (lw_at lw_m5 237 rfl) rfl
theorem q1297 : (Jvm.Cond.methodLink "PretendDesk" (456 : Nat) ({ cls := "PretendDesk", name := "isAddress", desc := "(I)Z" } : Jvm.MethodName)) ∈ lw_all := lw_g (lw_at lw_m5 238 rfl) rfl
theorem q1298 : (Jvm.Cond.static ({ cls := "PretendDesk", name := "isAddress", desc := "(I)Z" } : Jvm.MethodName)) ∈ lw_all := lw_g (lw_at lw_m5 239 rfl) rfl
theorem q1299 : (Jvm.Cond.code ({ cls := "PretendDesk", name := "isAddress", desc := "(I)Z" } : Jvm.MethodName) prog_1_method_67_code (1 : Nat) (Option.some Jvm.ClassFile.FieldType.boolean)) ∈ lw_all := lw_g (lw_at lw_m6 0 rfl) rfl
theorem q1301 : (Jvm.Cond.instanceMethod ({ cls := "PretendDesk", name := "owner", desc := "(II)Z" } : Jvm.MethodName)) ∈ lw_all := lw_g (lw_at lw_m6 2 rfl) rfl
theorem q1302 : (Jvm.Cond.selects "PretendDesk" ({ cls := "PretendDesk", name := "owner", desc := "(II)Z" } : Jvm.MethodName) ({ cls := "PretendDesk", name := "owner", desc := "(II)Z" } : Jvm.MethodName)) ∈ lw_all := lw_g (lw_at lw_m6 3 rfl) rfl
theorem q1303 : (Jvm.Cond.code ({ cls := "PretendDesk", name := "owner", desc := "(II)Z" } : Jvm.MethodName) prog_1_method_69_code (3 : Nat) (Option.some Jvm.ClassFile.FieldType.boolean)) ∈ lw_all := lw_g (lw_at lw_m6 4 rfl) rfl
theorem q1305 : (Jvm.Cond.instanceMethod ({ cls := "PretendDesk", name := "goes", desc := "(IZ)I" } : Jvm.MethodName)) ∈ lw_all := lw_g (lw_at lw_m6 6 rfl) rfl
theorem q1306 : (Jvm.Cond.selects "PretendDesk" ({ cls := "PretendDesk", name := "goes", desc := "(IZ)I" } : Jvm.MethodName) ({ cls := "PretendDesk", name := "goes", desc := "(IZ)I" } : Jvm.MethodName)) ∈ lw_all := lw_g (lw_at lw_m6 7 rfl) rfl
theorem q1307 : (Jvm.Cond.code ({ cls := "PretendDesk", name := "goes", desc := "(IZ)I" } : Jvm.MethodName) prog_1_method_71_code (4 : Nat) (Option.some Jvm.ClassFile.FieldType.int)) ∈ lw_all := lw_g (lw_at lw_m6 8 rfl) rfl
theorem q1308 : (Jvm.Cond.methodLink "PretendDesk" (468 : Nat) ({ cls := "PretendDesk", name := "endOf", desc := "(I)I" } : Jvm.MethodName)) ∈ lw_all := lw_g (lw_at lw_m6 9 rfl) rfl
theorem q1309 : (Jvm.Cond.privateMethod ({ cls := "PretendDesk", name := "endOf", desc := "(I)I" } : Jvm.MethodName)) ∈ lw_tbl := lw_at lw_m6 10 rfl
theorem q1310 : (Jvm.Cond.instanceMethod ({ cls := "PretendDesk", name := "endOf", desc := "(I)I" } : Jvm.MethodName)) ∈ lw_all := lw_g (lw_at lw_m6 11 rfl) rfl
theorem q1311 : (Jvm.Cond.code ({ cls := "PretendDesk", name := "endOf", desc := "(I)I" } : Jvm.MethodName) prog_1_method_70_code (3 : Nat) (Option.some Jvm.ClassFile.FieldType.int)) ∈ lw_all := lw_g (lw_at lw_m6 12 rfl) rfl
theorem q1313 : (Jvm.Cond.instanceMethod ({ cls := "PretendDesk", name := "sent", desc := "(III)I" } : Jvm.MethodName)) ∈ lw_all := lw_g (lw_at lw_m6 14 rfl) rfl
theorem q1314 : (Jvm.Cond.selects "PretendDesk" ({ cls := "PretendDesk", name := "sent", desc := "(III)I" } : Jvm.MethodName) ({ cls := "PretendDesk", name := "sent", desc := "(III)I" } : Jvm.MethodName)) ∈ lw_all := lw_g (lw_at lw_m6 15 rfl) rfl
theorem q1315 : (Jvm.Cond.code ({ cls := "PretendDesk", name := "sent", desc := "(III)I" } : Jvm.MethodName) prog_1_method_73_code (4 : Nat) (Option.some Jvm.ClassFile.FieldType.int)) ∈ lw_all := lw_g (lw_at lw_m6 16 rfl) rfl
theorem q1316 : (Jvm.Cond.methodLink "PretendDesk" (471 : Nat) ({ cls := "PretendDesk", name := "isMade", desc := "(I)Z" } : Jvm.MethodName)) ∈ lw_all := lw_g (lw_at lw_m6 17 rfl) rfl
theorem q1317 : (Jvm.Cond.static ({ cls := "PretendDesk", name := "isMade", desc := "(I)Z" } : Jvm.MethodName)) ∈ lw_all := lw_g (lw_at lw_m6 18 rfl) rfl
theorem q1318 : (Jvm.Cond.code ({ cls := "PretendDesk", name := "isMade", desc := "(I)Z" } : Jvm.MethodName) prog_1_method_72_code (1 : Nat) (Option.some Jvm.ClassFile.FieldType.boolean)) ∈ lw_all := lw_g (lw_at lw_m6 19 rfl) rfl
theorem q1319 : (Jvm.Cond.methodLink "PretendDesk" (474 : Nat) ({ cls := "PretendDesk$Stepper", name := "run", desc := "(LPretendDesk$Program;I)LPretendDesk$Stepper;" } : Jvm.MethodName)) ∈ lw_all := lw_g (lw_at lw_m6 20 rfl) rfl
theorem q1328 : (Jvm.Cond.instanceMethod ({ cls := "PretendDesk", name := "steps", desc := "(II)I" } : Jvm.MethodName)) ∈ lw_all := lw_g (lw_at lw_m6 29 rfl) rfl
theorem q1329 : (Jvm.Cond.selects "PretendDesk" ({ cls := "PretendDesk", name := "steps", desc := "(II)I" } : Jvm.MethodName) ({ cls := "PretendDesk", name := "steps", desc := "(II)I" } : Jvm.MethodName)) ∈ lw_all := lw_g (lw_at lw_m6 30 rfl) rfl
theorem q1330 : (Jvm.Cond.code ({ cls := "PretendDesk", name := "steps", desc := "(II)I" } : Jvm.MethodName) prog_1_method_74_code (3 : Nat) (Option.some Jvm.ClassFile.FieldType.int)) ∈ lw_all := lw_g (lw_at lw_m6 31 rfl) rfl
theorem q1332 : (Jvm.Cond.instanceMethod ({ cls := "PretendDesk", name := "taken", desc := "(II)I" } : Jvm.MethodName)) ∈ lw_all := lw_g (lw_at lw_m6 33 rfl) rfl
theorem q1333 : (Jvm.Cond.selects "PretendDesk" ({ cls := "PretendDesk", name := "taken", desc := "(II)I" } : Jvm.MethodName) ({ cls := "PretendDesk", name := "taken", desc := "(II)I" } : Jvm.MethodName)) ∈ lw_all := lw_g (lw_at lw_m6 34 rfl) rfl
theorem q1334 : (Jvm.Cond.code ({ cls := "PretendDesk", name := "taken", desc := "(II)I" } : Jvm.MethodName) prog_1_method_76_code (6 : Nat) (Option.some Jvm.ClassFile.FieldType.int)) ∈ lw_all := lw_g (lw_at lw_m6 35 rfl) rfl
theorem q1335 : (Jvm.Cond.methodLink "PretendDesk" (484 : Nat) ({ cls := "PretendDesk", name := "takenBy", desc := "(III)I" } : Jvm.MethodName)) ∈ lw_all := lw_g (lw_at lw_m6 36 rfl) rfl
theorem q1336 : (Jvm.Cond.privateMethod ({ cls := "PretendDesk", name := "takenBy", desc := "(III)I" } : Jvm.MethodName)) ∈ lw_tbl := lw_at lw_m6 37 rfl
theorem q1337 : (Jvm.Cond.instanceMethod ({ cls := "PretendDesk", name := "takenBy", desc := "(III)I" } : Jvm.MethodName)) ∈ lw_all := lw_g (lw_at lw_m6 38 rfl) rfl
theorem q1338 : (Jvm.Cond.code ({ cls := "PretendDesk", name := "takenBy", desc := "(III)I" } : Jvm.MethodName) prog_1_method_75_code (7 : Nat) (Option.some Jvm.ClassFile.FieldType.int)) ∈ lw_all := lw_g (lw_at lw_m6 39 rfl) rfl
theorem q1340 : (Jvm.Cond.instanceMethod ({ cls := "PretendDesk", name := "word", desc := "(I)I" } : Jvm.MethodName)) ∈ lw_all := lw_g (lw_at lw_m6 41 rfl) rfl
theorem q1341 : (Jvm.Cond.selects "PretendDesk" ({ cls := "PretendDesk", name := "word", desc := "(I)I" } : Jvm.MethodName) ({ cls := "PretendDesk", name := "word", desc := "(I)I" } : Jvm.MethodName)) ∈ lw_all := lw_g (lw_at lw_m6 42 rfl) rfl
theorem q1342 : (Jvm.Cond.code ({ cls := "PretendDesk", name := "word", desc := "(I)I" } : Jvm.MethodName) prog_1_method_77_code (7 : Nat) (Option.some Jvm.ClassFile.FieldType.int)) ∈ lw_all := lw_g (lw_at lw_m6 43 rfl) rfl
theorem q1343 : (Jvm.Cond.methodLink "PretendDesk" (487 : Nat) ({ cls := "PretendDesk", name := "place", desc := "(J)I" } : Jvm.MethodName)) ∈ lw_all := lw_g (lw_at lw_m6 44 rfl) rfl
theorem q1344 : (Jvm.Cond.privateMethod ({ cls := "PretendDesk", name := "place", desc := "(J)I" } : Jvm.MethodName)) ∈ lw_tbl := lw_at lw_m6 45 rfl
theorem q1345 : (Jvm.Cond.instanceMethod ({ cls := "PretendDesk", name := "place", desc := "(J)I" } : Jvm.MethodName)) ∈ lw_all := lw_g (lw_at lw_m6 46 rfl) rfl
theorem q1346 : (Jvm.Cond.code ({ cls := "PretendDesk", name := "place", desc := "(J)I" } : Jvm.MethodName) prog_1_method_78_code (4 : Nat) (Option.some Jvm.ClassFile.FieldType.int)) ∈ lw_all := lw_g (lw_at lw_m6 47 rfl) rfl
theorem q1348 : (Jvm.Cond.instanceMethod ({ cls := "PretendDesk", name := "pattern", desc := "(II)I" } : Jvm.MethodName)) ∈ lw_all := lw_g (lw_at lw_m6 49 rfl) rfl
theorem q1349 : (Jvm.Cond.selects "PretendDesk" ({ cls := "PretendDesk", name := "pattern", desc := "(II)I" } : Jvm.MethodName) ({ cls := "PretendDesk", name := "pattern", desc := "(II)I" } : Jvm.MethodName)) ∈ lw_all := lw_g (lw_at lw_m6 50 rfl) rfl
theorem q1350 : (Jvm.Cond.code ({ cls := "PretendDesk", name := "pattern", desc := "(II)I" } : Jvm.MethodName) prog_1_method_79_code (3 : Nat) (Option.some Jvm.ClassFile.FieldType.int)) ∈ lw_all := lw_g (lw_at lw_m6 51 rfl) rfl
theorem q1351 : (Jvm.Cond.classLink "PretendDesk" (507 : Nat) "PretendDesk$Pattern") ∈ lw_all := lw_g (lw_at lw_m6 52 rfl) rfl
theorem q1353 : (Jvm.Cond.methodLink "PretendDesk" (509 : Nat) ({ cls := "PretendDesk$Pattern", name := "<init>", desc := "(II)V" } : Jvm.MethodName)) ∈ lw_all := lw_g (lw_at lw_m6 54 rfl) rfl
theorem q1358 : (Jvm.Cond.fieldLink "PretendDesk" (518 : Nat) "PretendDesk$Pattern" "meanings" "I") ∈ lw_all := lw_g (lw_at lw_m6 59 rfl) rfl
theorem q1360 : (Jvm.Cond.fieldLink "PretendDesk" (524 : Nat) "PretendDesk$Pattern" "weight" "I") ∈ lw_all := lw_g (lw_at lw_m6 61 rfl) rfl
theorem q1367 : (Jvm.Cond.instanceMethod ({ cls := "PretendDesk", name := "letter", desc := "()I" } : Jvm.MethodName)) ∈ lw_all := lw_g (lw_at lw_m6 68 rfl) rfl
theorem q1368 : (Jvm.Cond.selects "PretendDesk" ({ cls := "PretendDesk", name := "letter", desc := "()I" } : Jvm.MethodName) ({ cls := "PretendDesk", name := "letter", desc := "()I" } : Jvm.MethodName)) ∈ lw_all := lw_g (lw_at lw_m6 69 rfl) rfl
theorem q1369 : (Jvm.Cond.code ({ cls := "PretendDesk", name := "letter", desc := "()I" } : Jvm.MethodName) prog_1_method_80_code (4 : Nat) (Option.some Jvm.ClassFile.FieldType.int)) ∈ lw_all := lw_g (lw_at lw_m6 70 rfl) rfl
theorem q1370 : (Jvm.Cond.methodLink "PretendDesk" (515 : Nat) ({ cls := "PretendDesk", name := "sentences", desc := "()I" } : Jvm.MethodName)) ∈ lw_all := lw_g (lw_at lw_m6 71 rfl) rfl
theorem q1371 : (Jvm.Cond.privateMethod ({ cls := "PretendDesk", name := "sentences", desc := "()I" } : Jvm.MethodName)) ∈ lw_tbl := lw_at lw_m6 72 rfl
theorem q1372 : (Jvm.Cond.instanceMethod ({ cls := "PretendDesk", name := "sentences", desc := "()I" } : Jvm.MethodName)) ∈ lw_all := lw_g (lw_at lw_m6 73 rfl) rfl
theorem q1373 : (Jvm.Cond.code ({ cls := "PretendDesk", name := "sentences", desc := "()I" } : Jvm.MethodName) prog_1_method_81_code (10 : Nat) (Option.some Jvm.ClassFile.FieldType.int)) ∈ lw_all := lw_g (lw_at lw_m6 74 rfl) rfl
theorem q1375 : (Jvm.Cond.instanceMethod ({ cls := "PretendDesk", name := "sentence", desc := "(I)I" } : Jvm.MethodName)) ∈ lw_all := lw_g (lw_at lw_m6 76 rfl) rfl
theorem q1376 : (Jvm.Cond.selects "PretendDesk" ({ cls := "PretendDesk", name := "sentence", desc := "(I)I" } : Jvm.MethodName) ({ cls := "PretendDesk", name := "sentence", desc := "(I)I" } : Jvm.MethodName)) ∈ lw_all := lw_g (lw_at lw_m6 77 rfl) rfl
theorem q1377 : (Jvm.Cond.code ({ cls := "PretendDesk", name := "sentence", desc := "(I)I" } : Jvm.MethodName) prog_1_method_82_code (2 : Nat) (Option.some Jvm.ClassFile.FieldType.int)) ∈ lw_all := lw_g (lw_at lw_m6 78 rfl) rfl
theorem q1379 : (Jvm.Cond.instanceMethod ({ cls := "PretendDesk", name := "holds", desc := "(I)I" } : Jvm.MethodName)) ∈ lw_all := lw_g (lw_at lw_m6 80 rfl) rfl
theorem q1380 : (Jvm.Cond.selects "PretendDesk" ({ cls := "PretendDesk", name := "holds", desc := "(I)I" } : Jvm.MethodName) ({ cls := "PretendDesk", name := "holds", desc := "(I)I" } : Jvm.MethodName)) ∈ lw_all := lw_g (lw_at lw_m6 81 rfl) rfl
theorem q1381 : (Jvm.Cond.code ({ cls := "PretendDesk", name := "holds", desc := "(I)I" } : Jvm.MethodName) prog_1_method_84_code (2 : Nat) (Option.some Jvm.ClassFile.FieldType.int)) ∈ lw_all := lw_g (lw_at lw_m6 82 rfl) rfl
theorem q1382 : (Jvm.Cond.methodLink "PretendDesk" (521 : Nat) ({ cls := "PretendDesk", name := "holdsIn", desc := "(II)I" } : Jvm.MethodName)) ∈ lw_all := lw_g (lw_at lw_m6 83 rfl) rfl
theorem q1383 : (Jvm.Cond.privateMethod ({ cls := "PretendDesk", name := "holdsIn", desc := "(II)I" } : Jvm.MethodName)) ∈ lw_tbl := lw_at lw_m6 84 rfl
theorem q1384 : (Jvm.Cond.instanceMethod ({ cls := "PretendDesk", name := "holdsIn", desc := "(II)I" } : Jvm.MethodName)) ∈ lw_all := lw_g (lw_at lw_m6 85 rfl) rfl
theorem q1385 : (Jvm.Cond.code ({ cls := "PretendDesk", name := "holdsIn", desc := "(II)I" } : Jvm.MethodName) prog_1_method_83_code (5 : Nat) (Option.some Jvm.ClassFile.FieldType.int)) ∈ lw_all := lw_g (lw_at lw_m6 86 rfl) rfl
theorem q1387 : (Jvm.Cond.instanceMethod ({ cls := "PretendDesk", name := "presses", desc := "()I" } : Jvm.MethodName)) ∈ lw_all := lw_g (lw_at lw_m6 88 rfl) rfl
theorem q1388 : (Jvm.Cond.selects "PretendDesk" ({ cls := "PretendDesk", name := "presses", desc := "()I" } : Jvm.MethodName) ({ cls := "PretendDesk", name := "presses", desc := "()I" } : Jvm.MethodName)) ∈ lw_all := lw_g (lw_at lw_m6 89 rfl) rfl
theorem q1389 : (Jvm.Cond.code ({ cls := "PretendDesk", name := "presses", desc := "()I" } : Jvm.MethodName) prog_1_method_85_code (4 : Nat) (Option.some Jvm.ClassFile.FieldType.int)) ∈ lw_all := lw_g (lw_at lw_m6 90 rfl) rfl
theorem q1391 : (Jvm.Cond.instanceMethod ({ cls := "PretendDesk", name := "picture", desc := "(ZII)Z" } : Jvm.MethodName)) ∈ lw_all := lw_g (lw_at lw_m6 92 rfl) rfl
theorem q1392 : (Jvm.Cond.selects "PretendDesk" ({ cls := "PretendDesk", name := "picture", desc := "(ZII)Z" } : Jvm.MethodName) ({ cls := "PretendDesk", name := "picture", desc := "(ZII)Z" } : Jvm.MethodName)) ∈ lw_all := lw_g (lw_at lw_m6 93 rfl) rfl
theorem q1393 : (Jvm.Cond.code ({ cls := "PretendDesk", name := "picture", desc := "(ZII)Z" } : Jvm.MethodName) prog_1_method_86_code (4 : Nat) (Option.some Jvm.ClassFile.FieldType.boolean)) ∈ lw_all := lw_g (lw_at lw_m6 94 rfl) rfl
theorem q1394 : (Jvm.Cond.constant "PretendDesk" (527 : Nat) (33554431 : Int32)) ∈ lw_all := lw_g (lw_at lw_m6 95 rfl) rfl
theorem q1396 : (Jvm.Cond.instanceMethod ({ cls := "PretendDesk", name := "unlike", desc := "(II)I" } : Jvm.MethodName)) ∈ lw_all := lw_g (lw_at lw_m6 97 rfl) rfl
theorem q1397 : (Jvm.Cond.selects "PretendDesk" ({ cls := "PretendDesk", name := "unlike", desc := "(II)I" } : Jvm.MethodName) ({ cls := "PretendDesk", name := "unlike", desc := "(II)I" } : Jvm.MethodName)) ∈ lw_all := lw_g (lw_at lw_m6 98 rfl) rfl
theorem q1398 : (Jvm.Cond.code ({ cls := "PretendDesk", name := "unlike", desc := "(II)I" } : Jvm.MethodName) prog_1_method_90_code (3 : Nat) (Option.some Jvm.ClassFile.FieldType.int)) ∈ lw_all := lw_g (lw_at lw_m6 99 rfl) rfl
theorem q1399 : (Jvm.Cond.methodLink "PretendDesk" (538 : Nat) ({ cls := "PretendDesk", name := "unlikeOf", desc := "(II)I" } : Jvm.MethodName)) ∈ lw_all := lw_g (lw_at lw_m6 100 rfl) rfl
theorem q1400 : (Jvm.Cond.privateMethod ({ cls := "PretendDesk", name := "unlikeOf", desc := "(II)I" } : Jvm.MethodName)) ∈ lw_tbl := lw_at lw_m6 101 rfl
theorem q1401 : (Jvm.Cond.instanceMethod ({ cls := "PretendDesk", name := "unlikeOf", desc := "(II)I" } : Jvm.MethodName)) ∈ lw_all := lw_g (lw_at lw_m6 102 rfl) rfl
theorem q1402 : (Jvm.Cond.code ({ cls := "PretendDesk", name := "unlikeOf", desc := "(II)I" } : Jvm.MethodName) prog_1_method_89_code (7 : Nat) (Option.some Jvm.ClassFile.FieldType.int)) ∈ lw_all := lw_g (lw_at lw_m6 103 rfl) rfl
theorem q1403 : (Jvm.Cond.methodLink "PretendDesk" (532 : Nat) ({ cls := "PretendDesk", name := "moved", desc := "(III)I" } : Jvm.MethodName)) ∈ lw_all := lw_g (lw_at lw_m6 104 rfl) rfl
theorem q1404 : (Jvm.Cond.static ({ cls := "PretendDesk", name := "moved", desc := "(III)I" } : Jvm.MethodName)) ∈ lw_all := lw_g (lw_at lw_m6 105 rfl) rfl
theorem q1405 : (Jvm.Cond.code ({ cls := "PretendDesk", name := "moved", desc := "(III)I" } : Jvm.MethodName) prog_1_method_88_code (7 : Nat) (Option.some Jvm.ClassFile.FieldType.int)) ∈ lw_all := lw_g (lw_at lw_m6 106 rfl) rfl
theorem q1406 : (Jvm.Cond.methodLink "PretendDesk" (535 : Nat) ({ cls := "PretendDesk", name := "turned", desc := "(I)I" } : Jvm.MethodName)) ∈ lw_all := lw_g (lw_at lw_m6 107 rfl) rfl
theorem q1407 : (Jvm.Cond.static ({ cls := "PretendDesk", name := "turned", desc := "(I)I" } : Jvm.MethodName)) ∈ lw_all := lw_g (lw_at lw_m6 108 rfl) rfl
theorem q1408 : (Jvm.Cond.code ({ cls := "PretendDesk", name := "turned", desc := "(I)I" } : Jvm.MethodName) prog_1_method_87_code (3 : Nat) (Option.some Jvm.ClassFile.FieldType.int)) ∈ lw_all := lw_g (lw_at lw_m6 109 rfl) rfl
theorem q1410 : (Jvm.Cond.instanceMethod ({ cls := "PretendDesk", name := "near", desc := "(I)I" } : Jvm.MethodName)) ∈ lw_all := lw_g (lw_at lw_m6 111 rfl) rfl
theorem q1411 : (Jvm.Cond.selects "PretendDesk" ({ cls := "PretendDesk", name := "near", desc := "(I)I" } : Jvm.MethodName) ({ cls := "PretendDesk", name := "near", desc := "(I)I" } : Jvm.MethodName)) ∈ lw_all := lw_g (lw_at lw_m6 112 rfl) rfl
theorem q1412 : (Jvm.Cond.code ({ cls := "PretendDesk", name := "near", desc := "(I)I" } : Jvm.MethodName) prog_1_method_91_code (4 : Nat) (Option.some Jvm.ClassFile.FieldType.int)) ∈ lw_all := lw_g (lw_at lw_m6 113 rfl) rfl
theorem q1414 : (Jvm.Cond.instanceMethod ({ cls := "PretendDesk", name := "count", desc := "(I)I" } : Jvm.MethodName)) ∈ lw_all := lw_g (lw_at lw_m6 115 rfl) rfl
theorem q1415 : (Jvm.Cond.selects "PretendDesk" ({ cls := "PretendDesk", name := "count", desc := "(I)I" } : Jvm.MethodName) ({ cls := "PretendDesk", name := "count", desc := "(I)I" } : Jvm.MethodName)) ∈ lw_all := lw_g (lw_at lw_m6 116 rfl) rfl
theorem q1416 : (Jvm.Cond.code ({ cls := "PretendDesk", name := "count", desc := "(I)I" } : Jvm.MethodName) prog_1_method_92_code (2 : Nat) (Option.some Jvm.ClassFile.FieldType.int)) ∈ lw_all := lw_g (lw_at lw_m6 117 rfl) rfl
theorem q1418 : (Jvm.Cond.instanceMethod ({ cls := "PretendDesk", name := "image", desc := "(I)Z" } : Jvm.MethodName)) ∈ lw_all := lw_g (lw_at lw_m6 119 rfl) rfl
theorem q1419 : (Jvm.Cond.selects "PretendDesk" ({ cls := "PretendDesk", name := "image", desc := "(I)Z" } : Jvm.MethodName) ({ cls := "PretendDesk", name := "image", desc := "(I)Z" } : Jvm.MethodName)) ∈ lw_all := lw_g (lw_at lw_m6 120 rfl) rfl
theorem q1420 : (Jvm.Cond.code ({ cls := "PretendDesk", name := "image", desc := "(I)Z" } : Jvm.MethodName) prog_1_method_93_code (2 : Nat) (Option.some Jvm.ClassFile.FieldType.boolean)) ∈ lw_all := lw_g (lw_at lw_m6 121 rfl) rfl
theorem q1421 : (Jvm.Cond.methodLink "PretendDesk" (541 : Nat) ({ cls := "PretendDesk$Desk", name := "<init>", desc := "(LPretendDesk$Desk;)V" } : Jvm.MethodName)) ∈ lw_all := lw_g (lw_at lw_m6 122 rfl) rfl
theorem q1434 : (Jvm.Cond.instanceMethod ({ cls := "PretendDesk", name := "again", desc := "(I)Z" } : Jvm.MethodName)) ∈ lw_all := lw_g (lw_at lw_m6 135 rfl) rfl
theorem q1435 : (Jvm.Cond.selects "PretendDesk" ({ cls := "PretendDesk", name := "again", desc := "(I)Z" } : Jvm.MethodName) ({ cls := "PretendDesk", name := "again", desc := "(I)Z" } : Jvm.MethodName)) ∈ lw_all := lw_g (lw_at lw_m6 136 rfl) rfl
theorem q1436 : (Jvm.Cond.code ({ cls := "PretendDesk", name := "again", desc := "(I)Z" } : Jvm.MethodName) prog_1_method_94_code (2 : Nat) (Option.some Jvm.ClassFile.FieldType.boolean)) ∈ lw_all := lw_g (lw_at lw_m6 137 rfl) rfl
theorem in_X0 : ∀ w ∈ wsX00, w ∈ lw_all := lw_in wsX00 [418, 420, 422, 424, 426, 428, 430, 432, 434, 436, 438, 440, 442, 444, 446, 448, 450] (by decide +kernel) (by decide +kernel)
