/-! PretendDeskModel -/
set_option maxRecDepth 100000
def RX7 : String := "PretendDeskModel"
def TX7 : u_T := fun k => match k with
  | 0 => ("PretendDeskModel", "all", "[I", true)
  | 1 => ("PretendDeskModel", "has", "[Z", true)
  | 2 => ("PretendDeskModel", "size", "I", false)
  | 3 => ("PretendDeskModel", "next", "I", false)
  | 4 => ("PretendDeskModel", "where", "I", false)
  | 5 => ("PretendDeskModel", "token", "I", false)
  | 6 => ("PretendDeskModel", "number", "I", false)
  | 7 => ("PretendDeskModel", "sign", "I", false)
  | 8 => ("PretendDeskModel", "word", "I", false)
  | 9 => ("PretendDeskModel", "wrong", "Z", false)
  | 10 => ("PretendDeskModel", "boxes", "I", false)
  | 11 => ("PretendDeskModel", "depth", "I", false)
  | 12 => ("PretendDeskModel", "within", "[I", true)
  | 13 => ("PretendDeskModel", "read", "[I", true)
  | 14 => ("PretendDeskModel", "spelled", "[I", true)
  | 15 => ("PretendDeskModel", "tree", "I", false)
  | 16 => ("PretendDeskModel", "gone", "[Z", true)
  | 17 => ("PretendDeskModel", "colour", "[I", true)
  | 18 => ("PretendDeskModel", "shown", "[Z", true)
  | 19 => ("PretendDeskModel", "over", "[I", true)
  | 20 => ("PretendDeskModel", "stack", "[I", true)
  | 21 => ("PretendDeskModel", "begun", "[I", true)
  | 22 => ("PretendDeskModel", "many", "[I", true)
  | 23 => ("PretendDeskModel", "kinds", "[I", true)
  | 24 => ("PretendDeskModel", "colours", "[I", true)
  | 25 => ("PretendDeskModel", "first", "[I", true)
  | 26 => ("PretendDeskModel", "opened", "I", false)
  | 27 => ("PretendDeskModel", "asked", "I", false)
  | 28 => ("PretendDeskModel", "apart", "[I", true)
  | 29 => ("PretendDeskModel", "row", "[I", true)
  | 30 => ("PretendDeskModel", "likeLook", "I", false)
  | 31 => ("PretendDeskModel", "likeIs", "I", false)
  | 32 => ("PretendDeskModel", "lookIs", "I", false)
  | 33 => ("PretendDeskModel", "askIs", "I", false)
  | 34 => ("PretendDeskModel", "isElsewhere", "Z", false)
  | 35 => ("PretendDeskModel", "caseLook", "[I", true)
  | 36 => ("PretendDeskModel", "caseAsk", "[I", true)
  | 37 => ("PretendDeskModel", "caseAge", "[I", true)
  | 38 => ("PretendDeskModel", "told", "[I", true)
  | 39 => ("PretendDeskModel", "fitted", "[I", true)
  | 40 => ("PretendDeskModel", "waits", "I", false)
  | 41 => ("PretendDeskModel", "priceNow", "I", false)
  | 42 => ("PretendDeskModel", "lines", "I", false)
  | 43 => ("PretendDeskModel", "line", "[I", true)
  | 44 => ("PretendDeskModel", "register", "[I", true)
  | 45 => ("PretendDeskModel", "traces", "[I", true)
  | 46 => ("PretendDeskModel", "come", "[I", true)
  | 47 => ("PretendDeskModel", "relays", "I", false)
  | _ => ("PretendDeskModel", "meant", "I", false)
def tyX7 : Nat → FieldType := fun k => match k with
  | 0 => .array .int
  | 1 => .array .boolean
  | 2 => .int
  | 3 => .int
  | 4 => .int
  | 5 => .int
  | 6 => .int
  | 7 => .int
  | 8 => .int
  | 9 => .boolean
  | 10 => .int
  | 11 => .int
  | 12 => .array .int
  | 13 => .array .int
  | 14 => .array .int
  | 15 => .int
  | 16 => .array .boolean
  | 17 => .array .int
  | 18 => .array .boolean
  | 19 => .array .int
  | 20 => .array .int
  | 21 => .array .int
  | 22 => .array .int
  | 23 => .array .int
  | 24 => .array .int
  | 25 => .array .int
  | 26 => .int
  | 27 => .int
  | 28 => .array .int
  | 29 => .array .int
  | 30 => .int
  | 31 => .int
  | 32 => .int
  | 33 => .int
  | 34 => .boolean
  | 35 => .array .int
  | 36 => .array .int
  | 37 => .array .int
  | 38 => .array .int
  | 39 => .array .int
  | 40 => .int
  | 41 => .int
  | 42 => .int
  | 43 => .array .int
  | 44 => .array .int
  | 45 => .array .int
  | 46 => .array .int
  | 47 => .int
  | _ => .int
abbrev wsX70 : List Cond := u_ws RX7 TX7 49
set_option maxRecDepth 100000 in
theorem nmX7 : ∀ a, a < 49 → ∀ b, b < 49 → a ≠ b → (TX7 a).2.1 ≠ (TX7 b).2.1 := by decide +kernel
set_option maxRecDepth 100000 in
theorem tyX7_ok : ∀ k, k < 49 → parseFieldDescriptor (TX7 k).2.2.1 = some (tyX7 k) := by decide +kernel
abbrev cX7_init : ByteArray := prog_21_method_1_code
def yX7_init : MethodName := ⟨RX7, "<init>", "()V"⟩
def dkwX7_init_11 : List UInt8 := [16, 13, 16, 60, 79, 42, 180, 0, 7, 16, 14, 16, 70, 79, 177]
abbrev dktX7_init_11 : List UInt8 := dkwX7_init_11 ++ []
def dkwX7_init_10 : List UInt8 := [16, 40, 79, 42, 180, 0, 7, 8, 16, 30, 79, 42, 180, 0, 7, 16, 12, 16, 50, 79, 42, 180, 0, 7]
abbrev dktX7_init_10 : List UInt8 := dkwX7_init_10 ++ dktX7_init_11
def dkwX7_init_9 : List UInt8 := [181, 0, 86, 42, 180, 0, 7, 16, 8, 2, 79, 42, 180, 0, 7, 6, 16, 10, 79, 42, 180, 0, 7, 7]
abbrev dktX7_init_9 : List UInt8 := dkwX7_init_9 ++ dktX7_init_10
def dkwX7_init_8 : List UInt8 := [181, 0, 77, 42, 16, 6, 188, 10, 181, 0, 80, 42, 16, 6, 188, 10, 181, 0, 83, 42, 16, 10, 188, 10]
abbrev dktX7_init_8 : List UInt8 := dkwX7_init_8 ++ dktX7_init_9
def dkwX7_init_7 : List UInt8 := [181, 0, 68, 42, 6, 188, 10, 181, 0, 71, 42, 8, 188, 10, 181, 0, 74, 42, 16, 80, 188, 10]
abbrev dktX7_init_7 : List UInt8 := dkwX7_init_7 ++ dktX7_init_8
def dkwX7_init_6 : List UInt8 := [181, 0, 59, 42, 16, 16, 188, 10, 181, 0, 62, 42, 16, 16, 188, 10, 181, 0, 65, 42, 16, 16, 188, 10]
abbrev dktX7_init_6 : List UInt8 := dkwX7_init_6 ++ dktX7_init_7
def dkwX7_init_5 : List UInt8 := [16, 32, 188, 10, 181, 0, 53, 42, 17, 1, 0, 188, 10, 181, 0, 56, 42, 17, 1, 33, 188, 10]
abbrev dktX7_init_5 : List UInt8 := dkwX7_init_5 ++ dktX7_init_6
def dkwX7_init_4 : List UInt8 := [5, 188, 10, 181, 0, 44, 42, 16, 32, 188, 10, 181, 0, 47, 42, 16, 32, 188, 10, 181, 0, 50, 42]
abbrev dktX7_init_4 : List UInt8 := dkwX7_init_4 ++ dktX7_init_5
def dkwX7_init_3 : List UInt8 := [16, 14, 188, 10, 181, 0, 35, 42, 16, 14, 188, 10, 181, 0, 38, 42, 16, 14, 188, 10, 181, 0, 41, 42]
abbrev dktX7_init_3 : List UInt8 := dkwX7_init_3 ++ dktX7_init_4
def dkwX7_init_2 : List UInt8 := [16, 14, 188, 4, 181, 0, 26, 42, 16, 14, 188, 10, 181, 0, 29, 42, 16, 14, 188, 4, 181, 0, 32, 42]
abbrev dktX7_init_2 : List UInt8 := dkwX7_init_2 ++ dktX7_init_3
def dkwX7_init_1 : List UInt8 := [188, 10, 181, 0, 17, 42, 16, 72, 188, 10, 181, 0, 20, 42, 17, 0, 169, 188, 10, 181, 0, 23, 42]
abbrev dktX7_init_1 : List UInt8 := dkwX7_init_1 ++ dktX7_init_2
def dkwX7_init_0 : List UInt8 := [42, 183, 0, 1, 42, 17, 86, 64, 188, 10, 181, 0, 7, 42, 6, 188, 4, 181, 0, 13, 42, 16, 8]
abbrev dktX7_init_0 : List UInt8 := dkwX7_init_0 ++ dktX7_init_1
theorem dksX7_init_0 : cX7_init.data.toList.drop 0 = dktX7_init_0 := by decide +kernel
theorem dksX7_init_1 : cX7_init.data.toList.drop 23 = dktX7_init_1 := dk_seg dksX7_init_0 23 rfl rfl
theorem dksX7_init_2 : cX7_init.data.toList.drop 46 = dktX7_init_2 := dk_seg dksX7_init_1 23 rfl rfl
theorem dksX7_init_3 : cX7_init.data.toList.drop 70 = dktX7_init_3 := dk_seg dksX7_init_2 24 rfl rfl
theorem dksX7_init_4 : cX7_init.data.toList.drop 94 = dktX7_init_4 := dk_seg dksX7_init_3 24 rfl rfl
theorem dksX7_init_5 : cX7_init.data.toList.drop 117 = dktX7_init_5 := dk_seg dksX7_init_4 23 rfl rfl
theorem dksX7_init_6 : cX7_init.data.toList.drop 139 = dktX7_init_6 := dk_seg dksX7_init_5 22 rfl rfl
theorem dksX7_init_7 : cX7_init.data.toList.drop 163 = dktX7_init_7 := dk_seg dksX7_init_6 24 rfl rfl
theorem dksX7_init_8 : cX7_init.data.toList.drop 185 = dktX7_init_8 := dk_seg dksX7_init_7 22 rfl rfl
theorem dksX7_init_9 : cX7_init.data.toList.drop 209 = dktX7_init_9 := dk_seg dksX7_init_8 24 rfl rfl
theorem dksX7_init_10 : cX7_init.data.toList.drop 233 = dktX7_init_10 := dk_seg dksX7_init_9 24 rfl rfl
theorem dksX7_init_11 : cX7_init.data.toList.drop 257 = dktX7_init_11 := dk_seg dksX7_init_10 24 rfl rfl
theorem dX7_init_0 : decode cX7_init 0 = .ok (.aload_n 0, 1) := dk_42 (dk_at dksX7_init_0 0 rfl rfl)
theorem dX7_init_1 : decode cX7_init 1 = .ok (.invokespecial 1, 3) := dk_183 0 1 (dk_at dksX7_init_0 1 rfl rfl)
theorem dX7_init_4 : decode cX7_init 4 = .ok (.aload_n 0, 1) := dk_42 (dk_at dksX7_init_0 4 rfl rfl)
theorem dX7_init_5 : decode cX7_init 5 = .ok (.sipush 22080, 3) := dk_17 86 64 (dk_at dksX7_init_0 5 rfl rfl)
theorem dX7_init_8 : decode cX7_init 8 = .ok (.newarray .int, 2) := dk_188_10 (dk_at dksX7_init_0 8 rfl rfl)
theorem dX7_init_10 : decode cX7_init 10 = .ok (.putfield 7, 3) := dk_181 0 7 (dk_at dksX7_init_0 10 rfl rfl)
theorem dX7_init_13 : decode cX7_init 13 = .ok (.aload_n 0, 1) := dk_42 (dk_at dksX7_init_0 13 rfl rfl)
theorem dX7_init_14 : decode cX7_init 14 = .ok (.iconst 3, 1) := dk_6 (dk_at dksX7_init_0 14 rfl rfl)
theorem dX7_init_15 : decode cX7_init 15 = .ok (.newarray .boolean, 2) := dk_188_4 (dk_at dksX7_init_0 15 rfl rfl)
theorem dX7_init_17 : decode cX7_init 17 = .ok (.putfield 13, 3) := dk_181 0 13 (dk_at dksX7_init_0 17 rfl rfl)
theorem dX7_init_20 : decode cX7_init 20 = .ok (.aload_n 0, 1) := dk_42 (dk_at dksX7_init_0 20 rfl rfl)
theorem dX7_init_21 : decode cX7_init 21 = .ok (.bipush 8, 2) := dk_16 8 (dk_at dksX7_init_0 21 rfl rfl)
theorem dX7_init_23 : decode cX7_init 23 = .ok (.newarray .int, 2) := dk_188_10 (dk_at dksX7_init_1 0 rfl rfl)
theorem dX7_init_25 : decode cX7_init 25 = .ok (.putfield 17, 3) := dk_181 0 17 (dk_at dksX7_init_1 2 rfl rfl)
theorem dX7_init_28 : decode cX7_init 28 = .ok (.aload_n 0, 1) := dk_42 (dk_at dksX7_init_1 5 rfl rfl)
theorem dX7_init_29 : decode cX7_init 29 = .ok (.bipush 72, 2) := dk_16 72 (dk_at dksX7_init_1 6 rfl rfl)
theorem dX7_init_31 : decode cX7_init 31 = .ok (.newarray .int, 2) := dk_188_10 (dk_at dksX7_init_1 8 rfl rfl)
theorem dX7_init_33 : decode cX7_init 33 = .ok (.putfield 20, 3) := dk_181 0 20 (dk_at dksX7_init_1 10 rfl rfl)
theorem dX7_init_36 : decode cX7_init 36 = .ok (.aload_n 0, 1) := dk_42 (dk_at dksX7_init_1 13 rfl rfl)
theorem dX7_init_37 : decode cX7_init 37 = .ok (.sipush 169, 3) := dk_17 0 169 (dk_at dksX7_init_1 14 rfl rfl)
theorem dX7_init_40 : decode cX7_init 40 = .ok (.newarray .int, 2) := dk_188_10 (dk_at dksX7_init_1 17 rfl rfl)
theorem dX7_init_42 : decode cX7_init 42 = .ok (.putfield 23, 3) := dk_181 0 23 (dk_at dksX7_init_1 19 rfl rfl)
theorem dX7_init_45 : decode cX7_init 45 = .ok (.aload_n 0, 1) := dk_42 (dk_at dksX7_init_1 22 rfl rfl)
theorem dX7_init_46 : decode cX7_init 46 = .ok (.bipush 14, 2) := dk_16 14 (dk_at dksX7_init_2 0 rfl rfl)
theorem dX7_init_48 : decode cX7_init 48 = .ok (.newarray .boolean, 2) := dk_188_4 (dk_at dksX7_init_2 2 rfl rfl)
theorem dX7_init_50 : decode cX7_init 50 = .ok (.putfield 26, 3) := dk_181 0 26 (dk_at dksX7_init_2 4 rfl rfl)
theorem dX7_init_53 : decode cX7_init 53 = .ok (.aload_n 0, 1) := dk_42 (dk_at dksX7_init_2 7 rfl rfl)
theorem dX7_init_54 : decode cX7_init 54 = .ok (.bipush 14, 2) := dk_16 14 (dk_at dksX7_init_2 8 rfl rfl)
theorem dX7_init_56 : decode cX7_init 56 = .ok (.newarray .int, 2) := dk_188_10 (dk_at dksX7_init_2 10 rfl rfl)
theorem dX7_init_58 : decode cX7_init 58 = .ok (.putfield 29, 3) := dk_181 0 29 (dk_at dksX7_init_2 12 rfl rfl)
theorem dX7_init_61 : decode cX7_init 61 = .ok (.aload_n 0, 1) := dk_42 (dk_at dksX7_init_2 15 rfl rfl)
theorem dX7_init_62 : decode cX7_init 62 = .ok (.bipush 14, 2) := dk_16 14 (dk_at dksX7_init_2 16 rfl rfl)
theorem dX7_init_64 : decode cX7_init 64 = .ok (.newarray .boolean, 2) := dk_188_4 (dk_at dksX7_init_2 18 rfl rfl)
theorem dX7_init_66 : decode cX7_init 66 = .ok (.putfield 32, 3) := dk_181 0 32 (dk_at dksX7_init_2 20 rfl rfl)
theorem dX7_init_69 : decode cX7_init 69 = .ok (.aload_n 0, 1) := dk_42 (dk_at dksX7_init_2 23 rfl rfl)
theorem dX7_init_70 : decode cX7_init 70 = .ok (.bipush 14, 2) := dk_16 14 (dk_at dksX7_init_3 0 rfl rfl)
theorem dX7_init_72 : decode cX7_init 72 = .ok (.newarray .int, 2) := dk_188_10 (dk_at dksX7_init_3 2 rfl rfl)
theorem dX7_init_74 : decode cX7_init 74 = .ok (.putfield 35, 3) := dk_181 0 35 (dk_at dksX7_init_3 4 rfl rfl)
theorem dX7_init_77 : decode cX7_init 77 = .ok (.aload_n 0, 1) := dk_42 (dk_at dksX7_init_3 7 rfl rfl)
theorem dX7_init_78 : decode cX7_init 78 = .ok (.bipush 14, 2) := dk_16 14 (dk_at dksX7_init_3 8 rfl rfl)
theorem dX7_init_80 : decode cX7_init 80 = .ok (.newarray .int, 2) := dk_188_10 (dk_at dksX7_init_3 10 rfl rfl)
theorem dX7_init_82 : decode cX7_init 82 = .ok (.putfield 38, 3) := dk_181 0 38 (dk_at dksX7_init_3 12 rfl rfl)
theorem dX7_init_85 : decode cX7_init 85 = .ok (.aload_n 0, 1) := dk_42 (dk_at dksX7_init_3 15 rfl rfl)
theorem dX7_init_86 : decode cX7_init 86 = .ok (.bipush 14, 2) := dk_16 14 (dk_at dksX7_init_3 16 rfl rfl)
theorem dX7_init_88 : decode cX7_init 88 = .ok (.newarray .int, 2) := dk_188_10 (dk_at dksX7_init_3 18 rfl rfl)
theorem dX7_init_90 : decode cX7_init 90 = .ok (.putfield 41, 3) := dk_181 0 41 (dk_at dksX7_init_3 20 rfl rfl)
theorem dX7_init_93 : decode cX7_init 93 = .ok (.aload_n 0, 1) := dk_42 (dk_at dksX7_init_3 23 rfl rfl)
theorem dX7_init_94 : decode cX7_init 94 = .ok (.iconst 2, 1) := dk_5 (dk_at dksX7_init_4 0 rfl rfl)
theorem dX7_init_95 : decode cX7_init 95 = .ok (.newarray .int, 2) := dk_188_10 (dk_at dksX7_init_4 1 rfl rfl)
theorem dX7_init_97 : decode cX7_init 97 = .ok (.putfield 44, 3) := dk_181 0 44 (dk_at dksX7_init_4 3 rfl rfl)
theorem dX7_init_100 : decode cX7_init 100 = .ok (.aload_n 0, 1) := dk_42 (dk_at dksX7_init_4 6 rfl rfl)
theorem dX7_init_101 : decode cX7_init 101 = .ok (.bipush 32, 2) := dk_16 32 (dk_at dksX7_init_4 7 rfl rfl)
theorem dX7_init_103 : decode cX7_init 103 = .ok (.newarray .int, 2) := dk_188_10 (dk_at dksX7_init_4 9 rfl rfl)
theorem dX7_init_105 : decode cX7_init 105 = .ok (.putfield 47, 3) := dk_181 0 47 (dk_at dksX7_init_4 11 rfl rfl)
theorem dX7_init_108 : decode cX7_init 108 = .ok (.aload_n 0, 1) := dk_42 (dk_at dksX7_init_4 14 rfl rfl)
theorem dX7_init_109 : decode cX7_init 109 = .ok (.bipush 32, 2) := dk_16 32 (dk_at dksX7_init_4 15 rfl rfl)
theorem dX7_init_111 : decode cX7_init 111 = .ok (.newarray .int, 2) := dk_188_10 (dk_at dksX7_init_4 17 rfl rfl)
theorem dX7_init_113 : decode cX7_init 113 = .ok (.putfield 50, 3) := dk_181 0 50 (dk_at dksX7_init_4 19 rfl rfl)
theorem dX7_init_116 : decode cX7_init 116 = .ok (.aload_n 0, 1) := dk_42 (dk_at dksX7_init_4 22 rfl rfl)
theorem dX7_init_117 : decode cX7_init 117 = .ok (.bipush 32, 2) := dk_16 32 (dk_at dksX7_init_5 0 rfl rfl)
theorem dX7_init_119 : decode cX7_init 119 = .ok (.newarray .int, 2) := dk_188_10 (dk_at dksX7_init_5 2 rfl rfl)
theorem dX7_init_121 : decode cX7_init 121 = .ok (.putfield 53, 3) := dk_181 0 53 (dk_at dksX7_init_5 4 rfl rfl)
theorem dX7_init_124 : decode cX7_init 124 = .ok (.aload_n 0, 1) := dk_42 (dk_at dksX7_init_5 7 rfl rfl)
theorem dX7_init_125 : decode cX7_init 125 = .ok (.sipush 256, 3) := dk_17 1 0 (dk_at dksX7_init_5 8 rfl rfl)
theorem dX7_init_128 : decode cX7_init 128 = .ok (.newarray .int, 2) := dk_188_10 (dk_at dksX7_init_5 11 rfl rfl)
theorem dX7_init_130 : decode cX7_init 130 = .ok (.putfield 56, 3) := dk_181 0 56 (dk_at dksX7_init_5 13 rfl rfl)
theorem dX7_init_133 : decode cX7_init 133 = .ok (.aload_n 0, 1) := dk_42 (dk_at dksX7_init_5 16 rfl rfl)
theorem dX7_init_134 : decode cX7_init 134 = .ok (.sipush 289, 3) := dk_17 1 33 (dk_at dksX7_init_5 17 rfl rfl)
theorem dX7_init_137 : decode cX7_init 137 = .ok (.newarray .int, 2) := dk_188_10 (dk_at dksX7_init_5 20 rfl rfl)
theorem dX7_init_139 : decode cX7_init 139 = .ok (.putfield 59, 3) := dk_181 0 59 (dk_at dksX7_init_6 0 rfl rfl)
theorem dX7_init_142 : decode cX7_init 142 = .ok (.aload_n 0, 1) := dk_42 (dk_at dksX7_init_6 3 rfl rfl)
theorem dX7_init_143 : decode cX7_init 143 = .ok (.bipush 16, 2) := dk_16 16 (dk_at dksX7_init_6 4 rfl rfl)
theorem dX7_init_145 : decode cX7_init 145 = .ok (.newarray .int, 2) := dk_188_10 (dk_at dksX7_init_6 6 rfl rfl)
theorem dX7_init_147 : decode cX7_init 147 = .ok (.putfield 62, 3) := dk_181 0 62 (dk_at dksX7_init_6 8 rfl rfl)
theorem dX7_init_150 : decode cX7_init 150 = .ok (.aload_n 0, 1) := dk_42 (dk_at dksX7_init_6 11 rfl rfl)
theorem dX7_init_151 : decode cX7_init 151 = .ok (.bipush 16, 2) := dk_16 16 (dk_at dksX7_init_6 12 rfl rfl)
theorem dX7_init_153 : decode cX7_init 153 = .ok (.newarray .int, 2) := dk_188_10 (dk_at dksX7_init_6 14 rfl rfl)
theorem dX7_init_155 : decode cX7_init 155 = .ok (.putfield 65, 3) := dk_181 0 65 (dk_at dksX7_init_6 16 rfl rfl)
theorem dX7_init_158 : decode cX7_init 158 = .ok (.aload_n 0, 1) := dk_42 (dk_at dksX7_init_6 19 rfl rfl)
theorem dX7_init_159 : decode cX7_init 159 = .ok (.bipush 16, 2) := dk_16 16 (dk_at dksX7_init_6 20 rfl rfl)
theorem dX7_init_161 : decode cX7_init 161 = .ok (.newarray .int, 2) := dk_188_10 (dk_at dksX7_init_6 22 rfl rfl)
theorem dX7_init_163 : decode cX7_init 163 = .ok (.putfield 68, 3) := dk_181 0 68 (dk_at dksX7_init_7 0 rfl rfl)
theorem dX7_init_166 : decode cX7_init 166 = .ok (.aload_n 0, 1) := dk_42 (dk_at dksX7_init_7 3 rfl rfl)
theorem dX7_init_167 : decode cX7_init 167 = .ok (.iconst 3, 1) := dk_6 (dk_at dksX7_init_7 4 rfl rfl)
theorem dX7_init_168 : decode cX7_init 168 = .ok (.newarray .int, 2) := dk_188_10 (dk_at dksX7_init_7 5 rfl rfl)
theorem dX7_init_170 : decode cX7_init 170 = .ok (.putfield 71, 3) := dk_181 0 71 (dk_at dksX7_init_7 7 rfl rfl)
theorem dX7_init_173 : decode cX7_init 173 = .ok (.aload_n 0, 1) := dk_42 (dk_at dksX7_init_7 10 rfl rfl)
theorem dX7_init_174 : decode cX7_init 174 = .ok (.iconst 5, 1) := dk_8 (dk_at dksX7_init_7 11 rfl rfl)
theorem dX7_init_175 : decode cX7_init 175 = .ok (.newarray .int, 2) := dk_188_10 (dk_at dksX7_init_7 12 rfl rfl)
theorem dX7_init_177 : decode cX7_init 177 = .ok (.putfield 74, 3) := dk_181 0 74 (dk_at dksX7_init_7 14 rfl rfl)
theorem dX7_init_180 : decode cX7_init 180 = .ok (.aload_n 0, 1) := dk_42 (dk_at dksX7_init_7 17 rfl rfl)
theorem dX7_init_181 : decode cX7_init 181 = .ok (.bipush 80, 2) := dk_16 80 (dk_at dksX7_init_7 18 rfl rfl)
theorem dX7_init_183 : decode cX7_init 183 = .ok (.newarray .int, 2) := dk_188_10 (dk_at dksX7_init_7 20 rfl rfl)
theorem dX7_init_185 : decode cX7_init 185 = .ok (.putfield 77, 3) := dk_181 0 77 (dk_at dksX7_init_8 0 rfl rfl)
theorem dX7_init_188 : decode cX7_init 188 = .ok (.aload_n 0, 1) := dk_42 (dk_at dksX7_init_8 3 rfl rfl)
theorem dX7_init_189 : decode cX7_init 189 = .ok (.bipush 6, 2) := dk_16 6 (dk_at dksX7_init_8 4 rfl rfl)
theorem dX7_init_191 : decode cX7_init 191 = .ok (.newarray .int, 2) := dk_188_10 (dk_at dksX7_init_8 6 rfl rfl)
theorem dX7_init_193 : decode cX7_init 193 = .ok (.putfield 80, 3) := dk_181 0 80 (dk_at dksX7_init_8 8 rfl rfl)
theorem dX7_init_196 : decode cX7_init 196 = .ok (.aload_n 0, 1) := dk_42 (dk_at dksX7_init_8 11 rfl rfl)
theorem dX7_init_197 : decode cX7_init 197 = .ok (.bipush 6, 2) := dk_16 6 (dk_at dksX7_init_8 12 rfl rfl)
theorem dX7_init_199 : decode cX7_init 199 = .ok (.newarray .int, 2) := dk_188_10 (dk_at dksX7_init_8 14 rfl rfl)
theorem dX7_init_201 : decode cX7_init 201 = .ok (.putfield 83, 3) := dk_181 0 83 (dk_at dksX7_init_8 16 rfl rfl)
theorem dX7_init_204 : decode cX7_init 204 = .ok (.aload_n 0, 1) := dk_42 (dk_at dksX7_init_8 19 rfl rfl)
theorem dX7_init_205 : decode cX7_init 205 = .ok (.bipush 10, 2) := dk_16 10 (dk_at dksX7_init_8 20 rfl rfl)
theorem dX7_init_207 : decode cX7_init 207 = .ok (.newarray .int, 2) := dk_188_10 (dk_at dksX7_init_8 22 rfl rfl)
theorem dX7_init_209 : decode cX7_init 209 = .ok (.putfield 86, 3) := dk_181 0 86 (dk_at dksX7_init_9 0 rfl rfl)
theorem dX7_init_212 : decode cX7_init 212 = .ok (.aload_n 0, 1) := dk_42 (dk_at dksX7_init_9 3 rfl rfl)
theorem dX7_init_213 : decode cX7_init 213 = .ok (.getfield 7, 3) := dk_180 0 7 (dk_at dksX7_init_9 4 rfl rfl)
theorem dX7_init_216 : decode cX7_init 216 = .ok (.bipush 8, 2) := dk_16 8 (dk_at dksX7_init_9 7 rfl rfl)
theorem dX7_init_218 : decode cX7_init 218 = .ok (.iconst (-1), 1) := dk_2 (dk_at dksX7_init_9 9 rfl rfl)
theorem dX7_init_219 : decode cX7_init 219 = .ok (.iastore, 1) := dk_79 (dk_at dksX7_init_9 10 rfl rfl)
theorem dX7_init_220 : decode cX7_init 220 = .ok (.aload_n 0, 1) := dk_42 (dk_at dksX7_init_9 11 rfl rfl)
theorem dX7_init_221 : decode cX7_init 221 = .ok (.getfield 7, 3) := dk_180 0 7 (dk_at dksX7_init_9 12 rfl rfl)
theorem dX7_init_224 : decode cX7_init 224 = .ok (.iconst 3, 1) := dk_6 (dk_at dksX7_init_9 15 rfl rfl)
theorem dX7_init_225 : decode cX7_init 225 = .ok (.bipush 10, 2) := dk_16 10 (dk_at dksX7_init_9 16 rfl rfl)
theorem dX7_init_227 : decode cX7_init 227 = .ok (.iastore, 1) := dk_79 (dk_at dksX7_init_9 18 rfl rfl)
theorem dX7_init_228 : decode cX7_init 228 = .ok (.aload_n 0, 1) := dk_42 (dk_at dksX7_init_9 19 rfl rfl)
theorem dX7_init_229 : decode cX7_init 229 = .ok (.getfield 7, 3) := dk_180 0 7 (dk_at dksX7_init_9 20 rfl rfl)
theorem dX7_init_232 : decode cX7_init 232 = .ok (.iconst 4, 1) := dk_7 (dk_at dksX7_init_9 23 rfl rfl)
theorem dX7_init_233 : decode cX7_init 233 = .ok (.bipush 40, 2) := dk_16 40 (dk_at dksX7_init_10 0 rfl rfl)
theorem dX7_init_235 : decode cX7_init 235 = .ok (.iastore, 1) := dk_79 (dk_at dksX7_init_10 2 rfl rfl)
theorem dX7_init_236 : decode cX7_init 236 = .ok (.aload_n 0, 1) := dk_42 (dk_at dksX7_init_10 3 rfl rfl)
theorem dX7_init_237 : decode cX7_init 237 = .ok (.getfield 7, 3) := dk_180 0 7 (dk_at dksX7_init_10 4 rfl rfl)
theorem dX7_init_240 : decode cX7_init 240 = .ok (.iconst 5, 1) := dk_8 (dk_at dksX7_init_10 7 rfl rfl)
theorem dX7_init_241 : decode cX7_init 241 = .ok (.bipush 30, 2) := dk_16 30 (dk_at dksX7_init_10 8 rfl rfl)
theorem dX7_init_243 : decode cX7_init 243 = .ok (.iastore, 1) := dk_79 (dk_at dksX7_init_10 10 rfl rfl)
theorem dX7_init_244 : decode cX7_init 244 = .ok (.aload_n 0, 1) := dk_42 (dk_at dksX7_init_10 11 rfl rfl)
theorem dX7_init_245 : decode cX7_init 245 = .ok (.getfield 7, 3) := dk_180 0 7 (dk_at dksX7_init_10 12 rfl rfl)
theorem dX7_init_248 : decode cX7_init 248 = .ok (.bipush 12, 2) := dk_16 12 (dk_at dksX7_init_10 15 rfl rfl)
theorem dX7_init_250 : decode cX7_init 250 = .ok (.bipush 50, 2) := dk_16 50 (dk_at dksX7_init_10 17 rfl rfl)
theorem dX7_init_252 : decode cX7_init 252 = .ok (.iastore, 1) := dk_79 (dk_at dksX7_init_10 19 rfl rfl)
theorem dX7_init_253 : decode cX7_init 253 = .ok (.aload_n 0, 1) := dk_42 (dk_at dksX7_init_10 20 rfl rfl)
theorem dX7_init_254 : decode cX7_init 254 = .ok (.getfield 7, 3) := dk_180 0 7 (dk_at dksX7_init_10 21 rfl rfl)
theorem dX7_init_257 : decode cX7_init 257 = .ok (.bipush 13, 2) := dk_16 13 (dk_at dksX7_init_11 0 rfl rfl)
theorem dX7_init_259 : decode cX7_init 259 = .ok (.bipush 60, 2) := dk_16 60 (dk_at dksX7_init_11 2 rfl rfl)
theorem dX7_init_261 : decode cX7_init 261 = .ok (.iastore, 1) := dk_79 (dk_at dksX7_init_11 4 rfl rfl)
theorem dX7_init_262 : decode cX7_init 262 = .ok (.aload_n 0, 1) := dk_42 (dk_at dksX7_init_11 5 rfl rfl)
theorem dX7_init_263 : decode cX7_init 263 = .ok (.getfield 7, 3) := dk_180 0 7 (dk_at dksX7_init_11 6 rfl rfl)
theorem dX7_init_266 : decode cX7_init 266 = .ok (.bipush 14, 2) := dk_16 14 (dk_at dksX7_init_11 9 rfl rfl)
theorem dX7_init_268 : decode cX7_init 268 = .ok (.bipush 70, 2) := dk_16 70 (dk_at dksX7_init_11 11 rfl rfl)
theorem dX7_init_270 : decode cX7_init 270 = .ok (.iastore, 1) := dk_79 (dk_at dksX7_init_11 13 rfl rfl)
theorem dX7_init_271 : decode cX7_init 271 = .ok (.return_, 1) := dk_177 (dk_at dksX7_init_11 14 rfl rfl)
abbrev cX7_feed : ByteArray := prog_21_method_11_code
def yX7_feed : MethodName := ⟨RX7, "feed", "(IIIII)I"⟩
def dkwX7_feed_5 : List UInt8 := [4, 96, 79, 132, 6, 1, 167, 255, 155, 42, 180, 0, 7, 16, 6, 46, 172]
abbrev dktX7_feed_5 : List UInt8 := dkwX7_feed_5 ++ []
def dkwX7_feed_4 : List UInt8 := [16, 24, 16, 8, 21, 6, 7, 112, 104, 100, 122, 17, 0, 255, 126, 79, 42, 180, 0, 7, 16, 6, 92, 46]
abbrev dktX7_feed_4 : List UInt8 := dkwX7_feed_4 ++ dktX7_feed_5
def dkwX7_feed_3 : List UInt8 := [167, 0, 5, 21, 5, 54, 7, 42, 180, 0, 7, 16, 70, 42, 180, 0, 7, 16, 6, 46, 96, 21, 7]
abbrev dktX7_feed_3 : List UInt8 := dkwX7_feed_3 ++ dktX7_feed_4
def dkwX7_feed_2 : List UInt8 := [167, 0, 28, 21, 6, 16, 12, 162, 0, 7, 29, 167, 0, 17, 21, 6, 16, 16, 162, 0, 8, 21, 4]
abbrev dktX7_feed_2 : List UInt8 := dkwX7_feed_2 ++ dktX7_feed_3
def dkwX7_feed_1 : List UInt8 := [16, 20, 162, 0, 100, 21, 6, 7, 162, 0, 7, 27, 167, 0, 39, 21, 6, 16, 8, 162, 0, 7, 28]
abbrev dktX7_feed_1 : List UInt8 := dkwX7_feed_1 ++ dktX7_feed_2
def dkwX7_feed_0 : List UInt8 := [42, 180, 0, 7, 16, 6, 46, 16, 20, 96, 17, 1, 244, 164, 0, 5, 2, 172, 3, 54, 6, 21, 6]
abbrev dktX7_feed_0 : List UInt8 := dkwX7_feed_0 ++ dktX7_feed_1
theorem dksX7_feed_0 : cX7_feed.data.toList.drop 0 = dktX7_feed_0 := by decide +kernel
theorem dksX7_feed_1 : cX7_feed.data.toList.drop 23 = dktX7_feed_1 := dk_seg dksX7_feed_0 23 rfl rfl
theorem dksX7_feed_2 : cX7_feed.data.toList.drop 46 = dktX7_feed_2 := dk_seg dksX7_feed_1 23 rfl rfl
theorem dksX7_feed_3 : cX7_feed.data.toList.drop 69 = dktX7_feed_3 := dk_seg dksX7_feed_2 23 rfl rfl
theorem dksX7_feed_4 : cX7_feed.data.toList.drop 92 = dktX7_feed_4 := dk_seg dksX7_feed_3 23 rfl rfl
theorem dksX7_feed_5 : cX7_feed.data.toList.drop 116 = dktX7_feed_5 := dk_seg dksX7_feed_4 24 rfl rfl
theorem dX7_feed_0 : decode cX7_feed 0 = .ok (.aload_n 0, 1) := dk_42 (dk_at dksX7_feed_0 0 rfl rfl)
theorem dX7_feed_1 : decode cX7_feed 1 = .ok (.getfield 7, 3) := dk_180 0 7 (dk_at dksX7_feed_0 1 rfl rfl)
theorem dX7_feed_4 : decode cX7_feed 4 = .ok (.bipush 6, 2) := dk_16 6 (dk_at dksX7_feed_0 4 rfl rfl)
theorem dX7_feed_6 : decode cX7_feed 6 = .ok (.iaload, 1) := dk_46 (dk_at dksX7_feed_0 6 rfl rfl)
theorem dX7_feed_7 : decode cX7_feed 7 = .ok (.bipush 20, 2) := dk_16 20 (dk_at dksX7_feed_0 7 rfl rfl)
theorem dX7_feed_9 : decode cX7_feed 9 = .ok (.iadd, 1) := dk_96 (dk_at dksX7_feed_0 9 rfl rfl)
theorem dX7_feed_10 : decode cX7_feed 10 = .ok (.sipush 500, 3) := dk_17 1 244 (dk_at dksX7_feed_0 10 rfl rfl)
theorem dX7_feed_13 : decode cX7_feed 13 = .ok (.if_icmp .le 5, 3) := dk_164 0 5 (dk_at dksX7_feed_0 13 rfl rfl)
theorem dX7_feed_16 : decode cX7_feed 16 = .ok (.iconst (-1), 1) := dk_2 (dk_at dksX7_feed_0 16 rfl rfl)
theorem dX7_feed_17 : decode cX7_feed 17 = .ok (.ireturn, 1) := dk_172 (dk_at dksX7_feed_0 17 rfl rfl)
theorem dX7_feed_18 : decode cX7_feed 18 = .ok (.iconst 0, 1) := dk_3 (dk_at dksX7_feed_0 18 rfl rfl)
theorem dX7_feed_19 : decode cX7_feed 19 = .ok (.istore 6, 2) := dk_54 6 (dk_at dksX7_feed_0 19 rfl rfl)
theorem dX7_feed_21 : decode cX7_feed 21 = .ok (.iload 6, 2) := dk_21 6 (dk_at dksX7_feed_0 21 rfl rfl)
theorem dX7_feed_23 : decode cX7_feed 23 = .ok (.bipush 20, 2) := dk_16 20 (dk_at dksX7_feed_1 0 rfl rfl)
theorem dX7_feed_25 : decode cX7_feed 25 = .ok (.if_icmp .ge 100, 3) := dk_162 0 100 (dk_at dksX7_feed_1 2 rfl rfl)
theorem dX7_feed_28 : decode cX7_feed 28 = .ok (.iload 6, 2) := dk_21 6 (dk_at dksX7_feed_1 5 rfl rfl)
theorem dX7_feed_30 : decode cX7_feed 30 = .ok (.iconst 4, 1) := dk_7 (dk_at dksX7_feed_1 7 rfl rfl)
theorem dX7_feed_31 : decode cX7_feed 31 = .ok (.if_icmp .ge 7, 3) := dk_162 0 7 (dk_at dksX7_feed_1 8 rfl rfl)
theorem dX7_feed_34 : decode cX7_feed 34 = .ok (.iload_n 1, 1) := dk_27 (dk_at dksX7_feed_1 11 rfl rfl)
theorem dX7_feed_35 : decode cX7_feed 35 = .ok (.goto 39, 3) := dk_167 0 39 (dk_at dksX7_feed_1 12 rfl rfl)
theorem dX7_feed_38 : decode cX7_feed 38 = .ok (.iload 6, 2) := dk_21 6 (dk_at dksX7_feed_1 15 rfl rfl)
theorem dX7_feed_40 : decode cX7_feed 40 = .ok (.bipush 8, 2) := dk_16 8 (dk_at dksX7_feed_1 17 rfl rfl)
theorem dX7_feed_42 : decode cX7_feed 42 = .ok (.if_icmp .ge 7, 3) := dk_162 0 7 (dk_at dksX7_feed_1 19 rfl rfl)
theorem dX7_feed_45 : decode cX7_feed 45 = .ok (.iload_n 2, 1) := dk_28 (dk_at dksX7_feed_1 22 rfl rfl)
theorem dX7_feed_46 : decode cX7_feed 46 = .ok (.goto 28, 3) := dk_167 0 28 (dk_at dksX7_feed_2 0 rfl rfl)
theorem dX7_feed_49 : decode cX7_feed 49 = .ok (.iload 6, 2) := dk_21 6 (dk_at dksX7_feed_2 3 rfl rfl)
theorem dX7_feed_51 : decode cX7_feed 51 = .ok (.bipush 12, 2) := dk_16 12 (dk_at dksX7_feed_2 5 rfl rfl)
theorem dX7_feed_53 : decode cX7_feed 53 = .ok (.if_icmp .ge 7, 3) := dk_162 0 7 (dk_at dksX7_feed_2 7 rfl rfl)
theorem dX7_feed_56 : decode cX7_feed 56 = .ok (.iload_n 3, 1) := dk_29 (dk_at dksX7_feed_2 10 rfl rfl)
theorem dX7_feed_57 : decode cX7_feed 57 = .ok (.goto 17, 3) := dk_167 0 17 (dk_at dksX7_feed_2 11 rfl rfl)
theorem dX7_feed_60 : decode cX7_feed 60 = .ok (.iload 6, 2) := dk_21 6 (dk_at dksX7_feed_2 14 rfl rfl)
theorem dX7_feed_62 : decode cX7_feed 62 = .ok (.bipush 16, 2) := dk_16 16 (dk_at dksX7_feed_2 16 rfl rfl)
theorem dX7_feed_64 : decode cX7_feed 64 = .ok (.if_icmp .ge 8, 3) := dk_162 0 8 (dk_at dksX7_feed_2 18 rfl rfl)
theorem dX7_feed_67 : decode cX7_feed 67 = .ok (.iload 4, 2) := dk_21 4 (dk_at dksX7_feed_2 21 rfl rfl)
theorem dX7_feed_69 : decode cX7_feed 69 = .ok (.goto 5, 3) := dk_167 0 5 (dk_at dksX7_feed_3 0 rfl rfl)
theorem dX7_feed_72 : decode cX7_feed 72 = .ok (.iload 5, 2) := dk_21 5 (dk_at dksX7_feed_3 3 rfl rfl)
theorem dX7_feed_74 : decode cX7_feed 74 = .ok (.istore 7, 2) := dk_54 7 (dk_at dksX7_feed_3 5 rfl rfl)
theorem dX7_feed_76 : decode cX7_feed 76 = .ok (.aload_n 0, 1) := dk_42 (dk_at dksX7_feed_3 7 rfl rfl)
theorem dX7_feed_77 : decode cX7_feed 77 = .ok (.getfield 7, 3) := dk_180 0 7 (dk_at dksX7_feed_3 8 rfl rfl)
theorem dX7_feed_80 : decode cX7_feed 80 = .ok (.bipush 70, 2) := dk_16 70 (dk_at dksX7_feed_3 11 rfl rfl)
theorem dX7_feed_82 : decode cX7_feed 82 = .ok (.aload_n 0, 1) := dk_42 (dk_at dksX7_feed_3 13 rfl rfl)
theorem dX7_feed_83 : decode cX7_feed 83 = .ok (.getfield 7, 3) := dk_180 0 7 (dk_at dksX7_feed_3 14 rfl rfl)
theorem dX7_feed_86 : decode cX7_feed 86 = .ok (.bipush 6, 2) := dk_16 6 (dk_at dksX7_feed_3 17 rfl rfl)
theorem dX7_feed_88 : decode cX7_feed 88 = .ok (.iaload, 1) := dk_46 (dk_at dksX7_feed_3 19 rfl rfl)
theorem dX7_feed_89 : decode cX7_feed 89 = .ok (.iadd, 1) := dk_96 (dk_at dksX7_feed_3 20 rfl rfl)
theorem dX7_feed_90 : decode cX7_feed 90 = .ok (.iload 7, 2) := dk_21 7 (dk_at dksX7_feed_3 21 rfl rfl)
theorem dX7_feed_92 : decode cX7_feed 92 = .ok (.bipush 24, 2) := dk_16 24 (dk_at dksX7_feed_4 0 rfl rfl)
theorem dX7_feed_94 : decode cX7_feed 94 = .ok (.bipush 8, 2) := dk_16 8 (dk_at dksX7_feed_4 2 rfl rfl)
theorem dX7_feed_96 : decode cX7_feed 96 = .ok (.iload 6, 2) := dk_21 6 (dk_at dksX7_feed_4 4 rfl rfl)
theorem dX7_feed_98 : decode cX7_feed 98 = .ok (.iconst 4, 1) := dk_7 (dk_at dksX7_feed_4 6 rfl rfl)
theorem dX7_feed_99 : decode cX7_feed 99 = .ok (.irem, 1) := dk_112 (dk_at dksX7_feed_4 7 rfl rfl)
theorem dX7_feed_100 : decode cX7_feed 100 = .ok (.imul, 1) := dk_104 (dk_at dksX7_feed_4 8 rfl rfl)
theorem dX7_feed_101 : decode cX7_feed 101 = .ok (.isub, 1) := dk_100 (dk_at dksX7_feed_4 9 rfl rfl)
theorem dX7_feed_102 : decode cX7_feed 102 = .ok (.ishr, 1) := dk_122 (dk_at dksX7_feed_4 10 rfl rfl)
theorem dX7_feed_103 : decode cX7_feed 103 = .ok (.sipush 255, 3) := dk_17 0 255 (dk_at dksX7_feed_4 11 rfl rfl)
theorem dX7_feed_106 : decode cX7_feed 106 = .ok (.iand, 1) := dk_126 (dk_at dksX7_feed_4 14 rfl rfl)
theorem dX7_feed_107 : decode cX7_feed 107 = .ok (.iastore, 1) := dk_79 (dk_at dksX7_feed_4 15 rfl rfl)
theorem dX7_feed_108 : decode cX7_feed 108 = .ok (.aload_n 0, 1) := dk_42 (dk_at dksX7_feed_4 16 rfl rfl)
theorem dX7_feed_109 : decode cX7_feed 109 = .ok (.getfield 7, 3) := dk_180 0 7 (dk_at dksX7_feed_4 17 rfl rfl)
theorem dX7_feed_112 : decode cX7_feed 112 = .ok (.bipush 6, 2) := dk_16 6 (dk_at dksX7_feed_4 20 rfl rfl)
theorem dX7_feed_114 : decode cX7_feed 114 = .ok (.dup2, 1) := dk_92 (dk_at dksX7_feed_4 22 rfl rfl)
theorem dX7_feed_115 : decode cX7_feed 115 = .ok (.iaload, 1) := dk_46 (dk_at dksX7_feed_4 23 rfl rfl)
theorem dX7_feed_116 : decode cX7_feed 116 = .ok (.iconst 1, 1) := dk_4 (dk_at dksX7_feed_5 0 rfl rfl)
theorem dX7_feed_117 : decode cX7_feed 117 = .ok (.iadd, 1) := dk_96 (dk_at dksX7_feed_5 1 rfl rfl)
theorem dX7_feed_118 : decode cX7_feed 118 = .ok (.iastore, 1) := dk_79 (dk_at dksX7_feed_5 2 rfl rfl)
theorem dX7_feed_119 : decode cX7_feed 119 = .ok (.iinc 6 1, 3) := dk_132 6 1 (dk_at dksX7_feed_5 3 rfl rfl)
theorem dX7_feed_122 : decode cX7_feed 122 = .ok (.goto (-101), 3) := dk_167 255 155 (dk_at dksX7_feed_5 6 rfl rfl)
theorem dX7_feed_125 : decode cX7_feed 125 = .ok (.aload_n 0, 1) := dk_42 (dk_at dksX7_feed_5 9 rfl rfl)
theorem dX7_feed_126 : decode cX7_feed 126 = .ok (.getfield 7, 3) := dk_180 0 7 (dk_at dksX7_feed_5 10 rfl rfl)
theorem dX7_feed_129 : decode cX7_feed 129 = .ok (.bipush 6, 2) := dk_16 6 (dk_at dksX7_feed_5 13 rfl rfl)
theorem dX7_feed_131 : decode cX7_feed 131 = .ok (.iaload, 1) := dk_46 (dk_at dksX7_feed_5 15 rfl rfl)
theorem dX7_feed_132 : decode cX7_feed 132 = .ok (.ireturn, 1) := dk_172 (dk_at dksX7_feed_5 16 rfl rfl)
abbrev cX7_end : ByteArray := prog_21_method_12_code
def yX7_end : MethodName := ⟨RX7, "end", "(I)I"⟩
def dkwX7_end_1 : List UInt8 := [79, 27, 172]
abbrev dktX7_end_1 : List UInt8 := dkwX7_end_1 ++ []
def dkwX7_end_0 : List UInt8 := [27, 155, 0, 14, 27, 42, 180, 0, 7, 16, 6, 46, 164, 0, 5, 2, 172, 42, 180, 0, 7, 16, 6, 27]
abbrev dktX7_end_0 : List UInt8 := dkwX7_end_0 ++ dktX7_end_1
theorem dksX7_end_0 : cX7_end.data.toList.drop 0 = dktX7_end_0 := by decide +kernel
theorem dksX7_end_1 : cX7_end.data.toList.drop 24 = dktX7_end_1 := dk_seg dksX7_end_0 24 rfl rfl
theorem dX7_end_0 : decode cX7_end 0 = .ok (.iload_n 1, 1) := dk_27 (dk_at dksX7_end_0 0 rfl rfl)
theorem dX7_end_1 : decode cX7_end 1 = .ok (.ifCond .lt 14, 3) := dk_155 0 14 (dk_at dksX7_end_0 1 rfl rfl)
theorem dX7_end_4 : decode cX7_end 4 = .ok (.iload_n 1, 1) := dk_27 (dk_at dksX7_end_0 4 rfl rfl)
theorem dX7_end_5 : decode cX7_end 5 = .ok (.aload_n 0, 1) := dk_42 (dk_at dksX7_end_0 5 rfl rfl)
theorem dX7_end_6 : decode cX7_end 6 = .ok (.getfield 7, 3) := dk_180 0 7 (dk_at dksX7_end_0 6 rfl rfl)
theorem dX7_end_9 : decode cX7_end 9 = .ok (.bipush 6, 2) := dk_16 6 (dk_at dksX7_end_0 9 rfl rfl)
theorem dX7_end_11 : decode cX7_end 11 = .ok (.iaload, 1) := dk_46 (dk_at dksX7_end_0 11 rfl rfl)
theorem dX7_end_12 : decode cX7_end 12 = .ok (.if_icmp .le 5, 3) := dk_164 0 5 (dk_at dksX7_end_0 12 rfl rfl)
theorem dX7_end_15 : decode cX7_end 15 = .ok (.iconst (-1), 1) := dk_2 (dk_at dksX7_end_0 15 rfl rfl)
theorem dX7_end_16 : decode cX7_end 16 = .ok (.ireturn, 1) := dk_172 (dk_at dksX7_end_0 16 rfl rfl)
theorem dX7_end_17 : decode cX7_end 17 = .ok (.aload_n 0, 1) := dk_42 (dk_at dksX7_end_0 17 rfl rfl)
theorem dX7_end_18 : decode cX7_end 18 = .ok (.getfield 7, 3) := dk_180 0 7 (dk_at dksX7_end_0 18 rfl rfl)
theorem dX7_end_21 : decode cX7_end 21 = .ok (.bipush 6, 2) := dk_16 6 (dk_at dksX7_end_0 21 rfl rfl)
theorem dX7_end_23 : decode cX7_end 23 = .ok (.iload_n 1, 1) := dk_27 (dk_at dksX7_end_0 23 rfl rfl)
theorem dX7_end_24 : decode cX7_end 24 = .ok (.iastore, 1) := dk_79 (dk_at dksX7_end_1 0 rfl rfl)
theorem dX7_end_25 : decode cX7_end 25 = .ok (.iload_n 1, 1) := dk_27 (dk_at dksX7_end_1 1 rfl rfl)
theorem dX7_end_26 : decode cX7_end 26 = .ok (.ireturn, 1) := dk_172 (dk_at dksX7_end_1 2 rfl rfl)
abbrev cX7_own : ByteArray := prog_21_method_30_code
def yX7_own : MethodName := ⟨RX7, "own", "(I)I"⟩
def dkwX7_own_3 : List UInt8 := [42, 180, 0, 7, 28, 46, 172]
abbrev dktX7_own_3 : List UInt8 := dkwX7_own_3 ++ []
def dkwX7_own_2 : List UInt8 := [42, 27, 42, 180, 0, 7, 28, 46, 184, 0, 189, 182, 0, 192, 42, 180, 0, 7, 28, 92, 46, 4, 96, 79]
abbrev dktX7_own_2 : List UInt8 := dkwX7_own_2 ++ dktX7_own_3
def dkwX7_own_1 : List UInt8 := [5, 160, 0, 6, 16, 254, 172, 42, 182, 0, 185, 154, 0, 5, 2, 172, 27, 184, 0, 97, 16, 13, 96, 61]
abbrev dktX7_own_1 : List UInt8 := dkwX7_own_1 ++ dktX7_own_2
def dkwX7_own_0 : List UInt8 := [42, 182, 0, 179, 42, 27, 182, 0, 182, 153, 0, 19, 42, 180, 0, 7, 27, 184, 0, 97, 16, 13, 96, 46]
abbrev dktX7_own_0 : List UInt8 := dkwX7_own_0 ++ dktX7_own_1
theorem dksX7_own_0 : cX7_own.data.toList.drop 0 = dktX7_own_0 := by decide +kernel
theorem dksX7_own_1 : cX7_own.data.toList.drop 24 = dktX7_own_1 := dk_seg dksX7_own_0 24 rfl rfl
theorem dksX7_own_2 : cX7_own.data.toList.drop 48 = dktX7_own_2 := dk_seg dksX7_own_1 24 rfl rfl
theorem dksX7_own_3 : cX7_own.data.toList.drop 72 = dktX7_own_3 := dk_seg dksX7_own_2 24 rfl rfl
theorem dX7_own_0 : decode cX7_own 0 = .ok (.aload_n 0, 1) := dk_42 (dk_at dksX7_own_0 0 rfl rfl)
theorem dX7_own_1 : decode cX7_own 1 = .ok (.invokevirtual 179, 3) := dk_182 0 179 (dk_at dksX7_own_0 1 rfl rfl)
theorem dX7_own_4 : decode cX7_own 4 = .ok (.aload_n 0, 1) := dk_42 (dk_at dksX7_own_0 4 rfl rfl)
theorem dX7_own_5 : decode cX7_own 5 = .ok (.iload_n 1, 1) := dk_27 (dk_at dksX7_own_0 5 rfl rfl)
theorem dX7_own_6 : decode cX7_own 6 = .ok (.invokevirtual 182, 3) := dk_182 0 182 (dk_at dksX7_own_0 6 rfl rfl)
theorem dX7_own_9 : decode cX7_own 9 = .ok (.ifCond .eq 19, 3) := dk_153 0 19 (dk_at dksX7_own_0 9 rfl rfl)
theorem dX7_own_12 : decode cX7_own 12 = .ok (.aload_n 0, 1) := dk_42 (dk_at dksX7_own_0 12 rfl rfl)
theorem dX7_own_13 : decode cX7_own 13 = .ok (.getfield 7, 3) := dk_180 0 7 (dk_at dksX7_own_0 13 rfl rfl)
theorem dX7_own_16 : decode cX7_own 16 = .ok (.iload_n 1, 1) := dk_27 (dk_at dksX7_own_0 16 rfl rfl)
theorem dX7_own_17 : decode cX7_own 17 = .ok (.invokestatic 97, 3) := dk_184 0 97 (dk_at dksX7_own_0 17 rfl rfl)
theorem dX7_own_20 : decode cX7_own 20 = .ok (.bipush 13, 2) := dk_16 13 (dk_at dksX7_own_0 20 rfl rfl)
theorem dX7_own_22 : decode cX7_own 22 = .ok (.iadd, 1) := dk_96 (dk_at dksX7_own_0 22 rfl rfl)
theorem dX7_own_23 : decode cX7_own 23 = .ok (.iaload, 1) := dk_46 (dk_at dksX7_own_0 23 rfl rfl)
theorem dX7_own_24 : decode cX7_own 24 = .ok (.iconst 2, 1) := dk_5 (dk_at dksX7_own_1 0 rfl rfl)
theorem dX7_own_25 : decode cX7_own 25 = .ok (.if_icmp .ne 6, 3) := dk_160 0 6 (dk_at dksX7_own_1 1 rfl rfl)
theorem dX7_own_28 : decode cX7_own 28 = .ok (.bipush (-2), 2) := dk_16 254 (dk_at dksX7_own_1 4 rfl rfl)
theorem dX7_own_30 : decode cX7_own 30 = .ok (.ireturn, 1) := dk_172 (dk_at dksX7_own_1 6 rfl rfl)
theorem dX7_own_31 : decode cX7_own 31 = .ok (.aload_n 0, 1) := dk_42 (dk_at dksX7_own_1 7 rfl rfl)
theorem dX7_own_32 : decode cX7_own 32 = .ok (.invokevirtual 185, 3) := dk_182 0 185 (dk_at dksX7_own_1 8 rfl rfl)
theorem dX7_own_35 : decode cX7_own 35 = .ok (.ifCond .ne 5, 3) := dk_154 0 5 (dk_at dksX7_own_1 11 rfl rfl)
theorem dX7_own_38 : decode cX7_own 38 = .ok (.iconst (-1), 1) := dk_2 (dk_at dksX7_own_1 14 rfl rfl)
theorem dX7_own_39 : decode cX7_own 39 = .ok (.ireturn, 1) := dk_172 (dk_at dksX7_own_1 15 rfl rfl)
theorem dX7_own_40 : decode cX7_own 40 = .ok (.iload_n 1, 1) := dk_27 (dk_at dksX7_own_1 16 rfl rfl)
theorem dX7_own_41 : decode cX7_own 41 = .ok (.invokestatic 97, 3) := dk_184 0 97 (dk_at dksX7_own_1 17 rfl rfl)
theorem dX7_own_44 : decode cX7_own 44 = .ok (.bipush 13, 2) := dk_16 13 (dk_at dksX7_own_1 20 rfl rfl)
theorem dX7_own_46 : decode cX7_own 46 = .ok (.iadd, 1) := dk_96 (dk_at dksX7_own_1 22 rfl rfl)
theorem dX7_own_47 : decode cX7_own 47 = .ok (.istore_n 2, 1) := dk_61 (dk_at dksX7_own_1 23 rfl rfl)
theorem dX7_own_48 : decode cX7_own 48 = .ok (.aload_n 0, 1) := dk_42 (dk_at dksX7_own_2 0 rfl rfl)
theorem dX7_own_49 : decode cX7_own 49 = .ok (.iload_n 1, 1) := dk_27 (dk_at dksX7_own_2 1 rfl rfl)
theorem dX7_own_50 : decode cX7_own 50 = .ok (.aload_n 0, 1) := dk_42 (dk_at dksX7_own_2 2 rfl rfl)
theorem dX7_own_51 : decode cX7_own 51 = .ok (.getfield 7, 3) := dk_180 0 7 (dk_at dksX7_own_2 3 rfl rfl)
theorem dX7_own_54 : decode cX7_own 54 = .ok (.iload_n 2, 1) := dk_28 (dk_at dksX7_own_2 6 rfl rfl)
theorem dX7_own_55 : decode cX7_own 55 = .ok (.iaload, 1) := dk_46 (dk_at dksX7_own_2 7 rfl rfl)
theorem dX7_own_56 : decode cX7_own 56 = .ok (.invokestatic 189, 3) := dk_184 0 189 (dk_at dksX7_own_2 8 rfl rfl)
theorem dX7_own_59 : decode cX7_own 59 = .ok (.invokevirtual 192, 3) := dk_182 0 192 (dk_at dksX7_own_2 11 rfl rfl)
theorem dX7_own_62 : decode cX7_own 62 = .ok (.aload_n 0, 1) := dk_42 (dk_at dksX7_own_2 14 rfl rfl)
theorem dX7_own_63 : decode cX7_own 63 = .ok (.getfield 7, 3) := dk_180 0 7 (dk_at dksX7_own_2 15 rfl rfl)
theorem dX7_own_66 : decode cX7_own 66 = .ok (.iload_n 2, 1) := dk_28 (dk_at dksX7_own_2 18 rfl rfl)
theorem dX7_own_67 : decode cX7_own 67 = .ok (.dup2, 1) := dk_92 (dk_at dksX7_own_2 19 rfl rfl)
theorem dX7_own_68 : decode cX7_own 68 = .ok (.iaload, 1) := dk_46 (dk_at dksX7_own_2 20 rfl rfl)
theorem dX7_own_69 : decode cX7_own 69 = .ok (.iconst 1, 1) := dk_4 (dk_at dksX7_own_2 21 rfl rfl)
theorem dX7_own_70 : decode cX7_own 70 = .ok (.iadd, 1) := dk_96 (dk_at dksX7_own_2 22 rfl rfl)
theorem dX7_own_71 : decode cX7_own 71 = .ok (.iastore, 1) := dk_79 (dk_at dksX7_own_2 23 rfl rfl)
theorem dX7_own_72 : decode cX7_own 72 = .ok (.aload_n 0, 1) := dk_42 (dk_at dksX7_own_3 0 rfl rfl)
theorem dX7_own_73 : decode cX7_own 73 = .ok (.getfield 7, 3) := dk_180 0 7 (dk_at dksX7_own_3 1 rfl rfl)
theorem dX7_own_76 : decode cX7_own 76 = .ok (.iload_n 2, 1) := dk_28 (dk_at dksX7_own_3 4 rfl rfl)
theorem dX7_own_77 : decode cX7_own 77 = .ok (.iaload, 1) := dk_46 (dk_at dksX7_own_3 5 rfl rfl)
theorem dX7_own_78 : decode cX7_own 78 = .ok (.ireturn, 1) := dk_172 (dk_at dksX7_own_3 6 rfl rfl)
abbrev cX7_begins : ByteArray := prog_21_method_23_code
def yX7_begins : MethodName := ⟨RX7, "begins", "()V"⟩
def dkwX7_begins_2 : List UInt8 := [181, 0, 151, 42, 3, 181, 0, 154, 177]
abbrev dktX7_begins_2 : List UInt8 := dkwX7_begins_2 ++ []
def dkwX7_begins_1 : List UInt8 := [16, 7, 3, 79, 42, 180, 0, 7, 16, 8, 2, 79, 42, 3, 181, 0, 116, 42, 3, 181, 0, 147, 42, 3]
abbrev dktX7_begins_1 : List UInt8 := dkwX7_begins_1 ++ dktX7_begins_2
def dkwX7_begins_0 : List UInt8 := [42, 42, 180, 0, 7, 16, 6, 46, 181, 0, 100, 42, 180, 0, 7, 16, 6, 3, 79, 42, 180, 0, 7]
abbrev dktX7_begins_0 : List UInt8 := dkwX7_begins_0 ++ dktX7_begins_1
theorem dksX7_begins_0 : cX7_begins.data.toList.drop 0 = dktX7_begins_0 := by decide +kernel
theorem dksX7_begins_1 : cX7_begins.data.toList.drop 23 = dktX7_begins_1 := dk_seg dksX7_begins_0 23 rfl rfl
theorem dksX7_begins_2 : cX7_begins.data.toList.drop 47 = dktX7_begins_2 := dk_seg dksX7_begins_1 24 rfl rfl
theorem dX7_begins_0 : decode cX7_begins 0 = .ok (.aload_n 0, 1) := dk_42 (dk_at dksX7_begins_0 0 rfl rfl)
theorem dX7_begins_1 : decode cX7_begins 1 = .ok (.aload_n 0, 1) := dk_42 (dk_at dksX7_begins_0 1 rfl rfl)
theorem dX7_begins_2 : decode cX7_begins 2 = .ok (.getfield 7, 3) := dk_180 0 7 (dk_at dksX7_begins_0 2 rfl rfl)
theorem dX7_begins_5 : decode cX7_begins 5 = .ok (.bipush 6, 2) := dk_16 6 (dk_at dksX7_begins_0 5 rfl rfl)
theorem dX7_begins_7 : decode cX7_begins 7 = .ok (.iaload, 1) := dk_46 (dk_at dksX7_begins_0 7 rfl rfl)
theorem dX7_begins_8 : decode cX7_begins 8 = .ok (.putfield 100, 3) := dk_181 0 100 (dk_at dksX7_begins_0 8 rfl rfl)
theorem dX7_begins_11 : decode cX7_begins 11 = .ok (.aload_n 0, 1) := dk_42 (dk_at dksX7_begins_0 11 rfl rfl)
theorem dX7_begins_12 : decode cX7_begins 12 = .ok (.getfield 7, 3) := dk_180 0 7 (dk_at dksX7_begins_0 12 rfl rfl)
theorem dX7_begins_15 : decode cX7_begins 15 = .ok (.bipush 6, 2) := dk_16 6 (dk_at dksX7_begins_0 15 rfl rfl)
theorem dX7_begins_17 : decode cX7_begins 17 = .ok (.iconst 0, 1) := dk_3 (dk_at dksX7_begins_0 17 rfl rfl)
theorem dX7_begins_18 : decode cX7_begins 18 = .ok (.iastore, 1) := dk_79 (dk_at dksX7_begins_0 18 rfl rfl)
theorem dX7_begins_19 : decode cX7_begins 19 = .ok (.aload_n 0, 1) := dk_42 (dk_at dksX7_begins_0 19 rfl rfl)
theorem dX7_begins_20 : decode cX7_begins 20 = .ok (.getfield 7, 3) := dk_180 0 7 (dk_at dksX7_begins_0 20 rfl rfl)
theorem dX7_begins_23 : decode cX7_begins 23 = .ok (.bipush 7, 2) := dk_16 7 (dk_at dksX7_begins_1 0 rfl rfl)
theorem dX7_begins_25 : decode cX7_begins 25 = .ok (.iconst 0, 1) := dk_3 (dk_at dksX7_begins_1 2 rfl rfl)
theorem dX7_begins_26 : decode cX7_begins 26 = .ok (.iastore, 1) := dk_79 (dk_at dksX7_begins_1 3 rfl rfl)
theorem dX7_begins_27 : decode cX7_begins 27 = .ok (.aload_n 0, 1) := dk_42 (dk_at dksX7_begins_1 4 rfl rfl)
theorem dX7_begins_28 : decode cX7_begins 28 = .ok (.getfield 7, 3) := dk_180 0 7 (dk_at dksX7_begins_1 5 rfl rfl)
theorem dX7_begins_31 : decode cX7_begins 31 = .ok (.bipush 8, 2) := dk_16 8 (dk_at dksX7_begins_1 8 rfl rfl)
theorem dX7_begins_33 : decode cX7_begins 33 = .ok (.iconst (-1), 1) := dk_2 (dk_at dksX7_begins_1 10 rfl rfl)
theorem dX7_begins_34 : decode cX7_begins 34 = .ok (.iastore, 1) := dk_79 (dk_at dksX7_begins_1 11 rfl rfl)
theorem dX7_begins_35 : decode cX7_begins 35 = .ok (.aload_n 0, 1) := dk_42 (dk_at dksX7_begins_1 12 rfl rfl)
theorem dX7_begins_36 : decode cX7_begins 36 = .ok (.iconst 0, 1) := dk_3 (dk_at dksX7_begins_1 13 rfl rfl)
theorem dX7_begins_37 : decode cX7_begins 37 = .ok (.putfield 116, 3) := dk_181 0 116 (dk_at dksX7_begins_1 14 rfl rfl)
theorem dX7_begins_40 : decode cX7_begins 40 = .ok (.aload_n 0, 1) := dk_42 (dk_at dksX7_begins_1 17 rfl rfl)
theorem dX7_begins_41 : decode cX7_begins 41 = .ok (.iconst 0, 1) := dk_3 (dk_at dksX7_begins_1 18 rfl rfl)
theorem dX7_begins_42 : decode cX7_begins 42 = .ok (.putfield 147, 3) := dk_181 0 147 (dk_at dksX7_begins_1 19 rfl rfl)
theorem dX7_begins_45 : decode cX7_begins 45 = .ok (.aload_n 0, 1) := dk_42 (dk_at dksX7_begins_1 22 rfl rfl)
theorem dX7_begins_46 : decode cX7_begins 46 = .ok (.iconst 0, 1) := dk_3 (dk_at dksX7_begins_1 23 rfl rfl)
theorem dX7_begins_47 : decode cX7_begins 47 = .ok (.putfield 151, 3) := dk_181 0 151 (dk_at dksX7_begins_2 0 rfl rfl)
theorem dX7_begins_50 : decode cX7_begins 50 = .ok (.aload_n 0, 1) := dk_42 (dk_at dksX7_begins_2 3 rfl rfl)
theorem dX7_begins_51 : decode cX7_begins 51 = .ok (.iconst 0, 1) := dk_3 (dk_at dksX7_begins_2 4 rfl rfl)
theorem dX7_begins_52 : decode cX7_begins 52 = .ok (.putfield 154, 3) := dk_181 0 154 (dk_at dksX7_begins_2 5 rfl rfl)
theorem dX7_begins_55 : decode cX7_begins 55 = .ok (.return_, 1) := dk_177 (dk_at dksX7_begins_2 8 rfl rfl)
abbrev cX7_isHouse : ByteArray := prog_21_method_4_code
def yX7_isHouse : MethodName := ⟨RX7, "isHouse", "(I)Z"⟩
def dkwX7_isHouse_0 : List UInt8 := [27, 3, 42, 180, 0, 7, 3, 46, 4, 100, 184, 0, 89, 172]
abbrev dktX7_isHouse_0 : List UInt8 := dkwX7_isHouse_0 ++ []
theorem dksX7_isHouse_0 : cX7_isHouse.data.toList.drop 0 = dktX7_isHouse_0 := by decide +kernel
theorem dX7_isHouse_0 : decode cX7_isHouse 0 = .ok (.iload_n 1, 1) := dk_27 (dk_at dksX7_isHouse_0 0 rfl rfl)
theorem dX7_isHouse_1 : decode cX7_isHouse 1 = .ok (.iconst 0, 1) := dk_3 (dk_at dksX7_isHouse_0 1 rfl rfl)
theorem dX7_isHouse_2 : decode cX7_isHouse 2 = .ok (.aload_n 0, 1) := dk_42 (dk_at dksX7_isHouse_0 2 rfl rfl)
theorem dX7_isHouse_3 : decode cX7_isHouse 3 = .ok (.getfield 7, 3) := dk_180 0 7 (dk_at dksX7_isHouse_0 3 rfl rfl)
theorem dX7_isHouse_6 : decode cX7_isHouse 6 = .ok (.iconst 0, 1) := dk_3 (dk_at dksX7_isHouse_0 6 rfl rfl)
theorem dX7_isHouse_7 : decode cX7_isHouse 7 = .ok (.iaload, 1) := dk_46 (dk_at dksX7_isHouse_0 7 rfl rfl)
theorem dX7_isHouse_8 : decode cX7_isHouse 8 = .ok (.iconst 1, 1) := dk_4 (dk_at dksX7_isHouse_0 8 rfl rfl)
theorem dX7_isHouse_9 : decode cX7_isHouse 9 = .ok (.isub, 1) := dk_100 (dk_at dksX7_isHouse_0 9 rfl rfl)
theorem dX7_isHouse_10 : decode cX7_isHouse 10 = .ok (.invokestatic 89, 3) := dk_184 0 89 (dk_at dksX7_isHouse_0 10 rfl rfl)
theorem dX7_isHouse_13 : decode cX7_isHouse 13 = .ok (.ireturn, 1) := dk_172 (dk_at dksX7_isHouse_0 13 rfl rfl)
abbrev cX7_isIn : ByteArray := prog_21_method_2_code
def yX7_isIn : MethodName := ⟨RX7, "isIn", "(III)Z"⟩
def dkwX7_isIn_0 : List UInt8 := [26, 27, 161, 0, 12, 26, 28, 163, 0, 7, 4, 167, 0, 4, 3, 172]
abbrev dktX7_isIn_0 : List UInt8 := dkwX7_isIn_0 ++ []
theorem dksX7_isIn_0 : cX7_isIn.data.toList.drop 0 = dktX7_isIn_0 := by decide +kernel
theorem dX7_isIn_0 : decode cX7_isIn 0 = .ok (.iload_n 0, 1) := dk_26 (dk_at dksX7_isIn_0 0 rfl rfl)
theorem dX7_isIn_1 : decode cX7_isIn 1 = .ok (.iload_n 1, 1) := dk_27 (dk_at dksX7_isIn_0 1 rfl rfl)
theorem dX7_isIn_2 : decode cX7_isIn 2 = .ok (.if_icmp .lt 12, 3) := dk_161 0 12 (dk_at dksX7_isIn_0 2 rfl rfl)
theorem dX7_isIn_5 : decode cX7_isIn 5 = .ok (.iload_n 0, 1) := dk_26 (dk_at dksX7_isIn_0 5 rfl rfl)
theorem dX7_isIn_6 : decode cX7_isIn 6 = .ok (.iload_n 2, 1) := dk_28 (dk_at dksX7_isIn_0 6 rfl rfl)
theorem dX7_isIn_7 : decode cX7_isIn 7 = .ok (.if_icmp .gt 7, 3) := dk_163 0 7 (dk_at dksX7_isIn_0 7 rfl rfl)
theorem dX7_isIn_10 : decode cX7_isIn 10 = .ok (.iconst 1, 1) := dk_4 (dk_at dksX7_isIn_0 10 rfl rfl)
theorem dX7_isIn_11 : decode cX7_isIn 11 = .ok (.goto 4, 3) := dk_167 0 4 (dk_at dksX7_isIn_0 11 rfl rfl)
theorem dX7_isIn_14 : decode cX7_isIn 14 = .ok (.iconst 0, 1) := dk_3 (dk_at dksX7_isIn_0 14 rfl rfl)
theorem dX7_isIn_15 : decode cX7_isIn 15 = .ok (.ireturn, 1) := dk_172 (dk_at dksX7_isIn_0 15 rfl rfl)
abbrev cX7_houseAt : ByteArray := prog_21_method_7_code
def yX7_houseAt : MethodName := ⟨RX7, "houseAt", "(I)I"⟩
def dkwX7_houseAt_0 : List UInt8 := [17, 7, 78, 17, 0, 160, 26, 104, 96, 172]
abbrev dktX7_houseAt_0 : List UInt8 := dkwX7_houseAt_0 ++ []
theorem dksX7_houseAt_0 : cX7_houseAt.data.toList.drop 0 = dktX7_houseAt_0 := by decide +kernel
theorem dX7_houseAt_0 : decode cX7_houseAt 0 = .ok (.sipush 1870, 3) := dk_17 7 78 (dk_at dksX7_houseAt_0 0 rfl rfl)
theorem dX7_houseAt_3 : decode cX7_houseAt 3 = .ok (.sipush 160, 3) := dk_17 0 160 (dk_at dksX7_houseAt_0 3 rfl rfl)
theorem dX7_houseAt_6 : decode cX7_houseAt 6 = .ok (.iload_n 0, 1) := dk_26 (dk_at dksX7_houseAt_0 6 rfl rfl)
theorem dX7_houseAt_7 : decode cX7_houseAt 7 = .ok (.imul, 1) := dk_104 (dk_at dksX7_houseAt_0 7 rfl rfl)
theorem dX7_houseAt_8 : decode cX7_houseAt 8 = .ok (.iadd, 1) := dk_96 (dk_at dksX7_houseAt_0 8 rfl rfl)
theorem dX7_houseAt_9 : decode cX7_houseAt 9 = .ok (.ireturn, 1) := dk_172 (dk_at dksX7_houseAt_0 9 rfl rfl)
abbrev cX7_reads : ByteArray := prog_21_method_28_code
def yX7_reads : MethodName := ⟨RX7, "reads", "()Z"⟩
def dkwX7_reads_2 : List UInt8 := [42, 180, 0, 7, 16, 7, 46, 154, 0, 7, 4, 167, 0, 4, 3, 172]
abbrev dktX7_reads_2 : List UInt8 := dkwX7_reads_2 ++ []
def dkwX7_reads_1 : List UInt8 := [182, 0, 176, 167, 255, 238, 42, 180, 0, 147, 154, 0, 14, 42, 180, 0, 125, 153, 0, 7, 42, 182, 0, 157]
abbrev dktX7_reads_1 : List UInt8 := dkwX7_reads_1 ++ dktX7_reads_2
def dkwX7_reads_0 : List UInt8 := [42, 182, 0, 164, 42, 182, 0, 176, 42, 180, 0, 147, 154, 0, 17, 42, 180, 0, 154, 158, 0, 10, 42]
abbrev dktX7_reads_0 : List UInt8 := dkwX7_reads_0 ++ dktX7_reads_1
theorem dksX7_reads_0 : cX7_reads.data.toList.drop 0 = dktX7_reads_0 := by decide +kernel
theorem dksX7_reads_1 : cX7_reads.data.toList.drop 23 = dktX7_reads_1 := dk_seg dksX7_reads_0 23 rfl rfl
theorem dksX7_reads_2 : cX7_reads.data.toList.drop 47 = dktX7_reads_2 := dk_seg dksX7_reads_1 24 rfl rfl
theorem dX7_reads_0 : decode cX7_reads 0 = .ok (.aload_n 0, 1) := dk_42 (dk_at dksX7_reads_0 0 rfl rfl)
theorem dX7_reads_1 : decode cX7_reads 1 = .ok (.invokevirtual 164, 3) := dk_182 0 164 (dk_at dksX7_reads_0 1 rfl rfl)
theorem dX7_reads_4 : decode cX7_reads 4 = .ok (.aload_n 0, 1) := dk_42 (dk_at dksX7_reads_0 4 rfl rfl)
theorem dX7_reads_5 : decode cX7_reads 5 = .ok (.invokevirtual 176, 3) := dk_182 0 176 (dk_at dksX7_reads_0 5 rfl rfl)
theorem dX7_reads_8 : decode cX7_reads 8 = .ok (.aload_n 0, 1) := dk_42 (dk_at dksX7_reads_0 8 rfl rfl)
theorem dX7_reads_9 : decode cX7_reads 9 = .ok (.getfield 147, 3) := dk_180 0 147 (dk_at dksX7_reads_0 9 rfl rfl)
theorem dX7_reads_12 : decode cX7_reads 12 = .ok (.ifCond .ne 17, 3) := dk_154 0 17 (dk_at dksX7_reads_0 12 rfl rfl)
theorem dX7_reads_15 : decode cX7_reads 15 = .ok (.aload_n 0, 1) := dk_42 (dk_at dksX7_reads_0 15 rfl rfl)
theorem dX7_reads_16 : decode cX7_reads 16 = .ok (.getfield 154, 3) := dk_180 0 154 (dk_at dksX7_reads_0 16 rfl rfl)
theorem dX7_reads_19 : decode cX7_reads 19 = .ok (.ifCond .le 10, 3) := dk_158 0 10 (dk_at dksX7_reads_0 19 rfl rfl)
theorem dX7_reads_22 : decode cX7_reads 22 = .ok (.aload_n 0, 1) := dk_42 (dk_at dksX7_reads_0 22 rfl rfl)
theorem dX7_reads_23 : decode cX7_reads 23 = .ok (.invokevirtual 176, 3) := dk_182 0 176 (dk_at dksX7_reads_1 0 rfl rfl)
theorem dX7_reads_26 : decode cX7_reads 26 = .ok (.goto (-18), 3) := dk_167 255 238 (dk_at dksX7_reads_1 3 rfl rfl)
theorem dX7_reads_29 : decode cX7_reads 29 = .ok (.aload_n 0, 1) := dk_42 (dk_at dksX7_reads_1 6 rfl rfl)
theorem dX7_reads_30 : decode cX7_reads 30 = .ok (.getfield 147, 3) := dk_180 0 147 (dk_at dksX7_reads_1 7 rfl rfl)
theorem dX7_reads_33 : decode cX7_reads 33 = .ok (.ifCond .ne 14, 3) := dk_154 0 14 (dk_at dksX7_reads_1 10 rfl rfl)
theorem dX7_reads_36 : decode cX7_reads 36 = .ok (.aload_n 0, 1) := dk_42 (dk_at dksX7_reads_1 13 rfl rfl)
theorem dX7_reads_37 : decode cX7_reads 37 = .ok (.getfield 125, 3) := dk_180 0 125 (dk_at dksX7_reads_1 14 rfl rfl)
theorem dX7_reads_40 : decode cX7_reads 40 = .ok (.ifCond .eq 7, 3) := dk_153 0 7 (dk_at dksX7_reads_1 17 rfl rfl)
theorem dX7_reads_43 : decode cX7_reads 43 = .ok (.aload_n 0, 1) := dk_42 (dk_at dksX7_reads_1 20 rfl rfl)
theorem dX7_reads_44 : decode cX7_reads 44 = .ok (.invokevirtual 157, 3) := dk_182 0 157 (dk_at dksX7_reads_1 21 rfl rfl)
theorem dX7_reads_47 : decode cX7_reads 47 = .ok (.aload_n 0, 1) := dk_42 (dk_at dksX7_reads_2 0 rfl rfl)
theorem dX7_reads_48 : decode cX7_reads 48 = .ok (.getfield 7, 3) := dk_180 0 7 (dk_at dksX7_reads_2 1 rfl rfl)
theorem dX7_reads_51 : decode cX7_reads 51 = .ok (.bipush 7, 2) := dk_16 7 (dk_at dksX7_reads_2 4 rfl rfl)
theorem dX7_reads_53 : decode cX7_reads 53 = .ok (.iaload, 1) := dk_46 (dk_at dksX7_reads_2 6 rfl rfl)
theorem dX7_reads_54 : decode cX7_reads 54 = .ok (.ifCond .ne 7, 3) := dk_154 0 7 (dk_at dksX7_reads_2 7 rfl rfl)
theorem dX7_reads_57 : decode cX7_reads 57 = .ok (.iconst 1, 1) := dk_4 (dk_at dksX7_reads_2 10 rfl rfl)
theorem dX7_reads_58 : decode cX7_reads 58 = .ok (.goto 4, 3) := dk_167 0 4 (dk_at dksX7_reads_2 11 rfl rfl)
theorem dX7_reads_61 : decode cX7_reads 61 = .ok (.iconst 0, 1) := dk_3 (dk_at dksX7_reads_2 14 rfl rfl)
theorem dX7_reads_62 : decode cX7_reads 62 = .ok (.ireturn, 1) := dk_172 (dk_at dksX7_reads_2 15 rfl rfl)
abbrev cX7_advance : ByteArray := prog_21_method_20_code
def yX7_advance : MethodName := ⟨RX7, "advance", "()V"⟩
def dkwX7_advance_14 : List UInt8 := [167, 0, 4, 7, 181, 0, 125, 177]
abbrev dktX7_advance_14 : List UInt8 := dkwX7_advance_14 ++ []
def dkwX7_advance_13 : List UInt8 := [16, 40, 159, 0, 21, 27, 16, 41, 159, 0, 15, 27, 16, 59, 159, 0, 9, 27, 16, 60, 160, 0, 7, 5]
abbrev dktX7_advance_13 : List UInt8 := dkwX7_advance_13 ++ dktX7_advance_14
def dkwX7_advance_12 : List UInt8 := [181, 0, 125, 167, 0, 51, 42, 89, 180, 0, 116, 4, 96, 181, 0, 116, 42, 27, 181, 0, 144, 42, 27]
abbrev dktX7_advance_12 : List UInt8 := dkwX7_advance_12 ++ dktX7_advance_13
def dkwX7_advance_11 : List UInt8 := [167, 255, 196, 42, 42, 180, 0, 116, 42, 180, 0, 122, 100, 7, 164, 0, 7, 7, 167, 0, 4, 4]
abbrev dktX7_advance_11 : List UInt8 := dkwX7_advance_11 ++ dktX7_advance_12
def dkwX7_advance_10 : List UInt8 := [180, 0, 116, 182, 0, 119, 96, 16, 48, 100, 181, 0, 141, 42, 89, 180, 0, 116, 4, 96, 181, 0, 116]
abbrev dktX7_advance_10 : List UInt8 := dkwX7_advance_10 ++ dktX7_advance_11
def dkwX7_advance_9 : List UInt8 := [180, 0, 116, 42, 180, 0, 122, 100, 7, 162, 0, 26, 42, 16, 10, 42, 180, 0, 141, 104, 42, 42]
abbrev dktX7_advance_9 : List UInt8 := dkwX7_advance_9 ++ dktX7_advance_10
def dkwX7_advance_8 : List UInt8 := [153, 0, 96, 42, 3, 181, 0, 141, 42, 42, 180, 0, 116, 182, 0, 119, 184, 0, 138, 153, 0, 52, 42]
abbrev dktX7_advance_8 : List UInt8 := dkwX7_advance_8 ++ dktX7_advance_9
def dkwX7_advance_7 : List UInt8 := [180, 0, 135, 16, 99, 160, 0, 7, 7, 167, 0, 4, 6, 181, 0, 125, 167, 0, 151, 27, 184, 0, 138]
abbrev dktX7_advance_7 : List UInt8 := dkwX7_advance_7 ++ dktX7_advance_8
def dkwX7_advance_6 : List UInt8 := [180, 0, 122, 100, 7, 164, 0, 8, 16, 99, 167, 0, 7, 28, 184, 0, 132, 181, 0, 135, 42, 42]
abbrev dktX7_advance_6 : List UInt8 := dkwX7_advance_6 ++ dktX7_advance_7
def dkwX7_advance_5 : List UInt8 := [96, 16, 96, 100, 61, 42, 89, 180, 0, 116, 4, 96, 181, 0, 116, 167, 255, 202, 42, 42, 180, 0, 116, 42]
abbrev dktX7_advance_5 : List UInt8 := dkwX7_advance_5 ++ dktX7_advance_6
def dkwX7_advance_4 : List UInt8 := [180, 0, 116, 42, 180, 0, 122, 100, 8, 162, 0, 20, 16, 32, 28, 104, 42, 42, 180, 0, 116, 182, 0, 119]
abbrev dktX7_advance_4 : List UInt8 := dkwX7_advance_4 ++ dktX7_advance_5
def dkwX7_advance_3 : List UInt8 := [184, 0, 128, 153, 0, 109, 3, 61, 42, 42, 180, 0, 116, 182, 0, 119, 184, 0, 128, 153, 0, 46, 42]
abbrev dktX7_advance_3 : List UInt8 := dkwX7_advance_3 ++ dktX7_advance_4
def dkwX7_advance_2 : List UInt8 := [42, 42, 180, 0, 116, 182, 0, 119, 60, 27, 156, 0, 11, 42, 3, 181, 0, 125, 167, 1, 8, 27]
abbrev dktX7_advance_2 : List UInt8 := dkwX7_advance_2 ++ dktX7_advance_3
def dkwX7_advance_1 : List UInt8 := [160, 0, 16, 42, 89, 180, 0, 116, 4, 96, 181, 0, 116, 167, 255, 220, 42, 42, 180, 0, 116, 181, 0, 122]
abbrev dktX7_advance_1 : List UInt8 := dkwX7_advance_1 ++ dktX7_advance_2
def dkwX7_advance_0 : List UInt8 := [42, 42, 180, 0, 116, 182, 0, 119, 16, 10, 159, 0, 16, 42, 42, 180, 0, 116, 182, 0, 119, 16, 32]
abbrev dktX7_advance_0 : List UInt8 := dkwX7_advance_0 ++ dktX7_advance_1
theorem dksX7_advance_0 : cX7_advance.data.toList.drop 0 = dktX7_advance_0 := by decide +kernel
theorem dksX7_advance_1 : cX7_advance.data.toList.drop 23 = dktX7_advance_1 := dk_seg dksX7_advance_0 23 rfl rfl
theorem dksX7_advance_2 : cX7_advance.data.toList.drop 47 = dktX7_advance_2 := dk_seg dksX7_advance_1 24 rfl rfl
theorem dksX7_advance_3 : cX7_advance.data.toList.drop 69 = dktX7_advance_3 := dk_seg dksX7_advance_2 22 rfl rfl
theorem dksX7_advance_4 : cX7_advance.data.toList.drop 92 = dktX7_advance_4 := dk_seg dksX7_advance_3 23 rfl rfl
theorem dksX7_advance_5 : cX7_advance.data.toList.drop 116 = dktX7_advance_5 := dk_seg dksX7_advance_4 24 rfl rfl
theorem dksX7_advance_6 : cX7_advance.data.toList.drop 140 = dktX7_advance_6 := dk_seg dksX7_advance_5 24 rfl rfl
theorem dksX7_advance_7 : cX7_advance.data.toList.drop 162 = dktX7_advance_7 := dk_seg dksX7_advance_6 22 rfl rfl
theorem dksX7_advance_8 : cX7_advance.data.toList.drop 185 = dktX7_advance_8 := dk_seg dksX7_advance_7 23 rfl rfl
theorem dksX7_advance_9 : cX7_advance.data.toList.drop 208 = dktX7_advance_9 := dk_seg dksX7_advance_8 23 rfl rfl
theorem dksX7_advance_10 : cX7_advance.data.toList.drop 230 = dktX7_advance_10 := dk_seg dksX7_advance_9 22 rfl rfl
theorem dksX7_advance_11 : cX7_advance.data.toList.drop 253 = dktX7_advance_11 := dk_seg dksX7_advance_10 23 rfl rfl
theorem dksX7_advance_12 : cX7_advance.data.toList.drop 275 = dktX7_advance_12 := dk_seg dksX7_advance_11 22 rfl rfl
theorem dksX7_advance_13 : cX7_advance.data.toList.drop 298 = dktX7_advance_13 := dk_seg dksX7_advance_12 23 rfl rfl
theorem dksX7_advance_14 : cX7_advance.data.toList.drop 322 = dktX7_advance_14 := dk_seg dksX7_advance_13 24 rfl rfl
theorem dX7_advance_0 : decode cX7_advance 0 = .ok (.aload_n 0, 1) := dk_42 (dk_at dksX7_advance_0 0 rfl rfl)
theorem dX7_advance_1 : decode cX7_advance 1 = .ok (.aload_n 0, 1) := dk_42 (dk_at dksX7_advance_0 1 rfl rfl)
theorem dX7_advance_2 : decode cX7_advance 2 = .ok (.getfield 116, 3) := dk_180 0 116 (dk_at dksX7_advance_0 2 rfl rfl)
theorem dX7_advance_5 : decode cX7_advance 5 = .ok (.invokevirtual 119, 3) := dk_182 0 119 (dk_at dksX7_advance_0 5 rfl rfl)
theorem dX7_advance_8 : decode cX7_advance 8 = .ok (.bipush 10, 2) := dk_16 10 (dk_at dksX7_advance_0 8 rfl rfl)
theorem dX7_advance_10 : decode cX7_advance 10 = .ok (.if_icmp .eq 16, 3) := dk_159 0 16 (dk_at dksX7_advance_0 10 rfl rfl)
theorem dX7_advance_13 : decode cX7_advance 13 = .ok (.aload_n 0, 1) := dk_42 (dk_at dksX7_advance_0 13 rfl rfl)
theorem dX7_advance_14 : decode cX7_advance 14 = .ok (.aload_n 0, 1) := dk_42 (dk_at dksX7_advance_0 14 rfl rfl)
theorem dX7_advance_15 : decode cX7_advance 15 = .ok (.getfield 116, 3) := dk_180 0 116 (dk_at dksX7_advance_0 15 rfl rfl)
theorem dX7_advance_18 : decode cX7_advance 18 = .ok (.invokevirtual 119, 3) := dk_182 0 119 (dk_at dksX7_advance_0 18 rfl rfl)
theorem dX7_advance_21 : decode cX7_advance 21 = .ok (.bipush 32, 2) := dk_16 32 (dk_at dksX7_advance_0 21 rfl rfl)
theorem dX7_advance_23 : decode cX7_advance 23 = .ok (.if_icmp .ne 16, 3) := dk_160 0 16 (dk_at dksX7_advance_1 0 rfl rfl)
theorem dX7_advance_26 : decode cX7_advance 26 = .ok (.aload_n 0, 1) := dk_42 (dk_at dksX7_advance_1 3 rfl rfl)
theorem dX7_advance_27 : decode cX7_advance 27 = .ok (.dup, 1) := dk_89 (dk_at dksX7_advance_1 4 rfl rfl)
theorem dX7_advance_28 : decode cX7_advance 28 = .ok (.getfield 116, 3) := dk_180 0 116 (dk_at dksX7_advance_1 5 rfl rfl)
theorem dX7_advance_31 : decode cX7_advance 31 = .ok (.iconst 1, 1) := dk_4 (dk_at dksX7_advance_1 8 rfl rfl)
theorem dX7_advance_32 : decode cX7_advance 32 = .ok (.iadd, 1) := dk_96 (dk_at dksX7_advance_1 9 rfl rfl)
theorem dX7_advance_33 : decode cX7_advance 33 = .ok (.putfield 116, 3) := dk_181 0 116 (dk_at dksX7_advance_1 10 rfl rfl)
theorem dX7_advance_36 : decode cX7_advance 36 = .ok (.goto (-36), 3) := dk_167 255 220 (dk_at dksX7_advance_1 13 rfl rfl)
theorem dX7_advance_39 : decode cX7_advance 39 = .ok (.aload_n 0, 1) := dk_42 (dk_at dksX7_advance_1 16 rfl rfl)
theorem dX7_advance_40 : decode cX7_advance 40 = .ok (.aload_n 0, 1) := dk_42 (dk_at dksX7_advance_1 17 rfl rfl)
theorem dX7_advance_41 : decode cX7_advance 41 = .ok (.getfield 116, 3) := dk_180 0 116 (dk_at dksX7_advance_1 18 rfl rfl)
theorem dX7_advance_44 : decode cX7_advance 44 = .ok (.putfield 122, 3) := dk_181 0 122 (dk_at dksX7_advance_1 21 rfl rfl)
theorem dX7_advance_47 : decode cX7_advance 47 = .ok (.aload_n 0, 1) := dk_42 (dk_at dksX7_advance_2 0 rfl rfl)
theorem dX7_advance_48 : decode cX7_advance 48 = .ok (.aload_n 0, 1) := dk_42 (dk_at dksX7_advance_2 1 rfl rfl)
theorem dX7_advance_49 : decode cX7_advance 49 = .ok (.getfield 116, 3) := dk_180 0 116 (dk_at dksX7_advance_2 2 rfl rfl)
theorem dX7_advance_52 : decode cX7_advance 52 = .ok (.invokevirtual 119, 3) := dk_182 0 119 (dk_at dksX7_advance_2 5 rfl rfl)
theorem dX7_advance_55 : decode cX7_advance 55 = .ok (.istore_n 1, 1) := dk_60 (dk_at dksX7_advance_2 8 rfl rfl)
theorem dX7_advance_56 : decode cX7_advance 56 = .ok (.iload_n 1, 1) := dk_27 (dk_at dksX7_advance_2 9 rfl rfl)
theorem dX7_advance_57 : decode cX7_advance 57 = .ok (.ifCond .ge 11, 3) := dk_156 0 11 (dk_at dksX7_advance_2 10 rfl rfl)
theorem dX7_advance_60 : decode cX7_advance 60 = .ok (.aload_n 0, 1) := dk_42 (dk_at dksX7_advance_2 13 rfl rfl)
theorem dX7_advance_61 : decode cX7_advance 61 = .ok (.iconst 0, 1) := dk_3 (dk_at dksX7_advance_2 14 rfl rfl)
theorem dX7_advance_62 : decode cX7_advance 62 = .ok (.putfield 125, 3) := dk_181 0 125 (dk_at dksX7_advance_2 15 rfl rfl)
theorem dX7_advance_65 : decode cX7_advance 65 = .ok (.goto 264, 3) := dk_167 1 8 (dk_at dksX7_advance_2 18 rfl rfl)
theorem dX7_advance_68 : decode cX7_advance 68 = .ok (.iload_n 1, 1) := dk_27 (dk_at dksX7_advance_2 21 rfl rfl)
theorem dX7_advance_69 : decode cX7_advance 69 = .ok (.invokestatic 128, 3) := dk_184 0 128 (dk_at dksX7_advance_3 0 rfl rfl)
theorem dX7_advance_72 : decode cX7_advance 72 = .ok (.ifCond .eq 109, 3) := dk_153 0 109 (dk_at dksX7_advance_3 3 rfl rfl)
theorem dX7_advance_75 : decode cX7_advance 75 = .ok (.iconst 0, 1) := dk_3 (dk_at dksX7_advance_3 6 rfl rfl)
theorem dX7_advance_76 : decode cX7_advance 76 = .ok (.istore_n 2, 1) := dk_61 (dk_at dksX7_advance_3 7 rfl rfl)
theorem dX7_advance_77 : decode cX7_advance 77 = .ok (.aload_n 0, 1) := dk_42 (dk_at dksX7_advance_3 8 rfl rfl)
theorem dX7_advance_78 : decode cX7_advance 78 = .ok (.aload_n 0, 1) := dk_42 (dk_at dksX7_advance_3 9 rfl rfl)
theorem dX7_advance_79 : decode cX7_advance 79 = .ok (.getfield 116, 3) := dk_180 0 116 (dk_at dksX7_advance_3 10 rfl rfl)
theorem dX7_advance_82 : decode cX7_advance 82 = .ok (.invokevirtual 119, 3) := dk_182 0 119 (dk_at dksX7_advance_3 13 rfl rfl)
theorem dX7_advance_85 : decode cX7_advance 85 = .ok (.invokestatic 128, 3) := dk_184 0 128 (dk_at dksX7_advance_3 16 rfl rfl)
theorem dX7_advance_88 : decode cX7_advance 88 = .ok (.ifCond .eq 46, 3) := dk_153 0 46 (dk_at dksX7_advance_3 19 rfl rfl)
theorem dX7_advance_91 : decode cX7_advance 91 = .ok (.aload_n 0, 1) := dk_42 (dk_at dksX7_advance_3 22 rfl rfl)
theorem dX7_advance_92 : decode cX7_advance 92 = .ok (.getfield 116, 3) := dk_180 0 116 (dk_at dksX7_advance_4 0 rfl rfl)
theorem dX7_advance_95 : decode cX7_advance 95 = .ok (.aload_n 0, 1) := dk_42 (dk_at dksX7_advance_4 3 rfl rfl)
theorem dX7_advance_96 : decode cX7_advance 96 = .ok (.getfield 122, 3) := dk_180 0 122 (dk_at dksX7_advance_4 4 rfl rfl)
theorem dX7_advance_99 : decode cX7_advance 99 = .ok (.isub, 1) := dk_100 (dk_at dksX7_advance_4 7 rfl rfl)
theorem dX7_advance_100 : decode cX7_advance 100 = .ok (.iconst 5, 1) := dk_8 (dk_at dksX7_advance_4 8 rfl rfl)
theorem dX7_advance_101 : decode cX7_advance 101 = .ok (.if_icmp .ge 20, 3) := dk_162 0 20 (dk_at dksX7_advance_4 9 rfl rfl)
theorem dX7_advance_104 : decode cX7_advance 104 = .ok (.bipush 32, 2) := dk_16 32 (dk_at dksX7_advance_4 12 rfl rfl)
theorem dX7_advance_106 : decode cX7_advance 106 = .ok (.iload_n 2, 1) := dk_28 (dk_at dksX7_advance_4 14 rfl rfl)
theorem dX7_advance_107 : decode cX7_advance 107 = .ok (.imul, 1) := dk_104 (dk_at dksX7_advance_4 15 rfl rfl)
theorem dX7_advance_108 : decode cX7_advance 108 = .ok (.aload_n 0, 1) := dk_42 (dk_at dksX7_advance_4 16 rfl rfl)
theorem dX7_advance_109 : decode cX7_advance 109 = .ok (.aload_n 0, 1) := dk_42 (dk_at dksX7_advance_4 17 rfl rfl)
theorem dX7_advance_110 : decode cX7_advance 110 = .ok (.getfield 116, 3) := dk_180 0 116 (dk_at dksX7_advance_4 18 rfl rfl)
theorem dX7_advance_113 : decode cX7_advance 113 = .ok (.invokevirtual 119, 3) := dk_182 0 119 (dk_at dksX7_advance_4 21 rfl rfl)
theorem dX7_advance_116 : decode cX7_advance 116 = .ok (.iadd, 1) := dk_96 (dk_at dksX7_advance_5 0 rfl rfl)
theorem dX7_advance_117 : decode cX7_advance 117 = .ok (.bipush 96, 2) := dk_16 96 (dk_at dksX7_advance_5 1 rfl rfl)
theorem dX7_advance_119 : decode cX7_advance 119 = .ok (.isub, 1) := dk_100 (dk_at dksX7_advance_5 3 rfl rfl)
theorem dX7_advance_120 : decode cX7_advance 120 = .ok (.istore_n 2, 1) := dk_61 (dk_at dksX7_advance_5 4 rfl rfl)
theorem dX7_advance_121 : decode cX7_advance 121 = .ok (.aload_n 0, 1) := dk_42 (dk_at dksX7_advance_5 5 rfl rfl)
theorem dX7_advance_122 : decode cX7_advance 122 = .ok (.dup, 1) := dk_89 (dk_at dksX7_advance_5 6 rfl rfl)
theorem dX7_advance_123 : decode cX7_advance 123 = .ok (.getfield 116, 3) := dk_180 0 116 (dk_at dksX7_advance_5 7 rfl rfl)
theorem dX7_advance_126 : decode cX7_advance 126 = .ok (.iconst 1, 1) := dk_4 (dk_at dksX7_advance_5 10 rfl rfl)
theorem dX7_advance_127 : decode cX7_advance 127 = .ok (.iadd, 1) := dk_96 (dk_at dksX7_advance_5 11 rfl rfl)
theorem dX7_advance_128 : decode cX7_advance 128 = .ok (.putfield 116, 3) := dk_181 0 116 (dk_at dksX7_advance_5 12 rfl rfl)
theorem dX7_advance_131 : decode cX7_advance 131 = .ok (.goto (-54), 3) := dk_167 255 202 (dk_at dksX7_advance_5 15 rfl rfl)
theorem dX7_advance_134 : decode cX7_advance 134 = .ok (.aload_n 0, 1) := dk_42 (dk_at dksX7_advance_5 18 rfl rfl)
theorem dX7_advance_135 : decode cX7_advance 135 = .ok (.aload_n 0, 1) := dk_42 (dk_at dksX7_advance_5 19 rfl rfl)
theorem dX7_advance_136 : decode cX7_advance 136 = .ok (.getfield 116, 3) := dk_180 0 116 (dk_at dksX7_advance_5 20 rfl rfl)
theorem dX7_advance_139 : decode cX7_advance 139 = .ok (.aload_n 0, 1) := dk_42 (dk_at dksX7_advance_5 23 rfl rfl)
theorem dX7_advance_140 : decode cX7_advance 140 = .ok (.getfield 122, 3) := dk_180 0 122 (dk_at dksX7_advance_6 0 rfl rfl)
theorem dX7_advance_143 : decode cX7_advance 143 = .ok (.isub, 1) := dk_100 (dk_at dksX7_advance_6 3 rfl rfl)
theorem dX7_advance_144 : decode cX7_advance 144 = .ok (.iconst 4, 1) := dk_7 (dk_at dksX7_advance_6 4 rfl rfl)
theorem dX7_advance_145 : decode cX7_advance 145 = .ok (.if_icmp .le 8, 3) := dk_164 0 8 (dk_at dksX7_advance_6 5 rfl rfl)
theorem dX7_advance_148 : decode cX7_advance 148 = .ok (.bipush 99, 2) := dk_16 99 (dk_at dksX7_advance_6 8 rfl rfl)
theorem dX7_advance_150 : decode cX7_advance 150 = .ok (.goto 7, 3) := dk_167 0 7 (dk_at dksX7_advance_6 10 rfl rfl)
theorem dX7_advance_153 : decode cX7_advance 153 = .ok (.iload_n 2, 1) := dk_28 (dk_at dksX7_advance_6 13 rfl rfl)
theorem dX7_advance_154 : decode cX7_advance 154 = .ok (.invokestatic 132, 3) := dk_184 0 132 (dk_at dksX7_advance_6 14 rfl rfl)
theorem dX7_advance_157 : decode cX7_advance 157 = .ok (.putfield 135, 3) := dk_181 0 135 (dk_at dksX7_advance_6 17 rfl rfl)
theorem dX7_advance_160 : decode cX7_advance 160 = .ok (.aload_n 0, 1) := dk_42 (dk_at dksX7_advance_6 20 rfl rfl)
theorem dX7_advance_161 : decode cX7_advance 161 = .ok (.aload_n 0, 1) := dk_42 (dk_at dksX7_advance_6 21 rfl rfl)
theorem dX7_advance_162 : decode cX7_advance 162 = .ok (.getfield 135, 3) := dk_180 0 135 (dk_at dksX7_advance_7 0 rfl rfl)
theorem dX7_advance_165 : decode cX7_advance 165 = .ok (.bipush 99, 2) := dk_16 99 (dk_at dksX7_advance_7 3 rfl rfl)
theorem dX7_advance_167 : decode cX7_advance 167 = .ok (.if_icmp .ne 7, 3) := dk_160 0 7 (dk_at dksX7_advance_7 5 rfl rfl)
theorem dX7_advance_170 : decode cX7_advance 170 = .ok (.iconst 4, 1) := dk_7 (dk_at dksX7_advance_7 8 rfl rfl)
theorem dX7_advance_171 : decode cX7_advance 171 = .ok (.goto 4, 3) := dk_167 0 4 (dk_at dksX7_advance_7 9 rfl rfl)
theorem dX7_advance_174 : decode cX7_advance 174 = .ok (.iconst 3, 1) := dk_6 (dk_at dksX7_advance_7 12 rfl rfl)
theorem dX7_advance_175 : decode cX7_advance 175 = .ok (.putfield 125, 3) := dk_181 0 125 (dk_at dksX7_advance_7 13 rfl rfl)
theorem dX7_advance_178 : decode cX7_advance 178 = .ok (.goto 151, 3) := dk_167 0 151 (dk_at dksX7_advance_7 16 rfl rfl)
theorem dX7_advance_181 : decode cX7_advance 181 = .ok (.iload_n 1, 1) := dk_27 (dk_at dksX7_advance_7 19 rfl rfl)
theorem dX7_advance_182 : decode cX7_advance 182 = .ok (.invokestatic 138, 3) := dk_184 0 138 (dk_at dksX7_advance_7 20 rfl rfl)
theorem dX7_advance_185 : decode cX7_advance 185 = .ok (.ifCond .eq 96, 3) := dk_153 0 96 (dk_at dksX7_advance_8 0 rfl rfl)
theorem dX7_advance_188 : decode cX7_advance 188 = .ok (.aload_n 0, 1) := dk_42 (dk_at dksX7_advance_8 3 rfl rfl)
theorem dX7_advance_189 : decode cX7_advance 189 = .ok (.iconst 0, 1) := dk_3 (dk_at dksX7_advance_8 4 rfl rfl)
theorem dX7_advance_190 : decode cX7_advance 190 = .ok (.putfield 141, 3) := dk_181 0 141 (dk_at dksX7_advance_8 5 rfl rfl)
theorem dX7_advance_193 : decode cX7_advance 193 = .ok (.aload_n 0, 1) := dk_42 (dk_at dksX7_advance_8 8 rfl rfl)
theorem dX7_advance_194 : decode cX7_advance 194 = .ok (.aload_n 0, 1) := dk_42 (dk_at dksX7_advance_8 9 rfl rfl)
theorem dX7_advance_195 : decode cX7_advance 195 = .ok (.getfield 116, 3) := dk_180 0 116 (dk_at dksX7_advance_8 10 rfl rfl)
theorem dX7_advance_198 : decode cX7_advance 198 = .ok (.invokevirtual 119, 3) := dk_182 0 119 (dk_at dksX7_advance_8 13 rfl rfl)
theorem dX7_advance_201 : decode cX7_advance 201 = .ok (.invokestatic 138, 3) := dk_184 0 138 (dk_at dksX7_advance_8 16 rfl rfl)
theorem dX7_advance_204 : decode cX7_advance 204 = .ok (.ifCond .eq 52, 3) := dk_153 0 52 (dk_at dksX7_advance_8 19 rfl rfl)
theorem dX7_advance_207 : decode cX7_advance 207 = .ok (.aload_n 0, 1) := dk_42 (dk_at dksX7_advance_8 22 rfl rfl)
theorem dX7_advance_208 : decode cX7_advance 208 = .ok (.getfield 116, 3) := dk_180 0 116 (dk_at dksX7_advance_9 0 rfl rfl)
theorem dX7_advance_211 : decode cX7_advance 211 = .ok (.aload_n 0, 1) := dk_42 (dk_at dksX7_advance_9 3 rfl rfl)
theorem dX7_advance_212 : decode cX7_advance 212 = .ok (.getfield 122, 3) := dk_180 0 122 (dk_at dksX7_advance_9 4 rfl rfl)
theorem dX7_advance_215 : decode cX7_advance 215 = .ok (.isub, 1) := dk_100 (dk_at dksX7_advance_9 7 rfl rfl)
theorem dX7_advance_216 : decode cX7_advance 216 = .ok (.iconst 4, 1) := dk_7 (dk_at dksX7_advance_9 8 rfl rfl)
theorem dX7_advance_217 : decode cX7_advance 217 = .ok (.if_icmp .ge 26, 3) := dk_162 0 26 (dk_at dksX7_advance_9 9 rfl rfl)
theorem dX7_advance_220 : decode cX7_advance 220 = .ok (.aload_n 0, 1) := dk_42 (dk_at dksX7_advance_9 12 rfl rfl)
theorem dX7_advance_221 : decode cX7_advance 221 = .ok (.bipush 10, 2) := dk_16 10 (dk_at dksX7_advance_9 13 rfl rfl)
theorem dX7_advance_223 : decode cX7_advance 223 = .ok (.aload_n 0, 1) := dk_42 (dk_at dksX7_advance_9 15 rfl rfl)
theorem dX7_advance_224 : decode cX7_advance 224 = .ok (.getfield 141, 3) := dk_180 0 141 (dk_at dksX7_advance_9 16 rfl rfl)
theorem dX7_advance_227 : decode cX7_advance 227 = .ok (.imul, 1) := dk_104 (dk_at dksX7_advance_9 19 rfl rfl)
theorem dX7_advance_228 : decode cX7_advance 228 = .ok (.aload_n 0, 1) := dk_42 (dk_at dksX7_advance_9 20 rfl rfl)
theorem dX7_advance_229 : decode cX7_advance 229 = .ok (.aload_n 0, 1) := dk_42 (dk_at dksX7_advance_9 21 rfl rfl)
theorem dX7_advance_230 : decode cX7_advance 230 = .ok (.getfield 116, 3) := dk_180 0 116 (dk_at dksX7_advance_10 0 rfl rfl)
theorem dX7_advance_233 : decode cX7_advance 233 = .ok (.invokevirtual 119, 3) := dk_182 0 119 (dk_at dksX7_advance_10 3 rfl rfl)
theorem dX7_advance_236 : decode cX7_advance 236 = .ok (.iadd, 1) := dk_96 (dk_at dksX7_advance_10 6 rfl rfl)
theorem dX7_advance_237 : decode cX7_advance 237 = .ok (.bipush 48, 2) := dk_16 48 (dk_at dksX7_advance_10 7 rfl rfl)
theorem dX7_advance_239 : decode cX7_advance 239 = .ok (.isub, 1) := dk_100 (dk_at dksX7_advance_10 9 rfl rfl)
theorem dX7_advance_240 : decode cX7_advance 240 = .ok (.putfield 141, 3) := dk_181 0 141 (dk_at dksX7_advance_10 10 rfl rfl)
theorem dX7_advance_243 : decode cX7_advance 243 = .ok (.aload_n 0, 1) := dk_42 (dk_at dksX7_advance_10 13 rfl rfl)
theorem dX7_advance_244 : decode cX7_advance 244 = .ok (.dup, 1) := dk_89 (dk_at dksX7_advance_10 14 rfl rfl)
theorem dX7_advance_245 : decode cX7_advance 245 = .ok (.getfield 116, 3) := dk_180 0 116 (dk_at dksX7_advance_10 15 rfl rfl)
theorem dX7_advance_248 : decode cX7_advance 248 = .ok (.iconst 1, 1) := dk_4 (dk_at dksX7_advance_10 18 rfl rfl)
theorem dX7_advance_249 : decode cX7_advance 249 = .ok (.iadd, 1) := dk_96 (dk_at dksX7_advance_10 19 rfl rfl)
theorem dX7_advance_250 : decode cX7_advance 250 = .ok (.putfield 116, 3) := dk_181 0 116 (dk_at dksX7_advance_10 20 rfl rfl)
theorem dX7_advance_253 : decode cX7_advance 253 = .ok (.goto (-60), 3) := dk_167 255 196 (dk_at dksX7_advance_11 0 rfl rfl)
theorem dX7_advance_256 : decode cX7_advance 256 = .ok (.aload_n 0, 1) := dk_42 (dk_at dksX7_advance_11 3 rfl rfl)
theorem dX7_advance_257 : decode cX7_advance 257 = .ok (.aload_n 0, 1) := dk_42 (dk_at dksX7_advance_11 4 rfl rfl)
theorem dX7_advance_258 : decode cX7_advance 258 = .ok (.getfield 116, 3) := dk_180 0 116 (dk_at dksX7_advance_11 5 rfl rfl)
theorem dX7_advance_261 : decode cX7_advance 261 = .ok (.aload_n 0, 1) := dk_42 (dk_at dksX7_advance_11 8 rfl rfl)
theorem dX7_advance_262 : decode cX7_advance 262 = .ok (.getfield 122, 3) := dk_180 0 122 (dk_at dksX7_advance_11 9 rfl rfl)
theorem dX7_advance_265 : decode cX7_advance 265 = .ok (.isub, 1) := dk_100 (dk_at dksX7_advance_11 12 rfl rfl)
theorem dX7_advance_266 : decode cX7_advance 266 = .ok (.iconst 4, 1) := dk_7 (dk_at dksX7_advance_11 13 rfl rfl)
theorem dX7_advance_267 : decode cX7_advance 267 = .ok (.if_icmp .le 7, 3) := dk_164 0 7 (dk_at dksX7_advance_11 14 rfl rfl)
theorem dX7_advance_270 : decode cX7_advance 270 = .ok (.iconst 4, 1) := dk_7 (dk_at dksX7_advance_11 17 rfl rfl)
theorem dX7_advance_271 : decode cX7_advance 271 = .ok (.goto 4, 3) := dk_167 0 4 (dk_at dksX7_advance_11 18 rfl rfl)
theorem dX7_advance_274 : decode cX7_advance 274 = .ok (.iconst 1, 1) := dk_4 (dk_at dksX7_advance_11 21 rfl rfl)
theorem dX7_advance_275 : decode cX7_advance 275 = .ok (.putfield 125, 3) := dk_181 0 125 (dk_at dksX7_advance_12 0 rfl rfl)
theorem dX7_advance_278 : decode cX7_advance 278 = .ok (.goto 51, 3) := dk_167 0 51 (dk_at dksX7_advance_12 3 rfl rfl)
theorem dX7_advance_281 : decode cX7_advance 281 = .ok (.aload_n 0, 1) := dk_42 (dk_at dksX7_advance_12 6 rfl rfl)
theorem dX7_advance_282 : decode cX7_advance 282 = .ok (.dup, 1) := dk_89 (dk_at dksX7_advance_12 7 rfl rfl)
theorem dX7_advance_283 : decode cX7_advance 283 = .ok (.getfield 116, 3) := dk_180 0 116 (dk_at dksX7_advance_12 8 rfl rfl)
theorem dX7_advance_286 : decode cX7_advance 286 = .ok (.iconst 1, 1) := dk_4 (dk_at dksX7_advance_12 11 rfl rfl)
theorem dX7_advance_287 : decode cX7_advance 287 = .ok (.iadd, 1) := dk_96 (dk_at dksX7_advance_12 12 rfl rfl)
theorem dX7_advance_288 : decode cX7_advance 288 = .ok (.putfield 116, 3) := dk_181 0 116 (dk_at dksX7_advance_12 13 rfl rfl)
theorem dX7_advance_291 : decode cX7_advance 291 = .ok (.aload_n 0, 1) := dk_42 (dk_at dksX7_advance_12 16 rfl rfl)
theorem dX7_advance_292 : decode cX7_advance 292 = .ok (.iload_n 1, 1) := dk_27 (dk_at dksX7_advance_12 17 rfl rfl)
theorem dX7_advance_293 : decode cX7_advance 293 = .ok (.putfield 144, 3) := dk_181 0 144 (dk_at dksX7_advance_12 18 rfl rfl)
theorem dX7_advance_296 : decode cX7_advance 296 = .ok (.aload_n 0, 1) := dk_42 (dk_at dksX7_advance_12 21 rfl rfl)
theorem dX7_advance_297 : decode cX7_advance 297 = .ok (.iload_n 1, 1) := dk_27 (dk_at dksX7_advance_12 22 rfl rfl)
theorem dX7_advance_298 : decode cX7_advance 298 = .ok (.bipush 40, 2) := dk_16 40 (dk_at dksX7_advance_13 0 rfl rfl)
theorem dX7_advance_300 : decode cX7_advance 300 = .ok (.if_icmp .eq 21, 3) := dk_159 0 21 (dk_at dksX7_advance_13 2 rfl rfl)
theorem dX7_advance_303 : decode cX7_advance 303 = .ok (.iload_n 1, 1) := dk_27 (dk_at dksX7_advance_13 5 rfl rfl)
theorem dX7_advance_304 : decode cX7_advance 304 = .ok (.bipush 41, 2) := dk_16 41 (dk_at dksX7_advance_13 6 rfl rfl)
theorem dX7_advance_306 : decode cX7_advance 306 = .ok (.if_icmp .eq 15, 3) := dk_159 0 15 (dk_at dksX7_advance_13 8 rfl rfl)
theorem dX7_advance_309 : decode cX7_advance 309 = .ok (.iload_n 1, 1) := dk_27 (dk_at dksX7_advance_13 11 rfl rfl)
theorem dX7_advance_310 : decode cX7_advance 310 = .ok (.bipush 59, 2) := dk_16 59 (dk_at dksX7_advance_13 12 rfl rfl)
theorem dX7_advance_312 : decode cX7_advance 312 = .ok (.if_icmp .eq 9, 3) := dk_159 0 9 (dk_at dksX7_advance_13 14 rfl rfl)
theorem dX7_advance_315 : decode cX7_advance 315 = .ok (.iload_n 1, 1) := dk_27 (dk_at dksX7_advance_13 17 rfl rfl)
theorem dX7_advance_316 : decode cX7_advance 316 = .ok (.bipush 60, 2) := dk_16 60 (dk_at dksX7_advance_13 18 rfl rfl)
theorem dX7_advance_318 : decode cX7_advance 318 = .ok (.if_icmp .ne 7, 3) := dk_160 0 7 (dk_at dksX7_advance_13 20 rfl rfl)
theorem dX7_advance_321 : decode cX7_advance 321 = .ok (.iconst 2, 1) := dk_5 (dk_at dksX7_advance_13 23 rfl rfl)
theorem dX7_advance_322 : decode cX7_advance 322 = .ok (.goto 4, 3) := dk_167 0 4 (dk_at dksX7_advance_14 0 rfl rfl)
theorem dX7_advance_325 : decode cX7_advance 325 = .ok (.iconst 4, 1) := dk_7 (dk_at dksX7_advance_14 3 rfl rfl)
theorem dX7_advance_326 : decode cX7_advance 326 = .ok (.putfield 125, 3) := dk_181 0 125 (dk_at dksX7_advance_14 4 rfl rfl)
theorem dX7_advance_329 : decode cX7_advance 329 = .ok (.return_, 1) := dk_177 (dk_at dksX7_advance_14 7 rfl rfl)
abbrev cX7_byteAt : ByteArray := prog_21_method_13_code
def yX7_byteAt : MethodName := ⟨RX7, "byteAt", "(I)I"⟩
def dkwX7_byteAt_0 : List UInt8 := [27, 42, 180, 0, 100, 162, 0, 15, 42, 180, 0, 7, 16, 70, 27, 96, 46, 167, 0, 4, 2, 172]
abbrev dktX7_byteAt_0 : List UInt8 := dkwX7_byteAt_0 ++ []
theorem dksX7_byteAt_0 : cX7_byteAt.data.toList.drop 0 = dktX7_byteAt_0 := by decide +kernel
theorem dX7_byteAt_0 : decode cX7_byteAt 0 = .ok (.iload_n 1, 1) := dk_27 (dk_at dksX7_byteAt_0 0 rfl rfl)
theorem dX7_byteAt_1 : decode cX7_byteAt 1 = .ok (.aload_n 0, 1) := dk_42 (dk_at dksX7_byteAt_0 1 rfl rfl)
theorem dX7_byteAt_2 : decode cX7_byteAt 2 = .ok (.getfield 100, 3) := dk_180 0 100 (dk_at dksX7_byteAt_0 2 rfl rfl)
theorem dX7_byteAt_5 : decode cX7_byteAt 5 = .ok (.if_icmp .ge 15, 3) := dk_162 0 15 (dk_at dksX7_byteAt_0 5 rfl rfl)
theorem dX7_byteAt_8 : decode cX7_byteAt 8 = .ok (.aload_n 0, 1) := dk_42 (dk_at dksX7_byteAt_0 8 rfl rfl)
theorem dX7_byteAt_9 : decode cX7_byteAt 9 = .ok (.getfield 7, 3) := dk_180 0 7 (dk_at dksX7_byteAt_0 9 rfl rfl)
theorem dX7_byteAt_12 : decode cX7_byteAt 12 = .ok (.bipush 70, 2) := dk_16 70 (dk_at dksX7_byteAt_0 12 rfl rfl)
theorem dX7_byteAt_14 : decode cX7_byteAt 14 = .ok (.iload_n 1, 1) := dk_27 (dk_at dksX7_byteAt_0 14 rfl rfl)
theorem dX7_byteAt_15 : decode cX7_byteAt 15 = .ok (.iadd, 1) := dk_96 (dk_at dksX7_byteAt_0 15 rfl rfl)
theorem dX7_byteAt_16 : decode cX7_byteAt 16 = .ok (.iaload, 1) := dk_46 (dk_at dksX7_byteAt_0 16 rfl rfl)
theorem dX7_byteAt_17 : decode cX7_byteAt 17 = .ok (.goto 4, 3) := dk_167 0 4 (dk_at dksX7_byteAt_0 17 rfl rfl)
theorem dX7_byteAt_20 : decode cX7_byteAt 20 = .ok (.iconst (-1), 1) := dk_2 (dk_at dksX7_byteAt_0 20 rfl rfl)
theorem dX7_byteAt_21 : decode cX7_byteAt 21 = .ok (.ireturn, 1) := dk_172 (dk_at dksX7_byteAt_0 21 rfl rfl)
abbrev cX7_isLetter : ByteArray := prog_21_method_14_code
def yX7_isLetter : MethodName := ⟨RX7, "isLetter", "(I)Z"⟩
def dkwX7_isLetter_0 : List UInt8 := [26, 16, 97, 161, 0, 13, 26, 16, 122, 163, 0, 7, 4, 167, 0, 4, 3, 172]
abbrev dktX7_isLetter_0 : List UInt8 := dkwX7_isLetter_0 ++ []
theorem dksX7_isLetter_0 : cX7_isLetter.data.toList.drop 0 = dktX7_isLetter_0 := by decide +kernel
theorem dX7_isLetter_0 : decode cX7_isLetter 0 = .ok (.iload_n 0, 1) := dk_26 (dk_at dksX7_isLetter_0 0 rfl rfl)
theorem dX7_isLetter_1 : decode cX7_isLetter 1 = .ok (.bipush 97, 2) := dk_16 97 (dk_at dksX7_isLetter_0 1 rfl rfl)
theorem dX7_isLetter_3 : decode cX7_isLetter 3 = .ok (.if_icmp .lt 13, 3) := dk_161 0 13 (dk_at dksX7_isLetter_0 3 rfl rfl)
theorem dX7_isLetter_6 : decode cX7_isLetter 6 = .ok (.iload_n 0, 1) := dk_26 (dk_at dksX7_isLetter_0 6 rfl rfl)
theorem dX7_isLetter_7 : decode cX7_isLetter 7 = .ok (.bipush 122, 2) := dk_16 122 (dk_at dksX7_isLetter_0 7 rfl rfl)
theorem dX7_isLetter_9 : decode cX7_isLetter 9 = .ok (.if_icmp .gt 7, 3) := dk_163 0 7 (dk_at dksX7_isLetter_0 9 rfl rfl)
theorem dX7_isLetter_12 : decode cX7_isLetter 12 = .ok (.iconst 1, 1) := dk_4 (dk_at dksX7_isLetter_0 12 rfl rfl)
theorem dX7_isLetter_13 : decode cX7_isLetter 13 = .ok (.goto 4, 3) := dk_167 0 4 (dk_at dksX7_isLetter_0 13 rfl rfl)
theorem dX7_isLetter_16 : decode cX7_isLetter 16 = .ok (.iconst 0, 1) := dk_3 (dk_at dksX7_isLetter_0 16 rfl rfl)
theorem dX7_isLetter_17 : decode cX7_isLetter 17 = .ok (.ireturn, 1) := dk_172 (dk_at dksX7_isLetter_0 17 rfl rfl)
abbrev cX7_wordOf : ByteArray := prog_21_method_19_code
def yX7_wordOf : MethodName := ⟨RX7, "wordOf", "(I)I"⟩
def dkwX7_wordOf_12 : List UInt8 := [16, 112, 184, 0, 108, 160, 0, 6, 16, 17, 172, 16, 99, 172]
abbrev dktX7_wordOf_12 : List UInt8 := dkwX7_wordOf_12 ++ []
def dkwX7_wordOf_11 : List UInt8 := [16, 15, 172, 26, 16, 103, 16, 111, 184, 0, 112, 160, 0, 6, 16, 16, 172, 26, 16, 115, 16, 116, 16, 111]
abbrev dktX7_wordOf_11 : List UInt8 := dkwX7_wordOf_11 ++ dktX7_wordOf_12
def dkwX7_wordOf_10 : List UInt8 := [16, 110, 16, 100, 184, 0, 108, 160, 0, 6, 16, 14, 172, 26, 16, 105, 16, 102, 184, 0, 112, 160, 0, 6]
abbrev dktX7_wordOf_10 : List UInt8 := dkwX7_wordOf_10 ++ dktX7_wordOf_11
def dkwX7_wordOf_9 : List UInt8 := [16, 12, 172, 26, 16, 112, 16, 117, 16, 116, 184, 0, 104, 160, 0, 6, 16, 13, 172, 26, 16, 115, 16, 101]
abbrev dktX7_wordOf_9 : List UInt8 := dkwX7_wordOf_9 ++ dktX7_wordOf_10
def dkwX7_wordOf_8 : List UInt8 := [16, 111, 184, 0, 112, 160, 0, 6, 16, 11, 172, 26, 16, 109, 16, 105, 16, 120, 184, 0, 104, 160, 0, 6]
abbrev dktX7_wordOf_8 : List UInt8 := dkwX7_wordOf_8 ++ dktX7_wordOf_9
def dkwX7_wordOf_7 : List UInt8 := [16, 9, 172, 26, 16, 114, 16, 101, 16, 97, 16, 100, 184, 0, 108, 160, 0, 6, 16, 10, 172, 26, 16, 116]
abbrev dktX7_wordOf_7 : List UInt8 := dkwX7_wordOf_7 ++ dktX7_wordOf_8
def dkwX7_wordOf_6 : List UInt8 := [16, 100, 184, 0, 108, 160, 0, 6, 16, 8, 172, 26, 16, 100, 16, 97, 16, 121, 184, 0, 104, 160, 0, 6]
abbrev dktX7_wordOf_6 : List UInt8 := dkwX7_wordOf_6 ++ dktX7_wordOf_7
def dkwX7_wordOf_5 : List UInt8 := [16, 108, 16, 105, 16, 110, 16, 107, 184, 0, 108, 160, 0, 6, 16, 7, 172, 26, 16, 108, 16, 97, 16, 110]
abbrev dktX7_wordOf_5 : List UInt8 := dkwX7_wordOf_5 ++ dktX7_wordOf_6
def dkwX7_wordOf_4 : List UInt8 := [160, 0, 5, 8, 172, 26, 16, 116, 16, 101, 16, 120, 16, 116, 184, 0, 108, 160, 0, 6, 16, 6, 172, 26]
abbrev dktX7_wordOf_4 : List UInt8 := dkwX7_wordOf_4 ++ dktX7_wordOf_5
def dkwX7_wordOf_3 : List UInt8 := [16, 110, 184, 0, 104, 160, 0, 5, 7, 172, 26, 16, 108, 16, 111, 16, 103, 16, 111, 184, 0, 108]
abbrev dktX7_wordOf_3 : List UInt8 := dkwX7_wordOf_3 ++ dktX7_wordOf_4
def dkwX7_wordOf_2 : List UInt8 := [172, 26, 16, 99, 16, 97, 16, 114, 16, 100, 184, 0, 108, 160, 0, 5, 6, 172, 26, 16, 112, 16, 105]
abbrev dktX7_wordOf_2 : List UInt8 := dkwX7_wordOf_2 ++ dktX7_wordOf_3
def dkwX7_wordOf_1 : List UInt8 := [184, 0, 108, 160, 0, 5, 4, 172, 26, 16, 112, 16, 97, 16, 115, 16, 115, 184, 0, 108, 160, 0, 5, 5]
abbrev dktX7_wordOf_1 : List UInt8 := dkwX7_wordOf_1 ++ dktX7_wordOf_2
def dkwX7_wordOf_0 : List UInt8 := [26, 16, 98, 16, 111, 16, 120, 184, 0, 104, 160, 0, 5, 3, 172, 26, 16, 102, 16, 111, 16, 114, 16, 109]
abbrev dktX7_wordOf_0 : List UInt8 := dkwX7_wordOf_0 ++ dktX7_wordOf_1
theorem dksX7_wordOf_0 : cX7_wordOf.data.toList.drop 0 = dktX7_wordOf_0 := by decide +kernel
theorem dksX7_wordOf_1 : cX7_wordOf.data.toList.drop 24 = dktX7_wordOf_1 := dk_seg dksX7_wordOf_0 24 rfl rfl
theorem dksX7_wordOf_2 : cX7_wordOf.data.toList.drop 48 = dktX7_wordOf_2 := dk_seg dksX7_wordOf_1 24 rfl rfl
theorem dksX7_wordOf_3 : cX7_wordOf.data.toList.drop 71 = dktX7_wordOf_3 := dk_seg dksX7_wordOf_2 23 rfl rfl
theorem dksX7_wordOf_4 : cX7_wordOf.data.toList.drop 93 = dktX7_wordOf_4 := dk_seg dksX7_wordOf_3 22 rfl rfl
theorem dksX7_wordOf_5 : cX7_wordOf.data.toList.drop 117 = dktX7_wordOf_5 := dk_seg dksX7_wordOf_4 24 rfl rfl
theorem dksX7_wordOf_6 : cX7_wordOf.data.toList.drop 141 = dktX7_wordOf_6 := dk_seg dksX7_wordOf_5 24 rfl rfl
theorem dksX7_wordOf_7 : cX7_wordOf.data.toList.drop 165 = dktX7_wordOf_7 := dk_seg dksX7_wordOf_6 24 rfl rfl
theorem dksX7_wordOf_8 : cX7_wordOf.data.toList.drop 189 = dktX7_wordOf_8 := dk_seg dksX7_wordOf_7 24 rfl rfl
theorem dksX7_wordOf_9 : cX7_wordOf.data.toList.drop 213 = dktX7_wordOf_9 := dk_seg dksX7_wordOf_8 24 rfl rfl
theorem dksX7_wordOf_10 : cX7_wordOf.data.toList.drop 237 = dktX7_wordOf_10 := dk_seg dksX7_wordOf_9 24 rfl rfl
theorem dksX7_wordOf_11 : cX7_wordOf.data.toList.drop 261 = dktX7_wordOf_11 := dk_seg dksX7_wordOf_10 24 rfl rfl
theorem dksX7_wordOf_12 : cX7_wordOf.data.toList.drop 285 = dktX7_wordOf_12 := dk_seg dksX7_wordOf_11 24 rfl rfl
theorem dX7_wordOf_0 : decode cX7_wordOf 0 = .ok (.iload_n 0, 1) := dk_26 (dk_at dksX7_wordOf_0 0 rfl rfl)
theorem dX7_wordOf_1 : decode cX7_wordOf 1 = .ok (.bipush 98, 2) := dk_16 98 (dk_at dksX7_wordOf_0 1 rfl rfl)
theorem dX7_wordOf_3 : decode cX7_wordOf 3 = .ok (.bipush 111, 2) := dk_16 111 (dk_at dksX7_wordOf_0 3 rfl rfl)
theorem dX7_wordOf_5 : decode cX7_wordOf 5 = .ok (.bipush 120, 2) := dk_16 120 (dk_at dksX7_wordOf_0 5 rfl rfl)
theorem dX7_wordOf_7 : decode cX7_wordOf 7 = .ok (.invokestatic 104, 3) := dk_184 0 104 (dk_at dksX7_wordOf_0 7 rfl rfl)
theorem dX7_wordOf_10 : decode cX7_wordOf 10 = .ok (.if_icmp .ne 5, 3) := dk_160 0 5 (dk_at dksX7_wordOf_0 10 rfl rfl)
theorem dX7_wordOf_13 : decode cX7_wordOf 13 = .ok (.iconst 0, 1) := dk_3 (dk_at dksX7_wordOf_0 13 rfl rfl)
theorem dX7_wordOf_14 : decode cX7_wordOf 14 = .ok (.ireturn, 1) := dk_172 (dk_at dksX7_wordOf_0 14 rfl rfl)
theorem dX7_wordOf_15 : decode cX7_wordOf 15 = .ok (.iload_n 0, 1) := dk_26 (dk_at dksX7_wordOf_0 15 rfl rfl)
theorem dX7_wordOf_16 : decode cX7_wordOf 16 = .ok (.bipush 102, 2) := dk_16 102 (dk_at dksX7_wordOf_0 16 rfl rfl)
theorem dX7_wordOf_18 : decode cX7_wordOf 18 = .ok (.bipush 111, 2) := dk_16 111 (dk_at dksX7_wordOf_0 18 rfl rfl)
theorem dX7_wordOf_20 : decode cX7_wordOf 20 = .ok (.bipush 114, 2) := dk_16 114 (dk_at dksX7_wordOf_0 20 rfl rfl)
theorem dX7_wordOf_22 : decode cX7_wordOf 22 = .ok (.bipush 109, 2) := dk_16 109 (dk_at dksX7_wordOf_0 22 rfl rfl)
theorem dX7_wordOf_24 : decode cX7_wordOf 24 = .ok (.invokestatic 108, 3) := dk_184 0 108 (dk_at dksX7_wordOf_1 0 rfl rfl)
theorem dX7_wordOf_27 : decode cX7_wordOf 27 = .ok (.if_icmp .ne 5, 3) := dk_160 0 5 (dk_at dksX7_wordOf_1 3 rfl rfl)
theorem dX7_wordOf_30 : decode cX7_wordOf 30 = .ok (.iconst 1, 1) := dk_4 (dk_at dksX7_wordOf_1 6 rfl rfl)
theorem dX7_wordOf_31 : decode cX7_wordOf 31 = .ok (.ireturn, 1) := dk_172 (dk_at dksX7_wordOf_1 7 rfl rfl)
theorem dX7_wordOf_32 : decode cX7_wordOf 32 = .ok (.iload_n 0, 1) := dk_26 (dk_at dksX7_wordOf_1 8 rfl rfl)
theorem dX7_wordOf_33 : decode cX7_wordOf 33 = .ok (.bipush 112, 2) := dk_16 112 (dk_at dksX7_wordOf_1 9 rfl rfl)
theorem dX7_wordOf_35 : decode cX7_wordOf 35 = .ok (.bipush 97, 2) := dk_16 97 (dk_at dksX7_wordOf_1 11 rfl rfl)
theorem dX7_wordOf_37 : decode cX7_wordOf 37 = .ok (.bipush 115, 2) := dk_16 115 (dk_at dksX7_wordOf_1 13 rfl rfl)
theorem dX7_wordOf_39 : decode cX7_wordOf 39 = .ok (.bipush 115, 2) := dk_16 115 (dk_at dksX7_wordOf_1 15 rfl rfl)
theorem dX7_wordOf_41 : decode cX7_wordOf 41 = .ok (.invokestatic 108, 3) := dk_184 0 108 (dk_at dksX7_wordOf_1 17 rfl rfl)
theorem dX7_wordOf_44 : decode cX7_wordOf 44 = .ok (.if_icmp .ne 5, 3) := dk_160 0 5 (dk_at dksX7_wordOf_1 20 rfl rfl)
theorem dX7_wordOf_47 : decode cX7_wordOf 47 = .ok (.iconst 2, 1) := dk_5 (dk_at dksX7_wordOf_1 23 rfl rfl)
theorem dX7_wordOf_48 : decode cX7_wordOf 48 = .ok (.ireturn, 1) := dk_172 (dk_at dksX7_wordOf_2 0 rfl rfl)
theorem dX7_wordOf_49 : decode cX7_wordOf 49 = .ok (.iload_n 0, 1) := dk_26 (dk_at dksX7_wordOf_2 1 rfl rfl)
theorem dX7_wordOf_50 : decode cX7_wordOf 50 = .ok (.bipush 99, 2) := dk_16 99 (dk_at dksX7_wordOf_2 2 rfl rfl)
theorem dX7_wordOf_52 : decode cX7_wordOf 52 = .ok (.bipush 97, 2) := dk_16 97 (dk_at dksX7_wordOf_2 4 rfl rfl)
theorem dX7_wordOf_54 : decode cX7_wordOf 54 = .ok (.bipush 114, 2) := dk_16 114 (dk_at dksX7_wordOf_2 6 rfl rfl)
theorem dX7_wordOf_56 : decode cX7_wordOf 56 = .ok (.bipush 100, 2) := dk_16 100 (dk_at dksX7_wordOf_2 8 rfl rfl)
theorem dX7_wordOf_58 : decode cX7_wordOf 58 = .ok (.invokestatic 108, 3) := dk_184 0 108 (dk_at dksX7_wordOf_2 10 rfl rfl)
theorem dX7_wordOf_61 : decode cX7_wordOf 61 = .ok (.if_icmp .ne 5, 3) := dk_160 0 5 (dk_at dksX7_wordOf_2 13 rfl rfl)
theorem dX7_wordOf_64 : decode cX7_wordOf 64 = .ok (.iconst 3, 1) := dk_6 (dk_at dksX7_wordOf_2 16 rfl rfl)
theorem dX7_wordOf_65 : decode cX7_wordOf 65 = .ok (.ireturn, 1) := dk_172 (dk_at dksX7_wordOf_2 17 rfl rfl)
theorem dX7_wordOf_66 : decode cX7_wordOf 66 = .ok (.iload_n 0, 1) := dk_26 (dk_at dksX7_wordOf_2 18 rfl rfl)
theorem dX7_wordOf_67 : decode cX7_wordOf 67 = .ok (.bipush 112, 2) := dk_16 112 (dk_at dksX7_wordOf_2 19 rfl rfl)
theorem dX7_wordOf_69 : decode cX7_wordOf 69 = .ok (.bipush 105, 2) := dk_16 105 (dk_at dksX7_wordOf_2 21 rfl rfl)
theorem dX7_wordOf_71 : decode cX7_wordOf 71 = .ok (.bipush 110, 2) := dk_16 110 (dk_at dksX7_wordOf_3 0 rfl rfl)
theorem dX7_wordOf_73 : decode cX7_wordOf 73 = .ok (.invokestatic 104, 3) := dk_184 0 104 (dk_at dksX7_wordOf_3 2 rfl rfl)
theorem dX7_wordOf_76 : decode cX7_wordOf 76 = .ok (.if_icmp .ne 5, 3) := dk_160 0 5 (dk_at dksX7_wordOf_3 5 rfl rfl)
theorem dX7_wordOf_79 : decode cX7_wordOf 79 = .ok (.iconst 4, 1) := dk_7 (dk_at dksX7_wordOf_3 8 rfl rfl)
theorem dX7_wordOf_80 : decode cX7_wordOf 80 = .ok (.ireturn, 1) := dk_172 (dk_at dksX7_wordOf_3 9 rfl rfl)
theorem dX7_wordOf_81 : decode cX7_wordOf 81 = .ok (.iload_n 0, 1) := dk_26 (dk_at dksX7_wordOf_3 10 rfl rfl)
theorem dX7_wordOf_82 : decode cX7_wordOf 82 = .ok (.bipush 108, 2) := dk_16 108 (dk_at dksX7_wordOf_3 11 rfl rfl)
theorem dX7_wordOf_84 : decode cX7_wordOf 84 = .ok (.bipush 111, 2) := dk_16 111 (dk_at dksX7_wordOf_3 13 rfl rfl)
theorem dX7_wordOf_86 : decode cX7_wordOf 86 = .ok (.bipush 103, 2) := dk_16 103 (dk_at dksX7_wordOf_3 15 rfl rfl)
theorem dX7_wordOf_88 : decode cX7_wordOf 88 = .ok (.bipush 111, 2) := dk_16 111 (dk_at dksX7_wordOf_3 17 rfl rfl)
theorem dX7_wordOf_90 : decode cX7_wordOf 90 = .ok (.invokestatic 108, 3) := dk_184 0 108 (dk_at dksX7_wordOf_3 19 rfl rfl)
theorem dX7_wordOf_93 : decode cX7_wordOf 93 = .ok (.if_icmp .ne 5, 3) := dk_160 0 5 (dk_at dksX7_wordOf_4 0 rfl rfl)
theorem dX7_wordOf_96 : decode cX7_wordOf 96 = .ok (.iconst 5, 1) := dk_8 (dk_at dksX7_wordOf_4 3 rfl rfl)
theorem dX7_wordOf_97 : decode cX7_wordOf 97 = .ok (.ireturn, 1) := dk_172 (dk_at dksX7_wordOf_4 4 rfl rfl)
theorem dX7_wordOf_98 : decode cX7_wordOf 98 = .ok (.iload_n 0, 1) := dk_26 (dk_at dksX7_wordOf_4 5 rfl rfl)
theorem dX7_wordOf_99 : decode cX7_wordOf 99 = .ok (.bipush 116, 2) := dk_16 116 (dk_at dksX7_wordOf_4 6 rfl rfl)
theorem dX7_wordOf_101 : decode cX7_wordOf 101 = .ok (.bipush 101, 2) := dk_16 101 (dk_at dksX7_wordOf_4 8 rfl rfl)
theorem dX7_wordOf_103 : decode cX7_wordOf 103 = .ok (.bipush 120, 2) := dk_16 120 (dk_at dksX7_wordOf_4 10 rfl rfl)
theorem dX7_wordOf_105 : decode cX7_wordOf 105 = .ok (.bipush 116, 2) := dk_16 116 (dk_at dksX7_wordOf_4 12 rfl rfl)
theorem dX7_wordOf_107 : decode cX7_wordOf 107 = .ok (.invokestatic 108, 3) := dk_184 0 108 (dk_at dksX7_wordOf_4 14 rfl rfl)
theorem dX7_wordOf_110 : decode cX7_wordOf 110 = .ok (.if_icmp .ne 6, 3) := dk_160 0 6 (dk_at dksX7_wordOf_4 17 rfl rfl)
theorem dX7_wordOf_113 : decode cX7_wordOf 113 = .ok (.bipush 6, 2) := dk_16 6 (dk_at dksX7_wordOf_4 20 rfl rfl)
theorem dX7_wordOf_115 : decode cX7_wordOf 115 = .ok (.ireturn, 1) := dk_172 (dk_at dksX7_wordOf_4 22 rfl rfl)
theorem dX7_wordOf_116 : decode cX7_wordOf 116 = .ok (.iload_n 0, 1) := dk_26 (dk_at dksX7_wordOf_4 23 rfl rfl)
theorem dX7_wordOf_117 : decode cX7_wordOf 117 = .ok (.bipush 108, 2) := dk_16 108 (dk_at dksX7_wordOf_5 0 rfl rfl)
theorem dX7_wordOf_119 : decode cX7_wordOf 119 = .ok (.bipush 105, 2) := dk_16 105 (dk_at dksX7_wordOf_5 2 rfl rfl)
theorem dX7_wordOf_121 : decode cX7_wordOf 121 = .ok (.bipush 110, 2) := dk_16 110 (dk_at dksX7_wordOf_5 4 rfl rfl)
theorem dX7_wordOf_123 : decode cX7_wordOf 123 = .ok (.bipush 107, 2) := dk_16 107 (dk_at dksX7_wordOf_5 6 rfl rfl)
theorem dX7_wordOf_125 : decode cX7_wordOf 125 = .ok (.invokestatic 108, 3) := dk_184 0 108 (dk_at dksX7_wordOf_5 8 rfl rfl)
theorem dX7_wordOf_128 : decode cX7_wordOf 128 = .ok (.if_icmp .ne 6, 3) := dk_160 0 6 (dk_at dksX7_wordOf_5 11 rfl rfl)
theorem dX7_wordOf_131 : decode cX7_wordOf 131 = .ok (.bipush 7, 2) := dk_16 7 (dk_at dksX7_wordOf_5 14 rfl rfl)
theorem dX7_wordOf_133 : decode cX7_wordOf 133 = .ok (.ireturn, 1) := dk_172 (dk_at dksX7_wordOf_5 16 rfl rfl)
theorem dX7_wordOf_134 : decode cX7_wordOf 134 = .ok (.iload_n 0, 1) := dk_26 (dk_at dksX7_wordOf_5 17 rfl rfl)
theorem dX7_wordOf_135 : decode cX7_wordOf 135 = .ok (.bipush 108, 2) := dk_16 108 (dk_at dksX7_wordOf_5 18 rfl rfl)
theorem dX7_wordOf_137 : decode cX7_wordOf 137 = .ok (.bipush 97, 2) := dk_16 97 (dk_at dksX7_wordOf_5 20 rfl rfl)
theorem dX7_wordOf_139 : decode cX7_wordOf 139 = .ok (.bipush 110, 2) := dk_16 110 (dk_at dksX7_wordOf_5 22 rfl rfl)
theorem dX7_wordOf_141 : decode cX7_wordOf 141 = .ok (.bipush 100, 2) := dk_16 100 (dk_at dksX7_wordOf_6 0 rfl rfl)
theorem dX7_wordOf_143 : decode cX7_wordOf 143 = .ok (.invokestatic 108, 3) := dk_184 0 108 (dk_at dksX7_wordOf_6 2 rfl rfl)
theorem dX7_wordOf_146 : decode cX7_wordOf 146 = .ok (.if_icmp .ne 6, 3) := dk_160 0 6 (dk_at dksX7_wordOf_6 5 rfl rfl)
theorem dX7_wordOf_149 : decode cX7_wordOf 149 = .ok (.bipush 8, 2) := dk_16 8 (dk_at dksX7_wordOf_6 8 rfl rfl)
theorem dX7_wordOf_151 : decode cX7_wordOf 151 = .ok (.ireturn, 1) := dk_172 (dk_at dksX7_wordOf_6 10 rfl rfl)
theorem dX7_wordOf_152 : decode cX7_wordOf 152 = .ok (.iload_n 0, 1) := dk_26 (dk_at dksX7_wordOf_6 11 rfl rfl)
theorem dX7_wordOf_153 : decode cX7_wordOf 153 = .ok (.bipush 100, 2) := dk_16 100 (dk_at dksX7_wordOf_6 12 rfl rfl)
theorem dX7_wordOf_155 : decode cX7_wordOf 155 = .ok (.bipush 97, 2) := dk_16 97 (dk_at dksX7_wordOf_6 14 rfl rfl)
theorem dX7_wordOf_157 : decode cX7_wordOf 157 = .ok (.bipush 121, 2) := dk_16 121 (dk_at dksX7_wordOf_6 16 rfl rfl)
theorem dX7_wordOf_159 : decode cX7_wordOf 159 = .ok (.invokestatic 104, 3) := dk_184 0 104 (dk_at dksX7_wordOf_6 18 rfl rfl)
theorem dX7_wordOf_162 : decode cX7_wordOf 162 = .ok (.if_icmp .ne 6, 3) := dk_160 0 6 (dk_at dksX7_wordOf_6 21 rfl rfl)
theorem dX7_wordOf_165 : decode cX7_wordOf 165 = .ok (.bipush 9, 2) := dk_16 9 (dk_at dksX7_wordOf_7 0 rfl rfl)
theorem dX7_wordOf_167 : decode cX7_wordOf 167 = .ok (.ireturn, 1) := dk_172 (dk_at dksX7_wordOf_7 2 rfl rfl)
theorem dX7_wordOf_168 : decode cX7_wordOf 168 = .ok (.iload_n 0, 1) := dk_26 (dk_at dksX7_wordOf_7 3 rfl rfl)
theorem dX7_wordOf_169 : decode cX7_wordOf 169 = .ok (.bipush 114, 2) := dk_16 114 (dk_at dksX7_wordOf_7 4 rfl rfl)
theorem dX7_wordOf_171 : decode cX7_wordOf 171 = .ok (.bipush 101, 2) := dk_16 101 (dk_at dksX7_wordOf_7 6 rfl rfl)
theorem dX7_wordOf_173 : decode cX7_wordOf 173 = .ok (.bipush 97, 2) := dk_16 97 (dk_at dksX7_wordOf_7 8 rfl rfl)
theorem dX7_wordOf_175 : decode cX7_wordOf 175 = .ok (.bipush 100, 2) := dk_16 100 (dk_at dksX7_wordOf_7 10 rfl rfl)
theorem dX7_wordOf_177 : decode cX7_wordOf 177 = .ok (.invokestatic 108, 3) := dk_184 0 108 (dk_at dksX7_wordOf_7 12 rfl rfl)
theorem dX7_wordOf_180 : decode cX7_wordOf 180 = .ok (.if_icmp .ne 6, 3) := dk_160 0 6 (dk_at dksX7_wordOf_7 15 rfl rfl)
theorem dX7_wordOf_183 : decode cX7_wordOf 183 = .ok (.bipush 10, 2) := dk_16 10 (dk_at dksX7_wordOf_7 18 rfl rfl)
theorem dX7_wordOf_185 : decode cX7_wordOf 185 = .ok (.ireturn, 1) := dk_172 (dk_at dksX7_wordOf_7 20 rfl rfl)
theorem dX7_wordOf_186 : decode cX7_wordOf 186 = .ok (.iload_n 0, 1) := dk_26 (dk_at dksX7_wordOf_7 21 rfl rfl)
theorem dX7_wordOf_187 : decode cX7_wordOf 187 = .ok (.bipush 116, 2) := dk_16 116 (dk_at dksX7_wordOf_7 22 rfl rfl)
theorem dX7_wordOf_189 : decode cX7_wordOf 189 = .ok (.bipush 111, 2) := dk_16 111 (dk_at dksX7_wordOf_8 0 rfl rfl)
theorem dX7_wordOf_191 : decode cX7_wordOf 191 = .ok (.invokestatic 112, 3) := dk_184 0 112 (dk_at dksX7_wordOf_8 2 rfl rfl)
theorem dX7_wordOf_194 : decode cX7_wordOf 194 = .ok (.if_icmp .ne 6, 3) := dk_160 0 6 (dk_at dksX7_wordOf_8 5 rfl rfl)
theorem dX7_wordOf_197 : decode cX7_wordOf 197 = .ok (.bipush 11, 2) := dk_16 11 (dk_at dksX7_wordOf_8 8 rfl rfl)
theorem dX7_wordOf_199 : decode cX7_wordOf 199 = .ok (.ireturn, 1) := dk_172 (dk_at dksX7_wordOf_8 10 rfl rfl)
theorem dX7_wordOf_200 : decode cX7_wordOf 200 = .ok (.iload_n 0, 1) := dk_26 (dk_at dksX7_wordOf_8 11 rfl rfl)
theorem dX7_wordOf_201 : decode cX7_wordOf 201 = .ok (.bipush 109, 2) := dk_16 109 (dk_at dksX7_wordOf_8 12 rfl rfl)
theorem dX7_wordOf_203 : decode cX7_wordOf 203 = .ok (.bipush 105, 2) := dk_16 105 (dk_at dksX7_wordOf_8 14 rfl rfl)
theorem dX7_wordOf_205 : decode cX7_wordOf 205 = .ok (.bipush 120, 2) := dk_16 120 (dk_at dksX7_wordOf_8 16 rfl rfl)
theorem dX7_wordOf_207 : decode cX7_wordOf 207 = .ok (.invokestatic 104, 3) := dk_184 0 104 (dk_at dksX7_wordOf_8 18 rfl rfl)
theorem dX7_wordOf_210 : decode cX7_wordOf 210 = .ok (.if_icmp .ne 6, 3) := dk_160 0 6 (dk_at dksX7_wordOf_8 21 rfl rfl)
theorem dX7_wordOf_213 : decode cX7_wordOf 213 = .ok (.bipush 12, 2) := dk_16 12 (dk_at dksX7_wordOf_9 0 rfl rfl)
theorem dX7_wordOf_215 : decode cX7_wordOf 215 = .ok (.ireturn, 1) := dk_172 (dk_at dksX7_wordOf_9 2 rfl rfl)
theorem dX7_wordOf_216 : decode cX7_wordOf 216 = .ok (.iload_n 0, 1) := dk_26 (dk_at dksX7_wordOf_9 3 rfl rfl)
theorem dX7_wordOf_217 : decode cX7_wordOf 217 = .ok (.bipush 112, 2) := dk_16 112 (dk_at dksX7_wordOf_9 4 rfl rfl)
theorem dX7_wordOf_219 : decode cX7_wordOf 219 = .ok (.bipush 117, 2) := dk_16 117 (dk_at dksX7_wordOf_9 6 rfl rfl)
theorem dX7_wordOf_221 : decode cX7_wordOf 221 = .ok (.bipush 116, 2) := dk_16 116 (dk_at dksX7_wordOf_9 8 rfl rfl)
theorem dX7_wordOf_223 : decode cX7_wordOf 223 = .ok (.invokestatic 104, 3) := dk_184 0 104 (dk_at dksX7_wordOf_9 10 rfl rfl)
theorem dX7_wordOf_226 : decode cX7_wordOf 226 = .ok (.if_icmp .ne 6, 3) := dk_160 0 6 (dk_at dksX7_wordOf_9 13 rfl rfl)
theorem dX7_wordOf_229 : decode cX7_wordOf 229 = .ok (.bipush 13, 2) := dk_16 13 (dk_at dksX7_wordOf_9 16 rfl rfl)
theorem dX7_wordOf_231 : decode cX7_wordOf 231 = .ok (.ireturn, 1) := dk_172 (dk_at dksX7_wordOf_9 18 rfl rfl)
theorem dX7_wordOf_232 : decode cX7_wordOf 232 = .ok (.iload_n 0, 1) := dk_26 (dk_at dksX7_wordOf_9 19 rfl rfl)
theorem dX7_wordOf_233 : decode cX7_wordOf 233 = .ok (.bipush 115, 2) := dk_16 115 (dk_at dksX7_wordOf_9 20 rfl rfl)
theorem dX7_wordOf_235 : decode cX7_wordOf 235 = .ok (.bipush 101, 2) := dk_16 101 (dk_at dksX7_wordOf_9 22 rfl rfl)
theorem dX7_wordOf_237 : decode cX7_wordOf 237 = .ok (.bipush 110, 2) := dk_16 110 (dk_at dksX7_wordOf_10 0 rfl rfl)
theorem dX7_wordOf_239 : decode cX7_wordOf 239 = .ok (.bipush 100, 2) := dk_16 100 (dk_at dksX7_wordOf_10 2 rfl rfl)
theorem dX7_wordOf_241 : decode cX7_wordOf 241 = .ok (.invokestatic 108, 3) := dk_184 0 108 (dk_at dksX7_wordOf_10 4 rfl rfl)
theorem dX7_wordOf_244 : decode cX7_wordOf 244 = .ok (.if_icmp .ne 6, 3) := dk_160 0 6 (dk_at dksX7_wordOf_10 7 rfl rfl)
theorem dX7_wordOf_247 : decode cX7_wordOf 247 = .ok (.bipush 14, 2) := dk_16 14 (dk_at dksX7_wordOf_10 10 rfl rfl)
theorem dX7_wordOf_249 : decode cX7_wordOf 249 = .ok (.ireturn, 1) := dk_172 (dk_at dksX7_wordOf_10 12 rfl rfl)
theorem dX7_wordOf_250 : decode cX7_wordOf 250 = .ok (.iload_n 0, 1) := dk_26 (dk_at dksX7_wordOf_10 13 rfl rfl)
theorem dX7_wordOf_251 : decode cX7_wordOf 251 = .ok (.bipush 105, 2) := dk_16 105 (dk_at dksX7_wordOf_10 14 rfl rfl)
theorem dX7_wordOf_253 : decode cX7_wordOf 253 = .ok (.bipush 102, 2) := dk_16 102 (dk_at dksX7_wordOf_10 16 rfl rfl)
theorem dX7_wordOf_255 : decode cX7_wordOf 255 = .ok (.invokestatic 112, 3) := dk_184 0 112 (dk_at dksX7_wordOf_10 18 rfl rfl)
theorem dX7_wordOf_258 : decode cX7_wordOf 258 = .ok (.if_icmp .ne 6, 3) := dk_160 0 6 (dk_at dksX7_wordOf_10 21 rfl rfl)
theorem dX7_wordOf_261 : decode cX7_wordOf 261 = .ok (.bipush 15, 2) := dk_16 15 (dk_at dksX7_wordOf_11 0 rfl rfl)
theorem dX7_wordOf_263 : decode cX7_wordOf 263 = .ok (.ireturn, 1) := dk_172 (dk_at dksX7_wordOf_11 2 rfl rfl)
theorem dX7_wordOf_264 : decode cX7_wordOf 264 = .ok (.iload_n 0, 1) := dk_26 (dk_at dksX7_wordOf_11 3 rfl rfl)
theorem dX7_wordOf_265 : decode cX7_wordOf 265 = .ok (.bipush 103, 2) := dk_16 103 (dk_at dksX7_wordOf_11 4 rfl rfl)
theorem dX7_wordOf_267 : decode cX7_wordOf 267 = .ok (.bipush 111, 2) := dk_16 111 (dk_at dksX7_wordOf_11 6 rfl rfl)
theorem dX7_wordOf_269 : decode cX7_wordOf 269 = .ok (.invokestatic 112, 3) := dk_184 0 112 (dk_at dksX7_wordOf_11 8 rfl rfl)
theorem dX7_wordOf_272 : decode cX7_wordOf 272 = .ok (.if_icmp .ne 6, 3) := dk_160 0 6 (dk_at dksX7_wordOf_11 11 rfl rfl)
theorem dX7_wordOf_275 : decode cX7_wordOf 275 = .ok (.bipush 16, 2) := dk_16 16 (dk_at dksX7_wordOf_11 14 rfl rfl)
theorem dX7_wordOf_277 : decode cX7_wordOf 277 = .ok (.ireturn, 1) := dk_172 (dk_at dksX7_wordOf_11 16 rfl rfl)
theorem dX7_wordOf_278 : decode cX7_wordOf 278 = .ok (.iload_n 0, 1) := dk_26 (dk_at dksX7_wordOf_11 17 rfl rfl)
theorem dX7_wordOf_279 : decode cX7_wordOf 279 = .ok (.bipush 115, 2) := dk_16 115 (dk_at dksX7_wordOf_11 18 rfl rfl)
theorem dX7_wordOf_281 : decode cX7_wordOf 281 = .ok (.bipush 116, 2) := dk_16 116 (dk_at dksX7_wordOf_11 20 rfl rfl)
theorem dX7_wordOf_283 : decode cX7_wordOf 283 = .ok (.bipush 111, 2) := dk_16 111 (dk_at dksX7_wordOf_11 22 rfl rfl)
theorem dX7_wordOf_285 : decode cX7_wordOf 285 = .ok (.bipush 112, 2) := dk_16 112 (dk_at dksX7_wordOf_12 0 rfl rfl)
theorem dX7_wordOf_287 : decode cX7_wordOf 287 = .ok (.invokestatic 108, 3) := dk_184 0 108 (dk_at dksX7_wordOf_12 2 rfl rfl)
theorem dX7_wordOf_290 : decode cX7_wordOf 290 = .ok (.if_icmp .ne 6, 3) := dk_160 0 6 (dk_at dksX7_wordOf_12 5 rfl rfl)
theorem dX7_wordOf_293 : decode cX7_wordOf 293 = .ok (.bipush 17, 2) := dk_16 17 (dk_at dksX7_wordOf_12 8 rfl rfl)
theorem dX7_wordOf_295 : decode cX7_wordOf 295 = .ok (.ireturn, 1) := dk_172 (dk_at dksX7_wordOf_12 10 rfl rfl)
theorem dX7_wordOf_296 : decode cX7_wordOf 296 = .ok (.bipush 99, 2) := dk_16 99 (dk_at dksX7_wordOf_12 11 rfl rfl)
theorem dX7_wordOf_298 : decode cX7_wordOf 298 = .ok (.ireturn, 1) := dk_172 (dk_at dksX7_wordOf_12 13 rfl rfl)
abbrev cX7_three : ByteArray := prog_21_method_17_code
def yX7_three : MethodName := ⟨RX7, "three", "(III)I"⟩
def dkwX7_three_0 : List UInt8 := [16, 32, 26, 16, 96, 100, 104, 27, 96, 16, 96, 100, 16, 32, 104, 28, 96, 16, 96, 100, 172]
abbrev dktX7_three_0 : List UInt8 := dkwX7_three_0 ++ []
theorem dksX7_three_0 : cX7_three.data.toList.drop 0 = dktX7_three_0 := by decide +kernel
theorem dX7_three_0 : decode cX7_three 0 = .ok (.bipush 32, 2) := dk_16 32 (dk_at dksX7_three_0 0 rfl rfl)
theorem dX7_three_2 : decode cX7_three 2 = .ok (.iload_n 0, 1) := dk_26 (dk_at dksX7_three_0 2 rfl rfl)
theorem dX7_three_3 : decode cX7_three 3 = .ok (.bipush 96, 2) := dk_16 96 (dk_at dksX7_three_0 3 rfl rfl)
theorem dX7_three_5 : decode cX7_three 5 = .ok (.isub, 1) := dk_100 (dk_at dksX7_three_0 5 rfl rfl)
theorem dX7_three_6 : decode cX7_three 6 = .ok (.imul, 1) := dk_104 (dk_at dksX7_three_0 6 rfl rfl)
theorem dX7_three_7 : decode cX7_three 7 = .ok (.iload_n 1, 1) := dk_27 (dk_at dksX7_three_0 7 rfl rfl)
theorem dX7_three_8 : decode cX7_three 8 = .ok (.iadd, 1) := dk_96 (dk_at dksX7_three_0 8 rfl rfl)
theorem dX7_three_9 : decode cX7_three 9 = .ok (.bipush 96, 2) := dk_16 96 (dk_at dksX7_three_0 9 rfl rfl)
theorem dX7_three_11 : decode cX7_three 11 = .ok (.isub, 1) := dk_100 (dk_at dksX7_three_0 11 rfl rfl)
theorem dX7_three_12 : decode cX7_three 12 = .ok (.bipush 32, 2) := dk_16 32 (dk_at dksX7_three_0 12 rfl rfl)
theorem dX7_three_14 : decode cX7_three 14 = .ok (.imul, 1) := dk_104 (dk_at dksX7_three_0 14 rfl rfl)
theorem dX7_three_15 : decode cX7_three 15 = .ok (.iload_n 2, 1) := dk_28 (dk_at dksX7_three_0 15 rfl rfl)
theorem dX7_three_16 : decode cX7_three 16 = .ok (.iadd, 1) := dk_96 (dk_at dksX7_three_0 16 rfl rfl)
theorem dX7_three_17 : decode cX7_three 17 = .ok (.bipush 96, 2) := dk_16 96 (dk_at dksX7_three_0 17 rfl rfl)
theorem dX7_three_19 : decode cX7_three 19 = .ok (.isub, 1) := dk_100 (dk_at dksX7_three_0 19 rfl rfl)
theorem dX7_three_20 : decode cX7_three 20 = .ok (.ireturn, 1) := dk_172 (dk_at dksX7_three_0 20 rfl rfl)
abbrev cX7_four : ByteArray := prog_21_method_18_code
def yX7_four : MethodName := ⟨RX7, "four", "(IIII)I"⟩
def dkwX7_four_0 : List UInt8 := [16, 32, 26, 27, 28, 184, 0, 104, 104, 29, 96, 16, 96, 100, 172]
abbrev dktX7_four_0 : List UInt8 := dkwX7_four_0 ++ []
theorem dksX7_four_0 : cX7_four.data.toList.drop 0 = dktX7_four_0 := by decide +kernel
theorem dX7_four_0 : decode cX7_four 0 = .ok (.bipush 32, 2) := dk_16 32 (dk_at dksX7_four_0 0 rfl rfl)
theorem dX7_four_2 : decode cX7_four 2 = .ok (.iload_n 0, 1) := dk_26 (dk_at dksX7_four_0 2 rfl rfl)
theorem dX7_four_3 : decode cX7_four 3 = .ok (.iload_n 1, 1) := dk_27 (dk_at dksX7_four_0 3 rfl rfl)
theorem dX7_four_4 : decode cX7_four 4 = .ok (.iload_n 2, 1) := dk_28 (dk_at dksX7_four_0 4 rfl rfl)
theorem dX7_four_5 : decode cX7_four 5 = .ok (.invokestatic 104, 3) := dk_184 0 104 (dk_at dksX7_four_0 5 rfl rfl)
theorem dX7_four_8 : decode cX7_four 8 = .ok (.imul, 1) := dk_104 (dk_at dksX7_four_0 8 rfl rfl)
theorem dX7_four_9 : decode cX7_four 9 = .ok (.iload_n 3, 1) := dk_29 (dk_at dksX7_four_0 9 rfl rfl)
theorem dX7_four_10 : decode cX7_four 10 = .ok (.iadd, 1) := dk_96 (dk_at dksX7_four_0 10 rfl rfl)
theorem dX7_four_11 : decode cX7_four 11 = .ok (.bipush 96, 2) := dk_16 96 (dk_at dksX7_four_0 11 rfl rfl)
theorem dX7_four_13 : decode cX7_four 13 = .ok (.isub, 1) := dk_100 (dk_at dksX7_four_0 13 rfl rfl)
theorem dX7_four_14 : decode cX7_four 14 = .ok (.ireturn, 1) := dk_172 (dk_at dksX7_four_0 14 rfl rfl)
abbrev cX7_two : ByteArray := prog_21_method_16_code
def yX7_two : MethodName := ⟨RX7, "two", "(II)I"⟩
def dkwX7_two_0 : List UInt8 := [16, 32, 26, 16, 96, 100, 104, 27, 96, 16, 96, 100, 172]
abbrev dktX7_two_0 : List UInt8 := dkwX7_two_0 ++ []
theorem dksX7_two_0 : cX7_two.data.toList.drop 0 = dktX7_two_0 := by decide +kernel
theorem dX7_two_0 : decode cX7_two 0 = .ok (.bipush 32, 2) := dk_16 32 (dk_at dksX7_two_0 0 rfl rfl)
theorem dX7_two_2 : decode cX7_two 2 = .ok (.iload_n 0, 1) := dk_26 (dk_at dksX7_two_0 2 rfl rfl)
theorem dX7_two_3 : decode cX7_two 3 = .ok (.bipush 96, 2) := dk_16 96 (dk_at dksX7_two_0 3 rfl rfl)
theorem dX7_two_5 : decode cX7_two 5 = .ok (.isub, 1) := dk_100 (dk_at dksX7_two_0 5 rfl rfl)
theorem dX7_two_6 : decode cX7_two 6 = .ok (.imul, 1) := dk_104 (dk_at dksX7_two_0 6 rfl rfl)
theorem dX7_two_7 : decode cX7_two 7 = .ok (.iload_n 1, 1) := dk_27 (dk_at dksX7_two_0 7 rfl rfl)
theorem dX7_two_8 : decode cX7_two 8 = .ok (.iadd, 1) := dk_96 (dk_at dksX7_two_0 8 rfl rfl)
theorem dX7_two_9 : decode cX7_two 9 = .ok (.bipush 96, 2) := dk_16 96 (dk_at dksX7_two_0 9 rfl rfl)
theorem dX7_two_11 : decode cX7_two 11 = .ok (.isub, 1) := dk_100 (dk_at dksX7_two_0 11 rfl rfl)
theorem dX7_two_12 : decode cX7_two 12 = .ok (.ireturn, 1) := dk_172 (dk_at dksX7_two_0 12 rfl rfl)
abbrev cX7_isDigit : ByteArray := prog_21_method_15_code
def yX7_isDigit : MethodName := ⟨RX7, "isDigit", "(I)Z"⟩
def dkwX7_isDigit_0 : List UInt8 := [26, 16, 48, 161, 0, 13, 26, 16, 57, 163, 0, 7, 4, 167, 0, 4, 3, 172]
abbrev dktX7_isDigit_0 : List UInt8 := dkwX7_isDigit_0 ++ []
theorem dksX7_isDigit_0 : cX7_isDigit.data.toList.drop 0 = dktX7_isDigit_0 := by decide +kernel
theorem dX7_isDigit_0 : decode cX7_isDigit 0 = .ok (.iload_n 0, 1) := dk_26 (dk_at dksX7_isDigit_0 0 rfl rfl)
theorem dX7_isDigit_1 : decode cX7_isDigit 1 = .ok (.bipush 48, 2) := dk_16 48 (dk_at dksX7_isDigit_0 1 rfl rfl)
theorem dX7_isDigit_3 : decode cX7_isDigit 3 = .ok (.if_icmp .lt 13, 3) := dk_161 0 13 (dk_at dksX7_isDigit_0 3 rfl rfl)
theorem dX7_isDigit_6 : decode cX7_isDigit 6 = .ok (.iload_n 0, 1) := dk_26 (dk_at dksX7_isDigit_0 6 rfl rfl)
theorem dX7_isDigit_7 : decode cX7_isDigit 7 = .ok (.bipush 57, 2) := dk_16 57 (dk_at dksX7_isDigit_0 7 rfl rfl)
theorem dX7_isDigit_9 : decode cX7_isDigit 9 = .ok (.if_icmp .gt 7, 3) := dk_163 0 7 (dk_at dksX7_isDigit_0 9 rfl rfl)
theorem dX7_isDigit_12 : decode cX7_isDigit 12 = .ok (.iconst 1, 1) := dk_4 (dk_at dksX7_isDigit_0 12 rfl rfl)
theorem dX7_isDigit_13 : decode cX7_isDigit 13 = .ok (.goto 4, 3) := dk_167 0 4 (dk_at dksX7_isDigit_0 13 rfl rfl)
theorem dX7_isDigit_16 : decode cX7_isDigit 16 = .ok (.iconst 0, 1) := dk_3 (dk_at dksX7_isDigit_0 16 rfl rfl)
theorem dX7_isDigit_17 : decode cX7_isDigit 17 = .ok (.ireturn, 1) := dk_172 (dk_at dksX7_isDigit_0 17 rfl rfl)
abbrev cX7_aBox : ByteArray := prog_21_method_27_code
def yX7_aBox : MethodName := ⟨RX7, "aBox", "()V"⟩
def dkwX7_aBox_14 : List UInt8 := [182, 0, 173, 153, 0, 20, 42, 182, 0, 164, 42, 89, 180, 0, 154, 4, 100, 181, 0, 154, 167, 255, 226, 177]
abbrev dktX7_aBox_14 : List UInt8 := dkwX7_aBox_14 ++ []
def dkwX7_aBox_13 : List UInt8 := [96, 181, 0, 154, 42, 89, 180, 0, 151, 4, 96, 181, 0, 151, 42, 180, 0, 154, 158, 0, 29, 42, 16, 41]
abbrev dktX7_aBox_13 : List UInt8 := dkwX7_aBox_13 ++ dktX7_aBox_14
def dkwX7_aBox_12 : List UInt8 := [16, 7, 162, 0, 16, 42, 180, 0, 17, 42, 180, 0, 154, 42, 180, 0, 151, 79, 42, 89, 180, 0, 154, 4]
abbrev dktX7_aBox_12 : List UInt8 := dkwX7_aBox_12 ++ dktX7_aBox_13
def dkwX7_aBox_11 : List UInt8 := [182, 0, 173, 154, 0, 8, 42, 182, 0, 157, 177, 42, 182, 0, 164, 28, 153, 0, 35, 42, 180, 0, 154]
abbrev dktX7_aBox_11 : List UInt8 := dkwX7_aBox_11 ++ dktX7_aBox_12
def dkwX7_aBox_10 : List UInt8 := [27, 7, 96, 42, 16, 99, 182, 0, 167, 79, 42, 16, 40, 182, 0, 173, 61, 28, 154, 0, 17, 42, 16, 59]
abbrev dktX7_aBox_10 : List UInt8 := dkwX7_aBox_10 ++ dktX7_aBox_11
def dkwX7_aBox_9 : List UInt8 := [96, 42, 6, 182, 0, 167, 79, 42, 16, 9, 182, 0, 170, 153, 0, 21, 42, 182, 0, 164, 42, 180, 0, 20]
abbrev dktX7_aBox_9 : List UInt8 := dkwX7_aBox_9 ++ dktX7_aBox_10
def dkwX7_aBox_8 : List UInt8 := [27, 7, 96, 3, 79, 42, 16, 8, 182, 0, 170, 153, 0, 20, 42, 182, 0, 164, 42, 180, 0, 20, 27, 6]
abbrev dktX7_aBox_8 : List UInt8 := dkwX7_aBox_8 ++ dktX7_aBox_9
def dkwX7_aBox_7 : List UInt8 := [180, 0, 17, 42, 180, 0, 154, 4, 100, 46, 79, 42, 180, 0, 20, 27, 6, 96, 2, 79, 42, 180, 0, 20]
abbrev dktX7_aBox_7 : List UInt8 := dkwX7_aBox_7 ++ dktX7_aBox_8
def dkwX7_aBox_6 : List UInt8 := [96, 42, 180, 0, 154, 153, 0, 12, 42, 180, 0, 154, 16, 6, 164, 0, 7, 2, 167, 0, 14, 42]
abbrev dktX7_aBox_6 : List UInt8 := dkwX7_aBox_6 ++ dktX7_aBox_7
def dkwX7_aBox_5 : List UInt8 := [180, 0, 125, 4, 160, 0, 12, 42, 16, 9, 182, 0, 167, 167, 0, 4, 3, 79, 42, 180, 0, 20, 27, 5]
abbrev dktX7_aBox_5 : List UInt8 := dkwX7_aBox_5 ++ dktX7_aBox_6
def dkwX7_aBox_4 : List UInt8 := [180, 0, 135, 79, 42, 182, 0, 164, 42, 180, 0, 20, 27, 4, 96, 42, 180, 0, 147, 154, 0, 20, 42]
abbrev dktX7_aBox_4 : List UInt8 := dkwX7_aBox_4 ++ dktX7_aBox_5
def dkwX7_aBox_3 : List UInt8 := [16, 14, 162, 0, 10, 42, 180, 0, 151, 167, 0, 5, 16, 13, 104, 96, 60, 42, 180, 0, 20, 27, 42]
abbrev dktX7_aBox_3 : List UInt8 := dkwX7_aBox_3 ++ dktX7_aBox_4
def dkwX7_aBox_2 : List UInt8 := [180, 0, 154, 16, 6, 160, 0, 12, 42, 7, 42, 180, 0, 122, 182, 0, 160, 4, 8, 42, 180, 0, 151]
abbrev dktX7_aBox_2 : List UInt8 := dkwX7_aBox_2 ++ dktX7_aBox_3
def dkwX7_aBox_1 : List UInt8 := [42, 182, 0, 157, 177, 42, 180, 0, 151, 16, 14, 160, 0, 12, 42, 6, 42, 180, 0, 122, 182, 0, 160, 42]
abbrev dktX7_aBox_1 : List UInt8 := dkwX7_aBox_1 ++ dktX7_aBox_2
def dkwX7_aBox_0 : List UInt8 := [42, 180, 0, 147, 154, 0, 20, 42, 180, 0, 125, 6, 160, 0, 12, 42, 180, 0, 135, 16, 7, 164, 0, 8]
abbrev dktX7_aBox_0 : List UInt8 := dkwX7_aBox_0 ++ dktX7_aBox_1
theorem dksX7_aBox_0 : cX7_aBox.data.toList.drop 0 = dktX7_aBox_0 := by decide +kernel
theorem dksX7_aBox_1 : cX7_aBox.data.toList.drop 24 = dktX7_aBox_1 := dk_seg dksX7_aBox_0 24 rfl rfl
theorem dksX7_aBox_2 : cX7_aBox.data.toList.drop 48 = dktX7_aBox_2 := dk_seg dksX7_aBox_1 24 rfl rfl
theorem dksX7_aBox_3 : cX7_aBox.data.toList.drop 71 = dktX7_aBox_3 := dk_seg dksX7_aBox_2 23 rfl rfl
theorem dksX7_aBox_4 : cX7_aBox.data.toList.drop 94 = dktX7_aBox_4 := dk_seg dksX7_aBox_3 23 rfl rfl
theorem dksX7_aBox_5 : cX7_aBox.data.toList.drop 117 = dktX7_aBox_5 := dk_seg dksX7_aBox_4 23 rfl rfl
theorem dksX7_aBox_6 : cX7_aBox.data.toList.drop 141 = dktX7_aBox_6 := dk_seg dksX7_aBox_5 24 rfl rfl
theorem dksX7_aBox_7 : cX7_aBox.data.toList.drop 163 = dktX7_aBox_7 := dk_seg dksX7_aBox_6 22 rfl rfl
theorem dksX7_aBox_8 : cX7_aBox.data.toList.drop 187 = dktX7_aBox_8 := dk_seg dksX7_aBox_7 24 rfl rfl
theorem dksX7_aBox_9 : cX7_aBox.data.toList.drop 211 = dktX7_aBox_9 := dk_seg dksX7_aBox_8 24 rfl rfl
theorem dksX7_aBox_10 : cX7_aBox.data.toList.drop 235 = dktX7_aBox_10 := dk_seg dksX7_aBox_9 24 rfl rfl
theorem dksX7_aBox_11 : cX7_aBox.data.toList.drop 259 = dktX7_aBox_11 := dk_seg dksX7_aBox_10 24 rfl rfl
theorem dksX7_aBox_12 : cX7_aBox.data.toList.drop 282 = dktX7_aBox_12 := dk_seg dksX7_aBox_11 23 rfl rfl
theorem dksX7_aBox_13 : cX7_aBox.data.toList.drop 306 = dktX7_aBox_13 := dk_seg dksX7_aBox_12 24 rfl rfl
theorem dksX7_aBox_14 : cX7_aBox.data.toList.drop 330 = dktX7_aBox_14 := dk_seg dksX7_aBox_13 24 rfl rfl
theorem dX7_aBox_0 : decode cX7_aBox 0 = .ok (.aload_n 0, 1) := dk_42 (dk_at dksX7_aBox_0 0 rfl rfl)
theorem dX7_aBox_1 : decode cX7_aBox 1 = .ok (.getfield 147, 3) := dk_180 0 147 (dk_at dksX7_aBox_0 1 rfl rfl)
theorem dX7_aBox_4 : decode cX7_aBox 4 = .ok (.ifCond .ne 20, 3) := dk_154 0 20 (dk_at dksX7_aBox_0 4 rfl rfl)
theorem dX7_aBox_7 : decode cX7_aBox 7 = .ok (.aload_n 0, 1) := dk_42 (dk_at dksX7_aBox_0 7 rfl rfl)
theorem dX7_aBox_8 : decode cX7_aBox 8 = .ok (.getfield 125, 3) := dk_180 0 125 (dk_at dksX7_aBox_0 8 rfl rfl)
theorem dX7_aBox_11 : decode cX7_aBox 11 = .ok (.iconst 3, 1) := dk_6 (dk_at dksX7_aBox_0 11 rfl rfl)
theorem dX7_aBox_12 : decode cX7_aBox 12 = .ok (.if_icmp .ne 12, 3) := dk_160 0 12 (dk_at dksX7_aBox_0 12 rfl rfl)
theorem dX7_aBox_15 : decode cX7_aBox 15 = .ok (.aload_n 0, 1) := dk_42 (dk_at dksX7_aBox_0 15 rfl rfl)
theorem dX7_aBox_16 : decode cX7_aBox 16 = .ok (.getfield 135, 3) := dk_180 0 135 (dk_at dksX7_aBox_0 16 rfl rfl)
theorem dX7_aBox_19 : decode cX7_aBox 19 = .ok (.bipush 7, 2) := dk_16 7 (dk_at dksX7_aBox_0 19 rfl rfl)
theorem dX7_aBox_21 : decode cX7_aBox 21 = .ok (.if_icmp .le 8, 3) := dk_164 0 8 (dk_at dksX7_aBox_0 21 rfl rfl)
theorem dX7_aBox_24 : decode cX7_aBox 24 = .ok (.aload_n 0, 1) := dk_42 (dk_at dksX7_aBox_1 0 rfl rfl)
theorem dX7_aBox_25 : decode cX7_aBox 25 = .ok (.invokevirtual 157, 3) := dk_182 0 157 (dk_at dksX7_aBox_1 1 rfl rfl)
theorem dX7_aBox_28 : decode cX7_aBox 28 = .ok (.return_, 1) := dk_177 (dk_at dksX7_aBox_1 4 rfl rfl)
theorem dX7_aBox_29 : decode cX7_aBox 29 = .ok (.aload_n 0, 1) := dk_42 (dk_at dksX7_aBox_1 5 rfl rfl)
theorem dX7_aBox_30 : decode cX7_aBox 30 = .ok (.getfield 151, 3) := dk_180 0 151 (dk_at dksX7_aBox_1 6 rfl rfl)
theorem dX7_aBox_33 : decode cX7_aBox 33 = .ok (.bipush 14, 2) := dk_16 14 (dk_at dksX7_aBox_1 9 rfl rfl)
theorem dX7_aBox_35 : decode cX7_aBox 35 = .ok (.if_icmp .ne 12, 3) := dk_160 0 12 (dk_at dksX7_aBox_1 11 rfl rfl)
theorem dX7_aBox_38 : decode cX7_aBox 38 = .ok (.aload_n 0, 1) := dk_42 (dk_at dksX7_aBox_1 14 rfl rfl)
theorem dX7_aBox_39 : decode cX7_aBox 39 = .ok (.iconst 3, 1) := dk_6 (dk_at dksX7_aBox_1 15 rfl rfl)
theorem dX7_aBox_40 : decode cX7_aBox 40 = .ok (.aload_n 0, 1) := dk_42 (dk_at dksX7_aBox_1 16 rfl rfl)
theorem dX7_aBox_41 : decode cX7_aBox 41 = .ok (.getfield 122, 3) := dk_180 0 122 (dk_at dksX7_aBox_1 17 rfl rfl)
theorem dX7_aBox_44 : decode cX7_aBox 44 = .ok (.invokevirtual 160, 3) := dk_182 0 160 (dk_at dksX7_aBox_1 20 rfl rfl)
theorem dX7_aBox_47 : decode cX7_aBox 47 = .ok (.aload_n 0, 1) := dk_42 (dk_at dksX7_aBox_1 23 rfl rfl)
theorem dX7_aBox_48 : decode cX7_aBox 48 = .ok (.getfield 154, 3) := dk_180 0 154 (dk_at dksX7_aBox_2 0 rfl rfl)
theorem dX7_aBox_51 : decode cX7_aBox 51 = .ok (.bipush 6, 2) := dk_16 6 (dk_at dksX7_aBox_2 3 rfl rfl)
theorem dX7_aBox_53 : decode cX7_aBox 53 = .ok (.if_icmp .ne 12, 3) := dk_160 0 12 (dk_at dksX7_aBox_2 5 rfl rfl)
theorem dX7_aBox_56 : decode cX7_aBox 56 = .ok (.aload_n 0, 1) := dk_42 (dk_at dksX7_aBox_2 8 rfl rfl)
theorem dX7_aBox_57 : decode cX7_aBox 57 = .ok (.iconst 4, 1) := dk_7 (dk_at dksX7_aBox_2 9 rfl rfl)
theorem dX7_aBox_58 : decode cX7_aBox 58 = .ok (.aload_n 0, 1) := dk_42 (dk_at dksX7_aBox_2 10 rfl rfl)
theorem dX7_aBox_59 : decode cX7_aBox 59 = .ok (.getfield 122, 3) := dk_180 0 122 (dk_at dksX7_aBox_2 11 rfl rfl)
theorem dX7_aBox_62 : decode cX7_aBox 62 = .ok (.invokevirtual 160, 3) := dk_182 0 160 (dk_at dksX7_aBox_2 14 rfl rfl)
theorem dX7_aBox_65 : decode cX7_aBox 65 = .ok (.iconst 1, 1) := dk_4 (dk_at dksX7_aBox_2 17 rfl rfl)
theorem dX7_aBox_66 : decode cX7_aBox 66 = .ok (.iconst 5, 1) := dk_8 (dk_at dksX7_aBox_2 18 rfl rfl)
theorem dX7_aBox_67 : decode cX7_aBox 67 = .ok (.aload_n 0, 1) := dk_42 (dk_at dksX7_aBox_2 19 rfl rfl)
theorem dX7_aBox_68 : decode cX7_aBox 68 = .ok (.getfield 151, 3) := dk_180 0 151 (dk_at dksX7_aBox_2 20 rfl rfl)
theorem dX7_aBox_71 : decode cX7_aBox 71 = .ok (.bipush 14, 2) := dk_16 14 (dk_at dksX7_aBox_3 0 rfl rfl)
theorem dX7_aBox_73 : decode cX7_aBox 73 = .ok (.if_icmp .ge 10, 3) := dk_162 0 10 (dk_at dksX7_aBox_3 2 rfl rfl)
theorem dX7_aBox_76 : decode cX7_aBox 76 = .ok (.aload_n 0, 1) := dk_42 (dk_at dksX7_aBox_3 5 rfl rfl)
theorem dX7_aBox_77 : decode cX7_aBox 77 = .ok (.getfield 151, 3) := dk_180 0 151 (dk_at dksX7_aBox_3 6 rfl rfl)
theorem dX7_aBox_80 : decode cX7_aBox 80 = .ok (.goto 5, 3) := dk_167 0 5 (dk_at dksX7_aBox_3 9 rfl rfl)
theorem dX7_aBox_83 : decode cX7_aBox 83 = .ok (.bipush 13, 2) := dk_16 13 (dk_at dksX7_aBox_3 12 rfl rfl)
theorem dX7_aBox_85 : decode cX7_aBox 85 = .ok (.imul, 1) := dk_104 (dk_at dksX7_aBox_3 14 rfl rfl)
theorem dX7_aBox_86 : decode cX7_aBox 86 = .ok (.iadd, 1) := dk_96 (dk_at dksX7_aBox_3 15 rfl rfl)
theorem dX7_aBox_87 : decode cX7_aBox 87 = .ok (.istore_n 1, 1) := dk_60 (dk_at dksX7_aBox_3 16 rfl rfl)
theorem dX7_aBox_88 : decode cX7_aBox 88 = .ok (.aload_n 0, 1) := dk_42 (dk_at dksX7_aBox_3 17 rfl rfl)
theorem dX7_aBox_89 : decode cX7_aBox 89 = .ok (.getfield 20, 3) := dk_180 0 20 (dk_at dksX7_aBox_3 18 rfl rfl)
theorem dX7_aBox_92 : decode cX7_aBox 92 = .ok (.iload_n 1, 1) := dk_27 (dk_at dksX7_aBox_3 21 rfl rfl)
theorem dX7_aBox_93 : decode cX7_aBox 93 = .ok (.aload_n 0, 1) := dk_42 (dk_at dksX7_aBox_3 22 rfl rfl)
theorem dX7_aBox_94 : decode cX7_aBox 94 = .ok (.getfield 135, 3) := dk_180 0 135 (dk_at dksX7_aBox_4 0 rfl rfl)
theorem dX7_aBox_97 : decode cX7_aBox 97 = .ok (.iastore, 1) := dk_79 (dk_at dksX7_aBox_4 3 rfl rfl)
theorem dX7_aBox_98 : decode cX7_aBox 98 = .ok (.aload_n 0, 1) := dk_42 (dk_at dksX7_aBox_4 4 rfl rfl)
theorem dX7_aBox_99 : decode cX7_aBox 99 = .ok (.invokevirtual 164, 3) := dk_182 0 164 (dk_at dksX7_aBox_4 5 rfl rfl)
theorem dX7_aBox_102 : decode cX7_aBox 102 = .ok (.aload_n 0, 1) := dk_42 (dk_at dksX7_aBox_4 8 rfl rfl)
theorem dX7_aBox_103 : decode cX7_aBox 103 = .ok (.getfield 20, 3) := dk_180 0 20 (dk_at dksX7_aBox_4 9 rfl rfl)
theorem dX7_aBox_106 : decode cX7_aBox 106 = .ok (.iload_n 1, 1) := dk_27 (dk_at dksX7_aBox_4 12 rfl rfl)
theorem dX7_aBox_107 : decode cX7_aBox 107 = .ok (.iconst 1, 1) := dk_4 (dk_at dksX7_aBox_4 13 rfl rfl)
theorem dX7_aBox_108 : decode cX7_aBox 108 = .ok (.iadd, 1) := dk_96 (dk_at dksX7_aBox_4 14 rfl rfl)
theorem dX7_aBox_109 : decode cX7_aBox 109 = .ok (.aload_n 0, 1) := dk_42 (dk_at dksX7_aBox_4 15 rfl rfl)
theorem dX7_aBox_110 : decode cX7_aBox 110 = .ok (.getfield 147, 3) := dk_180 0 147 (dk_at dksX7_aBox_4 16 rfl rfl)
theorem dX7_aBox_113 : decode cX7_aBox 113 = .ok (.ifCond .ne 20, 3) := dk_154 0 20 (dk_at dksX7_aBox_4 19 rfl rfl)
theorem dX7_aBox_116 : decode cX7_aBox 116 = .ok (.aload_n 0, 1) := dk_42 (dk_at dksX7_aBox_4 22 rfl rfl)
theorem dX7_aBox_117 : decode cX7_aBox 117 = .ok (.getfield 125, 3) := dk_180 0 125 (dk_at dksX7_aBox_5 0 rfl rfl)
theorem dX7_aBox_120 : decode cX7_aBox 120 = .ok (.iconst 1, 1) := dk_4 (dk_at dksX7_aBox_5 3 rfl rfl)
theorem dX7_aBox_121 : decode cX7_aBox 121 = .ok (.if_icmp .ne 12, 3) := dk_160 0 12 (dk_at dksX7_aBox_5 4 rfl rfl)
theorem dX7_aBox_124 : decode cX7_aBox 124 = .ok (.aload_n 0, 1) := dk_42 (dk_at dksX7_aBox_5 7 rfl rfl)
theorem dX7_aBox_125 : decode cX7_aBox 125 = .ok (.bipush 9, 2) := dk_16 9 (dk_at dksX7_aBox_5 8 rfl rfl)
theorem dX7_aBox_127 : decode cX7_aBox 127 = .ok (.invokevirtual 167, 3) := dk_182 0 167 (dk_at dksX7_aBox_5 10 rfl rfl)
theorem dX7_aBox_130 : decode cX7_aBox 130 = .ok (.goto 4, 3) := dk_167 0 4 (dk_at dksX7_aBox_5 13 rfl rfl)
theorem dX7_aBox_133 : decode cX7_aBox 133 = .ok (.iconst 0, 1) := dk_3 (dk_at dksX7_aBox_5 16 rfl rfl)
theorem dX7_aBox_134 : decode cX7_aBox 134 = .ok (.iastore, 1) := dk_79 (dk_at dksX7_aBox_5 17 rfl rfl)
theorem dX7_aBox_135 : decode cX7_aBox 135 = .ok (.aload_n 0, 1) := dk_42 (dk_at dksX7_aBox_5 18 rfl rfl)
theorem dX7_aBox_136 : decode cX7_aBox 136 = .ok (.getfield 20, 3) := dk_180 0 20 (dk_at dksX7_aBox_5 19 rfl rfl)
theorem dX7_aBox_139 : decode cX7_aBox 139 = .ok (.iload_n 1, 1) := dk_27 (dk_at dksX7_aBox_5 22 rfl rfl)
theorem dX7_aBox_140 : decode cX7_aBox 140 = .ok (.iconst 2, 1) := dk_5 (dk_at dksX7_aBox_5 23 rfl rfl)
theorem dX7_aBox_141 : decode cX7_aBox 141 = .ok (.iadd, 1) := dk_96 (dk_at dksX7_aBox_6 0 rfl rfl)
theorem dX7_aBox_142 : decode cX7_aBox 142 = .ok (.aload_n 0, 1) := dk_42 (dk_at dksX7_aBox_6 1 rfl rfl)
theorem dX7_aBox_143 : decode cX7_aBox 143 = .ok (.getfield 154, 3) := dk_180 0 154 (dk_at dksX7_aBox_6 2 rfl rfl)
theorem dX7_aBox_146 : decode cX7_aBox 146 = .ok (.ifCond .eq 12, 3) := dk_153 0 12 (dk_at dksX7_aBox_6 5 rfl rfl)
theorem dX7_aBox_149 : decode cX7_aBox 149 = .ok (.aload_n 0, 1) := dk_42 (dk_at dksX7_aBox_6 8 rfl rfl)
theorem dX7_aBox_150 : decode cX7_aBox 150 = .ok (.getfield 154, 3) := dk_180 0 154 (dk_at dksX7_aBox_6 9 rfl rfl)
theorem dX7_aBox_153 : decode cX7_aBox 153 = .ok (.bipush 6, 2) := dk_16 6 (dk_at dksX7_aBox_6 12 rfl rfl)
theorem dX7_aBox_155 : decode cX7_aBox 155 = .ok (.if_icmp .le 7, 3) := dk_164 0 7 (dk_at dksX7_aBox_6 14 rfl rfl)
theorem dX7_aBox_158 : decode cX7_aBox 158 = .ok (.iconst (-1), 1) := dk_2 (dk_at dksX7_aBox_6 17 rfl rfl)
theorem dX7_aBox_159 : decode cX7_aBox 159 = .ok (.goto 14, 3) := dk_167 0 14 (dk_at dksX7_aBox_6 18 rfl rfl)
theorem dX7_aBox_162 : decode cX7_aBox 162 = .ok (.aload_n 0, 1) := dk_42 (dk_at dksX7_aBox_6 21 rfl rfl)
theorem dX7_aBox_163 : decode cX7_aBox 163 = .ok (.getfield 17, 3) := dk_180 0 17 (dk_at dksX7_aBox_7 0 rfl rfl)
theorem dX7_aBox_166 : decode cX7_aBox 166 = .ok (.aload_n 0, 1) := dk_42 (dk_at dksX7_aBox_7 3 rfl rfl)
theorem dX7_aBox_167 : decode cX7_aBox 167 = .ok (.getfield 154, 3) := dk_180 0 154 (dk_at dksX7_aBox_7 4 rfl rfl)
theorem dX7_aBox_170 : decode cX7_aBox 170 = .ok (.iconst 1, 1) := dk_4 (dk_at dksX7_aBox_7 7 rfl rfl)
theorem dX7_aBox_171 : decode cX7_aBox 171 = .ok (.isub, 1) := dk_100 (dk_at dksX7_aBox_7 8 rfl rfl)
theorem dX7_aBox_172 : decode cX7_aBox 172 = .ok (.iaload, 1) := dk_46 (dk_at dksX7_aBox_7 9 rfl rfl)
theorem dX7_aBox_173 : decode cX7_aBox 173 = .ok (.iastore, 1) := dk_79 (dk_at dksX7_aBox_7 10 rfl rfl)
theorem dX7_aBox_174 : decode cX7_aBox 174 = .ok (.aload_n 0, 1) := dk_42 (dk_at dksX7_aBox_7 11 rfl rfl)
theorem dX7_aBox_175 : decode cX7_aBox 175 = .ok (.getfield 20, 3) := dk_180 0 20 (dk_at dksX7_aBox_7 12 rfl rfl)
theorem dX7_aBox_178 : decode cX7_aBox 178 = .ok (.iload_n 1, 1) := dk_27 (dk_at dksX7_aBox_7 15 rfl rfl)
theorem dX7_aBox_179 : decode cX7_aBox 179 = .ok (.iconst 3, 1) := dk_6 (dk_at dksX7_aBox_7 16 rfl rfl)
theorem dX7_aBox_180 : decode cX7_aBox 180 = .ok (.iadd, 1) := dk_96 (dk_at dksX7_aBox_7 17 rfl rfl)
theorem dX7_aBox_181 : decode cX7_aBox 181 = .ok (.iconst (-1), 1) := dk_2 (dk_at dksX7_aBox_7 18 rfl rfl)
theorem dX7_aBox_182 : decode cX7_aBox 182 = .ok (.iastore, 1) := dk_79 (dk_at dksX7_aBox_7 19 rfl rfl)
theorem dX7_aBox_183 : decode cX7_aBox 183 = .ok (.aload_n 0, 1) := dk_42 (dk_at dksX7_aBox_7 20 rfl rfl)
theorem dX7_aBox_184 : decode cX7_aBox 184 = .ok (.getfield 20, 3) := dk_180 0 20 (dk_at dksX7_aBox_7 21 rfl rfl)
theorem dX7_aBox_187 : decode cX7_aBox 187 = .ok (.iload_n 1, 1) := dk_27 (dk_at dksX7_aBox_8 0 rfl rfl)
theorem dX7_aBox_188 : decode cX7_aBox 188 = .ok (.iconst 4, 1) := dk_7 (dk_at dksX7_aBox_8 1 rfl rfl)
theorem dX7_aBox_189 : decode cX7_aBox 189 = .ok (.iadd, 1) := dk_96 (dk_at dksX7_aBox_8 2 rfl rfl)
theorem dX7_aBox_190 : decode cX7_aBox 190 = .ok (.iconst 0, 1) := dk_3 (dk_at dksX7_aBox_8 3 rfl rfl)
theorem dX7_aBox_191 : decode cX7_aBox 191 = .ok (.iastore, 1) := dk_79 (dk_at dksX7_aBox_8 4 rfl rfl)
theorem dX7_aBox_192 : decode cX7_aBox 192 = .ok (.aload_n 0, 1) := dk_42 (dk_at dksX7_aBox_8 5 rfl rfl)
theorem dX7_aBox_193 : decode cX7_aBox 193 = .ok (.bipush 8, 2) := dk_16 8 (dk_at dksX7_aBox_8 6 rfl rfl)
theorem dX7_aBox_195 : decode cX7_aBox 195 = .ok (.invokevirtual 170, 3) := dk_182 0 170 (dk_at dksX7_aBox_8 8 rfl rfl)
theorem dX7_aBox_198 : decode cX7_aBox 198 = .ok (.ifCond .eq 20, 3) := dk_153 0 20 (dk_at dksX7_aBox_8 11 rfl rfl)
theorem dX7_aBox_201 : decode cX7_aBox 201 = .ok (.aload_n 0, 1) := dk_42 (dk_at dksX7_aBox_8 14 rfl rfl)
theorem dX7_aBox_202 : decode cX7_aBox 202 = .ok (.invokevirtual 164, 3) := dk_182 0 164 (dk_at dksX7_aBox_8 15 rfl rfl)
theorem dX7_aBox_205 : decode cX7_aBox 205 = .ok (.aload_n 0, 1) := dk_42 (dk_at dksX7_aBox_8 18 rfl rfl)
theorem dX7_aBox_206 : decode cX7_aBox 206 = .ok (.getfield 20, 3) := dk_180 0 20 (dk_at dksX7_aBox_8 19 rfl rfl)
theorem dX7_aBox_209 : decode cX7_aBox 209 = .ok (.iload_n 1, 1) := dk_27 (dk_at dksX7_aBox_8 22 rfl rfl)
theorem dX7_aBox_210 : decode cX7_aBox 210 = .ok (.iconst 3, 1) := dk_6 (dk_at dksX7_aBox_8 23 rfl rfl)
theorem dX7_aBox_211 : decode cX7_aBox 211 = .ok (.iadd, 1) := dk_96 (dk_at dksX7_aBox_9 0 rfl rfl)
theorem dX7_aBox_212 : decode cX7_aBox 212 = .ok (.aload_n 0, 1) := dk_42 (dk_at dksX7_aBox_9 1 rfl rfl)
theorem dX7_aBox_213 : decode cX7_aBox 213 = .ok (.iconst 3, 1) := dk_6 (dk_at dksX7_aBox_9 2 rfl rfl)
theorem dX7_aBox_214 : decode cX7_aBox 214 = .ok (.invokevirtual 167, 3) := dk_182 0 167 (dk_at dksX7_aBox_9 3 rfl rfl)
theorem dX7_aBox_217 : decode cX7_aBox 217 = .ok (.iastore, 1) := dk_79 (dk_at dksX7_aBox_9 6 rfl rfl)
theorem dX7_aBox_218 : decode cX7_aBox 218 = .ok (.aload_n 0, 1) := dk_42 (dk_at dksX7_aBox_9 7 rfl rfl)
theorem dX7_aBox_219 : decode cX7_aBox 219 = .ok (.bipush 9, 2) := dk_16 9 (dk_at dksX7_aBox_9 8 rfl rfl)
theorem dX7_aBox_221 : decode cX7_aBox 221 = .ok (.invokevirtual 170, 3) := dk_182 0 170 (dk_at dksX7_aBox_9 10 rfl rfl)
theorem dX7_aBox_224 : decode cX7_aBox 224 = .ok (.ifCond .eq 21, 3) := dk_153 0 21 (dk_at dksX7_aBox_9 13 rfl rfl)
theorem dX7_aBox_227 : decode cX7_aBox 227 = .ok (.aload_n 0, 1) := dk_42 (dk_at dksX7_aBox_9 16 rfl rfl)
theorem dX7_aBox_228 : decode cX7_aBox 228 = .ok (.invokevirtual 164, 3) := dk_182 0 164 (dk_at dksX7_aBox_9 17 rfl rfl)
theorem dX7_aBox_231 : decode cX7_aBox 231 = .ok (.aload_n 0, 1) := dk_42 (dk_at dksX7_aBox_9 20 rfl rfl)
theorem dX7_aBox_232 : decode cX7_aBox 232 = .ok (.getfield 20, 3) := dk_180 0 20 (dk_at dksX7_aBox_9 21 rfl rfl)
theorem dX7_aBox_235 : decode cX7_aBox 235 = .ok (.iload_n 1, 1) := dk_27 (dk_at dksX7_aBox_10 0 rfl rfl)
theorem dX7_aBox_236 : decode cX7_aBox 236 = .ok (.iconst 4, 1) := dk_7 (dk_at dksX7_aBox_10 1 rfl rfl)
theorem dX7_aBox_237 : decode cX7_aBox 237 = .ok (.iadd, 1) := dk_96 (dk_at dksX7_aBox_10 2 rfl rfl)
theorem dX7_aBox_238 : decode cX7_aBox 238 = .ok (.aload_n 0, 1) := dk_42 (dk_at dksX7_aBox_10 3 rfl rfl)
theorem dX7_aBox_239 : decode cX7_aBox 239 = .ok (.bipush 99, 2) := dk_16 99 (dk_at dksX7_aBox_10 4 rfl rfl)
theorem dX7_aBox_241 : decode cX7_aBox 241 = .ok (.invokevirtual 167, 3) := dk_182 0 167 (dk_at dksX7_aBox_10 6 rfl rfl)
theorem dX7_aBox_244 : decode cX7_aBox 244 = .ok (.iastore, 1) := dk_79 (dk_at dksX7_aBox_10 9 rfl rfl)
theorem dX7_aBox_245 : decode cX7_aBox 245 = .ok (.aload_n 0, 1) := dk_42 (dk_at dksX7_aBox_10 10 rfl rfl)
theorem dX7_aBox_246 : decode cX7_aBox 246 = .ok (.bipush 40, 2) := dk_16 40 (dk_at dksX7_aBox_10 11 rfl rfl)
theorem dX7_aBox_248 : decode cX7_aBox 248 = .ok (.invokevirtual 173, 3) := dk_182 0 173 (dk_at dksX7_aBox_10 13 rfl rfl)
theorem dX7_aBox_251 : decode cX7_aBox 251 = .ok (.istore_n 2, 1) := dk_61 (dk_at dksX7_aBox_10 16 rfl rfl)
theorem dX7_aBox_252 : decode cX7_aBox 252 = .ok (.iload_n 2, 1) := dk_28 (dk_at dksX7_aBox_10 17 rfl rfl)
theorem dX7_aBox_253 : decode cX7_aBox 253 = .ok (.ifCond .ne 17, 3) := dk_154 0 17 (dk_at dksX7_aBox_10 18 rfl rfl)
theorem dX7_aBox_256 : decode cX7_aBox 256 = .ok (.aload_n 0, 1) := dk_42 (dk_at dksX7_aBox_10 21 rfl rfl)
theorem dX7_aBox_257 : decode cX7_aBox 257 = .ok (.bipush 59, 2) := dk_16 59 (dk_at dksX7_aBox_10 22 rfl rfl)
theorem dX7_aBox_259 : decode cX7_aBox 259 = .ok (.invokevirtual 173, 3) := dk_182 0 173 (dk_at dksX7_aBox_11 0 rfl rfl)
theorem dX7_aBox_262 : decode cX7_aBox 262 = .ok (.ifCond .ne 8, 3) := dk_154 0 8 (dk_at dksX7_aBox_11 3 rfl rfl)
theorem dX7_aBox_265 : decode cX7_aBox 265 = .ok (.aload_n 0, 1) := dk_42 (dk_at dksX7_aBox_11 6 rfl rfl)
theorem dX7_aBox_266 : decode cX7_aBox 266 = .ok (.invokevirtual 157, 3) := dk_182 0 157 (dk_at dksX7_aBox_11 7 rfl rfl)
theorem dX7_aBox_269 : decode cX7_aBox 269 = .ok (.return_, 1) := dk_177 (dk_at dksX7_aBox_11 10 rfl rfl)
theorem dX7_aBox_270 : decode cX7_aBox 270 = .ok (.aload_n 0, 1) := dk_42 (dk_at dksX7_aBox_11 11 rfl rfl)
theorem dX7_aBox_271 : decode cX7_aBox 271 = .ok (.invokevirtual 164, 3) := dk_182 0 164 (dk_at dksX7_aBox_11 12 rfl rfl)
theorem dX7_aBox_274 : decode cX7_aBox 274 = .ok (.iload_n 2, 1) := dk_28 (dk_at dksX7_aBox_11 15 rfl rfl)
theorem dX7_aBox_275 : decode cX7_aBox 275 = .ok (.ifCond .eq 35, 3) := dk_153 0 35 (dk_at dksX7_aBox_11 16 rfl rfl)
theorem dX7_aBox_278 : decode cX7_aBox 278 = .ok (.aload_n 0, 1) := dk_42 (dk_at dksX7_aBox_11 19 rfl rfl)
theorem dX7_aBox_279 : decode cX7_aBox 279 = .ok (.getfield 154, 3) := dk_180 0 154 (dk_at dksX7_aBox_11 20 rfl rfl)
theorem dX7_aBox_282 : decode cX7_aBox 282 = .ok (.bipush 7, 2) := dk_16 7 (dk_at dksX7_aBox_12 0 rfl rfl)
theorem dX7_aBox_284 : decode cX7_aBox 284 = .ok (.if_icmp .ge 16, 3) := dk_162 0 16 (dk_at dksX7_aBox_12 2 rfl rfl)
theorem dX7_aBox_287 : decode cX7_aBox 287 = .ok (.aload_n 0, 1) := dk_42 (dk_at dksX7_aBox_12 5 rfl rfl)
theorem dX7_aBox_288 : decode cX7_aBox 288 = .ok (.getfield 17, 3) := dk_180 0 17 (dk_at dksX7_aBox_12 6 rfl rfl)
theorem dX7_aBox_291 : decode cX7_aBox 291 = .ok (.aload_n 0, 1) := dk_42 (dk_at dksX7_aBox_12 9 rfl rfl)
theorem dX7_aBox_292 : decode cX7_aBox 292 = .ok (.getfield 154, 3) := dk_180 0 154 (dk_at dksX7_aBox_12 10 rfl rfl)
theorem dX7_aBox_295 : decode cX7_aBox 295 = .ok (.aload_n 0, 1) := dk_42 (dk_at dksX7_aBox_12 13 rfl rfl)
theorem dX7_aBox_296 : decode cX7_aBox 296 = .ok (.getfield 151, 3) := dk_180 0 151 (dk_at dksX7_aBox_12 14 rfl rfl)
theorem dX7_aBox_299 : decode cX7_aBox 299 = .ok (.iastore, 1) := dk_79 (dk_at dksX7_aBox_12 17 rfl rfl)
theorem dX7_aBox_300 : decode cX7_aBox 300 = .ok (.aload_n 0, 1) := dk_42 (dk_at dksX7_aBox_12 18 rfl rfl)
theorem dX7_aBox_301 : decode cX7_aBox 301 = .ok (.dup, 1) := dk_89 (dk_at dksX7_aBox_12 19 rfl rfl)
theorem dX7_aBox_302 : decode cX7_aBox 302 = .ok (.getfield 154, 3) := dk_180 0 154 (dk_at dksX7_aBox_12 20 rfl rfl)
theorem dX7_aBox_305 : decode cX7_aBox 305 = .ok (.iconst 1, 1) := dk_4 (dk_at dksX7_aBox_12 23 rfl rfl)
theorem dX7_aBox_306 : decode cX7_aBox 306 = .ok (.iadd, 1) := dk_96 (dk_at dksX7_aBox_13 0 rfl rfl)
theorem dX7_aBox_307 : decode cX7_aBox 307 = .ok (.putfield 154, 3) := dk_181 0 154 (dk_at dksX7_aBox_13 1 rfl rfl)
theorem dX7_aBox_310 : decode cX7_aBox 310 = .ok (.aload_n 0, 1) := dk_42 (dk_at dksX7_aBox_13 4 rfl rfl)
theorem dX7_aBox_311 : decode cX7_aBox 311 = .ok (.dup, 1) := dk_89 (dk_at dksX7_aBox_13 5 rfl rfl)
theorem dX7_aBox_312 : decode cX7_aBox 312 = .ok (.getfield 151, 3) := dk_180 0 151 (dk_at dksX7_aBox_13 6 rfl rfl)
theorem dX7_aBox_315 : decode cX7_aBox 315 = .ok (.iconst 1, 1) := dk_4 (dk_at dksX7_aBox_13 9 rfl rfl)
theorem dX7_aBox_316 : decode cX7_aBox 316 = .ok (.iadd, 1) := dk_96 (dk_at dksX7_aBox_13 10 rfl rfl)
theorem dX7_aBox_317 : decode cX7_aBox 317 = .ok (.putfield 151, 3) := dk_181 0 151 (dk_at dksX7_aBox_13 11 rfl rfl)
theorem dX7_aBox_320 : decode cX7_aBox 320 = .ok (.aload_n 0, 1) := dk_42 (dk_at dksX7_aBox_13 14 rfl rfl)
theorem dX7_aBox_321 : decode cX7_aBox 321 = .ok (.getfield 154, 3) := dk_180 0 154 (dk_at dksX7_aBox_13 15 rfl rfl)
theorem dX7_aBox_324 : decode cX7_aBox 324 = .ok (.ifCond .le 29, 3) := dk_158 0 29 (dk_at dksX7_aBox_13 18 rfl rfl)
theorem dX7_aBox_327 : decode cX7_aBox 327 = .ok (.aload_n 0, 1) := dk_42 (dk_at dksX7_aBox_13 21 rfl rfl)
theorem dX7_aBox_328 : decode cX7_aBox 328 = .ok (.bipush 41, 2) := dk_16 41 (dk_at dksX7_aBox_13 22 rfl rfl)
theorem dX7_aBox_330 : decode cX7_aBox 330 = .ok (.invokevirtual 173, 3) := dk_182 0 173 (dk_at dksX7_aBox_14 0 rfl rfl)
theorem dX7_aBox_333 : decode cX7_aBox 333 = .ok (.ifCond .eq 20, 3) := dk_153 0 20 (dk_at dksX7_aBox_14 3 rfl rfl)
theorem dX7_aBox_336 : decode cX7_aBox 336 = .ok (.aload_n 0, 1) := dk_42 (dk_at dksX7_aBox_14 6 rfl rfl)
theorem dX7_aBox_337 : decode cX7_aBox 337 = .ok (.invokevirtual 164, 3) := dk_182 0 164 (dk_at dksX7_aBox_14 7 rfl rfl)
theorem dX7_aBox_340 : decode cX7_aBox 340 = .ok (.aload_n 0, 1) := dk_42 (dk_at dksX7_aBox_14 10 rfl rfl)
theorem dX7_aBox_341 : decode cX7_aBox 341 = .ok (.dup, 1) := dk_89 (dk_at dksX7_aBox_14 11 rfl rfl)
theorem dX7_aBox_342 : decode cX7_aBox 342 = .ok (.getfield 154, 3) := dk_180 0 154 (dk_at dksX7_aBox_14 12 rfl rfl)
theorem dX7_aBox_345 : decode cX7_aBox 345 = .ok (.iconst 1, 1) := dk_4 (dk_at dksX7_aBox_14 15 rfl rfl)
theorem dX7_aBox_346 : decode cX7_aBox 346 = .ok (.isub, 1) := dk_100 (dk_at dksX7_aBox_14 16 rfl rfl)
theorem dX7_aBox_347 : decode cX7_aBox 347 = .ok (.putfield 154, 3) := dk_181 0 154 (dk_at dksX7_aBox_14 17 rfl rfl)
theorem dX7_aBox_350 : decode cX7_aBox 350 = .ok (.goto (-30), 3) := dk_167 255 226 (dk_at dksX7_aBox_14 20 rfl rfl)
theorem dX7_aBox_353 : decode cX7_aBox 353 = .ok (.return_, 1) := dk_177 (dk_at dksX7_aBox_14 23 rfl rfl)
abbrev cX7_ends : ByteArray := prog_21_method_21_code
def yX7_ends : MethodName := ⟨RX7, "ends", "()V"⟩
def dkwX7_ends_1 : List UInt8 := [180, 0, 7, 16, 8, 42, 180, 0, 122, 79, 177]
abbrev dktX7_ends_1 : List UInt8 := dkwX7_ends_1 ++ []
def dkwX7_ends_0 : List UInt8 := [42, 180, 0, 147, 153, 0, 4, 177, 42, 4, 181, 0, 147, 42, 180, 0, 7, 16, 7, 4, 79, 42]
abbrev dktX7_ends_0 : List UInt8 := dkwX7_ends_0 ++ dktX7_ends_1
theorem dksX7_ends_0 : cX7_ends.data.toList.drop 0 = dktX7_ends_0 := by decide +kernel
theorem dksX7_ends_1 : cX7_ends.data.toList.drop 22 = dktX7_ends_1 := dk_seg dksX7_ends_0 22 rfl rfl
theorem dX7_ends_0 : decode cX7_ends 0 = .ok (.aload_n 0, 1) := dk_42 (dk_at dksX7_ends_0 0 rfl rfl)
theorem dX7_ends_1 : decode cX7_ends 1 = .ok (.getfield 147, 3) := dk_180 0 147 (dk_at dksX7_ends_0 1 rfl rfl)
theorem dX7_ends_4 : decode cX7_ends 4 = .ok (.ifCond .eq 4, 3) := dk_153 0 4 (dk_at dksX7_ends_0 4 rfl rfl)
theorem dX7_ends_7 : decode cX7_ends 7 = .ok (.return_, 1) := dk_177 (dk_at dksX7_ends_0 7 rfl rfl)
theorem dX7_ends_8 : decode cX7_ends 8 = .ok (.aload_n 0, 1) := dk_42 (dk_at dksX7_ends_0 8 rfl rfl)
theorem dX7_ends_9 : decode cX7_ends 9 = .ok (.iconst 1, 1) := dk_4 (dk_at dksX7_ends_0 9 rfl rfl)
theorem dX7_ends_10 : decode cX7_ends 10 = .ok (.putfield 147, 3) := dk_181 0 147 (dk_at dksX7_ends_0 10 rfl rfl)
theorem dX7_ends_13 : decode cX7_ends 13 = .ok (.aload_n 0, 1) := dk_42 (dk_at dksX7_ends_0 13 rfl rfl)
theorem dX7_ends_14 : decode cX7_ends 14 = .ok (.getfield 7, 3) := dk_180 0 7 (dk_at dksX7_ends_0 14 rfl rfl)
theorem dX7_ends_17 : decode cX7_ends 17 = .ok (.bipush 7, 2) := dk_16 7 (dk_at dksX7_ends_0 17 rfl rfl)
theorem dX7_ends_19 : decode cX7_ends 19 = .ok (.iconst 1, 1) := dk_4 (dk_at dksX7_ends_0 19 rfl rfl)
theorem dX7_ends_20 : decode cX7_ends 20 = .ok (.iastore, 1) := dk_79 (dk_at dksX7_ends_0 20 rfl rfl)
theorem dX7_ends_21 : decode cX7_ends 21 = .ok (.aload_n 0, 1) := dk_42 (dk_at dksX7_ends_0 21 rfl rfl)
theorem dX7_ends_22 : decode cX7_ends 22 = .ok (.getfield 7, 3) := dk_180 0 7 (dk_at dksX7_ends_1 0 rfl rfl)
theorem dX7_ends_25 : decode cX7_ends 25 = .ok (.bipush 8, 2) := dk_16 8 (dk_at dksX7_ends_1 3 rfl rfl)
theorem dX7_ends_27 : decode cX7_ends 27 = .ok (.aload_n 0, 1) := dk_42 (dk_at dksX7_ends_1 5 rfl rfl)
theorem dX7_ends_28 : decode cX7_ends 28 = .ok (.getfield 122, 3) := dk_180 0 122 (dk_at dksX7_ends_1 6 rfl rfl)
theorem dX7_ends_31 : decode cX7_ends 31 = .ok (.iastore, 1) := dk_79 (dk_at dksX7_ends_1 9 rfl rfl)
theorem dX7_ends_32 : decode cX7_ends 32 = .ok (.return_, 1) := dk_177 (dk_at dksX7_ends_1 10 rfl rfl)
abbrev cX7_also : ByteArray := prog_21_method_22_code
def yX7_also : MethodName := ⟨RX7, "also", "(II)V"⟩
def dkwX7_also_2 : List UInt8 := [163, 0, 4, 177, 42, 180, 0, 7, 16, 7, 27, 79, 42, 180, 0, 7, 16, 8, 28, 79, 177]
abbrev dktX7_also_2 : List UInt8 := dkwX7_also_2 ++ []
def dkwX7_also_1 : List UInt8 := [28, 161, 0, 25, 42, 180, 0, 7, 16, 8, 46, 28, 160, 0, 15, 42, 180, 0, 7, 16, 7, 46, 27]
abbrev dktX7_also_1 : List UInt8 := dkwX7_also_1 ++ dktX7_also_2
def dkwX7_also_0 : List UInt8 := [42, 180, 0, 147, 154, 0, 46, 42, 180, 0, 7, 16, 7, 46, 153, 0, 37, 42, 180, 0, 7, 16, 8, 46]
abbrev dktX7_also_0 : List UInt8 := dkwX7_also_0 ++ dktX7_also_1
theorem dksX7_also_0 : cX7_also.data.toList.drop 0 = dktX7_also_0 := by decide +kernel
theorem dksX7_also_1 : cX7_also.data.toList.drop 24 = dktX7_also_1 := dk_seg dksX7_also_0 24 rfl rfl
theorem dksX7_also_2 : cX7_also.data.toList.drop 47 = dktX7_also_2 := dk_seg dksX7_also_1 23 rfl rfl
theorem dX7_also_0 : decode cX7_also 0 = .ok (.aload_n 0, 1) := dk_42 (dk_at dksX7_also_0 0 rfl rfl)
theorem dX7_also_1 : decode cX7_also 1 = .ok (.getfield 147, 3) := dk_180 0 147 (dk_at dksX7_also_0 1 rfl rfl)
theorem dX7_also_4 : decode cX7_also 4 = .ok (.ifCond .ne 46, 3) := dk_154 0 46 (dk_at dksX7_also_0 4 rfl rfl)
theorem dX7_also_7 : decode cX7_also 7 = .ok (.aload_n 0, 1) := dk_42 (dk_at dksX7_also_0 7 rfl rfl)
theorem dX7_also_8 : decode cX7_also 8 = .ok (.getfield 7, 3) := dk_180 0 7 (dk_at dksX7_also_0 8 rfl rfl)
theorem dX7_also_11 : decode cX7_also 11 = .ok (.bipush 7, 2) := dk_16 7 (dk_at dksX7_also_0 11 rfl rfl)
theorem dX7_also_13 : decode cX7_also 13 = .ok (.iaload, 1) := dk_46 (dk_at dksX7_also_0 13 rfl rfl)
theorem dX7_also_14 : decode cX7_also 14 = .ok (.ifCond .eq 37, 3) := dk_153 0 37 (dk_at dksX7_also_0 14 rfl rfl)
theorem dX7_also_17 : decode cX7_also 17 = .ok (.aload_n 0, 1) := dk_42 (dk_at dksX7_also_0 17 rfl rfl)
theorem dX7_also_18 : decode cX7_also 18 = .ok (.getfield 7, 3) := dk_180 0 7 (dk_at dksX7_also_0 18 rfl rfl)
theorem dX7_also_21 : decode cX7_also 21 = .ok (.bipush 8, 2) := dk_16 8 (dk_at dksX7_also_0 21 rfl rfl)
theorem dX7_also_23 : decode cX7_also 23 = .ok (.iaload, 1) := dk_46 (dk_at dksX7_also_0 23 rfl rfl)
theorem dX7_also_24 : decode cX7_also 24 = .ok (.iload_n 2, 1) := dk_28 (dk_at dksX7_also_1 0 rfl rfl)
theorem dX7_also_25 : decode cX7_also 25 = .ok (.if_icmp .lt 25, 3) := dk_161 0 25 (dk_at dksX7_also_1 1 rfl rfl)
theorem dX7_also_28 : decode cX7_also 28 = .ok (.aload_n 0, 1) := dk_42 (dk_at dksX7_also_1 4 rfl rfl)
theorem dX7_also_29 : decode cX7_also 29 = .ok (.getfield 7, 3) := dk_180 0 7 (dk_at dksX7_also_1 5 rfl rfl)
theorem dX7_also_32 : decode cX7_also 32 = .ok (.bipush 8, 2) := dk_16 8 (dk_at dksX7_also_1 8 rfl rfl)
theorem dX7_also_34 : decode cX7_also 34 = .ok (.iaload, 1) := dk_46 (dk_at dksX7_also_1 10 rfl rfl)
theorem dX7_also_35 : decode cX7_also 35 = .ok (.iload_n 2, 1) := dk_28 (dk_at dksX7_also_1 11 rfl rfl)
theorem dX7_also_36 : decode cX7_also 36 = .ok (.if_icmp .ne 15, 3) := dk_160 0 15 (dk_at dksX7_also_1 12 rfl rfl)
theorem dX7_also_39 : decode cX7_also 39 = .ok (.aload_n 0, 1) := dk_42 (dk_at dksX7_also_1 15 rfl rfl)
theorem dX7_also_40 : decode cX7_also 40 = .ok (.getfield 7, 3) := dk_180 0 7 (dk_at dksX7_also_1 16 rfl rfl)
theorem dX7_also_43 : decode cX7_also 43 = .ok (.bipush 7, 2) := dk_16 7 (dk_at dksX7_also_1 19 rfl rfl)
theorem dX7_also_45 : decode cX7_also 45 = .ok (.iaload, 1) := dk_46 (dk_at dksX7_also_1 21 rfl rfl)
theorem dX7_also_46 : decode cX7_also 46 = .ok (.iload_n 1, 1) := dk_27 (dk_at dksX7_also_1 22 rfl rfl)
theorem dX7_also_47 : decode cX7_also 47 = .ok (.if_icmp .gt 4, 3) := dk_163 0 4 (dk_at dksX7_also_2 0 rfl rfl)
theorem dX7_also_50 : decode cX7_also 50 = .ok (.return_, 1) := dk_177 (dk_at dksX7_also_2 3 rfl rfl)
theorem dX7_also_51 : decode cX7_also 51 = .ok (.aload_n 0, 1) := dk_42 (dk_at dksX7_also_2 4 rfl rfl)
theorem dX7_also_52 : decode cX7_also 52 = .ok (.getfield 7, 3) := dk_180 0 7 (dk_at dksX7_also_2 5 rfl rfl)
theorem dX7_also_55 : decode cX7_also 55 = .ok (.bipush 7, 2) := dk_16 7 (dk_at dksX7_also_2 8 rfl rfl)
theorem dX7_also_57 : decode cX7_also 57 = .ok (.iload_n 1, 1) := dk_27 (dk_at dksX7_also_2 10 rfl rfl)
theorem dX7_also_58 : decode cX7_also 58 = .ok (.iastore, 1) := dk_79 (dk_at dksX7_also_2 11 rfl rfl)
theorem dX7_also_59 : decode cX7_also 59 = .ok (.aload_n 0, 1) := dk_42 (dk_at dksX7_also_2 12 rfl rfl)
theorem dX7_also_60 : decode cX7_also 60 = .ok (.getfield 7, 3) := dk_180 0 7 (dk_at dksX7_also_2 13 rfl rfl)
theorem dX7_also_63 : decode cX7_also 63 = .ok (.bipush 8, 2) := dk_16 8 (dk_at dksX7_also_2 16 rfl rfl)
theorem dX7_also_65 : decode cX7_also 65 = .ok (.iload_n 2, 1) := dk_28 (dk_at dksX7_also_2 18 rfl rfl)
theorem dX7_also_66 : decode cX7_also 66 = .ok (.iastore, 1) := dk_79 (dk_at dksX7_also_2 19 rfl rfl)
theorem dX7_also_67 : decode cX7_also 67 = .ok (.return_, 1) := dk_177 (dk_at dksX7_also_2 20 rfl rfl)
abbrev cX7_numbered : ByteArray := prog_21_method_24_code
def yX7_numbered : MethodName := ⟨RX7, "numbered", "(I)I"⟩
def dkwX7_numbered_1 : List UInt8 := [180, 0, 141, 61, 28, 27, 164, 0, 12, 42, 5, 42, 180, 0, 122, 182, 0, 160, 42, 182, 0, 164, 28, 172]
abbrev dktX7_numbered_1 : List UInt8 := dkwX7_numbered_1 ++ []
def dkwX7_numbered_0 : List UInt8 := [42, 180, 0, 147, 154, 0, 11, 42, 180, 0, 125, 4, 159, 0, 9, 42, 182, 0, 157, 3, 172, 42]
abbrev dktX7_numbered_0 : List UInt8 := dkwX7_numbered_0 ++ dktX7_numbered_1
theorem dksX7_numbered_0 : cX7_numbered.data.toList.drop 0 = dktX7_numbered_0 := by decide +kernel
theorem dksX7_numbered_1 : cX7_numbered.data.toList.drop 22 = dktX7_numbered_1 := dk_seg dksX7_numbered_0 22 rfl rfl
theorem dX7_numbered_0 : decode cX7_numbered 0 = .ok (.aload_n 0, 1) := dk_42 (dk_at dksX7_numbered_0 0 rfl rfl)
theorem dX7_numbered_1 : decode cX7_numbered 1 = .ok (.getfield 147, 3) := dk_180 0 147 (dk_at dksX7_numbered_0 1 rfl rfl)
theorem dX7_numbered_4 : decode cX7_numbered 4 = .ok (.ifCond .ne 11, 3) := dk_154 0 11 (dk_at dksX7_numbered_0 4 rfl rfl)
theorem dX7_numbered_7 : decode cX7_numbered 7 = .ok (.aload_n 0, 1) := dk_42 (dk_at dksX7_numbered_0 7 rfl rfl)
theorem dX7_numbered_8 : decode cX7_numbered 8 = .ok (.getfield 125, 3) := dk_180 0 125 (dk_at dksX7_numbered_0 8 rfl rfl)
theorem dX7_numbered_11 : decode cX7_numbered 11 = .ok (.iconst 1, 1) := dk_4 (dk_at dksX7_numbered_0 11 rfl rfl)
theorem dX7_numbered_12 : decode cX7_numbered 12 = .ok (.if_icmp .eq 9, 3) := dk_159 0 9 (dk_at dksX7_numbered_0 12 rfl rfl)
theorem dX7_numbered_15 : decode cX7_numbered 15 = .ok (.aload_n 0, 1) := dk_42 (dk_at dksX7_numbered_0 15 rfl rfl)
theorem dX7_numbered_16 : decode cX7_numbered 16 = .ok (.invokevirtual 157, 3) := dk_182 0 157 (dk_at dksX7_numbered_0 16 rfl rfl)
theorem dX7_numbered_19 : decode cX7_numbered 19 = .ok (.iconst 0, 1) := dk_3 (dk_at dksX7_numbered_0 19 rfl rfl)
theorem dX7_numbered_20 : decode cX7_numbered 20 = .ok (.ireturn, 1) := dk_172 (dk_at dksX7_numbered_0 20 rfl rfl)
theorem dX7_numbered_21 : decode cX7_numbered 21 = .ok (.aload_n 0, 1) := dk_42 (dk_at dksX7_numbered_0 21 rfl rfl)
theorem dX7_numbered_22 : decode cX7_numbered 22 = .ok (.getfield 141, 3) := dk_180 0 141 (dk_at dksX7_numbered_1 0 rfl rfl)
theorem dX7_numbered_25 : decode cX7_numbered 25 = .ok (.istore_n 2, 1) := dk_61 (dk_at dksX7_numbered_1 3 rfl rfl)
theorem dX7_numbered_26 : decode cX7_numbered 26 = .ok (.iload_n 2, 1) := dk_28 (dk_at dksX7_numbered_1 4 rfl rfl)
theorem dX7_numbered_27 : decode cX7_numbered 27 = .ok (.iload_n 1, 1) := dk_27 (dk_at dksX7_numbered_1 5 rfl rfl)
theorem dX7_numbered_28 : decode cX7_numbered 28 = .ok (.if_icmp .le 12, 3) := dk_164 0 12 (dk_at dksX7_numbered_1 6 rfl rfl)
theorem dX7_numbered_31 : decode cX7_numbered 31 = .ok (.aload_n 0, 1) := dk_42 (dk_at dksX7_numbered_1 9 rfl rfl)
theorem dX7_numbered_32 : decode cX7_numbered 32 = .ok (.iconst 2, 1) := dk_5 (dk_at dksX7_numbered_1 10 rfl rfl)
theorem dX7_numbered_33 : decode cX7_numbered 33 = .ok (.aload_n 0, 1) := dk_42 (dk_at dksX7_numbered_1 11 rfl rfl)
theorem dX7_numbered_34 : decode cX7_numbered 34 = .ok (.getfield 122, 3) := dk_180 0 122 (dk_at dksX7_numbered_1 12 rfl rfl)
theorem dX7_numbered_37 : decode cX7_numbered 37 = .ok (.invokevirtual 160, 3) := dk_182 0 160 (dk_at dksX7_numbered_1 15 rfl rfl)
theorem dX7_numbered_40 : decode cX7_numbered 40 = .ok (.aload_n 0, 1) := dk_42 (dk_at dksX7_numbered_1 18 rfl rfl)
theorem dX7_numbered_41 : decode cX7_numbered 41 = .ok (.invokevirtual 164, 3) := dk_182 0 164 (dk_at dksX7_numbered_1 19 rfl rfl)
theorem dX7_numbered_44 : decode cX7_numbered 44 = .ok (.iload_n 2, 1) := dk_28 (dk_at dksX7_numbered_1 22 rfl rfl)
theorem dX7_numbered_45 : decode cX7_numbered 45 = .ok (.ireturn, 1) := dk_172 (dk_at dksX7_numbered_1 23 rfl rfl)
abbrev cX7_isWord : ByteArray := prog_21_method_25_code
def yX7_isWord : MethodName := ⟨RX7, "isWord", "(I)Z"⟩
def dkwX7_isWord_1 : List UInt8 := [167, 0, 4, 3, 172]
abbrev dktX7_isWord_1 : List UInt8 := dkwX7_isWord_1 ++ []
def dkwX7_isWord_0 : List UInt8 := [42, 180, 0, 147, 154, 0, 23, 42, 180, 0, 125, 6, 160, 0, 15, 42, 180, 0, 135, 27, 160, 0, 7, 4]
abbrev dktX7_isWord_0 : List UInt8 := dkwX7_isWord_0 ++ dktX7_isWord_1
theorem dksX7_isWord_0 : cX7_isWord.data.toList.drop 0 = dktX7_isWord_0 := by decide +kernel
theorem dksX7_isWord_1 : cX7_isWord.data.toList.drop 24 = dktX7_isWord_1 := dk_seg dksX7_isWord_0 24 rfl rfl
theorem dX7_isWord_0 : decode cX7_isWord 0 = .ok (.aload_n 0, 1) := dk_42 (dk_at dksX7_isWord_0 0 rfl rfl)
theorem dX7_isWord_1 : decode cX7_isWord 1 = .ok (.getfield 147, 3) := dk_180 0 147 (dk_at dksX7_isWord_0 1 rfl rfl)
theorem dX7_isWord_4 : decode cX7_isWord 4 = .ok (.ifCond .ne 23, 3) := dk_154 0 23 (dk_at dksX7_isWord_0 4 rfl rfl)
theorem dX7_isWord_7 : decode cX7_isWord 7 = .ok (.aload_n 0, 1) := dk_42 (dk_at dksX7_isWord_0 7 rfl rfl)
theorem dX7_isWord_8 : decode cX7_isWord 8 = .ok (.getfield 125, 3) := dk_180 0 125 (dk_at dksX7_isWord_0 8 rfl rfl)
theorem dX7_isWord_11 : decode cX7_isWord 11 = .ok (.iconst 3, 1) := dk_6 (dk_at dksX7_isWord_0 11 rfl rfl)
theorem dX7_isWord_12 : decode cX7_isWord 12 = .ok (.if_icmp .ne 15, 3) := dk_160 0 15 (dk_at dksX7_isWord_0 12 rfl rfl)
theorem dX7_isWord_15 : decode cX7_isWord 15 = .ok (.aload_n 0, 1) := dk_42 (dk_at dksX7_isWord_0 15 rfl rfl)
theorem dX7_isWord_16 : decode cX7_isWord 16 = .ok (.getfield 135, 3) := dk_180 0 135 (dk_at dksX7_isWord_0 16 rfl rfl)
theorem dX7_isWord_19 : decode cX7_isWord 19 = .ok (.iload_n 1, 1) := dk_27 (dk_at dksX7_isWord_0 19 rfl rfl)
theorem dX7_isWord_20 : decode cX7_isWord 20 = .ok (.if_icmp .ne 7, 3) := dk_160 0 7 (dk_at dksX7_isWord_0 20 rfl rfl)
theorem dX7_isWord_23 : decode cX7_isWord 23 = .ok (.iconst 1, 1) := dk_4 (dk_at dksX7_isWord_0 23 rfl rfl)
theorem dX7_isWord_24 : decode cX7_isWord 24 = .ok (.goto 4, 3) := dk_167 0 4 (dk_at dksX7_isWord_1 0 rfl rfl)
theorem dX7_isWord_27 : decode cX7_isWord 27 = .ok (.iconst 0, 1) := dk_3 (dk_at dksX7_isWord_1 3 rfl rfl)
theorem dX7_isWord_28 : decode cX7_isWord 28 = .ok (.ireturn, 1) := dk_172 (dk_at dksX7_isWord_1 4 rfl rfl)
abbrev cX7_isSign : ByteArray := prog_21_method_26_code
def yX7_isSign : MethodName := ⟨RX7, "isSign", "(I)Z"⟩
def dkwX7_isSign_1 : List UInt8 := [167, 0, 4, 3, 172]
abbrev dktX7_isSign_1 : List UInt8 := dkwX7_isSign_1 ++ []
def dkwX7_isSign_0 : List UInt8 := [42, 180, 0, 147, 154, 0, 23, 42, 180, 0, 125, 5, 160, 0, 15, 42, 180, 0, 144, 27, 160, 0, 7, 4]
abbrev dktX7_isSign_0 : List UInt8 := dkwX7_isSign_0 ++ dktX7_isSign_1
theorem dksX7_isSign_0 : cX7_isSign.data.toList.drop 0 = dktX7_isSign_0 := by decide +kernel
theorem dksX7_isSign_1 : cX7_isSign.data.toList.drop 24 = dktX7_isSign_1 := dk_seg dksX7_isSign_0 24 rfl rfl
theorem dX7_isSign_0 : decode cX7_isSign 0 = .ok (.aload_n 0, 1) := dk_42 (dk_at dksX7_isSign_0 0 rfl rfl)
theorem dX7_isSign_1 : decode cX7_isSign 1 = .ok (.getfield 147, 3) := dk_180 0 147 (dk_at dksX7_isSign_0 1 rfl rfl)
theorem dX7_isSign_4 : decode cX7_isSign 4 = .ok (.ifCond .ne 23, 3) := dk_154 0 23 (dk_at dksX7_isSign_0 4 rfl rfl)
theorem dX7_isSign_7 : decode cX7_isSign 7 = .ok (.aload_n 0, 1) := dk_42 (dk_at dksX7_isSign_0 7 rfl rfl)
theorem dX7_isSign_8 : decode cX7_isSign 8 = .ok (.getfield 125, 3) := dk_180 0 125 (dk_at dksX7_isSign_0 8 rfl rfl)
theorem dX7_isSign_11 : decode cX7_isSign 11 = .ok (.iconst 2, 1) := dk_5 (dk_at dksX7_isSign_0 11 rfl rfl)
theorem dX7_isSign_12 : decode cX7_isSign 12 = .ok (.if_icmp .ne 15, 3) := dk_160 0 15 (dk_at dksX7_isSign_0 12 rfl rfl)
theorem dX7_isSign_15 : decode cX7_isSign 15 = .ok (.aload_n 0, 1) := dk_42 (dk_at dksX7_isSign_0 15 rfl rfl)
theorem dX7_isSign_16 : decode cX7_isSign 16 = .ok (.getfield 144, 3) := dk_180 0 144 (dk_at dksX7_isSign_0 16 rfl rfl)
theorem dX7_isSign_19 : decode cX7_isSign 19 = .ok (.iload_n 1, 1) := dk_27 (dk_at dksX7_isSign_0 19 rfl rfl)
theorem dX7_isSign_20 : decode cX7_isSign 20 = .ok (.if_icmp .ne 7, 3) := dk_160 0 7 (dk_at dksX7_isSign_0 20 rfl rfl)
theorem dX7_isSign_23 : decode cX7_isSign 23 = .ok (.iconst 1, 1) := dk_4 (dk_at dksX7_isSign_0 23 rfl rfl)
theorem dX7_isSign_24 : decode cX7_isSign 24 = .ok (.goto 4, 3) := dk_167 0 4 (dk_at dksX7_isSign_1 0 rfl rfl)
theorem dX7_isSign_27 : decode cX7_isSign 27 = .ok (.iconst 0, 1) := dk_3 (dk_at dksX7_isSign_1 3 rfl rfl)
theorem dX7_isSign_28 : decode cX7_isSign 28 = .ok (.ireturn, 1) := dk_172 (dk_at dksX7_isSign_1 4 rfl rfl)
abbrev cX7_ownTree : ByteArray := prog_21_method_10_code
def yX7_ownTree : MethodName := ⟨RX7, "ownTree", "(II)I"⟩
def dkwX7_ownTree_0 : List UInt8 := [26, 184, 0, 97, 16, 14, 96, 16, 72, 27, 104, 96, 172]
abbrev dktX7_ownTree_0 : List UInt8 := dkwX7_ownTree_0 ++ []
theorem dksX7_ownTree_0 : cX7_ownTree.data.toList.drop 0 = dktX7_ownTree_0 := by decide +kernel
theorem dX7_ownTree_0 : decode cX7_ownTree 0 = .ok (.iload_n 0, 1) := dk_26 (dk_at dksX7_ownTree_0 0 rfl rfl)
theorem dX7_ownTree_1 : decode cX7_ownTree 1 = .ok (.invokestatic 97, 3) := dk_184 0 97 (dk_at dksX7_ownTree_0 1 rfl rfl)
theorem dX7_ownTree_4 : decode cX7_ownTree 4 = .ok (.bipush 14, 2) := dk_16 14 (dk_at dksX7_ownTree_0 4 rfl rfl)
theorem dX7_ownTree_6 : decode cX7_ownTree 6 = .ok (.iadd, 1) := dk_96 (dk_at dksX7_ownTree_0 6 rfl rfl)
theorem dX7_ownTree_7 : decode cX7_ownTree 7 = .ok (.bipush 72, 2) := dk_16 72 (dk_at dksX7_ownTree_0 7 rfl rfl)
theorem dX7_ownTree_9 : decode cX7_ownTree 9 = .ok (.iload_n 1, 1) := dk_27 (dk_at dksX7_ownTree_0 9 rfl rfl)
theorem dX7_ownTree_10 : decode cX7_ownTree 10 = .ok (.imul, 1) := dk_104 (dk_at dksX7_ownTree_0 10 rfl rfl)
theorem dX7_ownTree_11 : decode cX7_ownTree 11 = .ok (.iadd, 1) := dk_96 (dk_at dksX7_ownTree_0 11 rfl rfl)
theorem dX7_ownTree_12 : decode cX7_ownTree 12 = .ok (.ireturn, 1) := dk_172 (dk_at dksX7_ownTree_0 12 rfl rfl)
abbrev cX7_keeps : ByteArray := prog_21_method_29_code
def yX7_keeps : MethodName := ⟨RX7, "keeps", "(I)V"⟩
def dkwX7_keeps_1 : List UInt8 := [180, 0, 7, 27, 28, 96, 42, 180, 0, 20, 28, 46, 79, 132, 2, 1, 167, 255, 229, 177]
abbrev dktX7_keeps_1 : List UInt8 := dkwX7_keeps_1 ++ []
def dkwX7_keeps_0 : List UInt8 := [42, 180, 0, 7, 27, 42, 180, 0, 151, 79, 4, 61, 28, 8, 42, 180, 0, 151, 104, 163, 0, 23, 42]
abbrev dktX7_keeps_0 : List UInt8 := dkwX7_keeps_0 ++ dktX7_keeps_1
theorem dksX7_keeps_0 : cX7_keeps.data.toList.drop 0 = dktX7_keeps_0 := by decide +kernel
theorem dksX7_keeps_1 : cX7_keeps.data.toList.drop 23 = dktX7_keeps_1 := dk_seg dksX7_keeps_0 23 rfl rfl
theorem dX7_keeps_0 : decode cX7_keeps 0 = .ok (.aload_n 0, 1) := dk_42 (dk_at dksX7_keeps_0 0 rfl rfl)
theorem dX7_keeps_1 : decode cX7_keeps 1 = .ok (.getfield 7, 3) := dk_180 0 7 (dk_at dksX7_keeps_0 1 rfl rfl)
theorem dX7_keeps_4 : decode cX7_keeps 4 = .ok (.iload_n 1, 1) := dk_27 (dk_at dksX7_keeps_0 4 rfl rfl)
theorem dX7_keeps_5 : decode cX7_keeps 5 = .ok (.aload_n 0, 1) := dk_42 (dk_at dksX7_keeps_0 5 rfl rfl)
theorem dX7_keeps_6 : decode cX7_keeps 6 = .ok (.getfield 151, 3) := dk_180 0 151 (dk_at dksX7_keeps_0 6 rfl rfl)
theorem dX7_keeps_9 : decode cX7_keeps 9 = .ok (.iastore, 1) := dk_79 (dk_at dksX7_keeps_0 9 rfl rfl)
theorem dX7_keeps_10 : decode cX7_keeps 10 = .ok (.iconst 1, 1) := dk_4 (dk_at dksX7_keeps_0 10 rfl rfl)
theorem dX7_keeps_11 : decode cX7_keeps 11 = .ok (.istore_n 2, 1) := dk_61 (dk_at dksX7_keeps_0 11 rfl rfl)
theorem dX7_keeps_12 : decode cX7_keeps 12 = .ok (.iload_n 2, 1) := dk_28 (dk_at dksX7_keeps_0 12 rfl rfl)
theorem dX7_keeps_13 : decode cX7_keeps 13 = .ok (.iconst 5, 1) := dk_8 (dk_at dksX7_keeps_0 13 rfl rfl)
theorem dX7_keeps_14 : decode cX7_keeps 14 = .ok (.aload_n 0, 1) := dk_42 (dk_at dksX7_keeps_0 14 rfl rfl)
theorem dX7_keeps_15 : decode cX7_keeps 15 = .ok (.getfield 151, 3) := dk_180 0 151 (dk_at dksX7_keeps_0 15 rfl rfl)
theorem dX7_keeps_18 : decode cX7_keeps 18 = .ok (.imul, 1) := dk_104 (dk_at dksX7_keeps_0 18 rfl rfl)
theorem dX7_keeps_19 : decode cX7_keeps 19 = .ok (.if_icmp .gt 23, 3) := dk_163 0 23 (dk_at dksX7_keeps_0 19 rfl rfl)
theorem dX7_keeps_22 : decode cX7_keeps 22 = .ok (.aload_n 0, 1) := dk_42 (dk_at dksX7_keeps_0 22 rfl rfl)
theorem dX7_keeps_23 : decode cX7_keeps 23 = .ok (.getfield 7, 3) := dk_180 0 7 (dk_at dksX7_keeps_1 0 rfl rfl)
theorem dX7_keeps_26 : decode cX7_keeps 26 = .ok (.iload_n 1, 1) := dk_27 (dk_at dksX7_keeps_1 3 rfl rfl)
theorem dX7_keeps_27 : decode cX7_keeps 27 = .ok (.iload_n 2, 1) := dk_28 (dk_at dksX7_keeps_1 4 rfl rfl)
theorem dX7_keeps_28 : decode cX7_keeps 28 = .ok (.iadd, 1) := dk_96 (dk_at dksX7_keeps_1 5 rfl rfl)
theorem dX7_keeps_29 : decode cX7_keeps 29 = .ok (.aload_n 0, 1) := dk_42 (dk_at dksX7_keeps_1 6 rfl rfl)
theorem dX7_keeps_30 : decode cX7_keeps 30 = .ok (.getfield 20, 3) := dk_180 0 20 (dk_at dksX7_keeps_1 7 rfl rfl)
theorem dX7_keeps_33 : decode cX7_keeps 33 = .ok (.iload_n 2, 1) := dk_28 (dk_at dksX7_keeps_1 10 rfl rfl)
theorem dX7_keeps_34 : decode cX7_keeps 34 = .ok (.iaload, 1) := dk_46 (dk_at dksX7_keeps_1 11 rfl rfl)
theorem dX7_keeps_35 : decode cX7_keeps 35 = .ok (.iastore, 1) := dk_79 (dk_at dksX7_keeps_1 12 rfl rfl)
theorem dX7_keeps_36 : decode cX7_keeps 36 = .ok (.iinc 2 1, 3) := dk_132 2 1 (dk_at dksX7_keeps_1 13 rfl rfl)
theorem dX7_keeps_39 : decode cX7_keeps 39 = .ok (.goto (-27), 3) := dk_167 255 229 (dk_at dksX7_keeps_1 16 rfl rfl)
theorem dX7_keeps_42 : decode cX7_keeps 42 = .ok (.return_, 1) := dk_177 (dk_at dksX7_keeps_1 19 rfl rfl)
abbrev cX7_page : ByteArray := prog_21_method_31_code
def yX7_page : MethodName := ⟨RX7, "page", "()I"⟩
def dkwX7_page_4 : List UInt8 := [92, 46, 4, 96, 79, 42, 180, 0, 7, 4, 46, 4, 100, 172]
abbrev dktX7_page_4 : List UInt8 := dkwX7_page_4 ++ []
def dkwX7_page_3 : List UInt8 := [42, 180, 0, 7, 27, 17, 0, 202, 96, 3, 79, 42, 27, 16, 42, 96, 182, 0, 192, 42, 180, 0, 7, 4]
abbrev dktX7_page_3 : List UInt8 := dkwX7_page_3 ++ dktX7_page_4
def dkwX7_page_2 : List UInt8 := [180, 0, 7, 27, 28, 96, 3, 79, 132, 2, 1, 167, 255, 238, 42, 180, 0, 7, 27, 16, 120, 96, 3, 79]
abbrev dktX7_page_2 : List UInt8 := dkwX7_page_2 ++ dktX7_page_3
def dkwX7_page_1 : List UInt8 := [154, 0, 5, 2, 172, 42, 180, 0, 7, 4, 46, 184, 0, 93, 60, 3, 61, 28, 16, 42, 162, 0, 18, 42]
abbrev dktX7_page_1 : List UInt8 := dkwX7_page_1 ++ dktX7_page_2
def dkwX7_page_0 : List UInt8 := [42, 182, 0, 179, 42, 180, 0, 7, 4, 46, 16, 10, 160, 0, 6, 16, 254, 172, 42, 182, 0, 185]
abbrev dktX7_page_0 : List UInt8 := dkwX7_page_0 ++ dktX7_page_1
theorem dksX7_page_0 : cX7_page.data.toList.drop 0 = dktX7_page_0 := by decide +kernel
theorem dksX7_page_1 : cX7_page.data.toList.drop 22 = dktX7_page_1 := dk_seg dksX7_page_0 22 rfl rfl
theorem dksX7_page_2 : cX7_page.data.toList.drop 46 = dktX7_page_2 := dk_seg dksX7_page_1 24 rfl rfl
theorem dksX7_page_3 : cX7_page.data.toList.drop 70 = dktX7_page_3 := dk_seg dksX7_page_2 24 rfl rfl
theorem dksX7_page_4 : cX7_page.data.toList.drop 94 = dktX7_page_4 := dk_seg dksX7_page_3 24 rfl rfl
theorem dX7_page_0 : decode cX7_page 0 = .ok (.aload_n 0, 1) := dk_42 (dk_at dksX7_page_0 0 rfl rfl)
theorem dX7_page_1 : decode cX7_page 1 = .ok (.invokevirtual 179, 3) := dk_182 0 179 (dk_at dksX7_page_0 1 rfl rfl)
theorem dX7_page_4 : decode cX7_page 4 = .ok (.aload_n 0, 1) := dk_42 (dk_at dksX7_page_0 4 rfl rfl)
theorem dX7_page_5 : decode cX7_page 5 = .ok (.getfield 7, 3) := dk_180 0 7 (dk_at dksX7_page_0 5 rfl rfl)
theorem dX7_page_8 : decode cX7_page 8 = .ok (.iconst 1, 1) := dk_4 (dk_at dksX7_page_0 8 rfl rfl)
theorem dX7_page_9 : decode cX7_page 9 = .ok (.iaload, 1) := dk_46 (dk_at dksX7_page_0 9 rfl rfl)
theorem dX7_page_10 : decode cX7_page 10 = .ok (.bipush 10, 2) := dk_16 10 (dk_at dksX7_page_0 10 rfl rfl)
theorem dX7_page_12 : decode cX7_page 12 = .ok (.if_icmp .ne 6, 3) := dk_160 0 6 (dk_at dksX7_page_0 12 rfl rfl)
theorem dX7_page_15 : decode cX7_page 15 = .ok (.bipush (-2), 2) := dk_16 254 (dk_at dksX7_page_0 15 rfl rfl)
theorem dX7_page_17 : decode cX7_page 17 = .ok (.ireturn, 1) := dk_172 (dk_at dksX7_page_0 17 rfl rfl)
theorem dX7_page_18 : decode cX7_page 18 = .ok (.aload_n 0, 1) := dk_42 (dk_at dksX7_page_0 18 rfl rfl)
theorem dX7_page_19 : decode cX7_page 19 = .ok (.invokevirtual 185, 3) := dk_182 0 185 (dk_at dksX7_page_0 19 rfl rfl)
theorem dX7_page_22 : decode cX7_page 22 = .ok (.ifCond .ne 5, 3) := dk_154 0 5 (dk_at dksX7_page_1 0 rfl rfl)
theorem dX7_page_25 : decode cX7_page 25 = .ok (.iconst (-1), 1) := dk_2 (dk_at dksX7_page_1 3 rfl rfl)
theorem dX7_page_26 : decode cX7_page 26 = .ok (.ireturn, 1) := dk_172 (dk_at dksX7_page_1 4 rfl rfl)
theorem dX7_page_27 : decode cX7_page 27 = .ok (.aload_n 0, 1) := dk_42 (dk_at dksX7_page_1 5 rfl rfl)
theorem dX7_page_28 : decode cX7_page 28 = .ok (.getfield 7, 3) := dk_180 0 7 (dk_at dksX7_page_1 6 rfl rfl)
theorem dX7_page_31 : decode cX7_page 31 = .ok (.iconst 1, 1) := dk_4 (dk_at dksX7_page_1 9 rfl rfl)
theorem dX7_page_32 : decode cX7_page 32 = .ok (.iaload, 1) := dk_46 (dk_at dksX7_page_1 10 rfl rfl)
theorem dX7_page_33 : decode cX7_page 33 = .ok (.invokestatic 93, 3) := dk_184 0 93 (dk_at dksX7_page_1 11 rfl rfl)
theorem dX7_page_36 : decode cX7_page 36 = .ok (.istore_n 1, 1) := dk_60 (dk_at dksX7_page_1 14 rfl rfl)
theorem dX7_page_37 : decode cX7_page 37 = .ok (.iconst 0, 1) := dk_3 (dk_at dksX7_page_1 15 rfl rfl)
theorem dX7_page_38 : decode cX7_page 38 = .ok (.istore_n 2, 1) := dk_61 (dk_at dksX7_page_1 16 rfl rfl)
theorem dX7_page_39 : decode cX7_page 39 = .ok (.iload_n 2, 1) := dk_28 (dk_at dksX7_page_1 17 rfl rfl)
theorem dX7_page_40 : decode cX7_page 40 = .ok (.bipush 42, 2) := dk_16 42 (dk_at dksX7_page_1 18 rfl rfl)
theorem dX7_page_42 : decode cX7_page 42 = .ok (.if_icmp .ge 18, 3) := dk_162 0 18 (dk_at dksX7_page_1 20 rfl rfl)
theorem dX7_page_45 : decode cX7_page 45 = .ok (.aload_n 0, 1) := dk_42 (dk_at dksX7_page_1 23 rfl rfl)
theorem dX7_page_46 : decode cX7_page 46 = .ok (.getfield 7, 3) := dk_180 0 7 (dk_at dksX7_page_2 0 rfl rfl)
theorem dX7_page_49 : decode cX7_page 49 = .ok (.iload_n 1, 1) := dk_27 (dk_at dksX7_page_2 3 rfl rfl)
theorem dX7_page_50 : decode cX7_page 50 = .ok (.iload_n 2, 1) := dk_28 (dk_at dksX7_page_2 4 rfl rfl)
theorem dX7_page_51 : decode cX7_page 51 = .ok (.iadd, 1) := dk_96 (dk_at dksX7_page_2 5 rfl rfl)
theorem dX7_page_52 : decode cX7_page 52 = .ok (.iconst 0, 1) := dk_3 (dk_at dksX7_page_2 6 rfl rfl)
theorem dX7_page_53 : decode cX7_page 53 = .ok (.iastore, 1) := dk_79 (dk_at dksX7_page_2 7 rfl rfl)
theorem dX7_page_54 : decode cX7_page 54 = .ok (.iinc 2 1, 3) := dk_132 2 1 (dk_at dksX7_page_2 8 rfl rfl)
theorem dX7_page_57 : decode cX7_page 57 = .ok (.goto (-18), 3) := dk_167 255 238 (dk_at dksX7_page_2 11 rfl rfl)
theorem dX7_page_60 : decode cX7_page 60 = .ok (.aload_n 0, 1) := dk_42 (dk_at dksX7_page_2 14 rfl rfl)
theorem dX7_page_61 : decode cX7_page 61 = .ok (.getfield 7, 3) := dk_180 0 7 (dk_at dksX7_page_2 15 rfl rfl)
theorem dX7_page_64 : decode cX7_page 64 = .ok (.iload_n 1, 1) := dk_27 (dk_at dksX7_page_2 18 rfl rfl)
theorem dX7_page_65 : decode cX7_page 65 = .ok (.bipush 120, 2) := dk_16 120 (dk_at dksX7_page_2 19 rfl rfl)
theorem dX7_page_67 : decode cX7_page 67 = .ok (.iadd, 1) := dk_96 (dk_at dksX7_page_2 21 rfl rfl)
theorem dX7_page_68 : decode cX7_page 68 = .ok (.iconst 0, 1) := dk_3 (dk_at dksX7_page_2 22 rfl rfl)
theorem dX7_page_69 : decode cX7_page 69 = .ok (.iastore, 1) := dk_79 (dk_at dksX7_page_2 23 rfl rfl)
theorem dX7_page_70 : decode cX7_page 70 = .ok (.aload_n 0, 1) := dk_42 (dk_at dksX7_page_3 0 rfl rfl)
theorem dX7_page_71 : decode cX7_page 71 = .ok (.getfield 7, 3) := dk_180 0 7 (dk_at dksX7_page_3 1 rfl rfl)
theorem dX7_page_74 : decode cX7_page 74 = .ok (.iload_n 1, 1) := dk_27 (dk_at dksX7_page_3 4 rfl rfl)
theorem dX7_page_75 : decode cX7_page 75 = .ok (.sipush 202, 3) := dk_17 0 202 (dk_at dksX7_page_3 5 rfl rfl)
theorem dX7_page_78 : decode cX7_page 78 = .ok (.iadd, 1) := dk_96 (dk_at dksX7_page_3 8 rfl rfl)
theorem dX7_page_79 : decode cX7_page 79 = .ok (.iconst 0, 1) := dk_3 (dk_at dksX7_page_3 9 rfl rfl)
theorem dX7_page_80 : decode cX7_page 80 = .ok (.iastore, 1) := dk_79 (dk_at dksX7_page_3 10 rfl rfl)
theorem dX7_page_81 : decode cX7_page 81 = .ok (.aload_n 0, 1) := dk_42 (dk_at dksX7_page_3 11 rfl rfl)
theorem dX7_page_82 : decode cX7_page 82 = .ok (.iload_n 1, 1) := dk_27 (dk_at dksX7_page_3 12 rfl rfl)
theorem dX7_page_83 : decode cX7_page 83 = .ok (.bipush 42, 2) := dk_16 42 (dk_at dksX7_page_3 13 rfl rfl)
theorem dX7_page_85 : decode cX7_page 85 = .ok (.iadd, 1) := dk_96 (dk_at dksX7_page_3 15 rfl rfl)
theorem dX7_page_86 : decode cX7_page 86 = .ok (.invokevirtual 192, 3) := dk_182 0 192 (dk_at dksX7_page_3 16 rfl rfl)
theorem dX7_page_89 : decode cX7_page 89 = .ok (.aload_n 0, 1) := dk_42 (dk_at dksX7_page_3 19 rfl rfl)
theorem dX7_page_90 : decode cX7_page 90 = .ok (.getfield 7, 3) := dk_180 0 7 (dk_at dksX7_page_3 20 rfl rfl)
theorem dX7_page_93 : decode cX7_page 93 = .ok (.iconst 1, 1) := dk_4 (dk_at dksX7_page_3 23 rfl rfl)
theorem dX7_page_94 : decode cX7_page 94 = .ok (.dup2, 1) := dk_92 (dk_at dksX7_page_4 0 rfl rfl)
theorem dX7_page_95 : decode cX7_page 95 = .ok (.iaload, 1) := dk_46 (dk_at dksX7_page_4 1 rfl rfl)
theorem dX7_page_96 : decode cX7_page 96 = .ok (.iconst 1, 1) := dk_4 (dk_at dksX7_page_4 2 rfl rfl)
theorem dX7_page_97 : decode cX7_page 97 = .ok (.iadd, 1) := dk_96 (dk_at dksX7_page_4 3 rfl rfl)
theorem dX7_page_98 : decode cX7_page 98 = .ok (.iastore, 1) := dk_79 (dk_at dksX7_page_4 4 rfl rfl)
theorem dX7_page_99 : decode cX7_page 99 = .ok (.aload_n 0, 1) := dk_42 (dk_at dksX7_page_4 5 rfl rfl)
theorem dX7_page_100 : decode cX7_page 100 = .ok (.getfield 7, 3) := dk_180 0 7 (dk_at dksX7_page_4 6 rfl rfl)
theorem dX7_page_103 : decode cX7_page 103 = .ok (.iconst 1, 1) := dk_4 (dk_at dksX7_page_4 9 rfl rfl)
theorem dX7_page_104 : decode cX7_page 104 = .ok (.iaload, 1) := dk_46 (dk_at dksX7_page_4 10 rfl rfl)
theorem dX7_page_105 : decode cX7_page 105 = .ok (.iconst 1, 1) := dk_4 (dk_at dksX7_page_4 11 rfl rfl)
theorem dX7_page_106 : decode cX7_page 106 = .ok (.isub, 1) := dk_100 (dk_at dksX7_page_4 12 rfl rfl)
theorem dX7_page_107 : decode cX7_page 107 = .ok (.ireturn, 1) := dk_172 (dk_at dksX7_page_4 13 rfl rfl)
abbrev cX7_pageAt : ByteArray := prog_21_method_8_code
def yX7_pageAt : MethodName := ⟨RX7, "pageAt", "(I)I"⟩
def dkwX7_pageAt_0 : List UInt8 := [17, 10, 110, 17, 0, 210, 26, 104, 96, 172]
abbrev dktX7_pageAt_0 : List UInt8 := dkwX7_pageAt_0 ++ []
theorem dksX7_pageAt_0 : cX7_pageAt.data.toList.drop 0 = dktX7_pageAt_0 := by decide +kernel
theorem dX7_pageAt_0 : decode cX7_pageAt 0 = .ok (.sipush 2670, 3) := dk_17 10 110 (dk_at dksX7_pageAt_0 0 rfl rfl)
theorem dX7_pageAt_3 : decode cX7_pageAt 3 = .ok (.sipush 210, 3) := dk_17 0 210 (dk_at dksX7_pageAt_0 3 rfl rfl)
theorem dX7_pageAt_6 : decode cX7_pageAt 6 = .ok (.iload_n 0, 1) := dk_26 (dk_at dksX7_pageAt_0 6 rfl rfl)
theorem dX7_pageAt_7 : decode cX7_pageAt 7 = .ok (.imul, 1) := dk_104 (dk_at dksX7_pageAt_0 7 rfl rfl)
theorem dX7_pageAt_8 : decode cX7_pageAt 8 = .ok (.iadd, 1) := dk_96 (dk_at dksX7_pageAt_0 8 rfl rfl)
theorem dX7_pageAt_9 : decode cX7_pageAt 9 = .ok (.ireturn, 1) := dk_172 (dk_at dksX7_pageAt_0 9 rfl rfl)
abbrev cX7_house : ByteArray := prog_21_method_34_code
def yX7_house : MethodName := ⟨RX7, "house", "()I"⟩
def dkwX7_house_3 : List UInt8 := [42, 180, 0, 7, 3, 92, 46, 4, 96, 79, 42, 180, 0, 7, 3, 46, 4, 100, 172]
abbrev dktX7_house_3 : List UInt8 := dkwX7_house_3 ++ []
def dkwX7_house_2 : List UInt8 := [16, 13, 96, 3, 79, 42, 180, 0, 7, 42, 180, 0, 7, 3, 46, 184, 0, 97, 17, 0, 159, 96, 3, 79]
abbrev dktX7_house_2 : List UInt8 := dkwX7_house_2 ++ dktX7_house_3
def dkwX7_house_1 : List UInt8 := [184, 0, 97, 182, 0, 199, 154, 0, 5, 2, 172, 42, 180, 0, 7, 42, 180, 0, 7, 3, 46, 184, 0, 97]
abbrev dktX7_house_1 : List UInt8 := dkwX7_house_1 ++ dktX7_house_2
def dkwX7_house_0 : List UInt8 := [42, 182, 0, 179, 42, 180, 0, 7, 3, 46, 8, 160, 0, 6, 16, 254, 172, 42, 42, 180, 0, 7, 3, 46]
abbrev dktX7_house_0 : List UInt8 := dkwX7_house_0 ++ dktX7_house_1
theorem dksX7_house_0 : cX7_house.data.toList.drop 0 = dktX7_house_0 := by decide +kernel
theorem dksX7_house_1 : cX7_house.data.toList.drop 24 = dktX7_house_1 := dk_seg dksX7_house_0 24 rfl rfl
theorem dksX7_house_2 : cX7_house.data.toList.drop 48 = dktX7_house_2 := dk_seg dksX7_house_1 24 rfl rfl
theorem dksX7_house_3 : cX7_house.data.toList.drop 72 = dktX7_house_3 := dk_seg dksX7_house_2 24 rfl rfl
theorem dX7_house_0 : decode cX7_house 0 = .ok (.aload_n 0, 1) := dk_42 (dk_at dksX7_house_0 0 rfl rfl)
theorem dX7_house_1 : decode cX7_house 1 = .ok (.invokevirtual 179, 3) := dk_182 0 179 (dk_at dksX7_house_0 1 rfl rfl)
theorem dX7_house_4 : decode cX7_house 4 = .ok (.aload_n 0, 1) := dk_42 (dk_at dksX7_house_0 4 rfl rfl)
theorem dX7_house_5 : decode cX7_house 5 = .ok (.getfield 7, 3) := dk_180 0 7 (dk_at dksX7_house_0 5 rfl rfl)
theorem dX7_house_8 : decode cX7_house 8 = .ok (.iconst 0, 1) := dk_3 (dk_at dksX7_house_0 8 rfl rfl)
theorem dX7_house_9 : decode cX7_house 9 = .ok (.iaload, 1) := dk_46 (dk_at dksX7_house_0 9 rfl rfl)
theorem dX7_house_10 : decode cX7_house 10 = .ok (.iconst 5, 1) := dk_8 (dk_at dksX7_house_0 10 rfl rfl)
theorem dX7_house_11 : decode cX7_house 11 = .ok (.if_icmp .ne 6, 3) := dk_160 0 6 (dk_at dksX7_house_0 11 rfl rfl)
theorem dX7_house_14 : decode cX7_house 14 = .ok (.bipush (-2), 2) := dk_16 254 (dk_at dksX7_house_0 14 rfl rfl)
theorem dX7_house_16 : decode cX7_house 16 = .ok (.ireturn, 1) := dk_172 (dk_at dksX7_house_0 16 rfl rfl)
theorem dX7_house_17 : decode cX7_house 17 = .ok (.aload_n 0, 1) := dk_42 (dk_at dksX7_house_0 17 rfl rfl)
theorem dX7_house_18 : decode cX7_house 18 = .ok (.aload_n 0, 1) := dk_42 (dk_at dksX7_house_0 18 rfl rfl)
theorem dX7_house_19 : decode cX7_house 19 = .ok (.getfield 7, 3) := dk_180 0 7 (dk_at dksX7_house_0 19 rfl rfl)
theorem dX7_house_22 : decode cX7_house 22 = .ok (.iconst 0, 1) := dk_3 (dk_at dksX7_house_0 22 rfl rfl)
theorem dX7_house_23 : decode cX7_house 23 = .ok (.iaload, 1) := dk_46 (dk_at dksX7_house_0 23 rfl rfl)
theorem dX7_house_24 : decode cX7_house 24 = .ok (.invokestatic 97, 3) := dk_184 0 97 (dk_at dksX7_house_1 0 rfl rfl)
theorem dX7_house_27 : decode cX7_house 27 = .ok (.invokevirtual 199, 3) := dk_182 0 199 (dk_at dksX7_house_1 3 rfl rfl)
theorem dX7_house_30 : decode cX7_house 30 = .ok (.ifCond .ne 5, 3) := dk_154 0 5 (dk_at dksX7_house_1 6 rfl rfl)
theorem dX7_house_33 : decode cX7_house 33 = .ok (.iconst (-1), 1) := dk_2 (dk_at dksX7_house_1 9 rfl rfl)
theorem dX7_house_34 : decode cX7_house 34 = .ok (.ireturn, 1) := dk_172 (dk_at dksX7_house_1 10 rfl rfl)
theorem dX7_house_35 : decode cX7_house 35 = .ok (.aload_n 0, 1) := dk_42 (dk_at dksX7_house_1 11 rfl rfl)
theorem dX7_house_36 : decode cX7_house 36 = .ok (.getfield 7, 3) := dk_180 0 7 (dk_at dksX7_house_1 12 rfl rfl)
theorem dX7_house_39 : decode cX7_house 39 = .ok (.aload_n 0, 1) := dk_42 (dk_at dksX7_house_1 15 rfl rfl)
theorem dX7_house_40 : decode cX7_house 40 = .ok (.getfield 7, 3) := dk_180 0 7 (dk_at dksX7_house_1 16 rfl rfl)
theorem dX7_house_43 : decode cX7_house 43 = .ok (.iconst 0, 1) := dk_3 (dk_at dksX7_house_1 19 rfl rfl)
theorem dX7_house_44 : decode cX7_house 44 = .ok (.iaload, 1) := dk_46 (dk_at dksX7_house_1 20 rfl rfl)
theorem dX7_house_45 : decode cX7_house 45 = .ok (.invokestatic 97, 3) := dk_184 0 97 (dk_at dksX7_house_1 21 rfl rfl)
theorem dX7_house_48 : decode cX7_house 48 = .ok (.bipush 13, 2) := dk_16 13 (dk_at dksX7_house_2 0 rfl rfl)
theorem dX7_house_50 : decode cX7_house 50 = .ok (.iadd, 1) := dk_96 (dk_at dksX7_house_2 2 rfl rfl)
theorem dX7_house_51 : decode cX7_house 51 = .ok (.iconst 0, 1) := dk_3 (dk_at dksX7_house_2 3 rfl rfl)
theorem dX7_house_52 : decode cX7_house 52 = .ok (.iastore, 1) := dk_79 (dk_at dksX7_house_2 4 rfl rfl)
theorem dX7_house_53 : decode cX7_house 53 = .ok (.aload_n 0, 1) := dk_42 (dk_at dksX7_house_2 5 rfl rfl)
theorem dX7_house_54 : decode cX7_house 54 = .ok (.getfield 7, 3) := dk_180 0 7 (dk_at dksX7_house_2 6 rfl rfl)
theorem dX7_house_57 : decode cX7_house 57 = .ok (.aload_n 0, 1) := dk_42 (dk_at dksX7_house_2 9 rfl rfl)
theorem dX7_house_58 : decode cX7_house 58 = .ok (.getfield 7, 3) := dk_180 0 7 (dk_at dksX7_house_2 10 rfl rfl)
theorem dX7_house_61 : decode cX7_house 61 = .ok (.iconst 0, 1) := dk_3 (dk_at dksX7_house_2 13 rfl rfl)
theorem dX7_house_62 : decode cX7_house 62 = .ok (.iaload, 1) := dk_46 (dk_at dksX7_house_2 14 rfl rfl)
theorem dX7_house_63 : decode cX7_house 63 = .ok (.invokestatic 97, 3) := dk_184 0 97 (dk_at dksX7_house_2 15 rfl rfl)
theorem dX7_house_66 : decode cX7_house 66 = .ok (.sipush 159, 3) := dk_17 0 159 (dk_at dksX7_house_2 18 rfl rfl)
theorem dX7_house_69 : decode cX7_house 69 = .ok (.iadd, 1) := dk_96 (dk_at dksX7_house_2 21 rfl rfl)
theorem dX7_house_70 : decode cX7_house 70 = .ok (.iconst 0, 1) := dk_3 (dk_at dksX7_house_2 22 rfl rfl)
theorem dX7_house_71 : decode cX7_house 71 = .ok (.iastore, 1) := dk_79 (dk_at dksX7_house_2 23 rfl rfl)
theorem dX7_house_72 : decode cX7_house 72 = .ok (.aload_n 0, 1) := dk_42 (dk_at dksX7_house_3 0 rfl rfl)
theorem dX7_house_73 : decode cX7_house 73 = .ok (.getfield 7, 3) := dk_180 0 7 (dk_at dksX7_house_3 1 rfl rfl)
theorem dX7_house_76 : decode cX7_house 76 = .ok (.iconst 0, 1) := dk_3 (dk_at dksX7_house_3 4 rfl rfl)
theorem dX7_house_77 : decode cX7_house 77 = .ok (.dup2, 1) := dk_92 (dk_at dksX7_house_3 5 rfl rfl)
theorem dX7_house_78 : decode cX7_house 78 = .ok (.iaload, 1) := dk_46 (dk_at dksX7_house_3 6 rfl rfl)
theorem dX7_house_79 : decode cX7_house 79 = .ok (.iconst 1, 1) := dk_4 (dk_at dksX7_house_3 7 rfl rfl)
theorem dX7_house_80 : decode cX7_house 80 = .ok (.iadd, 1) := dk_96 (dk_at dksX7_house_3 8 rfl rfl)
theorem dX7_house_81 : decode cX7_house 81 = .ok (.iastore, 1) := dk_79 (dk_at dksX7_house_3 9 rfl rfl)
theorem dX7_house_82 : decode cX7_house 82 = .ok (.aload_n 0, 1) := dk_42 (dk_at dksX7_house_3 10 rfl rfl)
theorem dX7_house_83 : decode cX7_house 83 = .ok (.getfield 7, 3) := dk_180 0 7 (dk_at dksX7_house_3 11 rfl rfl)
theorem dX7_house_86 : decode cX7_house 86 = .ok (.iconst 0, 1) := dk_3 (dk_at dksX7_house_3 14 rfl rfl)
theorem dX7_house_87 : decode cX7_house 87 = .ok (.iaload, 1) := dk_46 (dk_at dksX7_house_3 15 rfl rfl)
theorem dX7_house_88 : decode cX7_house 88 = .ok (.iconst 1, 1) := dk_4 (dk_at dksX7_house_3 16 rfl rfl)
theorem dX7_house_89 : decode cX7_house 89 = .ok (.isub, 1) := dk_100 (dk_at dksX7_house_3 17 rfl rfl)
theorem dX7_house_90 : decode cX7_house 90 = .ok (.ireturn, 1) := dk_172 (dk_at dksX7_house_3 18 rfl rfl)
abbrev cX7_named : ByteArray := prog_21_method_33_code
def yX7_named : MethodName := ⟨RX7, "named", "(I)Z"⟩
def dkwX7_named_6 : List UInt8 := [132, 3, 1, 167, 255, 227, 42, 180, 0, 7, 16, 7, 46, 154, 0, 7, 4, 167, 0, 4, 3, 172]
abbrev dktX7_named_6 : List UInt8 := dkwX7_named_6 ++ []
def dkwX7_named_5 : List UInt8 := [180, 0, 100, 162, 0, 27, 42, 180, 0, 7, 27, 4, 96, 29, 96, 42, 29, 182, 0, 119, 184, 0, 196, 79]
abbrev dktX7_named_5 : List UInt8 := dkwX7_named_5 ++ dktX7_named_6
def dkwX7_named_4 : List UInt8 := [16, 8, 16, 12, 79, 167, 0, 47, 42, 180, 0, 7, 27, 42, 180, 0, 100, 79, 3, 62, 29, 42]
abbrev dktX7_named_4 : List UInt8 := dkwX7_named_4 ++ dktX7_named_5
def dkwX7_named_3 : List UInt8 := [167, 0, 76, 42, 180, 0, 100, 16, 12, 164, 0, 23, 42, 180, 0, 7, 16, 7, 5, 79, 42, 180, 0, 7]
abbrev dktX7_named_3 : List UInt8 := dkwX7_named_3 ++ dktX7_named_4
def dkwX7_named_2 : List UInt8 := [180, 0, 7, 16, 7, 4, 79, 42, 180, 0, 7, 16, 8, 28, 156, 0, 7, 3, 167, 0, 4, 28, 79]
abbrev dktX7_named_2 : List UInt8 := dkwX7_named_2 ++ dktX7_named_3
def dkwX7_named_1 : List UInt8 := [156, 0, 5, 29, 61, 132, 3, 1, 167, 255, 228, 28, 156, 0, 10, 42, 180, 0, 100, 154, 0, 30, 42]
abbrev dktX7_named_1 : List UInt8 := dkwX7_named_1 ++ dktX7_named_2
def dkwX7_named_0 : List UInt8 := [2, 61, 3, 62, 29, 42, 180, 0, 100, 162, 0, 26, 28, 156, 0, 22, 42, 29, 182, 0, 119, 184, 0, 196]
abbrev dktX7_named_0 : List UInt8 := dkwX7_named_0 ++ dktX7_named_1
theorem dksX7_named_0 : cX7_named.data.toList.drop 0 = dktX7_named_0 := by decide +kernel
theorem dksX7_named_1 : cX7_named.data.toList.drop 24 = dktX7_named_1 := dk_seg dksX7_named_0 24 rfl rfl
theorem dksX7_named_2 : cX7_named.data.toList.drop 47 = dktX7_named_2 := dk_seg dksX7_named_1 23 rfl rfl
theorem dksX7_named_3 : cX7_named.data.toList.drop 70 = dktX7_named_3 := dk_seg dksX7_named_2 23 rfl rfl
theorem dksX7_named_4 : cX7_named.data.toList.drop 94 = dktX7_named_4 := dk_seg dksX7_named_3 24 rfl rfl
theorem dksX7_named_5 : cX7_named.data.toList.drop 116 = dktX7_named_5 := dk_seg dksX7_named_4 22 rfl rfl
theorem dksX7_named_6 : cX7_named.data.toList.drop 140 = dktX7_named_6 := dk_seg dksX7_named_5 24 rfl rfl
theorem dX7_named_0 : decode cX7_named 0 = .ok (.iconst (-1), 1) := dk_2 (dk_at dksX7_named_0 0 rfl rfl)
theorem dX7_named_1 : decode cX7_named 1 = .ok (.istore_n 2, 1) := dk_61 (dk_at dksX7_named_0 1 rfl rfl)
theorem dX7_named_2 : decode cX7_named 2 = .ok (.iconst 0, 1) := dk_3 (dk_at dksX7_named_0 2 rfl rfl)
theorem dX7_named_3 : decode cX7_named 3 = .ok (.istore_n 3, 1) := dk_62 (dk_at dksX7_named_0 3 rfl rfl)
theorem dX7_named_4 : decode cX7_named 4 = .ok (.iload_n 3, 1) := dk_29 (dk_at dksX7_named_0 4 rfl rfl)
theorem dX7_named_5 : decode cX7_named 5 = .ok (.aload_n 0, 1) := dk_42 (dk_at dksX7_named_0 5 rfl rfl)
theorem dX7_named_6 : decode cX7_named 6 = .ok (.getfield 100, 3) := dk_180 0 100 (dk_at dksX7_named_0 6 rfl rfl)
theorem dX7_named_9 : decode cX7_named 9 = .ok (.if_icmp .ge 26, 3) := dk_162 0 26 (dk_at dksX7_named_0 9 rfl rfl)
theorem dX7_named_12 : decode cX7_named 12 = .ok (.iload_n 2, 1) := dk_28 (dk_at dksX7_named_0 12 rfl rfl)
theorem dX7_named_13 : decode cX7_named 13 = .ok (.ifCond .ge 22, 3) := dk_156 0 22 (dk_at dksX7_named_0 13 rfl rfl)
theorem dX7_named_16 : decode cX7_named 16 = .ok (.aload_n 0, 1) := dk_42 (dk_at dksX7_named_0 16 rfl rfl)
theorem dX7_named_17 : decode cX7_named 17 = .ok (.iload_n 3, 1) := dk_29 (dk_at dksX7_named_0 17 rfl rfl)
theorem dX7_named_18 : decode cX7_named 18 = .ok (.invokevirtual 119, 3) := dk_182 0 119 (dk_at dksX7_named_0 18 rfl rfl)
theorem dX7_named_21 : decode cX7_named 21 = .ok (.invokestatic 196, 3) := dk_184 0 196 (dk_at dksX7_named_0 21 rfl rfl)
theorem dX7_named_24 : decode cX7_named 24 = .ok (.ifCond .ge 5, 3) := dk_156 0 5 (dk_at dksX7_named_1 0 rfl rfl)
theorem dX7_named_27 : decode cX7_named 27 = .ok (.iload_n 3, 1) := dk_29 (dk_at dksX7_named_1 3 rfl rfl)
theorem dX7_named_28 : decode cX7_named 28 = .ok (.istore_n 2, 1) := dk_61 (dk_at dksX7_named_1 4 rfl rfl)
theorem dX7_named_29 : decode cX7_named 29 = .ok (.iinc 3 1, 3) := dk_132 3 1 (dk_at dksX7_named_1 5 rfl rfl)
theorem dX7_named_32 : decode cX7_named 32 = .ok (.goto (-28), 3) := dk_167 255 228 (dk_at dksX7_named_1 8 rfl rfl)
theorem dX7_named_35 : decode cX7_named 35 = .ok (.iload_n 2, 1) := dk_28 (dk_at dksX7_named_1 11 rfl rfl)
theorem dX7_named_36 : decode cX7_named 36 = .ok (.ifCond .ge 10, 3) := dk_156 0 10 (dk_at dksX7_named_1 12 rfl rfl)
theorem dX7_named_39 : decode cX7_named 39 = .ok (.aload_n 0, 1) := dk_42 (dk_at dksX7_named_1 15 rfl rfl)
theorem dX7_named_40 : decode cX7_named 40 = .ok (.getfield 100, 3) := dk_180 0 100 (dk_at dksX7_named_1 16 rfl rfl)
theorem dX7_named_43 : decode cX7_named 43 = .ok (.ifCond .ne 30, 3) := dk_154 0 30 (dk_at dksX7_named_1 19 rfl rfl)
theorem dX7_named_46 : decode cX7_named 46 = .ok (.aload_n 0, 1) := dk_42 (dk_at dksX7_named_1 22 rfl rfl)
theorem dX7_named_47 : decode cX7_named 47 = .ok (.getfield 7, 3) := dk_180 0 7 (dk_at dksX7_named_2 0 rfl rfl)
theorem dX7_named_50 : decode cX7_named 50 = .ok (.bipush 7, 2) := dk_16 7 (dk_at dksX7_named_2 3 rfl rfl)
theorem dX7_named_52 : decode cX7_named 52 = .ok (.iconst 1, 1) := dk_4 (dk_at dksX7_named_2 5 rfl rfl)
theorem dX7_named_53 : decode cX7_named 53 = .ok (.iastore, 1) := dk_79 (dk_at dksX7_named_2 6 rfl rfl)
theorem dX7_named_54 : decode cX7_named 54 = .ok (.aload_n 0, 1) := dk_42 (dk_at dksX7_named_2 7 rfl rfl)
theorem dX7_named_55 : decode cX7_named 55 = .ok (.getfield 7, 3) := dk_180 0 7 (dk_at dksX7_named_2 8 rfl rfl)
theorem dX7_named_58 : decode cX7_named 58 = .ok (.bipush 8, 2) := dk_16 8 (dk_at dksX7_named_2 11 rfl rfl)
theorem dX7_named_60 : decode cX7_named 60 = .ok (.iload_n 2, 1) := dk_28 (dk_at dksX7_named_2 13 rfl rfl)
theorem dX7_named_61 : decode cX7_named 61 = .ok (.ifCond .ge 7, 3) := dk_156 0 7 (dk_at dksX7_named_2 14 rfl rfl)
theorem dX7_named_64 : decode cX7_named 64 = .ok (.iconst 0, 1) := dk_3 (dk_at dksX7_named_2 17 rfl rfl)
theorem dX7_named_65 : decode cX7_named 65 = .ok (.goto 4, 3) := dk_167 0 4 (dk_at dksX7_named_2 18 rfl rfl)
theorem dX7_named_68 : decode cX7_named 68 = .ok (.iload_n 2, 1) := dk_28 (dk_at dksX7_named_2 21 rfl rfl)
theorem dX7_named_69 : decode cX7_named 69 = .ok (.iastore, 1) := dk_79 (dk_at dksX7_named_2 22 rfl rfl)
theorem dX7_named_70 : decode cX7_named 70 = .ok (.goto 76, 3) := dk_167 0 76 (dk_at dksX7_named_3 0 rfl rfl)
theorem dX7_named_73 : decode cX7_named 73 = .ok (.aload_n 0, 1) := dk_42 (dk_at dksX7_named_3 3 rfl rfl)
theorem dX7_named_74 : decode cX7_named 74 = .ok (.getfield 100, 3) := dk_180 0 100 (dk_at dksX7_named_3 4 rfl rfl)
theorem dX7_named_77 : decode cX7_named 77 = .ok (.bipush 12, 2) := dk_16 12 (dk_at dksX7_named_3 7 rfl rfl)
theorem dX7_named_79 : decode cX7_named 79 = .ok (.if_icmp .le 23, 3) := dk_164 0 23 (dk_at dksX7_named_3 9 rfl rfl)
theorem dX7_named_82 : decode cX7_named 82 = .ok (.aload_n 0, 1) := dk_42 (dk_at dksX7_named_3 12 rfl rfl)
theorem dX7_named_83 : decode cX7_named 83 = .ok (.getfield 7, 3) := dk_180 0 7 (dk_at dksX7_named_3 13 rfl rfl)
theorem dX7_named_86 : decode cX7_named 86 = .ok (.bipush 7, 2) := dk_16 7 (dk_at dksX7_named_3 16 rfl rfl)
theorem dX7_named_88 : decode cX7_named 88 = .ok (.iconst 2, 1) := dk_5 (dk_at dksX7_named_3 18 rfl rfl)
theorem dX7_named_89 : decode cX7_named 89 = .ok (.iastore, 1) := dk_79 (dk_at dksX7_named_3 19 rfl rfl)
theorem dX7_named_90 : decode cX7_named 90 = .ok (.aload_n 0, 1) := dk_42 (dk_at dksX7_named_3 20 rfl rfl)
theorem dX7_named_91 : decode cX7_named 91 = .ok (.getfield 7, 3) := dk_180 0 7 (dk_at dksX7_named_3 21 rfl rfl)
theorem dX7_named_94 : decode cX7_named 94 = .ok (.bipush 8, 2) := dk_16 8 (dk_at dksX7_named_4 0 rfl rfl)
theorem dX7_named_96 : decode cX7_named 96 = .ok (.bipush 12, 2) := dk_16 12 (dk_at dksX7_named_4 2 rfl rfl)
theorem dX7_named_98 : decode cX7_named 98 = .ok (.iastore, 1) := dk_79 (dk_at dksX7_named_4 4 rfl rfl)
theorem dX7_named_99 : decode cX7_named 99 = .ok (.goto 47, 3) := dk_167 0 47 (dk_at dksX7_named_4 5 rfl rfl)
theorem dX7_named_102 : decode cX7_named 102 = .ok (.aload_n 0, 1) := dk_42 (dk_at dksX7_named_4 8 rfl rfl)
theorem dX7_named_103 : decode cX7_named 103 = .ok (.getfield 7, 3) := dk_180 0 7 (dk_at dksX7_named_4 9 rfl rfl)
theorem dX7_named_106 : decode cX7_named 106 = .ok (.iload_n 1, 1) := dk_27 (dk_at dksX7_named_4 12 rfl rfl)
theorem dX7_named_107 : decode cX7_named 107 = .ok (.aload_n 0, 1) := dk_42 (dk_at dksX7_named_4 13 rfl rfl)
theorem dX7_named_108 : decode cX7_named 108 = .ok (.getfield 100, 3) := dk_180 0 100 (dk_at dksX7_named_4 14 rfl rfl)
theorem dX7_named_111 : decode cX7_named 111 = .ok (.iastore, 1) := dk_79 (dk_at dksX7_named_4 17 rfl rfl)
theorem dX7_named_112 : decode cX7_named 112 = .ok (.iconst 0, 1) := dk_3 (dk_at dksX7_named_4 18 rfl rfl)
theorem dX7_named_113 : decode cX7_named 113 = .ok (.istore_n 3, 1) := dk_62 (dk_at dksX7_named_4 19 rfl rfl)
theorem dX7_named_114 : decode cX7_named 114 = .ok (.iload_n 3, 1) := dk_29 (dk_at dksX7_named_4 20 rfl rfl)
theorem dX7_named_115 : decode cX7_named 115 = .ok (.aload_n 0, 1) := dk_42 (dk_at dksX7_named_4 21 rfl rfl)
theorem dX7_named_116 : decode cX7_named 116 = .ok (.getfield 100, 3) := dk_180 0 100 (dk_at dksX7_named_5 0 rfl rfl)
theorem dX7_named_119 : decode cX7_named 119 = .ok (.if_icmp .ge 27, 3) := dk_162 0 27 (dk_at dksX7_named_5 3 rfl rfl)
theorem dX7_named_122 : decode cX7_named 122 = .ok (.aload_n 0, 1) := dk_42 (dk_at dksX7_named_5 6 rfl rfl)
theorem dX7_named_123 : decode cX7_named 123 = .ok (.getfield 7, 3) := dk_180 0 7 (dk_at dksX7_named_5 7 rfl rfl)
theorem dX7_named_126 : decode cX7_named 126 = .ok (.iload_n 1, 1) := dk_27 (dk_at dksX7_named_5 10 rfl rfl)
theorem dX7_named_127 : decode cX7_named 127 = .ok (.iconst 1, 1) := dk_4 (dk_at dksX7_named_5 11 rfl rfl)
theorem dX7_named_128 : decode cX7_named 128 = .ok (.iadd, 1) := dk_96 (dk_at dksX7_named_5 12 rfl rfl)
theorem dX7_named_129 : decode cX7_named 129 = .ok (.iload_n 3, 1) := dk_29 (dk_at dksX7_named_5 13 rfl rfl)
theorem dX7_named_130 : decode cX7_named 130 = .ok (.iadd, 1) := dk_96 (dk_at dksX7_named_5 14 rfl rfl)
theorem dX7_named_131 : decode cX7_named 131 = .ok (.aload_n 0, 1) := dk_42 (dk_at dksX7_named_5 15 rfl rfl)
theorem dX7_named_132 : decode cX7_named 132 = .ok (.iload_n 3, 1) := dk_29 (dk_at dksX7_named_5 16 rfl rfl)
theorem dX7_named_133 : decode cX7_named 133 = .ok (.invokevirtual 119, 3) := dk_182 0 119 (dk_at dksX7_named_5 17 rfl rfl)
theorem dX7_named_136 : decode cX7_named 136 = .ok (.invokestatic 196, 3) := dk_184 0 196 (dk_at dksX7_named_5 20 rfl rfl)
theorem dX7_named_139 : decode cX7_named 139 = .ok (.iastore, 1) := dk_79 (dk_at dksX7_named_5 23 rfl rfl)
theorem dX7_named_140 : decode cX7_named 140 = .ok (.iinc 3 1, 3) := dk_132 3 1 (dk_at dksX7_named_6 0 rfl rfl)
theorem dX7_named_143 : decode cX7_named 143 = .ok (.goto (-29), 3) := dk_167 255 227 (dk_at dksX7_named_6 3 rfl rfl)
theorem dX7_named_146 : decode cX7_named 146 = .ok (.aload_n 0, 1) := dk_42 (dk_at dksX7_named_6 6 rfl rfl)
theorem dX7_named_147 : decode cX7_named 147 = .ok (.getfield 7, 3) := dk_180 0 7 (dk_at dksX7_named_6 7 rfl rfl)
theorem dX7_named_150 : decode cX7_named 150 = .ok (.bipush 7, 2) := dk_16 7 (dk_at dksX7_named_6 10 rfl rfl)
theorem dX7_named_152 : decode cX7_named 152 = .ok (.iaload, 1) := dk_46 (dk_at dksX7_named_6 12 rfl rfl)
theorem dX7_named_153 : decode cX7_named 153 = .ok (.ifCond .ne 7, 3) := dk_154 0 7 (dk_at dksX7_named_6 13 rfl rfl)
theorem dX7_named_156 : decode cX7_named 156 = .ok (.iconst 1, 1) := dk_4 (dk_at dksX7_named_6 16 rfl rfl)
theorem dX7_named_157 : decode cX7_named 157 = .ok (.goto 4, 3) := dk_167 0 4 (dk_at dksX7_named_6 17 rfl rfl)
theorem dX7_named_160 : decode cX7_named 160 = .ok (.iconst 0, 1) := dk_3 (dk_at dksX7_named_6 20 rfl rfl)
theorem dX7_named_161 : decode cX7_named 161 = .ok (.ireturn, 1) := dk_172 (dk_at dksX7_named_6 21 rfl rfl)
abbrev cX7_signOf : ByteArray := prog_21_method_32_code
def yX7_signOf : MethodName := ⟨RX7, "signOf", "(I)I"⟩
def dkwX7_signOf_1 : List UInt8 := [96, 16, 48, 100, 167, 0, 4, 2, 172]
abbrev dktX7_signOf_1 : List UInt8 := dkwX7_signOf_1 ++ []
def dkwX7_signOf_0 : List UInt8 := [26, 184, 0, 128, 153, 0, 10, 26, 16, 97, 100, 167, 0, 21, 26, 184, 0, 138, 153, 0, 13, 16, 26, 26]
abbrev dktX7_signOf_0 : List UInt8 := dkwX7_signOf_0 ++ dktX7_signOf_1
theorem dksX7_signOf_0 : cX7_signOf.data.toList.drop 0 = dktX7_signOf_0 := by decide +kernel
theorem dksX7_signOf_1 : cX7_signOf.data.toList.drop 24 = dktX7_signOf_1 := dk_seg dksX7_signOf_0 24 rfl rfl
theorem dX7_signOf_0 : decode cX7_signOf 0 = .ok (.iload_n 0, 1) := dk_26 (dk_at dksX7_signOf_0 0 rfl rfl)
theorem dX7_signOf_1 : decode cX7_signOf 1 = .ok (.invokestatic 128, 3) := dk_184 0 128 (dk_at dksX7_signOf_0 1 rfl rfl)
theorem dX7_signOf_4 : decode cX7_signOf 4 = .ok (.ifCond .eq 10, 3) := dk_153 0 10 (dk_at dksX7_signOf_0 4 rfl rfl)
theorem dX7_signOf_7 : decode cX7_signOf 7 = .ok (.iload_n 0, 1) := dk_26 (dk_at dksX7_signOf_0 7 rfl rfl)
theorem dX7_signOf_8 : decode cX7_signOf 8 = .ok (.bipush 97, 2) := dk_16 97 (dk_at dksX7_signOf_0 8 rfl rfl)
theorem dX7_signOf_10 : decode cX7_signOf 10 = .ok (.isub, 1) := dk_100 (dk_at dksX7_signOf_0 10 rfl rfl)
theorem dX7_signOf_11 : decode cX7_signOf 11 = .ok (.goto 21, 3) := dk_167 0 21 (dk_at dksX7_signOf_0 11 rfl rfl)
theorem dX7_signOf_14 : decode cX7_signOf 14 = .ok (.iload_n 0, 1) := dk_26 (dk_at dksX7_signOf_0 14 rfl rfl)
theorem dX7_signOf_15 : decode cX7_signOf 15 = .ok (.invokestatic 138, 3) := dk_184 0 138 (dk_at dksX7_signOf_0 15 rfl rfl)
theorem dX7_signOf_18 : decode cX7_signOf 18 = .ok (.ifCond .eq 13, 3) := dk_153 0 13 (dk_at dksX7_signOf_0 18 rfl rfl)
theorem dX7_signOf_21 : decode cX7_signOf 21 = .ok (.bipush 26, 2) := dk_16 26 (dk_at dksX7_signOf_0 21 rfl rfl)
theorem dX7_signOf_23 : decode cX7_signOf 23 = .ok (.iload_n 0, 1) := dk_26 (dk_at dksX7_signOf_0 23 rfl rfl)
theorem dX7_signOf_24 : decode cX7_signOf 24 = .ok (.iadd, 1) := dk_96 (dk_at dksX7_signOf_1 0 rfl rfl)
theorem dX7_signOf_25 : decode cX7_signOf 25 = .ok (.bipush 48, 2) := dk_16 48 (dk_at dksX7_signOf_1 1 rfl rfl)
theorem dX7_signOf_27 : decode cX7_signOf 27 = .ok (.isub, 1) := dk_100 (dk_at dksX7_signOf_1 3 rfl rfl)
theorem dX7_signOf_28 : decode cX7_signOf 28 = .ok (.goto 4, 3) := dk_167 0 4 (dk_at dksX7_signOf_1 4 rfl rfl)
theorem dX7_signOf_31 : decode cX7_signOf 31 = .ok (.iconst (-1), 1) := dk_2 (dk_at dksX7_signOf_1 7 rfl rfl)
theorem dX7_signOf_32 : decode cX7_signOf 32 = .ok (.ireturn, 1) := dk_172 (dk_at dksX7_signOf_1 8 rfl rfl)
abbrev cX7_name : ByteArray := prog_21_method_35_code
def yX7_name : MethodName := ⟨RX7, "name", "(I)Z"⟩
def dkwX7_name_1 : List UInt8 := [167, 0, 4, 3, 172]
abbrev dktX7_name_1 : List UInt8 := dkwX7_name_1 ++ []
def dkwX7_name_0 : List UInt8 := [42, 182, 0, 179, 42, 27, 182, 0, 202, 153, 0, 18, 42, 27, 184, 0, 93, 182, 0, 199, 153, 0, 7, 4]
abbrev dktX7_name_0 : List UInt8 := dkwX7_name_0 ++ dktX7_name_1
theorem dksX7_name_0 : cX7_name.data.toList.drop 0 = dktX7_name_0 := by decide +kernel
theorem dksX7_name_1 : cX7_name.data.toList.drop 24 = dktX7_name_1 := dk_seg dksX7_name_0 24 rfl rfl
theorem dX7_name_0 : decode cX7_name 0 = .ok (.aload_n 0, 1) := dk_42 (dk_at dksX7_name_0 0 rfl rfl)
theorem dX7_name_1 : decode cX7_name 1 = .ok (.invokevirtual 179, 3) := dk_182 0 179 (dk_at dksX7_name_0 1 rfl rfl)
theorem dX7_name_4 : decode cX7_name 4 = .ok (.aload_n 0, 1) := dk_42 (dk_at dksX7_name_0 4 rfl rfl)
theorem dX7_name_5 : decode cX7_name 5 = .ok (.iload_n 1, 1) := dk_27 (dk_at dksX7_name_0 5 rfl rfl)
theorem dX7_name_6 : decode cX7_name 6 = .ok (.invokevirtual 202, 3) := dk_182 0 202 (dk_at dksX7_name_0 6 rfl rfl)
theorem dX7_name_9 : decode cX7_name 9 = .ok (.ifCond .eq 18, 3) := dk_153 0 18 (dk_at dksX7_name_0 9 rfl rfl)
theorem dX7_name_12 : decode cX7_name 12 = .ok (.aload_n 0, 1) := dk_42 (dk_at dksX7_name_0 12 rfl rfl)
theorem dX7_name_13 : decode cX7_name 13 = .ok (.iload_n 1, 1) := dk_27 (dk_at dksX7_name_0 13 rfl rfl)
theorem dX7_name_14 : decode cX7_name 14 = .ok (.invokestatic 93, 3) := dk_184 0 93 (dk_at dksX7_name_0 14 rfl rfl)
theorem dX7_name_17 : decode cX7_name 17 = .ok (.invokevirtual 199, 3) := dk_182 0 199 (dk_at dksX7_name_0 17 rfl rfl)
theorem dX7_name_20 : decode cX7_name 20 = .ok (.ifCond .eq 7, 3) := dk_153 0 7 (dk_at dksX7_name_0 20 rfl rfl)
theorem dX7_name_23 : decode cX7_name 23 = .ok (.iconst 1, 1) := dk_4 (dk_at dksX7_name_0 23 rfl rfl)
theorem dX7_name_24 : decode cX7_name 24 = .ok (.goto 4, 3) := dk_167 0 4 (dk_at dksX7_name_1 0 rfl rfl)
theorem dX7_name_27 : decode cX7_name 27 = .ok (.iconst 0, 1) := dk_3 (dk_at dksX7_name_1 3 rfl rfl)
theorem dX7_name_28 : decode cX7_name 28 = .ok (.ireturn, 1) := dk_172 (dk_at dksX7_name_1 4 rfl rfl)
abbrev cX7_isPage : ByteArray := prog_21_method_5_code
def yX7_isPage : MethodName := ⟨RX7, "isPage", "(I)Z"⟩
def dkwX7_isPage_0 : List UInt8 := [27, 3, 42, 180, 0, 7, 4, 46, 4, 100, 184, 0, 89, 172]
abbrev dktX7_isPage_0 : List UInt8 := dkwX7_isPage_0 ++ []
theorem dksX7_isPage_0 : cX7_isPage.data.toList.drop 0 = dktX7_isPage_0 := by decide +kernel
theorem dX7_isPage_0 : decode cX7_isPage 0 = .ok (.iload_n 1, 1) := dk_27 (dk_at dksX7_isPage_0 0 rfl rfl)
theorem dX7_isPage_1 : decode cX7_isPage 1 = .ok (.iconst 0, 1) := dk_3 (dk_at dksX7_isPage_0 1 rfl rfl)
theorem dX7_isPage_2 : decode cX7_isPage 2 = .ok (.aload_n 0, 1) := dk_42 (dk_at dksX7_isPage_0 2 rfl rfl)
theorem dX7_isPage_3 : decode cX7_isPage 3 = .ok (.getfield 7, 3) := dk_180 0 7 (dk_at dksX7_isPage_0 3 rfl rfl)
theorem dX7_isPage_6 : decode cX7_isPage 6 = .ok (.iconst 1, 1) := dk_4 (dk_at dksX7_isPage_0 6 rfl rfl)
theorem dX7_isPage_7 : decode cX7_isPage 7 = .ok (.iaload, 1) := dk_46 (dk_at dksX7_isPage_0 7 rfl rfl)
theorem dX7_isPage_8 : decode cX7_isPage 8 = .ok (.iconst 1, 1) := dk_4 (dk_at dksX7_isPage_0 8 rfl rfl)
theorem dX7_isPage_9 : decode cX7_isPage 9 = .ok (.isub, 1) := dk_100 (dk_at dksX7_isPage_0 9 rfl rfl)
theorem dX7_isPage_10 : decode cX7_isPage 10 = .ok (.invokestatic 89, 3) := dk_184 0 89 (dk_at dksX7_isPage_0 10 rfl rfl)
theorem dX7_isPage_13 : decode cX7_isPage 13 = .ok (.ireturn, 1) := dk_172 (dk_at dksX7_isPage_0 13 rfl rfl)
abbrev cX7_fault : ByteArray := prog_21_method_36_code
def yX7_fault : MethodName := ⟨RX7, "fault", "(I)I"⟩
def dkwX7_fault_1 : List UInt8 := [16, 8, 46, 167, 0, 4, 2, 172]
abbrev dktX7_fault_1 : List UInt8 := dkwX7_fault_1 ++ []
def dkwX7_fault_0 : List UInt8 := [27, 154, 0, 13, 42, 180, 0, 7, 16, 7, 46, 167, 0, 19, 27, 4, 160, 0, 13, 42, 180, 0, 7]
abbrev dktX7_fault_0 : List UInt8 := dkwX7_fault_0 ++ dktX7_fault_1
theorem dksX7_fault_0 : cX7_fault.data.toList.drop 0 = dktX7_fault_0 := by decide +kernel
theorem dksX7_fault_1 : cX7_fault.data.toList.drop 23 = dktX7_fault_1 := dk_seg dksX7_fault_0 23 rfl rfl
theorem dX7_fault_0 : decode cX7_fault 0 = .ok (.iload_n 1, 1) := dk_27 (dk_at dksX7_fault_0 0 rfl rfl)
theorem dX7_fault_1 : decode cX7_fault 1 = .ok (.ifCond .ne 13, 3) := dk_154 0 13 (dk_at dksX7_fault_0 1 rfl rfl)
theorem dX7_fault_4 : decode cX7_fault 4 = .ok (.aload_n 0, 1) := dk_42 (dk_at dksX7_fault_0 4 rfl rfl)
theorem dX7_fault_5 : decode cX7_fault 5 = .ok (.getfield 7, 3) := dk_180 0 7 (dk_at dksX7_fault_0 5 rfl rfl)
theorem dX7_fault_8 : decode cX7_fault 8 = .ok (.bipush 7, 2) := dk_16 7 (dk_at dksX7_fault_0 8 rfl rfl)
theorem dX7_fault_10 : decode cX7_fault 10 = .ok (.iaload, 1) := dk_46 (dk_at dksX7_fault_0 10 rfl rfl)
theorem dX7_fault_11 : decode cX7_fault 11 = .ok (.goto 19, 3) := dk_167 0 19 (dk_at dksX7_fault_0 11 rfl rfl)
theorem dX7_fault_14 : decode cX7_fault 14 = .ok (.iload_n 1, 1) := dk_27 (dk_at dksX7_fault_0 14 rfl rfl)
theorem dX7_fault_15 : decode cX7_fault 15 = .ok (.iconst 1, 1) := dk_4 (dk_at dksX7_fault_0 15 rfl rfl)
theorem dX7_fault_16 : decode cX7_fault 16 = .ok (.if_icmp .ne 13, 3) := dk_160 0 13 (dk_at dksX7_fault_0 16 rfl rfl)
theorem dX7_fault_19 : decode cX7_fault 19 = .ok (.aload_n 0, 1) := dk_42 (dk_at dksX7_fault_0 19 rfl rfl)
theorem dX7_fault_20 : decode cX7_fault 20 = .ok (.getfield 7, 3) := dk_180 0 7 (dk_at dksX7_fault_0 20 rfl rfl)
theorem dX7_fault_23 : decode cX7_fault 23 = .ok (.bipush 8, 2) := dk_16 8 (dk_at dksX7_fault_1 0 rfl rfl)
theorem dX7_fault_25 : decode cX7_fault 25 = .ok (.iaload, 1) := dk_46 (dk_at dksX7_fault_1 2 rfl rfl)
theorem dX7_fault_26 : decode cX7_fault 26 = .ok (.goto 4, 3) := dk_167 0 4 (dk_at dksX7_fault_1 3 rfl rfl)
theorem dX7_fault_29 : decode cX7_fault 29 = .ok (.iconst (-1), 1) := dk_2 (dk_at dksX7_fault_1 6 rfl rfl)
theorem dX7_fault_30 : decode cX7_fault 30 = .ok (.ireturn, 1) := dk_172 (dk_at dksX7_fault_1 7 rfl rfl)
abbrev cX7_alike : ByteArray := prog_21_method_37_code
def yX7_alike : MethodName := ⟨RX7, "alike", "(III)Z"⟩
def dkwX7_alike_3 : List UInt8 := [184, 0, 196, 96, 29, 79, 4, 172]
abbrev dktX7_alike_3 : List UInt8 := dkwX7_alike_3 ++ []
def dkwX7_alike_2 : List UInt8 := [184, 0, 196, 96, 29, 79, 42, 180, 0, 7, 17, 2, 58, 16, 36, 28, 184, 0, 196, 104, 96, 27]
abbrev dktX7_alike_2 : List UInt8 := dkwX7_alike_2 ++ dktX7_alike_3
def dkwX7_alike_1 : List UInt8 := [184, 0, 89, 154, 0, 5, 3, 172, 42, 180, 0, 7, 17, 2, 58, 16, 36, 27, 184, 0, 196, 104, 96, 28]
abbrev dktX7_alike_1 : List UInt8 := dkwX7_alike_1 ++ dktX7_alike_2
def dkwX7_alike_0 : List UInt8 := [27, 184, 0, 196, 155, 0, 25, 28, 184, 0, 196, 155, 0, 18, 27, 28, 159, 0, 13, 29, 4, 16, 6]
abbrev dktX7_alike_0 : List UInt8 := dkwX7_alike_0 ++ dktX7_alike_1
theorem dksX7_alike_0 : cX7_alike.data.toList.drop 0 = dktX7_alike_0 := by decide +kernel
theorem dksX7_alike_1 : cX7_alike.data.toList.drop 23 = dktX7_alike_1 := dk_seg dksX7_alike_0 23 rfl rfl
theorem dksX7_alike_2 : cX7_alike.data.toList.drop 47 = dktX7_alike_2 := dk_seg dksX7_alike_1 24 rfl rfl
theorem dksX7_alike_3 : cX7_alike.data.toList.drop 69 = dktX7_alike_3 := dk_seg dksX7_alike_2 22 rfl rfl
theorem dX7_alike_0 : decode cX7_alike 0 = .ok (.iload_n 1, 1) := dk_27 (dk_at dksX7_alike_0 0 rfl rfl)
theorem dX7_alike_1 : decode cX7_alike 1 = .ok (.invokestatic 196, 3) := dk_184 0 196 (dk_at dksX7_alike_0 1 rfl rfl)
theorem dX7_alike_4 : decode cX7_alike 4 = .ok (.ifCond .lt 25, 3) := dk_155 0 25 (dk_at dksX7_alike_0 4 rfl rfl)
theorem dX7_alike_7 : decode cX7_alike 7 = .ok (.iload_n 2, 1) := dk_28 (dk_at dksX7_alike_0 7 rfl rfl)
theorem dX7_alike_8 : decode cX7_alike 8 = .ok (.invokestatic 196, 3) := dk_184 0 196 (dk_at dksX7_alike_0 8 rfl rfl)
theorem dX7_alike_11 : decode cX7_alike 11 = .ok (.ifCond .lt 18, 3) := dk_155 0 18 (dk_at dksX7_alike_0 11 rfl rfl)
theorem dX7_alike_14 : decode cX7_alike 14 = .ok (.iload_n 1, 1) := dk_27 (dk_at dksX7_alike_0 14 rfl rfl)
theorem dX7_alike_15 : decode cX7_alike 15 = .ok (.iload_n 2, 1) := dk_28 (dk_at dksX7_alike_0 15 rfl rfl)
theorem dX7_alike_16 : decode cX7_alike 16 = .ok (.if_icmp .eq 13, 3) := dk_159 0 13 (dk_at dksX7_alike_0 16 rfl rfl)
theorem dX7_alike_19 : decode cX7_alike 19 = .ok (.iload_n 3, 1) := dk_29 (dk_at dksX7_alike_0 19 rfl rfl)
theorem dX7_alike_20 : decode cX7_alike 20 = .ok (.iconst 1, 1) := dk_4 (dk_at dksX7_alike_0 20 rfl rfl)
theorem dX7_alike_21 : decode cX7_alike 21 = .ok (.bipush 6, 2) := dk_16 6 (dk_at dksX7_alike_0 21 rfl rfl)
theorem dX7_alike_23 : decode cX7_alike 23 = .ok (.invokestatic 89, 3) := dk_184 0 89 (dk_at dksX7_alike_1 0 rfl rfl)
theorem dX7_alike_26 : decode cX7_alike 26 = .ok (.ifCond .ne 5, 3) := dk_154 0 5 (dk_at dksX7_alike_1 3 rfl rfl)
theorem dX7_alike_29 : decode cX7_alike 29 = .ok (.iconst 0, 1) := dk_3 (dk_at dksX7_alike_1 6 rfl rfl)
theorem dX7_alike_30 : decode cX7_alike 30 = .ok (.ireturn, 1) := dk_172 (dk_at dksX7_alike_1 7 rfl rfl)
theorem dX7_alike_31 : decode cX7_alike 31 = .ok (.aload_n 0, 1) := dk_42 (dk_at dksX7_alike_1 8 rfl rfl)
theorem dX7_alike_32 : decode cX7_alike 32 = .ok (.getfield 7, 3) := dk_180 0 7 (dk_at dksX7_alike_1 9 rfl rfl)
theorem dX7_alike_35 : decode cX7_alike 35 = .ok (.sipush 570, 3) := dk_17 2 58 (dk_at dksX7_alike_1 12 rfl rfl)
theorem dX7_alike_38 : decode cX7_alike 38 = .ok (.bipush 36, 2) := dk_16 36 (dk_at dksX7_alike_1 15 rfl rfl)
theorem dX7_alike_40 : decode cX7_alike 40 = .ok (.iload_n 1, 1) := dk_27 (dk_at dksX7_alike_1 17 rfl rfl)
theorem dX7_alike_41 : decode cX7_alike 41 = .ok (.invokestatic 196, 3) := dk_184 0 196 (dk_at dksX7_alike_1 18 rfl rfl)
theorem dX7_alike_44 : decode cX7_alike 44 = .ok (.imul, 1) := dk_104 (dk_at dksX7_alike_1 21 rfl rfl)
theorem dX7_alike_45 : decode cX7_alike 45 = .ok (.iadd, 1) := dk_96 (dk_at dksX7_alike_1 22 rfl rfl)
theorem dX7_alike_46 : decode cX7_alike 46 = .ok (.iload_n 2, 1) := dk_28 (dk_at dksX7_alike_1 23 rfl rfl)
theorem dX7_alike_47 : decode cX7_alike 47 = .ok (.invokestatic 196, 3) := dk_184 0 196 (dk_at dksX7_alike_2 0 rfl rfl)
theorem dX7_alike_50 : decode cX7_alike 50 = .ok (.iadd, 1) := dk_96 (dk_at dksX7_alike_2 3 rfl rfl)
theorem dX7_alike_51 : decode cX7_alike 51 = .ok (.iload_n 3, 1) := dk_29 (dk_at dksX7_alike_2 4 rfl rfl)
theorem dX7_alike_52 : decode cX7_alike 52 = .ok (.iastore, 1) := dk_79 (dk_at dksX7_alike_2 5 rfl rfl)
theorem dX7_alike_53 : decode cX7_alike 53 = .ok (.aload_n 0, 1) := dk_42 (dk_at dksX7_alike_2 6 rfl rfl)
theorem dX7_alike_54 : decode cX7_alike 54 = .ok (.getfield 7, 3) := dk_180 0 7 (dk_at dksX7_alike_2 7 rfl rfl)
theorem dX7_alike_57 : decode cX7_alike 57 = .ok (.sipush 570, 3) := dk_17 2 58 (dk_at dksX7_alike_2 10 rfl rfl)
theorem dX7_alike_60 : decode cX7_alike 60 = .ok (.bipush 36, 2) := dk_16 36 (dk_at dksX7_alike_2 13 rfl rfl)
theorem dX7_alike_62 : decode cX7_alike 62 = .ok (.iload_n 2, 1) := dk_28 (dk_at dksX7_alike_2 15 rfl rfl)
theorem dX7_alike_63 : decode cX7_alike 63 = .ok (.invokestatic 196, 3) := dk_184 0 196 (dk_at dksX7_alike_2 16 rfl rfl)
theorem dX7_alike_66 : decode cX7_alike 66 = .ok (.imul, 1) := dk_104 (dk_at dksX7_alike_2 19 rfl rfl)
theorem dX7_alike_67 : decode cX7_alike 67 = .ok (.iadd, 1) := dk_96 (dk_at dksX7_alike_2 20 rfl rfl)
theorem dX7_alike_68 : decode cX7_alike 68 = .ok (.iload_n 1, 1) := dk_27 (dk_at dksX7_alike_2 21 rfl rfl)
theorem dX7_alike_69 : decode cX7_alike 69 = .ok (.invokestatic 196, 3) := dk_184 0 196 (dk_at dksX7_alike_3 0 rfl rfl)
theorem dX7_alike_72 : decode cX7_alike 72 = .ok (.iadd, 1) := dk_96 (dk_at dksX7_alike_3 3 rfl rfl)
theorem dX7_alike_73 : decode cX7_alike 73 = .ok (.iload_n 3, 1) := dk_29 (dk_at dksX7_alike_3 4 rfl rfl)
theorem dX7_alike_74 : decode cX7_alike 74 = .ok (.iastore, 1) := dk_79 (dk_at dksX7_alike_3 5 rfl rfl)
theorem dX7_alike_75 : decode cX7_alike 75 = .ok (.iconst 1, 1) := dk_4 (dk_at dksX7_alike_3 6 rfl rfl)
theorem dX7_alike_76 : decode cX7_alike 76 = .ok (.ireturn, 1) := dk_172 (dk_at dksX7_alike_3 7 rfl rfl)
abbrev cX7_spell : ByteArray := prog_21_method_41_code
def yX7_spell : MethodName := ⟨RX7, "spell", "(II)I"⟩
def dkwX7_spell_1 : List UInt8 := [46, 154, 0, 5, 2, 172, 42, 27, 184, 0, 93, 28, 184, 0, 97, 182, 0, 211, 172]
abbrev dktX7_spell_1 : List UInt8 := dkwX7_spell_1 ++ []
def dkwX7_spell_0 : List UInt8 := [42, 27, 182, 0, 202, 153, 0, 23, 42, 28, 182, 0, 182, 153, 0, 15, 42, 180, 0, 7, 27, 184, 0, 93]
abbrev dktX7_spell_0 : List UInt8 := dkwX7_spell_0 ++ dktX7_spell_1
theorem dksX7_spell_0 : cX7_spell.data.toList.drop 0 = dktX7_spell_0 := by decide +kernel
theorem dksX7_spell_1 : cX7_spell.data.toList.drop 24 = dktX7_spell_1 := dk_seg dksX7_spell_0 24 rfl rfl
theorem dX7_spell_0 : decode cX7_spell 0 = .ok (.aload_n 0, 1) := dk_42 (dk_at dksX7_spell_0 0 rfl rfl)
theorem dX7_spell_1 : decode cX7_spell 1 = .ok (.iload_n 1, 1) := dk_27 (dk_at dksX7_spell_0 1 rfl rfl)
theorem dX7_spell_2 : decode cX7_spell 2 = .ok (.invokevirtual 202, 3) := dk_182 0 202 (dk_at dksX7_spell_0 2 rfl rfl)
theorem dX7_spell_5 : decode cX7_spell 5 = .ok (.ifCond .eq 23, 3) := dk_153 0 23 (dk_at dksX7_spell_0 5 rfl rfl)
theorem dX7_spell_8 : decode cX7_spell 8 = .ok (.aload_n 0, 1) := dk_42 (dk_at dksX7_spell_0 8 rfl rfl)
theorem dX7_spell_9 : decode cX7_spell 9 = .ok (.iload_n 2, 1) := dk_28 (dk_at dksX7_spell_0 9 rfl rfl)
theorem dX7_spell_10 : decode cX7_spell 10 = .ok (.invokevirtual 182, 3) := dk_182 0 182 (dk_at dksX7_spell_0 10 rfl rfl)
theorem dX7_spell_13 : decode cX7_spell 13 = .ok (.ifCond .eq 15, 3) := dk_153 0 15 (dk_at dksX7_spell_0 13 rfl rfl)
theorem dX7_spell_16 : decode cX7_spell 16 = .ok (.aload_n 0, 1) := dk_42 (dk_at dksX7_spell_0 16 rfl rfl)
theorem dX7_spell_17 : decode cX7_spell 17 = .ok (.getfield 7, 3) := dk_180 0 7 (dk_at dksX7_spell_0 17 rfl rfl)
theorem dX7_spell_20 : decode cX7_spell 20 = .ok (.iload_n 1, 1) := dk_27 (dk_at dksX7_spell_0 20 rfl rfl)
theorem dX7_spell_21 : decode cX7_spell 21 = .ok (.invokestatic 93, 3) := dk_184 0 93 (dk_at dksX7_spell_0 21 rfl rfl)
theorem dX7_spell_24 : decode cX7_spell 24 = .ok (.iaload, 1) := dk_46 (dk_at dksX7_spell_1 0 rfl rfl)
theorem dX7_spell_25 : decode cX7_spell 25 = .ok (.ifCond .ne 5, 3) := dk_154 0 5 (dk_at dksX7_spell_1 1 rfl rfl)
theorem dX7_spell_28 : decode cX7_spell 28 = .ok (.iconst (-1), 1) := dk_2 (dk_at dksX7_spell_1 4 rfl rfl)
theorem dX7_spell_29 : decode cX7_spell 29 = .ok (.ireturn, 1) := dk_172 (dk_at dksX7_spell_1 5 rfl rfl)
theorem dX7_spell_30 : decode cX7_spell 30 = .ok (.aload_n 0, 1) := dk_42 (dk_at dksX7_spell_1 6 rfl rfl)
theorem dX7_spell_31 : decode cX7_spell 31 = .ok (.iload_n 1, 1) := dk_27 (dk_at dksX7_spell_1 7 rfl rfl)
theorem dX7_spell_32 : decode cX7_spell 32 = .ok (.invokestatic 93, 3) := dk_184 0 93 (dk_at dksX7_spell_1 8 rfl rfl)
theorem dX7_spell_35 : decode cX7_spell 35 = .ok (.iload_n 2, 1) := dk_28 (dk_at dksX7_spell_1 11 rfl rfl)
theorem dX7_spell_36 : decode cX7_spell 36 = .ok (.invokestatic 97, 3) := dk_184 0 97 (dk_at dksX7_spell_1 12 rfl rfl)
theorem dX7_spell_39 : decode cX7_spell 39 = .ok (.invokevirtual 211, 3) := dk_182 0 211 (dk_at dksX7_spell_1 15 rfl rfl)
theorem dX7_spell_42 : decode cX7_spell 42 = .ok (.ireturn, 1) := dk_172 (dk_at dksX7_spell_1 18 rfl rfl)
abbrev cX7_spells : ByteArray := prog_21_method_40_code
def yX7_spells : MethodName := ⟨RX7, "spells", "(II)I"⟩
def dkwX7_spells_12 : List UInt8 := [172]
abbrev dktX7_spells_12 : List UInt8 := dkwX7_spells_12 ++ []
def dkwX7_spells_11 : List UInt8 := [167, 255, 2, 42, 180, 0, 23, 16, 13, 42, 180, 0, 7, 27, 46, 104, 42, 180, 0, 7, 28, 46, 96, 46]
abbrev dktX7_spells_11 : List UInt8 := dkwX7_spells_11 ++ dktX7_spells_12
def dkwX7_spells_10 : List UInt8 := [180, 0, 23, 16, 13, 29, 104, 21, 4, 96, 21, 5, 79, 132, 4, 1, 167, 255, 21, 132, 3, 1]
abbrev dktX7_spells_10 : List UInt8 := dkwX7_spells_10 ++ dktX7_spells_11
def dkwX7_spells_9 : List UInt8 := [180, 0, 23, 16, 13, 29, 5, 100, 104, 21, 4, 96, 5, 100, 46, 6, 96, 184, 0, 205, 54, 5, 42]
abbrev dktX7_spells_9 : List UInt8 := dkwX7_spells_9 ++ dktX7_spells_10
def dkwX7_spells_8 : List UInt8 := [180, 0, 7, 27, 29, 96, 4, 100, 46, 42, 180, 0, 7, 28, 21, 4, 96, 46, 160, 0, 28, 21, 5, 42]
abbrev dktX7_spells_8 : List UInt8 := dkwX7_spells_8 ++ dktX7_spells_9
def dkwX7_spells_7 : List UInt8 := [42, 180, 0, 7, 27, 29, 96, 46, 42, 180, 0, 7, 28, 21, 4, 96, 4, 100, 46, 160, 0, 50, 42]
abbrev dktX7_spells_7 : List UInt8 := dkwX7_spells_7 ++ dktX7_spells_8
def dkwX7_spells_6 : List UInt8 := [21, 4, 96, 46, 182, 0, 208, 96, 184, 0, 205, 54, 5, 29, 4, 164, 0, 78, 21, 4, 4, 164, 0, 72]
abbrev dktX7_spells_6 : List UInt8 := dkwX7_spells_6 ++ dktX7_spells_7
def dkwX7_spells_5 : List UInt8 := [4, 100, 104, 21, 4, 96, 4, 100, 46, 42, 42, 180, 0, 7, 27, 29, 96, 46, 42, 180, 0, 7, 28]
abbrev dktX7_spells_5 : List UInt8 := dkwX7_spells_5 ++ dktX7_spells_6
def dkwX7_spells_4 : List UInt8 := [96, 184, 0, 205, 54, 5, 29, 158, 0, 53, 21, 4, 158, 0, 48, 21, 5, 42, 180, 0, 23, 16, 13, 29]
abbrev dktX7_spells_4 : List UInt8 := dkwX7_spells_4 ++ dktX7_spells_5
def dkwX7_spells_3 : List UInt8 := [54, 5, 21, 4, 158, 0, 26, 21, 5, 42, 180, 0, 23, 16, 13, 29, 104, 21, 4, 96, 4, 100, 46, 7]
abbrev dktX7_spells_3 : List UInt8 := dkwX7_spells_3 ++ dktX7_spells_4
def dkwX7_spells_2 : List UInt8 := [158, 0, 26, 21, 5, 42, 180, 0, 23, 16, 13, 29, 4, 100, 104, 21, 4, 96, 46, 7, 96, 184, 0, 205]
abbrev dktX7_spells_2 : List UInt8 := dkwX7_spells_2 ++ dktX7_spells_3
def dkwX7_spells_1 : List UInt8 := [163, 0, 230, 29, 154, 0, 12, 21, 4, 154, 0, 7, 3, 167, 0, 6, 17, 39, 16, 54, 5, 29]
abbrev dktX7_spells_1 : List UInt8 := dkwX7_spells_1 ++ dktX7_spells_2
def dkwX7_spells_0 : List UInt8 := [3, 62, 29, 42, 180, 0, 7, 27, 46, 163, 0, 250, 3, 54, 4, 21, 4, 42, 180, 0, 7, 28, 46]
abbrev dktX7_spells_0 : List UInt8 := dkwX7_spells_0 ++ dktX7_spells_1
theorem dksX7_spells_0 : cX7_spells.data.toList.drop 0 = dktX7_spells_0 := by decide +kernel
theorem dksX7_spells_1 : cX7_spells.data.toList.drop 23 = dktX7_spells_1 := dk_seg dksX7_spells_0 23 rfl rfl
theorem dksX7_spells_2 : cX7_spells.data.toList.drop 45 = dktX7_spells_2 := dk_seg dksX7_spells_1 22 rfl rfl
theorem dksX7_spells_3 : cX7_spells.data.toList.drop 69 = dktX7_spells_3 := dk_seg dksX7_spells_2 24 rfl rfl
theorem dksX7_spells_4 : cX7_spells.data.toList.drop 93 = dktX7_spells_4 := dk_seg dksX7_spells_3 24 rfl rfl
theorem dksX7_spells_5 : cX7_spells.data.toList.drop 117 = dktX7_spells_5 := dk_seg dksX7_spells_4 24 rfl rfl
theorem dksX7_spells_6 : cX7_spells.data.toList.drop 140 = dktX7_spells_6 := dk_seg dksX7_spells_5 23 rfl rfl
theorem dksX7_spells_7 : cX7_spells.data.toList.drop 164 = dktX7_spells_7 := dk_seg dksX7_spells_6 24 rfl rfl
theorem dksX7_spells_8 : cX7_spells.data.toList.drop 187 = dktX7_spells_8 := dk_seg dksX7_spells_7 23 rfl rfl
theorem dksX7_spells_9 : cX7_spells.data.toList.drop 211 = dktX7_spells_9 := dk_seg dksX7_spells_8 24 rfl rfl
theorem dksX7_spells_10 : cX7_spells.data.toList.drop 234 = dktX7_spells_10 := dk_seg dksX7_spells_9 23 rfl rfl
theorem dksX7_spells_11 : cX7_spells.data.toList.drop 256 = dktX7_spells_11 := dk_seg dksX7_spells_10 22 rfl rfl
theorem dksX7_spells_12 : cX7_spells.data.toList.drop 280 = dktX7_spells_12 := dk_seg dksX7_spells_11 24 rfl rfl
theorem dX7_spells_0 : decode cX7_spells 0 = .ok (.iconst 0, 1) := dk_3 (dk_at dksX7_spells_0 0 rfl rfl)
theorem dX7_spells_1 : decode cX7_spells 1 = .ok (.istore_n 3, 1) := dk_62 (dk_at dksX7_spells_0 1 rfl rfl)
theorem dX7_spells_2 : decode cX7_spells 2 = .ok (.iload_n 3, 1) := dk_29 (dk_at dksX7_spells_0 2 rfl rfl)
theorem dX7_spells_3 : decode cX7_spells 3 = .ok (.aload_n 0, 1) := dk_42 (dk_at dksX7_spells_0 3 rfl rfl)
theorem dX7_spells_4 : decode cX7_spells 4 = .ok (.getfield 7, 3) := dk_180 0 7 (dk_at dksX7_spells_0 4 rfl rfl)
theorem dX7_spells_7 : decode cX7_spells 7 = .ok (.iload_n 1, 1) := dk_27 (dk_at dksX7_spells_0 7 rfl rfl)
theorem dX7_spells_8 : decode cX7_spells 8 = .ok (.iaload, 1) := dk_46 (dk_at dksX7_spells_0 8 rfl rfl)
theorem dX7_spells_9 : decode cX7_spells 9 = .ok (.if_icmp .gt 250, 3) := dk_163 0 250 (dk_at dksX7_spells_0 9 rfl rfl)
theorem dX7_spells_12 : decode cX7_spells 12 = .ok (.iconst 0, 1) := dk_3 (dk_at dksX7_spells_0 12 rfl rfl)
theorem dX7_spells_13 : decode cX7_spells 13 = .ok (.istore 4, 2) := dk_54 4 (dk_at dksX7_spells_0 13 rfl rfl)
theorem dX7_spells_15 : decode cX7_spells 15 = .ok (.iload 4, 2) := dk_21 4 (dk_at dksX7_spells_0 15 rfl rfl)
theorem dX7_spells_17 : decode cX7_spells 17 = .ok (.aload_n 0, 1) := dk_42 (dk_at dksX7_spells_0 17 rfl rfl)
theorem dX7_spells_18 : decode cX7_spells 18 = .ok (.getfield 7, 3) := dk_180 0 7 (dk_at dksX7_spells_0 18 rfl rfl)
theorem dX7_spells_21 : decode cX7_spells 21 = .ok (.iload_n 2, 1) := dk_28 (dk_at dksX7_spells_0 21 rfl rfl)
theorem dX7_spells_22 : decode cX7_spells 22 = .ok (.iaload, 1) := dk_46 (dk_at dksX7_spells_0 22 rfl rfl)
theorem dX7_spells_23 : decode cX7_spells 23 = .ok (.if_icmp .gt 230, 3) := dk_163 0 230 (dk_at dksX7_spells_1 0 rfl rfl)
theorem dX7_spells_26 : decode cX7_spells 26 = .ok (.iload_n 3, 1) := dk_29 (dk_at dksX7_spells_1 3 rfl rfl)
theorem dX7_spells_27 : decode cX7_spells 27 = .ok (.ifCond .ne 12, 3) := dk_154 0 12 (dk_at dksX7_spells_1 4 rfl rfl)
theorem dX7_spells_30 : decode cX7_spells 30 = .ok (.iload 4, 2) := dk_21 4 (dk_at dksX7_spells_1 7 rfl rfl)
theorem dX7_spells_32 : decode cX7_spells 32 = .ok (.ifCond .ne 7, 3) := dk_154 0 7 (dk_at dksX7_spells_1 9 rfl rfl)
theorem dX7_spells_35 : decode cX7_spells 35 = .ok (.iconst 0, 1) := dk_3 (dk_at dksX7_spells_1 12 rfl rfl)
theorem dX7_spells_36 : decode cX7_spells 36 = .ok (.goto 6, 3) := dk_167 0 6 (dk_at dksX7_spells_1 13 rfl rfl)
theorem dX7_spells_39 : decode cX7_spells 39 = .ok (.sipush 10000, 3) := dk_17 39 16 (dk_at dksX7_spells_1 16 rfl rfl)
theorem dX7_spells_42 : decode cX7_spells 42 = .ok (.istore 5, 2) := dk_54 5 (dk_at dksX7_spells_1 19 rfl rfl)
theorem dX7_spells_44 : decode cX7_spells 44 = .ok (.iload_n 3, 1) := dk_29 (dk_at dksX7_spells_1 21 rfl rfl)
theorem dX7_spells_45 : decode cX7_spells 45 = .ok (.ifCond .le 26, 3) := dk_158 0 26 (dk_at dksX7_spells_2 0 rfl rfl)
theorem dX7_spells_48 : decode cX7_spells 48 = .ok (.iload 5, 2) := dk_21 5 (dk_at dksX7_spells_2 3 rfl rfl)
theorem dX7_spells_50 : decode cX7_spells 50 = .ok (.aload_n 0, 1) := dk_42 (dk_at dksX7_spells_2 5 rfl rfl)
theorem dX7_spells_51 : decode cX7_spells 51 = .ok (.getfield 23, 3) := dk_180 0 23 (dk_at dksX7_spells_2 6 rfl rfl)
theorem dX7_spells_54 : decode cX7_spells 54 = .ok (.bipush 13, 2) := dk_16 13 (dk_at dksX7_spells_2 9 rfl rfl)
theorem dX7_spells_56 : decode cX7_spells 56 = .ok (.iload_n 3, 1) := dk_29 (dk_at dksX7_spells_2 11 rfl rfl)
theorem dX7_spells_57 : decode cX7_spells 57 = .ok (.iconst 1, 1) := dk_4 (dk_at dksX7_spells_2 12 rfl rfl)
theorem dX7_spells_58 : decode cX7_spells 58 = .ok (.isub, 1) := dk_100 (dk_at dksX7_spells_2 13 rfl rfl)
theorem dX7_spells_59 : decode cX7_spells 59 = .ok (.imul, 1) := dk_104 (dk_at dksX7_spells_2 14 rfl rfl)
theorem dX7_spells_60 : decode cX7_spells 60 = .ok (.iload 4, 2) := dk_21 4 (dk_at dksX7_spells_2 15 rfl rfl)
theorem dX7_spells_62 : decode cX7_spells 62 = .ok (.iadd, 1) := dk_96 (dk_at dksX7_spells_2 17 rfl rfl)
theorem dX7_spells_63 : decode cX7_spells 63 = .ok (.iaload, 1) := dk_46 (dk_at dksX7_spells_2 18 rfl rfl)
theorem dX7_spells_64 : decode cX7_spells 64 = .ok (.iconst 4, 1) := dk_7 (dk_at dksX7_spells_2 19 rfl rfl)
theorem dX7_spells_65 : decode cX7_spells 65 = .ok (.iadd, 1) := dk_96 (dk_at dksX7_spells_2 20 rfl rfl)
theorem dX7_spells_66 : decode cX7_spells 66 = .ok (.invokestatic 205, 3) := dk_184 0 205 (dk_at dksX7_spells_2 21 rfl rfl)
theorem dX7_spells_69 : decode cX7_spells 69 = .ok (.istore 5, 2) := dk_54 5 (dk_at dksX7_spells_3 0 rfl rfl)
theorem dX7_spells_71 : decode cX7_spells 71 = .ok (.iload 4, 2) := dk_21 4 (dk_at dksX7_spells_3 2 rfl rfl)
theorem dX7_spells_73 : decode cX7_spells 73 = .ok (.ifCond .le 26, 3) := dk_158 0 26 (dk_at dksX7_spells_3 4 rfl rfl)
theorem dX7_spells_76 : decode cX7_spells 76 = .ok (.iload 5, 2) := dk_21 5 (dk_at dksX7_spells_3 7 rfl rfl)
theorem dX7_spells_78 : decode cX7_spells 78 = .ok (.aload_n 0, 1) := dk_42 (dk_at dksX7_spells_3 9 rfl rfl)
theorem dX7_spells_79 : decode cX7_spells 79 = .ok (.getfield 23, 3) := dk_180 0 23 (dk_at dksX7_spells_3 10 rfl rfl)
theorem dX7_spells_82 : decode cX7_spells 82 = .ok (.bipush 13, 2) := dk_16 13 (dk_at dksX7_spells_3 13 rfl rfl)
theorem dX7_spells_84 : decode cX7_spells 84 = .ok (.iload_n 3, 1) := dk_29 (dk_at dksX7_spells_3 15 rfl rfl)
theorem dX7_spells_85 : decode cX7_spells 85 = .ok (.imul, 1) := dk_104 (dk_at dksX7_spells_3 16 rfl rfl)
theorem dX7_spells_86 : decode cX7_spells 86 = .ok (.iload 4, 2) := dk_21 4 (dk_at dksX7_spells_3 17 rfl rfl)
theorem dX7_spells_88 : decode cX7_spells 88 = .ok (.iadd, 1) := dk_96 (dk_at dksX7_spells_3 19 rfl rfl)
theorem dX7_spells_89 : decode cX7_spells 89 = .ok (.iconst 1, 1) := dk_4 (dk_at dksX7_spells_3 20 rfl rfl)
theorem dX7_spells_90 : decode cX7_spells 90 = .ok (.isub, 1) := dk_100 (dk_at dksX7_spells_3 21 rfl rfl)
theorem dX7_spells_91 : decode cX7_spells 91 = .ok (.iaload, 1) := dk_46 (dk_at dksX7_spells_3 22 rfl rfl)
theorem dX7_spells_92 : decode cX7_spells 92 = .ok (.iconst 4, 1) := dk_7 (dk_at dksX7_spells_3 23 rfl rfl)
theorem dX7_spells_93 : decode cX7_spells 93 = .ok (.iadd, 1) := dk_96 (dk_at dksX7_spells_4 0 rfl rfl)
theorem dX7_spells_94 : decode cX7_spells 94 = .ok (.invokestatic 205, 3) := dk_184 0 205 (dk_at dksX7_spells_4 1 rfl rfl)
theorem dX7_spells_97 : decode cX7_spells 97 = .ok (.istore 5, 2) := dk_54 5 (dk_at dksX7_spells_4 4 rfl rfl)
theorem dX7_spells_99 : decode cX7_spells 99 = .ok (.iload_n 3, 1) := dk_29 (dk_at dksX7_spells_4 6 rfl rfl)
theorem dX7_spells_100 : decode cX7_spells 100 = .ok (.ifCond .le 53, 3) := dk_158 0 53 (dk_at dksX7_spells_4 7 rfl rfl)
theorem dX7_spells_103 : decode cX7_spells 103 = .ok (.iload 4, 2) := dk_21 4 (dk_at dksX7_spells_4 10 rfl rfl)
theorem dX7_spells_105 : decode cX7_spells 105 = .ok (.ifCond .le 48, 3) := dk_158 0 48 (dk_at dksX7_spells_4 12 rfl rfl)
theorem dX7_spells_108 : decode cX7_spells 108 = .ok (.iload 5, 2) := dk_21 5 (dk_at dksX7_spells_4 15 rfl rfl)
theorem dX7_spells_110 : decode cX7_spells 110 = .ok (.aload_n 0, 1) := dk_42 (dk_at dksX7_spells_4 17 rfl rfl)
theorem dX7_spells_111 : decode cX7_spells 111 = .ok (.getfield 23, 3) := dk_180 0 23 (dk_at dksX7_spells_4 18 rfl rfl)
theorem dX7_spells_114 : decode cX7_spells 114 = .ok (.bipush 13, 2) := dk_16 13 (dk_at dksX7_spells_4 21 rfl rfl)
theorem dX7_spells_116 : decode cX7_spells 116 = .ok (.iload_n 3, 1) := dk_29 (dk_at dksX7_spells_4 23 rfl rfl)
theorem dX7_spells_117 : decode cX7_spells 117 = .ok (.iconst 1, 1) := dk_4 (dk_at dksX7_spells_5 0 rfl rfl)
theorem dX7_spells_118 : decode cX7_spells 118 = .ok (.isub, 1) := dk_100 (dk_at dksX7_spells_5 1 rfl rfl)
theorem dX7_spells_119 : decode cX7_spells 119 = .ok (.imul, 1) := dk_104 (dk_at dksX7_spells_5 2 rfl rfl)
theorem dX7_spells_120 : decode cX7_spells 120 = .ok (.iload 4, 2) := dk_21 4 (dk_at dksX7_spells_5 3 rfl rfl)
theorem dX7_spells_122 : decode cX7_spells 122 = .ok (.iadd, 1) := dk_96 (dk_at dksX7_spells_5 5 rfl rfl)
theorem dX7_spells_123 : decode cX7_spells 123 = .ok (.iconst 1, 1) := dk_4 (dk_at dksX7_spells_5 6 rfl rfl)
theorem dX7_spells_124 : decode cX7_spells 124 = .ok (.isub, 1) := dk_100 (dk_at dksX7_spells_5 7 rfl rfl)
theorem dX7_spells_125 : decode cX7_spells 125 = .ok (.iaload, 1) := dk_46 (dk_at dksX7_spells_5 8 rfl rfl)
theorem dX7_spells_126 : decode cX7_spells 126 = .ok (.aload_n 0, 1) := dk_42 (dk_at dksX7_spells_5 9 rfl rfl)
theorem dX7_spells_127 : decode cX7_spells 127 = .ok (.aload_n 0, 1) := dk_42 (dk_at dksX7_spells_5 10 rfl rfl)
theorem dX7_spells_128 : decode cX7_spells 128 = .ok (.getfield 7, 3) := dk_180 0 7 (dk_at dksX7_spells_5 11 rfl rfl)
theorem dX7_spells_131 : decode cX7_spells 131 = .ok (.iload_n 1, 1) := dk_27 (dk_at dksX7_spells_5 14 rfl rfl)
theorem dX7_spells_132 : decode cX7_spells 132 = .ok (.iload_n 3, 1) := dk_29 (dk_at dksX7_spells_5 15 rfl rfl)
theorem dX7_spells_133 : decode cX7_spells 133 = .ok (.iadd, 1) := dk_96 (dk_at dksX7_spells_5 16 rfl rfl)
theorem dX7_spells_134 : decode cX7_spells 134 = .ok (.iaload, 1) := dk_46 (dk_at dksX7_spells_5 17 rfl rfl)
theorem dX7_spells_135 : decode cX7_spells 135 = .ok (.aload_n 0, 1) := dk_42 (dk_at dksX7_spells_5 18 rfl rfl)
theorem dX7_spells_136 : decode cX7_spells 136 = .ok (.getfield 7, 3) := dk_180 0 7 (dk_at dksX7_spells_5 19 rfl rfl)
theorem dX7_spells_139 : decode cX7_spells 139 = .ok (.iload_n 2, 1) := dk_28 (dk_at dksX7_spells_5 22 rfl rfl)
theorem dX7_spells_140 : decode cX7_spells 140 = .ok (.iload 4, 2) := dk_21 4 (dk_at dksX7_spells_6 0 rfl rfl)
theorem dX7_spells_142 : decode cX7_spells 142 = .ok (.iadd, 1) := dk_96 (dk_at dksX7_spells_6 2 rfl rfl)
theorem dX7_spells_143 : decode cX7_spells 143 = .ok (.iaload, 1) := dk_46 (dk_at dksX7_spells_6 3 rfl rfl)
theorem dX7_spells_144 : decode cX7_spells 144 = .ok (.invokevirtual 208, 3) := dk_182 0 208 (dk_at dksX7_spells_6 4 rfl rfl)
theorem dX7_spells_147 : decode cX7_spells 147 = .ok (.iadd, 1) := dk_96 (dk_at dksX7_spells_6 7 rfl rfl)
theorem dX7_spells_148 : decode cX7_spells 148 = .ok (.invokestatic 205, 3) := dk_184 0 205 (dk_at dksX7_spells_6 8 rfl rfl)
theorem dX7_spells_151 : decode cX7_spells 151 = .ok (.istore 5, 2) := dk_54 5 (dk_at dksX7_spells_6 11 rfl rfl)
theorem dX7_spells_153 : decode cX7_spells 153 = .ok (.iload_n 3, 1) := dk_29 (dk_at dksX7_spells_6 13 rfl rfl)
theorem dX7_spells_154 : decode cX7_spells 154 = .ok (.iconst 1, 1) := dk_4 (dk_at dksX7_spells_6 14 rfl rfl)
theorem dX7_spells_155 : decode cX7_spells 155 = .ok (.if_icmp .le 78, 3) := dk_164 0 78 (dk_at dksX7_spells_6 15 rfl rfl)
theorem dX7_spells_158 : decode cX7_spells 158 = .ok (.iload 4, 2) := dk_21 4 (dk_at dksX7_spells_6 18 rfl rfl)
theorem dX7_spells_160 : decode cX7_spells 160 = .ok (.iconst 1, 1) := dk_4 (dk_at dksX7_spells_6 20 rfl rfl)
theorem dX7_spells_161 : decode cX7_spells 161 = .ok (.if_icmp .le 72, 3) := dk_164 0 72 (dk_at dksX7_spells_6 21 rfl rfl)
theorem dX7_spells_164 : decode cX7_spells 164 = .ok (.aload_n 0, 1) := dk_42 (dk_at dksX7_spells_7 0 rfl rfl)
theorem dX7_spells_165 : decode cX7_spells 165 = .ok (.getfield 7, 3) := dk_180 0 7 (dk_at dksX7_spells_7 1 rfl rfl)
theorem dX7_spells_168 : decode cX7_spells 168 = .ok (.iload_n 1, 1) := dk_27 (dk_at dksX7_spells_7 4 rfl rfl)
theorem dX7_spells_169 : decode cX7_spells 169 = .ok (.iload_n 3, 1) := dk_29 (dk_at dksX7_spells_7 5 rfl rfl)
theorem dX7_spells_170 : decode cX7_spells 170 = .ok (.iadd, 1) := dk_96 (dk_at dksX7_spells_7 6 rfl rfl)
theorem dX7_spells_171 : decode cX7_spells 171 = .ok (.iaload, 1) := dk_46 (dk_at dksX7_spells_7 7 rfl rfl)
theorem dX7_spells_172 : decode cX7_spells 172 = .ok (.aload_n 0, 1) := dk_42 (dk_at dksX7_spells_7 8 rfl rfl)
theorem dX7_spells_173 : decode cX7_spells 173 = .ok (.getfield 7, 3) := dk_180 0 7 (dk_at dksX7_spells_7 9 rfl rfl)
theorem dX7_spells_176 : decode cX7_spells 176 = .ok (.iload_n 2, 1) := dk_28 (dk_at dksX7_spells_7 12 rfl rfl)
theorem dX7_spells_177 : decode cX7_spells 177 = .ok (.iload 4, 2) := dk_21 4 (dk_at dksX7_spells_7 13 rfl rfl)
theorem dX7_spells_179 : decode cX7_spells 179 = .ok (.iadd, 1) := dk_96 (dk_at dksX7_spells_7 15 rfl rfl)
theorem dX7_spells_180 : decode cX7_spells 180 = .ok (.iconst 1, 1) := dk_4 (dk_at dksX7_spells_7 16 rfl rfl)
theorem dX7_spells_181 : decode cX7_spells 181 = .ok (.isub, 1) := dk_100 (dk_at dksX7_spells_7 17 rfl rfl)
theorem dX7_spells_182 : decode cX7_spells 182 = .ok (.iaload, 1) := dk_46 (dk_at dksX7_spells_7 18 rfl rfl)
theorem dX7_spells_183 : decode cX7_spells 183 = .ok (.if_icmp .ne 50, 3) := dk_160 0 50 (dk_at dksX7_spells_7 19 rfl rfl)
theorem dX7_spells_186 : decode cX7_spells 186 = .ok (.aload_n 0, 1) := dk_42 (dk_at dksX7_spells_7 22 rfl rfl)
theorem dX7_spells_187 : decode cX7_spells 187 = .ok (.getfield 7, 3) := dk_180 0 7 (dk_at dksX7_spells_8 0 rfl rfl)
theorem dX7_spells_190 : decode cX7_spells 190 = .ok (.iload_n 1, 1) := dk_27 (dk_at dksX7_spells_8 3 rfl rfl)
theorem dX7_spells_191 : decode cX7_spells 191 = .ok (.iload_n 3, 1) := dk_29 (dk_at dksX7_spells_8 4 rfl rfl)
theorem dX7_spells_192 : decode cX7_spells 192 = .ok (.iadd, 1) := dk_96 (dk_at dksX7_spells_8 5 rfl rfl)
theorem dX7_spells_193 : decode cX7_spells 193 = .ok (.iconst 1, 1) := dk_4 (dk_at dksX7_spells_8 6 rfl rfl)
theorem dX7_spells_194 : decode cX7_spells 194 = .ok (.isub, 1) := dk_100 (dk_at dksX7_spells_8 7 rfl rfl)
theorem dX7_spells_195 : decode cX7_spells 195 = .ok (.iaload, 1) := dk_46 (dk_at dksX7_spells_8 8 rfl rfl)
theorem dX7_spells_196 : decode cX7_spells 196 = .ok (.aload_n 0, 1) := dk_42 (dk_at dksX7_spells_8 9 rfl rfl)
theorem dX7_spells_197 : decode cX7_spells 197 = .ok (.getfield 7, 3) := dk_180 0 7 (dk_at dksX7_spells_8 10 rfl rfl)
theorem dX7_spells_200 : decode cX7_spells 200 = .ok (.iload_n 2, 1) := dk_28 (dk_at dksX7_spells_8 13 rfl rfl)
theorem dX7_spells_201 : decode cX7_spells 201 = .ok (.iload 4, 2) := dk_21 4 (dk_at dksX7_spells_8 14 rfl rfl)
theorem dX7_spells_203 : decode cX7_spells 203 = .ok (.iadd, 1) := dk_96 (dk_at dksX7_spells_8 16 rfl rfl)
theorem dX7_spells_204 : decode cX7_spells 204 = .ok (.iaload, 1) := dk_46 (dk_at dksX7_spells_8 17 rfl rfl)
theorem dX7_spells_205 : decode cX7_spells 205 = .ok (.if_icmp .ne 28, 3) := dk_160 0 28 (dk_at dksX7_spells_8 18 rfl rfl)
theorem dX7_spells_208 : decode cX7_spells 208 = .ok (.iload 5, 2) := dk_21 5 (dk_at dksX7_spells_8 21 rfl rfl)
theorem dX7_spells_210 : decode cX7_spells 210 = .ok (.aload_n 0, 1) := dk_42 (dk_at dksX7_spells_8 23 rfl rfl)
theorem dX7_spells_211 : decode cX7_spells 211 = .ok (.getfield 23, 3) := dk_180 0 23 (dk_at dksX7_spells_9 0 rfl rfl)
theorem dX7_spells_214 : decode cX7_spells 214 = .ok (.bipush 13, 2) := dk_16 13 (dk_at dksX7_spells_9 3 rfl rfl)
theorem dX7_spells_216 : decode cX7_spells 216 = .ok (.iload_n 3, 1) := dk_29 (dk_at dksX7_spells_9 5 rfl rfl)
theorem dX7_spells_217 : decode cX7_spells 217 = .ok (.iconst 2, 1) := dk_5 (dk_at dksX7_spells_9 6 rfl rfl)
theorem dX7_spells_218 : decode cX7_spells 218 = .ok (.isub, 1) := dk_100 (dk_at dksX7_spells_9 7 rfl rfl)
theorem dX7_spells_219 : decode cX7_spells 219 = .ok (.imul, 1) := dk_104 (dk_at dksX7_spells_9 8 rfl rfl)
theorem dX7_spells_220 : decode cX7_spells 220 = .ok (.iload 4, 2) := dk_21 4 (dk_at dksX7_spells_9 9 rfl rfl)
theorem dX7_spells_222 : decode cX7_spells 222 = .ok (.iadd, 1) := dk_96 (dk_at dksX7_spells_9 11 rfl rfl)
theorem dX7_spells_223 : decode cX7_spells 223 = .ok (.iconst 2, 1) := dk_5 (dk_at dksX7_spells_9 12 rfl rfl)
theorem dX7_spells_224 : decode cX7_spells 224 = .ok (.isub, 1) := dk_100 (dk_at dksX7_spells_9 13 rfl rfl)
theorem dX7_spells_225 : decode cX7_spells 225 = .ok (.iaload, 1) := dk_46 (dk_at dksX7_spells_9 14 rfl rfl)
theorem dX7_spells_226 : decode cX7_spells 226 = .ok (.iconst 3, 1) := dk_6 (dk_at dksX7_spells_9 15 rfl rfl)
theorem dX7_spells_227 : decode cX7_spells 227 = .ok (.iadd, 1) := dk_96 (dk_at dksX7_spells_9 16 rfl rfl)
theorem dX7_spells_228 : decode cX7_spells 228 = .ok (.invokestatic 205, 3) := dk_184 0 205 (dk_at dksX7_spells_9 17 rfl rfl)
theorem dX7_spells_231 : decode cX7_spells 231 = .ok (.istore 5, 2) := dk_54 5 (dk_at dksX7_spells_9 20 rfl rfl)
theorem dX7_spells_233 : decode cX7_spells 233 = .ok (.aload_n 0, 1) := dk_42 (dk_at dksX7_spells_9 22 rfl rfl)
theorem dX7_spells_234 : decode cX7_spells 234 = .ok (.getfield 23, 3) := dk_180 0 23 (dk_at dksX7_spells_10 0 rfl rfl)
theorem dX7_spells_237 : decode cX7_spells 237 = .ok (.bipush 13, 2) := dk_16 13 (dk_at dksX7_spells_10 3 rfl rfl)
theorem dX7_spells_239 : decode cX7_spells 239 = .ok (.iload_n 3, 1) := dk_29 (dk_at dksX7_spells_10 5 rfl rfl)
theorem dX7_spells_240 : decode cX7_spells 240 = .ok (.imul, 1) := dk_104 (dk_at dksX7_spells_10 6 rfl rfl)
theorem dX7_spells_241 : decode cX7_spells 241 = .ok (.iload 4, 2) := dk_21 4 (dk_at dksX7_spells_10 7 rfl rfl)
theorem dX7_spells_243 : decode cX7_spells 243 = .ok (.iadd, 1) := dk_96 (dk_at dksX7_spells_10 9 rfl rfl)
theorem dX7_spells_244 : decode cX7_spells 244 = .ok (.iload 5, 2) := dk_21 5 (dk_at dksX7_spells_10 10 rfl rfl)
theorem dX7_spells_246 : decode cX7_spells 246 = .ok (.iastore, 1) := dk_79 (dk_at dksX7_spells_10 12 rfl rfl)
theorem dX7_spells_247 : decode cX7_spells 247 = .ok (.iinc 4 1, 3) := dk_132 4 1 (dk_at dksX7_spells_10 13 rfl rfl)
theorem dX7_spells_250 : decode cX7_spells 250 = .ok (.goto (-235), 3) := dk_167 255 21 (dk_at dksX7_spells_10 16 rfl rfl)
theorem dX7_spells_253 : decode cX7_spells 253 = .ok (.iinc 3 1, 3) := dk_132 3 1 (dk_at dksX7_spells_10 19 rfl rfl)
theorem dX7_spells_256 : decode cX7_spells 256 = .ok (.goto (-254), 3) := dk_167 255 2 (dk_at dksX7_spells_11 0 rfl rfl)
theorem dX7_spells_259 : decode cX7_spells 259 = .ok (.aload_n 0, 1) := dk_42 (dk_at dksX7_spells_11 3 rfl rfl)
theorem dX7_spells_260 : decode cX7_spells 260 = .ok (.getfield 23, 3) := dk_180 0 23 (dk_at dksX7_spells_11 4 rfl rfl)
theorem dX7_spells_263 : decode cX7_spells 263 = .ok (.bipush 13, 2) := dk_16 13 (dk_at dksX7_spells_11 7 rfl rfl)
theorem dX7_spells_265 : decode cX7_spells 265 = .ok (.aload_n 0, 1) := dk_42 (dk_at dksX7_spells_11 9 rfl rfl)
theorem dX7_spells_266 : decode cX7_spells 266 = .ok (.getfield 7, 3) := dk_180 0 7 (dk_at dksX7_spells_11 10 rfl rfl)
theorem dX7_spells_269 : decode cX7_spells 269 = .ok (.iload_n 1, 1) := dk_27 (dk_at dksX7_spells_11 13 rfl rfl)
theorem dX7_spells_270 : decode cX7_spells 270 = .ok (.iaload, 1) := dk_46 (dk_at dksX7_spells_11 14 rfl rfl)
theorem dX7_spells_271 : decode cX7_spells 271 = .ok (.imul, 1) := dk_104 (dk_at dksX7_spells_11 15 rfl rfl)
theorem dX7_spells_272 : decode cX7_spells 272 = .ok (.aload_n 0, 1) := dk_42 (dk_at dksX7_spells_11 16 rfl rfl)
theorem dX7_spells_273 : decode cX7_spells 273 = .ok (.getfield 7, 3) := dk_180 0 7 (dk_at dksX7_spells_11 17 rfl rfl)
theorem dX7_spells_276 : decode cX7_spells 276 = .ok (.iload_n 2, 1) := dk_28 (dk_at dksX7_spells_11 20 rfl rfl)
theorem dX7_spells_277 : decode cX7_spells 277 = .ok (.iaload, 1) := dk_46 (dk_at dksX7_spells_11 21 rfl rfl)
theorem dX7_spells_278 : decode cX7_spells 278 = .ok (.iadd, 1) := dk_96 (dk_at dksX7_spells_11 22 rfl rfl)
theorem dX7_spells_279 : decode cX7_spells 279 = .ok (.iaload, 1) := dk_46 (dk_at dksX7_spells_11 23 rfl rfl)
theorem dX7_spells_280 : decode cX7_spells 280 = .ok (.ireturn, 1) := dk_172 (dk_at dksX7_spells_12 0 rfl rfl)
abbrev cX7_lesser : ByteArray := prog_21_method_39_code
def yX7_lesser : MethodName := ⟨RX7, "lesser", "(II)I"⟩
def dkwX7_lesser_0 : List UInt8 := [26, 27, 162, 0, 7, 26, 167, 0, 4, 27, 172]
abbrev dktX7_lesser_0 : List UInt8 := dkwX7_lesser_0 ++ []
theorem dksX7_lesser_0 : cX7_lesser.data.toList.drop 0 = dktX7_lesser_0 := by decide +kernel
theorem dX7_lesser_0 : decode cX7_lesser 0 = .ok (.iload_n 0, 1) := dk_26 (dk_at dksX7_lesser_0 0 rfl rfl)
theorem dX7_lesser_1 : decode cX7_lesser 1 = .ok (.iload_n 1, 1) := dk_27 (dk_at dksX7_lesser_0 1 rfl rfl)
theorem dX7_lesser_2 : decode cX7_lesser 2 = .ok (.if_icmp .ge 7, 3) := dk_162 0 7 (dk_at dksX7_lesser_0 2 rfl rfl)
theorem dX7_lesser_5 : decode cX7_lesser 5 = .ok (.iload_n 0, 1) := dk_26 (dk_at dksX7_lesser_0 5 rfl rfl)
theorem dX7_lesser_6 : decode cX7_lesser 6 = .ok (.goto 4, 3) := dk_167 0 4 (dk_at dksX7_lesser_0 6 rfl rfl)
theorem dX7_lesser_9 : decode cX7_lesser 9 = .ok (.iload_n 1, 1) := dk_27 (dk_at dksX7_lesser_0 9 rfl rfl)
theorem dX7_lesser_10 : decode cX7_lesser 10 = .ok (.ireturn, 1) := dk_172 (dk_at dksX7_lesser_0 10 rfl rfl)
abbrev cX7_priceOf : ByteArray := prog_21_method_38_code
def yX7_priceOf : MethodName := ⟨RX7, "priceOf", "(II)I"⟩
def dkwX7_priceOf_1 : List UInt8 := [167, 0, 13, 29, 154, 0, 8, 16, 6, 167, 0, 4, 29, 172]
abbrev dktX7_priceOf_1 : List UInt8 := dkwX7_priceOf_1 ++ []
def dkwX7_priceOf_0 : List UInt8 := [42, 180, 0, 7, 17, 2, 58, 16, 36, 27, 104, 96, 28, 96, 46, 62, 27, 28, 160, 0, 7, 3]
abbrev dktX7_priceOf_0 : List UInt8 := dkwX7_priceOf_0 ++ dktX7_priceOf_1
theorem dksX7_priceOf_0 : cX7_priceOf.data.toList.drop 0 = dktX7_priceOf_0 := by decide +kernel
theorem dksX7_priceOf_1 : cX7_priceOf.data.toList.drop 22 = dktX7_priceOf_1 := dk_seg dksX7_priceOf_0 22 rfl rfl
theorem dX7_priceOf_0 : decode cX7_priceOf 0 = .ok (.aload_n 0, 1) := dk_42 (dk_at dksX7_priceOf_0 0 rfl rfl)
theorem dX7_priceOf_1 : decode cX7_priceOf 1 = .ok (.getfield 7, 3) := dk_180 0 7 (dk_at dksX7_priceOf_0 1 rfl rfl)
theorem dX7_priceOf_4 : decode cX7_priceOf 4 = .ok (.sipush 570, 3) := dk_17 2 58 (dk_at dksX7_priceOf_0 4 rfl rfl)
theorem dX7_priceOf_7 : decode cX7_priceOf 7 = .ok (.bipush 36, 2) := dk_16 36 (dk_at dksX7_priceOf_0 7 rfl rfl)
theorem dX7_priceOf_9 : decode cX7_priceOf 9 = .ok (.iload_n 1, 1) := dk_27 (dk_at dksX7_priceOf_0 9 rfl rfl)
theorem dX7_priceOf_10 : decode cX7_priceOf 10 = .ok (.imul, 1) := dk_104 (dk_at dksX7_priceOf_0 10 rfl rfl)
theorem dX7_priceOf_11 : decode cX7_priceOf 11 = .ok (.iadd, 1) := dk_96 (dk_at dksX7_priceOf_0 11 rfl rfl)
theorem dX7_priceOf_12 : decode cX7_priceOf 12 = .ok (.iload_n 2, 1) := dk_28 (dk_at dksX7_priceOf_0 12 rfl rfl)
theorem dX7_priceOf_13 : decode cX7_priceOf 13 = .ok (.iadd, 1) := dk_96 (dk_at dksX7_priceOf_0 13 rfl rfl)
theorem dX7_priceOf_14 : decode cX7_priceOf 14 = .ok (.iaload, 1) := dk_46 (dk_at dksX7_priceOf_0 14 rfl rfl)
theorem dX7_priceOf_15 : decode cX7_priceOf 15 = .ok (.istore_n 3, 1) := dk_62 (dk_at dksX7_priceOf_0 15 rfl rfl)
theorem dX7_priceOf_16 : decode cX7_priceOf 16 = .ok (.iload_n 1, 1) := dk_27 (dk_at dksX7_priceOf_0 16 rfl rfl)
theorem dX7_priceOf_17 : decode cX7_priceOf 17 = .ok (.iload_n 2, 1) := dk_28 (dk_at dksX7_priceOf_0 17 rfl rfl)
theorem dX7_priceOf_18 : decode cX7_priceOf 18 = .ok (.if_icmp .ne 7, 3) := dk_160 0 7 (dk_at dksX7_priceOf_0 18 rfl rfl)
theorem dX7_priceOf_21 : decode cX7_priceOf 21 = .ok (.iconst 0, 1) := dk_3 (dk_at dksX7_priceOf_0 21 rfl rfl)
theorem dX7_priceOf_22 : decode cX7_priceOf 22 = .ok (.goto 13, 3) := dk_167 0 13 (dk_at dksX7_priceOf_1 0 rfl rfl)
theorem dX7_priceOf_25 : decode cX7_priceOf 25 = .ok (.iload_n 3, 1) := dk_29 (dk_at dksX7_priceOf_1 3 rfl rfl)
theorem dX7_priceOf_26 : decode cX7_priceOf 26 = .ok (.ifCond .ne 8, 3) := dk_154 0 8 (dk_at dksX7_priceOf_1 4 rfl rfl)
theorem dX7_priceOf_29 : decode cX7_priceOf 29 = .ok (.bipush 6, 2) := dk_16 6 (dk_at dksX7_priceOf_1 7 rfl rfl)
theorem dX7_priceOf_31 : decode cX7_priceOf 31 = .ok (.goto 4, 3) := dk_167 0 4 (dk_at dksX7_priceOf_1 9 rfl rfl)
theorem dX7_priceOf_34 : decode cX7_priceOf 34 = .ok (.iload_n 3, 1) := dk_29 (dk_at dksX7_priceOf_1 12 rfl rfl)
theorem dX7_priceOf_35 : decode cX7_priceOf 35 = .ok (.ireturn, 1) := dk_172 (dk_at dksX7_priceOf_1 13 rfl rfl)
abbrev cX7_stands : ByteArray := prog_21_method_43_code
def yX7_stands : MethodName := ⟨RX7, "stands", "(III)Z"⟩
def dkwX7_stands_2 : List UInt8 := [180, 0, 7, 27, 184, 0, 93, 16, 14, 96, 29, 79, 4, 172]
abbrev dktX7_stands_2 : List UInt8 := dkwX7_stands_2 ++ []
def dkwX7_stands_1 : List UInt8 := [184, 0, 89, 154, 0, 5, 3, 172, 42, 180, 0, 7, 27, 184, 0, 93, 16, 13, 96, 28, 79, 42]
abbrev dktX7_stands_1 : List UInt8 := dkwX7_stands_1 ++ dktX7_stands_2
def dkwX7_stands_0 : List UInt8 := [42, 27, 182, 0, 202, 153, 0, 23, 28, 3, 16, 99, 184, 0, 89, 153, 0, 13, 29, 3, 18, 214]
abbrev dktX7_stands_0 : List UInt8 := dkwX7_stands_0 ++ dktX7_stands_1
theorem dksX7_stands_0 : cX7_stands.data.toList.drop 0 = dktX7_stands_0 := by decide +kernel
theorem dksX7_stands_1 : cX7_stands.data.toList.drop 22 = dktX7_stands_1 := dk_seg dksX7_stands_0 22 rfl rfl
theorem dksX7_stands_2 : cX7_stands.data.toList.drop 44 = dktX7_stands_2 := dk_seg dksX7_stands_1 22 rfl rfl
theorem dX7_stands_0 : decode cX7_stands 0 = .ok (.aload_n 0, 1) := dk_42 (dk_at dksX7_stands_0 0 rfl rfl)
theorem dX7_stands_1 : decode cX7_stands 1 = .ok (.iload_n 1, 1) := dk_27 (dk_at dksX7_stands_0 1 rfl rfl)
theorem dX7_stands_2 : decode cX7_stands 2 = .ok (.invokevirtual 202, 3) := dk_182 0 202 (dk_at dksX7_stands_0 2 rfl rfl)
theorem dX7_stands_5 : decode cX7_stands 5 = .ok (.ifCond .eq 23, 3) := dk_153 0 23 (dk_at dksX7_stands_0 5 rfl rfl)
theorem dX7_stands_8 : decode cX7_stands 8 = .ok (.iload_n 2, 1) := dk_28 (dk_at dksX7_stands_0 8 rfl rfl)
theorem dX7_stands_9 : decode cX7_stands 9 = .ok (.iconst 0, 1) := dk_3 (dk_at dksX7_stands_0 9 rfl rfl)
theorem dX7_stands_10 : decode cX7_stands 10 = .ok (.bipush 99, 2) := dk_16 99 (dk_at dksX7_stands_0 10 rfl rfl)
theorem dX7_stands_12 : decode cX7_stands 12 = .ok (.invokestatic 89, 3) := dk_184 0 89 (dk_at dksX7_stands_0 12 rfl rfl)
theorem dX7_stands_15 : decode cX7_stands 15 = .ok (.ifCond .eq 13, 3) := dk_153 0 13 (dk_at dksX7_stands_0 15 rfl rfl)
theorem dX7_stands_18 : decode cX7_stands 18 = .ok (.iload_n 3, 1) := dk_29 (dk_at dksX7_stands_0 18 rfl rfl)
theorem dX7_stands_19 : decode cX7_stands 19 = .ok (.iconst 0, 1) := dk_3 (dk_at dksX7_stands_0 19 rfl rfl)
theorem dX7_stands_20 : decode cX7_stands 20 = .ok (.ldc 214, 2) := dk_18 214 (dk_at dksX7_stands_0 20 rfl rfl)
theorem dX7_stands_22 : decode cX7_stands 22 = .ok (.invokestatic 89, 3) := dk_184 0 89 (dk_at dksX7_stands_1 0 rfl rfl)
theorem dX7_stands_25 : decode cX7_stands 25 = .ok (.ifCond .ne 5, 3) := dk_154 0 5 (dk_at dksX7_stands_1 3 rfl rfl)
theorem dX7_stands_28 : decode cX7_stands 28 = .ok (.iconst 0, 1) := dk_3 (dk_at dksX7_stands_1 6 rfl rfl)
theorem dX7_stands_29 : decode cX7_stands 29 = .ok (.ireturn, 1) := dk_172 (dk_at dksX7_stands_1 7 rfl rfl)
theorem dX7_stands_30 : decode cX7_stands 30 = .ok (.aload_n 0, 1) := dk_42 (dk_at dksX7_stands_1 8 rfl rfl)
theorem dX7_stands_31 : decode cX7_stands 31 = .ok (.getfield 7, 3) := dk_180 0 7 (dk_at dksX7_stands_1 9 rfl rfl)
theorem dX7_stands_34 : decode cX7_stands 34 = .ok (.iload_n 1, 1) := dk_27 (dk_at dksX7_stands_1 12 rfl rfl)
theorem dX7_stands_35 : decode cX7_stands 35 = .ok (.invokestatic 93, 3) := dk_184 0 93 (dk_at dksX7_stands_1 13 rfl rfl)
theorem dX7_stands_38 : decode cX7_stands 38 = .ok (.bipush 13, 2) := dk_16 13 (dk_at dksX7_stands_1 16 rfl rfl)
theorem dX7_stands_40 : decode cX7_stands 40 = .ok (.iadd, 1) := dk_96 (dk_at dksX7_stands_1 18 rfl rfl)
theorem dX7_stands_41 : decode cX7_stands 41 = .ok (.iload_n 2, 1) := dk_28 (dk_at dksX7_stands_1 19 rfl rfl)
theorem dX7_stands_42 : decode cX7_stands 42 = .ok (.iastore, 1) := dk_79 (dk_at dksX7_stands_1 20 rfl rfl)
theorem dX7_stands_43 : decode cX7_stands 43 = .ok (.aload_n 0, 1) := dk_42 (dk_at dksX7_stands_1 21 rfl rfl)
theorem dX7_stands_44 : decode cX7_stands 44 = .ok (.getfield 7, 3) := dk_180 0 7 (dk_at dksX7_stands_2 0 rfl rfl)
theorem dX7_stands_47 : decode cX7_stands 47 = .ok (.iload_n 1, 1) := dk_27 (dk_at dksX7_stands_2 3 rfl rfl)
theorem dX7_stands_48 : decode cX7_stands 48 = .ok (.invokestatic 93, 3) := dk_184 0 93 (dk_at dksX7_stands_2 4 rfl rfl)
theorem dX7_stands_51 : decode cX7_stands 51 = .ok (.bipush 14, 2) := dk_16 14 (dk_at dksX7_stands_2 7 rfl rfl)
theorem dX7_stands_53 : decode cX7_stands 53 = .ok (.iadd, 1) := dk_96 (dk_at dksX7_stands_2 9 rfl rfl)
theorem dX7_stands_54 : decode cX7_stands 54 = .ok (.iload_n 3, 1) := dk_29 (dk_at dksX7_stands_2 10 rfl rfl)
theorem dX7_stands_55 : decode cX7_stands 55 = .ok (.iastore, 1) := dk_79 (dk_at dksX7_stands_2 11 rfl rfl)
theorem dX7_stands_56 : decode cX7_stands 56 = .ok (.iconst 1, 1) := dk_4 (dk_at dksX7_stands_2 12 rfl rfl)
theorem dX7_stands_57 : decode cX7_stands 57 = .ok (.ireturn, 1) := dk_172 (dk_at dksX7_stands_2 13 rfl rfl)
abbrev cX7_worth : ByteArray := prog_21_method_44_code
def yX7_worth : MethodName := ⟨RX7, "worth", "(II)Z"⟩
def dkwX7_worth_1 : List UInt8 := [180, 0, 7, 16, 10, 27, 96, 28, 79, 4, 172]
abbrev dktX7_worth_1 : List UInt8 := dkwX7_worth_1 ++ []
def dkwX7_worth_0 : List UInt8 := [27, 3, 16, 7, 184, 0, 89, 153, 0, 13, 28, 3, 16, 99, 184, 0, 89, 154, 0, 5, 3, 172, 42]
abbrev dktX7_worth_0 : List UInt8 := dkwX7_worth_0 ++ dktX7_worth_1
theorem dksX7_worth_0 : cX7_worth.data.toList.drop 0 = dktX7_worth_0 := by decide +kernel
theorem dksX7_worth_1 : cX7_worth.data.toList.drop 23 = dktX7_worth_1 := dk_seg dksX7_worth_0 23 rfl rfl
theorem dX7_worth_0 : decode cX7_worth 0 = .ok (.iload_n 1, 1) := dk_27 (dk_at dksX7_worth_0 0 rfl rfl)
theorem dX7_worth_1 : decode cX7_worth 1 = .ok (.iconst 0, 1) := dk_3 (dk_at dksX7_worth_0 1 rfl rfl)
theorem dX7_worth_2 : decode cX7_worth 2 = .ok (.bipush 7, 2) := dk_16 7 (dk_at dksX7_worth_0 2 rfl rfl)
theorem dX7_worth_4 : decode cX7_worth 4 = .ok (.invokestatic 89, 3) := dk_184 0 89 (dk_at dksX7_worth_0 4 rfl rfl)
theorem dX7_worth_7 : decode cX7_worth 7 = .ok (.ifCond .eq 13, 3) := dk_153 0 13 (dk_at dksX7_worth_0 7 rfl rfl)
theorem dX7_worth_10 : decode cX7_worth 10 = .ok (.iload_n 2, 1) := dk_28 (dk_at dksX7_worth_0 10 rfl rfl)
theorem dX7_worth_11 : decode cX7_worth 11 = .ok (.iconst 0, 1) := dk_3 (dk_at dksX7_worth_0 11 rfl rfl)
theorem dX7_worth_12 : decode cX7_worth 12 = .ok (.bipush 99, 2) := dk_16 99 (dk_at dksX7_worth_0 12 rfl rfl)
theorem dX7_worth_14 : decode cX7_worth 14 = .ok (.invokestatic 89, 3) := dk_184 0 89 (dk_at dksX7_worth_0 14 rfl rfl)
theorem dX7_worth_17 : decode cX7_worth 17 = .ok (.ifCond .ne 5, 3) := dk_154 0 5 (dk_at dksX7_worth_0 17 rfl rfl)
theorem dX7_worth_20 : decode cX7_worth 20 = .ok (.iconst 0, 1) := dk_3 (dk_at dksX7_worth_0 20 rfl rfl)
theorem dX7_worth_21 : decode cX7_worth 21 = .ok (.ireturn, 1) := dk_172 (dk_at dksX7_worth_0 21 rfl rfl)
theorem dX7_worth_22 : decode cX7_worth 22 = .ok (.aload_n 0, 1) := dk_42 (dk_at dksX7_worth_0 22 rfl rfl)
theorem dX7_worth_23 : decode cX7_worth 23 = .ok (.getfield 7, 3) := dk_180 0 7 (dk_at dksX7_worth_1 0 rfl rfl)
theorem dX7_worth_26 : decode cX7_worth 26 = .ok (.bipush 10, 2) := dk_16 10 (dk_at dksX7_worth_1 3 rfl rfl)
theorem dX7_worth_28 : decode cX7_worth 28 = .ok (.iload_n 1, 1) := dk_27 (dk_at dksX7_worth_1 5 rfl rfl)
theorem dX7_worth_29 : decode cX7_worth 29 = .ok (.iadd, 1) := dk_96 (dk_at dksX7_worth_1 6 rfl rfl)
theorem dX7_worth_30 : decode cX7_worth 30 = .ok (.iload_n 2, 1) := dk_28 (dk_at dksX7_worth_1 7 rfl rfl)
theorem dX7_worth_31 : decode cX7_worth 31 = .ok (.iastore, 1) := dk_79 (dk_at dksX7_worth_1 8 rfl rfl)
theorem dX7_worth_32 : decode cX7_worth 32 = .ok (.iconst 1, 1) := dk_4 (dk_at dksX7_worth_1 9 rfl rfl)
theorem dX7_worth_33 : decode cX7_worth 33 = .ok (.ireturn, 1) := dk_172 (dk_at dksX7_worth_1 10 rfl rfl)
abbrev cX7_boxes : ByteArray := prog_21_method_55_code
def yX7_boxes : MethodName := ⟨RX7, "boxes", "(III)I"⟩
def dkwX7_boxes_1 : List UInt8 := [182, 0, 243, 42, 3, 28, 29, 182, 0, 246, 42, 180, 0, 221, 172]
abbrev dktX7_boxes_1 : List UInt8 := dkwX7_boxes_1 ++ []
def dkwX7_boxes_0 : List UInt8 := [42, 27, 182, 0, 202, 153, 0, 11, 28, 29, 184, 0, 254, 154, 0, 5, 2, 172, 42, 27, 184, 1, 1]
abbrev dktX7_boxes_0 : List UInt8 := dkwX7_boxes_0 ++ dktX7_boxes_1
theorem dksX7_boxes_0 : cX7_boxes.data.toList.drop 0 = dktX7_boxes_0 := by decide +kernel
theorem dksX7_boxes_1 : cX7_boxes.data.toList.drop 23 = dktX7_boxes_1 := dk_seg dksX7_boxes_0 23 rfl rfl
theorem dX7_boxes_0 : decode cX7_boxes 0 = .ok (.aload_n 0, 1) := dk_42 (dk_at dksX7_boxes_0 0 rfl rfl)
theorem dX7_boxes_1 : decode cX7_boxes 1 = .ok (.iload_n 1, 1) := dk_27 (dk_at dksX7_boxes_0 1 rfl rfl)
theorem dX7_boxes_2 : decode cX7_boxes 2 = .ok (.invokevirtual 202, 3) := dk_182 0 202 (dk_at dksX7_boxes_0 2 rfl rfl)
theorem dX7_boxes_5 : decode cX7_boxes 5 = .ok (.ifCond .eq 11, 3) := dk_153 0 11 (dk_at dksX7_boxes_0 5 rfl rfl)
theorem dX7_boxes_8 : decode cX7_boxes 8 = .ok (.iload_n 2, 1) := dk_28 (dk_at dksX7_boxes_0 8 rfl rfl)
theorem dX7_boxes_9 : decode cX7_boxes 9 = .ok (.iload_n 3, 1) := dk_29 (dk_at dksX7_boxes_0 9 rfl rfl)
theorem dX7_boxes_10 : decode cX7_boxes 10 = .ok (.invokestatic 254, 3) := dk_184 0 254 (dk_at dksX7_boxes_0 10 rfl rfl)
theorem dX7_boxes_13 : decode cX7_boxes 13 = .ok (.ifCond .ne 5, 3) := dk_154 0 5 (dk_at dksX7_boxes_0 13 rfl rfl)
theorem dX7_boxes_16 : decode cX7_boxes 16 = .ok (.iconst (-1), 1) := dk_2 (dk_at dksX7_boxes_0 16 rfl rfl)
theorem dX7_boxes_17 : decode cX7_boxes 17 = .ok (.ireturn, 1) := dk_172 (dk_at dksX7_boxes_0 17 rfl rfl)
theorem dX7_boxes_18 : decode cX7_boxes 18 = .ok (.aload_n 0, 1) := dk_42 (dk_at dksX7_boxes_0 18 rfl rfl)
theorem dX7_boxes_19 : decode cX7_boxes 19 = .ok (.iload_n 1, 1) := dk_27 (dk_at dksX7_boxes_0 19 rfl rfl)
theorem dX7_boxes_20 : decode cX7_boxes 20 = .ok (.invokestatic 257, 3) := dk_184 1 1 (dk_at dksX7_boxes_0 20 rfl rfl)
theorem dX7_boxes_23 : decode cX7_boxes 23 = .ok (.invokevirtual 243, 3) := dk_182 0 243 (dk_at dksX7_boxes_1 0 rfl rfl)
theorem dX7_boxes_26 : decode cX7_boxes 26 = .ok (.aload_n 0, 1) := dk_42 (dk_at dksX7_boxes_1 3 rfl rfl)
theorem dX7_boxes_27 : decode cX7_boxes 27 = .ok (.iconst 0, 1) := dk_3 (dk_at dksX7_boxes_1 4 rfl rfl)
theorem dX7_boxes_28 : decode cX7_boxes 28 = .ok (.iload_n 2, 1) := dk_28 (dk_at dksX7_boxes_1 5 rfl rfl)
theorem dX7_boxes_29 : decode cX7_boxes 29 = .ok (.iload_n 3, 1) := dk_29 (dk_at dksX7_boxes_1 6 rfl rfl)
theorem dX7_boxes_30 : decode cX7_boxes 30 = .ok (.invokevirtual 246, 3) := dk_182 0 246 (dk_at dksX7_boxes_1 7 rfl rfl)
theorem dX7_boxes_33 : decode cX7_boxes 33 = .ok (.aload_n 0, 1) := dk_42 (dk_at dksX7_boxes_1 10 rfl rfl)
theorem dX7_boxes_34 : decode cX7_boxes 34 = .ok (.getfield 221, 3) := dk_180 0 221 (dk_at dksX7_boxes_1 11 rfl rfl)
theorem dX7_boxes_37 : decode cX7_boxes 37 = .ok (.ireturn, 1) := dk_172 (dk_at dksX7_boxes_1 14 rfl rfl)
abbrev cX7_isPerson : ByteArray := prog_21_method_6_code
def yX7_isPerson : MethodName := ⟨RX7, "isPerson", "(II)Z"⟩
def dkwX7_isPerson_1 : List UInt8 := [172]
abbrev dktX7_isPerson_1 : List UInt8 := dkwX7_isPerson_1 ++ []
def dkwX7_isPerson_0 : List UInt8 := [26, 3, 6, 184, 0, 89, 153, 0, 17, 27, 3, 16, 99, 184, 0, 89, 153, 0, 7, 4, 167, 0, 4, 3]
abbrev dktX7_isPerson_0 : List UInt8 := dkwX7_isPerson_0 ++ dktX7_isPerson_1
theorem dksX7_isPerson_0 : cX7_isPerson.data.toList.drop 0 = dktX7_isPerson_0 := by decide +kernel
theorem dksX7_isPerson_1 : cX7_isPerson.data.toList.drop 24 = dktX7_isPerson_1 := dk_seg dksX7_isPerson_0 24 rfl rfl
theorem dX7_isPerson_0 : decode cX7_isPerson 0 = .ok (.iload_n 0, 1) := dk_26 (dk_at dksX7_isPerson_0 0 rfl rfl)
theorem dX7_isPerson_1 : decode cX7_isPerson 1 = .ok (.iconst 0, 1) := dk_3 (dk_at dksX7_isPerson_0 1 rfl rfl)
theorem dX7_isPerson_2 : decode cX7_isPerson 2 = .ok (.iconst 3, 1) := dk_6 (dk_at dksX7_isPerson_0 2 rfl rfl)
theorem dX7_isPerson_3 : decode cX7_isPerson 3 = .ok (.invokestatic 89, 3) := dk_184 0 89 (dk_at dksX7_isPerson_0 3 rfl rfl)
theorem dX7_isPerson_6 : decode cX7_isPerson 6 = .ok (.ifCond .eq 17, 3) := dk_153 0 17 (dk_at dksX7_isPerson_0 6 rfl rfl)
theorem dX7_isPerson_9 : decode cX7_isPerson 9 = .ok (.iload_n 1, 1) := dk_27 (dk_at dksX7_isPerson_0 9 rfl rfl)
theorem dX7_isPerson_10 : decode cX7_isPerson 10 = .ok (.iconst 0, 1) := dk_3 (dk_at dksX7_isPerson_0 10 rfl rfl)
theorem dX7_isPerson_11 : decode cX7_isPerson 11 = .ok (.bipush 99, 2) := dk_16 99 (dk_at dksX7_isPerson_0 11 rfl rfl)
theorem dX7_isPerson_13 : decode cX7_isPerson 13 = .ok (.invokestatic 89, 3) := dk_184 0 89 (dk_at dksX7_isPerson_0 13 rfl rfl)
theorem dX7_isPerson_16 : decode cX7_isPerson 16 = .ok (.ifCond .eq 7, 3) := dk_153 0 7 (dk_at dksX7_isPerson_0 16 rfl rfl)
theorem dX7_isPerson_19 : decode cX7_isPerson 19 = .ok (.iconst 1, 1) := dk_4 (dk_at dksX7_isPerson_0 19 rfl rfl)
theorem dX7_isPerson_20 : decode cX7_isPerson 20 = .ok (.goto 4, 3) := dk_167 0 4 (dk_at dksX7_isPerson_0 20 rfl rfl)
theorem dX7_isPerson_23 : decode cX7_isPerson 23 = .ok (.iconst 0, 1) := dk_3 (dk_at dksX7_isPerson_0 23 rfl rfl)
theorem dX7_isPerson_24 : decode cX7_isPerson 24 = .ok (.ireturn, 1) := dk_172 (dk_at dksX7_isPerson_1 0 rfl rfl)
abbrev cX7_treeOf : ByteArray := prog_21_method_9_code
def yX7_treeOf : MethodName := ⟨RX7, "treeOf", "(I)I"⟩
def dkwX7_treeOf_0 : List UInt8 := [26, 184, 0, 93, 16, 42, 96, 172]
abbrev dktX7_treeOf_0 : List UInt8 := dkwX7_treeOf_0 ++ []
theorem dksX7_treeOf_0 : cX7_treeOf.data.toList.drop 0 = dktX7_treeOf_0 := by decide +kernel
theorem dX7_treeOf_0 : decode cX7_treeOf 0 = .ok (.iload_n 0, 1) := dk_26 (dk_at dksX7_treeOf_0 0 rfl rfl)
theorem dX7_treeOf_1 : decode cX7_treeOf 1 = .ok (.invokestatic 93, 3) := dk_184 0 93 (dk_at dksX7_treeOf_0 1 rfl rfl)
theorem dX7_treeOf_4 : decode cX7_treeOf 4 = .ok (.bipush 42, 2) := dk_16 42 (dk_at dksX7_treeOf_0 4 rfl rfl)
theorem dX7_treeOf_6 : decode cX7_treeOf 6 = .ok (.iadd, 1) := dk_96 (dk_at dksX7_treeOf_0 6 rfl rfl)
theorem dX7_treeOf_7 : decode cX7_treeOf 7 = .ok (.ireturn, 1) := dk_172 (dk_at dksX7_treeOf_0 7 rfl rfl)
abbrev cX7_takes : ByteArray := prog_21_method_46_code
def yX7_takes : MethodName := ⟨RX7, "takes", "(I)V"⟩
def dkwX7_takes_1 : List UInt8 := [42, 180, 0, 29, 28, 42, 28, 4, 182, 0, 218, 79, 132, 2, 1, 167, 255, 224, 177]
abbrev dktX7_takes_1 : List UInt8 := dkwX7_takes_1 ++ []
def dkwX7_takes_0 : List UInt8 := [42, 27, 181, 0, 215, 3, 61, 28, 42, 180, 0, 7, 27, 46, 162, 0, 28, 42, 180, 0, 26, 28, 3, 84]
abbrev dktX7_takes_0 : List UInt8 := dkwX7_takes_0 ++ dktX7_takes_1
theorem dksX7_takes_0 : cX7_takes.data.toList.drop 0 = dktX7_takes_0 := by decide +kernel
theorem dksX7_takes_1 : cX7_takes.data.toList.drop 24 = dktX7_takes_1 := dk_seg dksX7_takes_0 24 rfl rfl
theorem dX7_takes_0 : decode cX7_takes 0 = .ok (.aload_n 0, 1) := dk_42 (dk_at dksX7_takes_0 0 rfl rfl)
theorem dX7_takes_1 : decode cX7_takes 1 = .ok (.iload_n 1, 1) := dk_27 (dk_at dksX7_takes_0 1 rfl rfl)
theorem dX7_takes_2 : decode cX7_takes 2 = .ok (.putfield 215, 3) := dk_181 0 215 (dk_at dksX7_takes_0 2 rfl rfl)
theorem dX7_takes_5 : decode cX7_takes 5 = .ok (.iconst 0, 1) := dk_3 (dk_at dksX7_takes_0 5 rfl rfl)
theorem dX7_takes_6 : decode cX7_takes 6 = .ok (.istore_n 2, 1) := dk_61 (dk_at dksX7_takes_0 6 rfl rfl)
theorem dX7_takes_7 : decode cX7_takes 7 = .ok (.iload_n 2, 1) := dk_28 (dk_at dksX7_takes_0 7 rfl rfl)
theorem dX7_takes_8 : decode cX7_takes 8 = .ok (.aload_n 0, 1) := dk_42 (dk_at dksX7_takes_0 8 rfl rfl)
theorem dX7_takes_9 : decode cX7_takes 9 = .ok (.getfield 7, 3) := dk_180 0 7 (dk_at dksX7_takes_0 9 rfl rfl)
theorem dX7_takes_12 : decode cX7_takes 12 = .ok (.iload_n 1, 1) := dk_27 (dk_at dksX7_takes_0 12 rfl rfl)
theorem dX7_takes_13 : decode cX7_takes 13 = .ok (.iaload, 1) := dk_46 (dk_at dksX7_takes_0 13 rfl rfl)
theorem dX7_takes_14 : decode cX7_takes 14 = .ok (.if_icmp .ge 28, 3) := dk_162 0 28 (dk_at dksX7_takes_0 14 rfl rfl)
theorem dX7_takes_17 : decode cX7_takes 17 = .ok (.aload_n 0, 1) := dk_42 (dk_at dksX7_takes_0 17 rfl rfl)
theorem dX7_takes_18 : decode cX7_takes 18 = .ok (.getfield 26, 3) := dk_180 0 26 (dk_at dksX7_takes_0 18 rfl rfl)
theorem dX7_takes_21 : decode cX7_takes 21 = .ok (.iload_n 2, 1) := dk_28 (dk_at dksX7_takes_0 21 rfl rfl)
theorem dX7_takes_22 : decode cX7_takes 22 = .ok (.iconst 0, 1) := dk_3 (dk_at dksX7_takes_0 22 rfl rfl)
theorem dX7_takes_23 : decode cX7_takes 23 = .ok (.bastore, 1) := dk_84 (dk_at dksX7_takes_0 23 rfl rfl)
theorem dX7_takes_24 : decode cX7_takes 24 = .ok (.aload_n 0, 1) := dk_42 (dk_at dksX7_takes_1 0 rfl rfl)
theorem dX7_takes_25 : decode cX7_takes 25 = .ok (.getfield 29, 3) := dk_180 0 29 (dk_at dksX7_takes_1 1 rfl rfl)
theorem dX7_takes_28 : decode cX7_takes 28 = .ok (.iload_n 2, 1) := dk_28 (dk_at dksX7_takes_1 4 rfl rfl)
theorem dX7_takes_29 : decode cX7_takes 29 = .ok (.aload_n 0, 1) := dk_42 (dk_at dksX7_takes_1 5 rfl rfl)
theorem dX7_takes_30 : decode cX7_takes 30 = .ok (.iload_n 2, 1) := dk_28 (dk_at dksX7_takes_1 6 rfl rfl)
theorem dX7_takes_31 : decode cX7_takes 31 = .ok (.iconst 1, 1) := dk_4 (dk_at dksX7_takes_1 7 rfl rfl)
theorem dX7_takes_32 : decode cX7_takes 32 = .ok (.invokevirtual 218, 3) := dk_182 0 218 (dk_at dksX7_takes_1 8 rfl rfl)
theorem dX7_takes_35 : decode cX7_takes 35 = .ok (.iastore, 1) := dk_79 (dk_at dksX7_takes_1 11 rfl rfl)
theorem dX7_takes_36 : decode cX7_takes 36 = .ok (.iinc 2 1, 3) := dk_132 2 1 (dk_at dksX7_takes_1 12 rfl rfl)
theorem dX7_takes_39 : decode cX7_takes 39 = .ok (.goto (-32), 3) := dk_167 255 224 (dk_at dksX7_takes_1 15 rfl rfl)
theorem dX7_takes_42 : decode cX7_takes 42 = .ok (.return_, 1) := dk_177 (dk_at dksX7_takes_1 18 rfl rfl)
abbrev cX7_boxOf : ByteArray := prog_21_method_45_code
def yX7_boxOf : MethodName := ⟨RX7, "boxOf", "(II)I"⟩
def dkwX7_boxOf_0 : List UInt8 := [42, 180, 0, 7, 42, 180, 0, 215, 4, 96, 8, 27, 104, 96, 28, 96, 46, 172]
abbrev dktX7_boxOf_0 : List UInt8 := dkwX7_boxOf_0 ++ []
theorem dksX7_boxOf_0 : cX7_boxOf.data.toList.drop 0 = dktX7_boxOf_0 := by decide +kernel
theorem dX7_boxOf_0 : decode cX7_boxOf 0 = .ok (.aload_n 0, 1) := dk_42 (dk_at dksX7_boxOf_0 0 rfl rfl)
theorem dX7_boxOf_1 : decode cX7_boxOf 1 = .ok (.getfield 7, 3) := dk_180 0 7 (dk_at dksX7_boxOf_0 1 rfl rfl)
theorem dX7_boxOf_4 : decode cX7_boxOf 4 = .ok (.aload_n 0, 1) := dk_42 (dk_at dksX7_boxOf_0 4 rfl rfl)
theorem dX7_boxOf_5 : decode cX7_boxOf 5 = .ok (.getfield 215, 3) := dk_180 0 215 (dk_at dksX7_boxOf_0 5 rfl rfl)
theorem dX7_boxOf_8 : decode cX7_boxOf 8 = .ok (.iconst 1, 1) := dk_4 (dk_at dksX7_boxOf_0 8 rfl rfl)
theorem dX7_boxOf_9 : decode cX7_boxOf 9 = .ok (.iadd, 1) := dk_96 (dk_at dksX7_boxOf_0 9 rfl rfl)
theorem dX7_boxOf_10 : decode cX7_boxOf 10 = .ok (.iconst 5, 1) := dk_8 (dk_at dksX7_boxOf_0 10 rfl rfl)
theorem dX7_boxOf_11 : decode cX7_boxOf 11 = .ok (.iload_n 1, 1) := dk_27 (dk_at dksX7_boxOf_0 11 rfl rfl)
theorem dX7_boxOf_12 : decode cX7_boxOf 12 = .ok (.imul, 1) := dk_104 (dk_at dksX7_boxOf_0 12 rfl rfl)
theorem dX7_boxOf_13 : decode cX7_boxOf 13 = .ok (.iadd, 1) := dk_96 (dk_at dksX7_boxOf_0 13 rfl rfl)
theorem dX7_boxOf_14 : decode cX7_boxOf 14 = .ok (.iload_n 2, 1) := dk_28 (dk_at dksX7_boxOf_0 14 rfl rfl)
theorem dX7_boxOf_15 : decode cX7_boxOf 15 = .ok (.iadd, 1) := dk_96 (dk_at dksX7_boxOf_0 15 rfl rfl)
theorem dX7_boxOf_16 : decode cX7_boxOf 16 = .ok (.iaload, 1) := dk_46 (dk_at dksX7_boxOf_0 16 rfl rfl)
theorem dX7_boxOf_17 : decode cX7_boxOf 17 = .ok (.ireturn, 1) := dk_172 (dk_at dksX7_boxOf_0 17 rfl rfl)
abbrev cX7_opens : ByteArray := prog_21_method_48_code
def yX7_opens : MethodName := ⟨RX7, "opens", "(III)V"⟩
def dkwX7_opens_16 : List UInt8 := [46, 4, 96, 79, 177]
abbrev dktX7_opens_16 : List UInt8 := dkwX7_opens_16 ++ []
def dkwX7_opens_15 : List UInt8 := [79, 42, 180, 0, 53, 16, 16, 27, 104, 42, 180, 0, 44, 27, 46, 96, 3, 79, 42, 180, 0, 44, 27, 92]
abbrev dktX7_opens_15 : List UInt8 := dkwX7_opens_15 ++ dktX7_opens_16
def dkwX7_opens_14 : List UInt8 := [180, 0, 44, 27, 46, 96, 2, 79, 42, 180, 0, 50, 16, 16, 27, 104, 42, 180, 0, 44, 27, 46, 96, 3]
abbrev dktX7_opens_14 : List UInt8 := dkwX7_opens_14 ++ dktX7_opens_15
def dkwX7_opens_13 : List UInt8 := [42, 27, 42, 180, 0, 38, 21, 4, 46, 182, 0, 227, 167, 255, 236, 42, 180, 0, 47, 16, 16, 27, 104, 42]
abbrev dktX7_opens_13 : List UInt8 := dkwX7_opens_13 ++ dktX7_opens_14
def dkwX7_opens_12 : List UInt8 := [3, 182, 0, 218, 96, 46, 96, 181, 0, 224, 132, 5, 1, 167, 254, 243, 21, 4, 158, 0, 21, 132, 4, 255]
abbrev dktX7_opens_12 : List UInt8 := dkwX7_opens_12 ++ dktX7_opens_13
def dkwX7_opens_11 : List UInt8 := [42, 89, 180, 0, 221, 4, 96, 181, 0, 221, 42, 89, 180, 0, 224, 42, 180, 0, 7, 16, 10, 42, 21, 5]
abbrev dktX7_opens_11 : List UInt8 := dkwX7_opens_11 ++ dktX7_opens_12
def dkwX7_opens_10 : List UInt8 := [180, 0, 41, 21, 5, 42, 180, 0, 44, 27, 46, 79, 42, 180, 0, 38, 21, 4, 21, 5, 79, 132, 4, 1]
abbrev dktX7_opens_10 : List UInt8 := dkwX7_opens_10 ++ dktX7_opens_11
def dkwX7_opens_9 : List UInt8 := [159, 0, 21, 132, 4, 255, 42, 27, 42, 180, 0, 38, 21, 4, 46, 182, 0, 227, 167, 255, 217, 42]
abbrev dktX7_opens_9 : List UInt8 := dkwX7_opens_9 ++ dktX7_opens_10
def dkwX7_opens_8 : List UInt8 := [167, 0, 104, 21, 4, 158, 0, 40, 42, 180, 0, 38, 21, 4, 4, 100, 46, 42, 180, 0, 35, 21, 5, 46]
abbrev dktX7_opens_8 : List UInt8 := dkwX7_opens_8 ++ dktX7_opens_9
def dkwX7_opens_7 : List UInt8 := [21, 6, 79, 42, 180, 0, 32, 21, 5, 51, 153, 0, 117, 42, 180, 0, 26, 21, 5, 51, 153, 0, 6]
abbrev dktX7_opens_7 : List UInt8 := dkwX7_opens_7 ++ dktX7_opens_8
def dkwX7_opens_6 : List UInt8 := [167, 0, 25, 42, 180, 0, 26, 21, 6, 51, 153, 0, 13, 42, 180, 0, 35, 21, 6, 46, 167, 0, 5]
abbrev dktX7_opens_6 : List UInt8 := dkwX7_opens_6 ++ dktX7_opens_7
def dkwX7_opens_5 : List UInt8 := [29, 163, 0, 7, 4, 167, 0, 4, 3, 84, 42, 180, 0, 35, 21, 5, 21, 6, 156, 0, 7, 2]
abbrev dktX7_opens_5 : List UInt8 := dkwX7_opens_5 ++ dktX7_opens_6
def dkwX7_opens_4 : List UInt8 := [182, 0, 218, 155, 0, 14, 42, 21, 5, 6, 182, 0, 218, 28, 160, 0, 18, 42, 21, 5, 7, 182, 0, 218]
abbrev dktX7_opens_4 : List UInt8 := dkwX7_opens_4 ++ dktX7_opens_5
def dkwX7_opens_3 : List UInt8 := [180, 0, 32, 21, 5, 21, 7, 153, 0, 49, 42, 180, 0, 26, 21, 5, 51, 154, 0, 35, 42, 21, 5, 6]
abbrev dktX7_opens_3 : List UInt8 := dkwX7_opens_3 ++ dktX7_opens_4
def dkwX7_opens_2 : List UInt8 := [21, 6, 155, 0, 13, 42, 180, 0, 32, 21, 6, 51, 153, 0, 7, 4, 167, 0, 4, 3, 54, 7, 42]
abbrev dktX7_opens_2 : List UInt8 := dkwX7_opens_2 ++ dktX7_opens_3
def dkwX7_opens_1 : List UInt8 := [21, 5, 42, 180, 0, 7, 42, 180, 0, 215, 46, 162, 1, 5, 42, 21, 5, 5, 182, 0, 218, 54, 6]
abbrev dktX7_opens_1 : List UInt8 := dkwX7_opens_1 ++ dktX7_opens_2
def dkwX7_opens_0 : List UInt8 := [3, 54, 4, 42, 180, 0, 44, 27, 3, 79, 42, 3, 181, 0, 221, 42, 3, 181, 0, 224, 3, 54, 5]
abbrev dktX7_opens_0 : List UInt8 := dkwX7_opens_0 ++ dktX7_opens_1
theorem dksX7_opens_0 : cX7_opens.data.toList.drop 0 = dktX7_opens_0 := by decide +kernel
theorem dksX7_opens_1 : cX7_opens.data.toList.drop 23 = dktX7_opens_1 := dk_seg dksX7_opens_0 23 rfl rfl
theorem dksX7_opens_2 : cX7_opens.data.toList.drop 46 = dktX7_opens_2 := dk_seg dksX7_opens_1 23 rfl rfl
theorem dksX7_opens_3 : cX7_opens.data.toList.drop 69 = dktX7_opens_3 := dk_seg dksX7_opens_2 23 rfl rfl
theorem dksX7_opens_4 : cX7_opens.data.toList.drop 93 = dktX7_opens_4 := dk_seg dksX7_opens_3 24 rfl rfl
theorem dksX7_opens_5 : cX7_opens.data.toList.drop 117 = dktX7_opens_5 := dk_seg dksX7_opens_4 24 rfl rfl
theorem dksX7_opens_6 : cX7_opens.data.toList.drop 139 = dktX7_opens_6 := dk_seg dksX7_opens_5 22 rfl rfl
theorem dksX7_opens_7 : cX7_opens.data.toList.drop 162 = dktX7_opens_7 := dk_seg dksX7_opens_6 23 rfl rfl
theorem dksX7_opens_8 : cX7_opens.data.toList.drop 185 = dktX7_opens_8 := dk_seg dksX7_opens_7 23 rfl rfl
theorem dksX7_opens_9 : cX7_opens.data.toList.drop 209 = dktX7_opens_9 := dk_seg dksX7_opens_8 24 rfl rfl
theorem dksX7_opens_10 : cX7_opens.data.toList.drop 231 = dktX7_opens_10 := dk_seg dksX7_opens_9 22 rfl rfl
theorem dksX7_opens_11 : cX7_opens.data.toList.drop 255 = dktX7_opens_11 := dk_seg dksX7_opens_10 24 rfl rfl
theorem dksX7_opens_12 : cX7_opens.data.toList.drop 279 = dktX7_opens_12 := dk_seg dksX7_opens_11 24 rfl rfl
theorem dksX7_opens_13 : cX7_opens.data.toList.drop 303 = dktX7_opens_13 := dk_seg dksX7_opens_12 24 rfl rfl
theorem dksX7_opens_14 : cX7_opens.data.toList.drop 327 = dktX7_opens_14 := dk_seg dksX7_opens_13 24 rfl rfl
theorem dksX7_opens_15 : cX7_opens.data.toList.drop 351 = dktX7_opens_15 := dk_seg dksX7_opens_14 24 rfl rfl
theorem dksX7_opens_16 : cX7_opens.data.toList.drop 375 = dktX7_opens_16 := dk_seg dksX7_opens_15 24 rfl rfl
theorem dX7_opens_0 : decode cX7_opens 0 = .ok (.iconst 0, 1) := dk_3 (dk_at dksX7_opens_0 0 rfl rfl)
theorem dX7_opens_1 : decode cX7_opens 1 = .ok (.istore 4, 2) := dk_54 4 (dk_at dksX7_opens_0 1 rfl rfl)
theorem dX7_opens_3 : decode cX7_opens 3 = .ok (.aload_n 0, 1) := dk_42 (dk_at dksX7_opens_0 3 rfl rfl)
theorem dX7_opens_4 : decode cX7_opens 4 = .ok (.getfield 44, 3) := dk_180 0 44 (dk_at dksX7_opens_0 4 rfl rfl)
theorem dX7_opens_7 : decode cX7_opens 7 = .ok (.iload_n 1, 1) := dk_27 (dk_at dksX7_opens_0 7 rfl rfl)
theorem dX7_opens_8 : decode cX7_opens 8 = .ok (.iconst 0, 1) := dk_3 (dk_at dksX7_opens_0 8 rfl rfl)
theorem dX7_opens_9 : decode cX7_opens 9 = .ok (.iastore, 1) := dk_79 (dk_at dksX7_opens_0 9 rfl rfl)
theorem dX7_opens_10 : decode cX7_opens 10 = .ok (.aload_n 0, 1) := dk_42 (dk_at dksX7_opens_0 10 rfl rfl)
theorem dX7_opens_11 : decode cX7_opens 11 = .ok (.iconst 0, 1) := dk_3 (dk_at dksX7_opens_0 11 rfl rfl)
theorem dX7_opens_12 : decode cX7_opens 12 = .ok (.putfield 221, 3) := dk_181 0 221 (dk_at dksX7_opens_0 12 rfl rfl)
theorem dX7_opens_15 : decode cX7_opens 15 = .ok (.aload_n 0, 1) := dk_42 (dk_at dksX7_opens_0 15 rfl rfl)
theorem dX7_opens_16 : decode cX7_opens 16 = .ok (.iconst 0, 1) := dk_3 (dk_at dksX7_opens_0 16 rfl rfl)
theorem dX7_opens_17 : decode cX7_opens 17 = .ok (.putfield 224, 3) := dk_181 0 224 (dk_at dksX7_opens_0 17 rfl rfl)
theorem dX7_opens_20 : decode cX7_opens 20 = .ok (.iconst 0, 1) := dk_3 (dk_at dksX7_opens_0 20 rfl rfl)
theorem dX7_opens_21 : decode cX7_opens 21 = .ok (.istore 5, 2) := dk_54 5 (dk_at dksX7_opens_0 21 rfl rfl)
theorem dX7_opens_23 : decode cX7_opens 23 = .ok (.iload 5, 2) := dk_21 5 (dk_at dksX7_opens_1 0 rfl rfl)
theorem dX7_opens_25 : decode cX7_opens 25 = .ok (.aload_n 0, 1) := dk_42 (dk_at dksX7_opens_1 2 rfl rfl)
theorem dX7_opens_26 : decode cX7_opens 26 = .ok (.getfield 7, 3) := dk_180 0 7 (dk_at dksX7_opens_1 3 rfl rfl)
theorem dX7_opens_29 : decode cX7_opens 29 = .ok (.aload_n 0, 1) := dk_42 (dk_at dksX7_opens_1 6 rfl rfl)
theorem dX7_opens_30 : decode cX7_opens 30 = .ok (.getfield 215, 3) := dk_180 0 215 (dk_at dksX7_opens_1 7 rfl rfl)
theorem dX7_opens_33 : decode cX7_opens 33 = .ok (.iaload, 1) := dk_46 (dk_at dksX7_opens_1 10 rfl rfl)
theorem dX7_opens_34 : decode cX7_opens 34 = .ok (.if_icmp .ge 261, 3) := dk_162 1 5 (dk_at dksX7_opens_1 11 rfl rfl)
theorem dX7_opens_37 : decode cX7_opens 37 = .ok (.aload_n 0, 1) := dk_42 (dk_at dksX7_opens_1 14 rfl rfl)
theorem dX7_opens_38 : decode cX7_opens 38 = .ok (.iload 5, 2) := dk_21 5 (dk_at dksX7_opens_1 15 rfl rfl)
theorem dX7_opens_40 : decode cX7_opens 40 = .ok (.iconst 2, 1) := dk_5 (dk_at dksX7_opens_1 17 rfl rfl)
theorem dX7_opens_41 : decode cX7_opens 41 = .ok (.invokevirtual 218, 3) := dk_182 0 218 (dk_at dksX7_opens_1 18 rfl rfl)
theorem dX7_opens_44 : decode cX7_opens 44 = .ok (.istore 6, 2) := dk_54 6 (dk_at dksX7_opens_1 21 rfl rfl)
theorem dX7_opens_46 : decode cX7_opens 46 = .ok (.iload 6, 2) := dk_21 6 (dk_at dksX7_opens_2 0 rfl rfl)
theorem dX7_opens_48 : decode cX7_opens 48 = .ok (.ifCond .lt 13, 3) := dk_155 0 13 (dk_at dksX7_opens_2 2 rfl rfl)
theorem dX7_opens_51 : decode cX7_opens 51 = .ok (.aload_n 0, 1) := dk_42 (dk_at dksX7_opens_2 5 rfl rfl)
theorem dX7_opens_52 : decode cX7_opens 52 = .ok (.getfield 32, 3) := dk_180 0 32 (dk_at dksX7_opens_2 6 rfl rfl)
theorem dX7_opens_55 : decode cX7_opens 55 = .ok (.iload 6, 2) := dk_21 6 (dk_at dksX7_opens_2 9 rfl rfl)
theorem dX7_opens_57 : decode cX7_opens 57 = .ok (.baload, 1) := dk_51 (dk_at dksX7_opens_2 11 rfl rfl)
theorem dX7_opens_58 : decode cX7_opens 58 = .ok (.ifCond .eq 7, 3) := dk_153 0 7 (dk_at dksX7_opens_2 12 rfl rfl)
theorem dX7_opens_61 : decode cX7_opens 61 = .ok (.iconst 1, 1) := dk_4 (dk_at dksX7_opens_2 15 rfl rfl)
theorem dX7_opens_62 : decode cX7_opens 62 = .ok (.goto 4, 3) := dk_167 0 4 (dk_at dksX7_opens_2 16 rfl rfl)
theorem dX7_opens_65 : decode cX7_opens 65 = .ok (.iconst 0, 1) := dk_3 (dk_at dksX7_opens_2 19 rfl rfl)
theorem dX7_opens_66 : decode cX7_opens 66 = .ok (.istore 7, 2) := dk_54 7 (dk_at dksX7_opens_2 20 rfl rfl)
theorem dX7_opens_68 : decode cX7_opens 68 = .ok (.aload_n 0, 1) := dk_42 (dk_at dksX7_opens_2 22 rfl rfl)
theorem dX7_opens_69 : decode cX7_opens 69 = .ok (.getfield 32, 3) := dk_180 0 32 (dk_at dksX7_opens_3 0 rfl rfl)
theorem dX7_opens_72 : decode cX7_opens 72 = .ok (.iload 5, 2) := dk_21 5 (dk_at dksX7_opens_3 3 rfl rfl)
theorem dX7_opens_74 : decode cX7_opens 74 = .ok (.iload 7, 2) := dk_21 7 (dk_at dksX7_opens_3 5 rfl rfl)
theorem dX7_opens_76 : decode cX7_opens 76 = .ok (.ifCond .eq 49, 3) := dk_153 0 49 (dk_at dksX7_opens_3 7 rfl rfl)
theorem dX7_opens_79 : decode cX7_opens 79 = .ok (.aload_n 0, 1) := dk_42 (dk_at dksX7_opens_3 10 rfl rfl)
theorem dX7_opens_80 : decode cX7_opens 80 = .ok (.getfield 26, 3) := dk_180 0 26 (dk_at dksX7_opens_3 11 rfl rfl)
theorem dX7_opens_83 : decode cX7_opens 83 = .ok (.iload 5, 2) := dk_21 5 (dk_at dksX7_opens_3 14 rfl rfl)
theorem dX7_opens_85 : decode cX7_opens 85 = .ok (.baload, 1) := dk_51 (dk_at dksX7_opens_3 16 rfl rfl)
theorem dX7_opens_86 : decode cX7_opens 86 = .ok (.ifCond .ne 35, 3) := dk_154 0 35 (dk_at dksX7_opens_3 17 rfl rfl)
theorem dX7_opens_89 : decode cX7_opens 89 = .ok (.aload_n 0, 1) := dk_42 (dk_at dksX7_opens_3 20 rfl rfl)
theorem dX7_opens_90 : decode cX7_opens 90 = .ok (.iload 5, 2) := dk_21 5 (dk_at dksX7_opens_3 21 rfl rfl)
theorem dX7_opens_92 : decode cX7_opens 92 = .ok (.iconst 3, 1) := dk_6 (dk_at dksX7_opens_3 23 rfl rfl)
theorem dX7_opens_93 : decode cX7_opens 93 = .ok (.invokevirtual 218, 3) := dk_182 0 218 (dk_at dksX7_opens_4 0 rfl rfl)
theorem dX7_opens_96 : decode cX7_opens 96 = .ok (.ifCond .lt 14, 3) := dk_155 0 14 (dk_at dksX7_opens_4 3 rfl rfl)
theorem dX7_opens_99 : decode cX7_opens 99 = .ok (.aload_n 0, 1) := dk_42 (dk_at dksX7_opens_4 6 rfl rfl)
theorem dX7_opens_100 : decode cX7_opens 100 = .ok (.iload 5, 2) := dk_21 5 (dk_at dksX7_opens_4 7 rfl rfl)
theorem dX7_opens_102 : decode cX7_opens 102 = .ok (.iconst 3, 1) := dk_6 (dk_at dksX7_opens_4 9 rfl rfl)
theorem dX7_opens_103 : decode cX7_opens 103 = .ok (.invokevirtual 218, 3) := dk_182 0 218 (dk_at dksX7_opens_4 10 rfl rfl)
theorem dX7_opens_106 : decode cX7_opens 106 = .ok (.iload_n 2, 1) := dk_28 (dk_at dksX7_opens_4 13 rfl rfl)
theorem dX7_opens_107 : decode cX7_opens 107 = .ok (.if_icmp .ne 18, 3) := dk_160 0 18 (dk_at dksX7_opens_4 14 rfl rfl)
theorem dX7_opens_110 : decode cX7_opens 110 = .ok (.aload_n 0, 1) := dk_42 (dk_at dksX7_opens_4 17 rfl rfl)
theorem dX7_opens_111 : decode cX7_opens 111 = .ok (.iload 5, 2) := dk_21 5 (dk_at dksX7_opens_4 18 rfl rfl)
theorem dX7_opens_113 : decode cX7_opens 113 = .ok (.iconst 4, 1) := dk_7 (dk_at dksX7_opens_4 20 rfl rfl)
theorem dX7_opens_114 : decode cX7_opens 114 = .ok (.invokevirtual 218, 3) := dk_182 0 218 (dk_at dksX7_opens_4 21 rfl rfl)
theorem dX7_opens_117 : decode cX7_opens 117 = .ok (.iload_n 3, 1) := dk_29 (dk_at dksX7_opens_5 0 rfl rfl)
theorem dX7_opens_118 : decode cX7_opens 118 = .ok (.if_icmp .gt 7, 3) := dk_163 0 7 (dk_at dksX7_opens_5 1 rfl rfl)
theorem dX7_opens_121 : decode cX7_opens 121 = .ok (.iconst 1, 1) := dk_4 (dk_at dksX7_opens_5 4 rfl rfl)
theorem dX7_opens_122 : decode cX7_opens 122 = .ok (.goto 4, 3) := dk_167 0 4 (dk_at dksX7_opens_5 5 rfl rfl)
theorem dX7_opens_125 : decode cX7_opens 125 = .ok (.iconst 0, 1) := dk_3 (dk_at dksX7_opens_5 8 rfl rfl)
theorem dX7_opens_126 : decode cX7_opens 126 = .ok (.bastore, 1) := dk_84 (dk_at dksX7_opens_5 9 rfl rfl)
theorem dX7_opens_127 : decode cX7_opens 127 = .ok (.aload_n 0, 1) := dk_42 (dk_at dksX7_opens_5 10 rfl rfl)
theorem dX7_opens_128 : decode cX7_opens 128 = .ok (.getfield 35, 3) := dk_180 0 35 (dk_at dksX7_opens_5 11 rfl rfl)
theorem dX7_opens_131 : decode cX7_opens 131 = .ok (.iload 5, 2) := dk_21 5 (dk_at dksX7_opens_5 14 rfl rfl)
theorem dX7_opens_133 : decode cX7_opens 133 = .ok (.iload 6, 2) := dk_21 6 (dk_at dksX7_opens_5 16 rfl rfl)
theorem dX7_opens_135 : decode cX7_opens 135 = .ok (.ifCond .ge 7, 3) := dk_156 0 7 (dk_at dksX7_opens_5 18 rfl rfl)
theorem dX7_opens_138 : decode cX7_opens 138 = .ok (.iconst (-1), 1) := dk_2 (dk_at dksX7_opens_5 21 rfl rfl)
theorem dX7_opens_139 : decode cX7_opens 139 = .ok (.goto 25, 3) := dk_167 0 25 (dk_at dksX7_opens_6 0 rfl rfl)
theorem dX7_opens_142 : decode cX7_opens 142 = .ok (.aload_n 0, 1) := dk_42 (dk_at dksX7_opens_6 3 rfl rfl)
theorem dX7_opens_143 : decode cX7_opens 143 = .ok (.getfield 26, 3) := dk_180 0 26 (dk_at dksX7_opens_6 4 rfl rfl)
theorem dX7_opens_146 : decode cX7_opens 146 = .ok (.iload 6, 2) := dk_21 6 (dk_at dksX7_opens_6 7 rfl rfl)
theorem dX7_opens_148 : decode cX7_opens 148 = .ok (.baload, 1) := dk_51 (dk_at dksX7_opens_6 9 rfl rfl)
theorem dX7_opens_149 : decode cX7_opens 149 = .ok (.ifCond .eq 13, 3) := dk_153 0 13 (dk_at dksX7_opens_6 10 rfl rfl)
theorem dX7_opens_152 : decode cX7_opens 152 = .ok (.aload_n 0, 1) := dk_42 (dk_at dksX7_opens_6 13 rfl rfl)
theorem dX7_opens_153 : decode cX7_opens 153 = .ok (.getfield 35, 3) := dk_180 0 35 (dk_at dksX7_opens_6 14 rfl rfl)
theorem dX7_opens_156 : decode cX7_opens 156 = .ok (.iload 6, 2) := dk_21 6 (dk_at dksX7_opens_6 17 rfl rfl)
theorem dX7_opens_158 : decode cX7_opens 158 = .ok (.iaload, 1) := dk_46 (dk_at dksX7_opens_6 19 rfl rfl)
theorem dX7_opens_159 : decode cX7_opens 159 = .ok (.goto 5, 3) := dk_167 0 5 (dk_at dksX7_opens_6 20 rfl rfl)
theorem dX7_opens_162 : decode cX7_opens 162 = .ok (.iload 6, 2) := dk_21 6 (dk_at dksX7_opens_7 0 rfl rfl)
theorem dX7_opens_164 : decode cX7_opens 164 = .ok (.iastore, 1) := dk_79 (dk_at dksX7_opens_7 2 rfl rfl)
theorem dX7_opens_165 : decode cX7_opens 165 = .ok (.aload_n 0, 1) := dk_42 (dk_at dksX7_opens_7 3 rfl rfl)
theorem dX7_opens_166 : decode cX7_opens 166 = .ok (.getfield 32, 3) := dk_180 0 32 (dk_at dksX7_opens_7 4 rfl rfl)
theorem dX7_opens_169 : decode cX7_opens 169 = .ok (.iload 5, 2) := dk_21 5 (dk_at dksX7_opens_7 7 rfl rfl)
theorem dX7_opens_171 : decode cX7_opens 171 = .ok (.baload, 1) := dk_51 (dk_at dksX7_opens_7 9 rfl rfl)
theorem dX7_opens_172 : decode cX7_opens 172 = .ok (.ifCond .eq 117, 3) := dk_153 0 117 (dk_at dksX7_opens_7 10 rfl rfl)
theorem dX7_opens_175 : decode cX7_opens 175 = .ok (.aload_n 0, 1) := dk_42 (dk_at dksX7_opens_7 13 rfl rfl)
theorem dX7_opens_176 : decode cX7_opens 176 = .ok (.getfield 26, 3) := dk_180 0 26 (dk_at dksX7_opens_7 14 rfl rfl)
theorem dX7_opens_179 : decode cX7_opens 179 = .ok (.iload 5, 2) := dk_21 5 (dk_at dksX7_opens_7 17 rfl rfl)
theorem dX7_opens_181 : decode cX7_opens 181 = .ok (.baload, 1) := dk_51 (dk_at dksX7_opens_7 19 rfl rfl)
theorem dX7_opens_182 : decode cX7_opens 182 = .ok (.ifCond .eq 6, 3) := dk_153 0 6 (dk_at dksX7_opens_7 20 rfl rfl)
theorem dX7_opens_185 : decode cX7_opens 185 = .ok (.goto 104, 3) := dk_167 0 104 (dk_at dksX7_opens_8 0 rfl rfl)
theorem dX7_opens_188 : decode cX7_opens 188 = .ok (.iload 4, 2) := dk_21 4 (dk_at dksX7_opens_8 3 rfl rfl)
theorem dX7_opens_190 : decode cX7_opens 190 = .ok (.ifCond .le 40, 3) := dk_158 0 40 (dk_at dksX7_opens_8 5 rfl rfl)
theorem dX7_opens_193 : decode cX7_opens 193 = .ok (.aload_n 0, 1) := dk_42 (dk_at dksX7_opens_8 8 rfl rfl)
theorem dX7_opens_194 : decode cX7_opens 194 = .ok (.getfield 38, 3) := dk_180 0 38 (dk_at dksX7_opens_8 9 rfl rfl)
theorem dX7_opens_197 : decode cX7_opens 197 = .ok (.iload 4, 2) := dk_21 4 (dk_at dksX7_opens_8 12 rfl rfl)
theorem dX7_opens_199 : decode cX7_opens 199 = .ok (.iconst 1, 1) := dk_4 (dk_at dksX7_opens_8 14 rfl rfl)
theorem dX7_opens_200 : decode cX7_opens 200 = .ok (.isub, 1) := dk_100 (dk_at dksX7_opens_8 15 rfl rfl)
theorem dX7_opens_201 : decode cX7_opens 201 = .ok (.iaload, 1) := dk_46 (dk_at dksX7_opens_8 16 rfl rfl)
theorem dX7_opens_202 : decode cX7_opens 202 = .ok (.aload_n 0, 1) := dk_42 (dk_at dksX7_opens_8 17 rfl rfl)
theorem dX7_opens_203 : decode cX7_opens 203 = .ok (.getfield 35, 3) := dk_180 0 35 (dk_at dksX7_opens_8 18 rfl rfl)
theorem dX7_opens_206 : decode cX7_opens 206 = .ok (.iload 5, 2) := dk_21 5 (dk_at dksX7_opens_8 21 rfl rfl)
theorem dX7_opens_208 : decode cX7_opens 208 = .ok (.iaload, 1) := dk_46 (dk_at dksX7_opens_8 23 rfl rfl)
theorem dX7_opens_209 : decode cX7_opens 209 = .ok (.if_icmp .eq 21, 3) := dk_159 0 21 (dk_at dksX7_opens_9 0 rfl rfl)
theorem dX7_opens_212 : decode cX7_opens 212 = .ok (.iinc 4 (-1), 3) := dk_132 4 255 (dk_at dksX7_opens_9 3 rfl rfl)
theorem dX7_opens_215 : decode cX7_opens 215 = .ok (.aload_n 0, 1) := dk_42 (dk_at dksX7_opens_9 6 rfl rfl)
theorem dX7_opens_216 : decode cX7_opens 216 = .ok (.iload_n 1, 1) := dk_27 (dk_at dksX7_opens_9 7 rfl rfl)
theorem dX7_opens_217 : decode cX7_opens 217 = .ok (.aload_n 0, 1) := dk_42 (dk_at dksX7_opens_9 8 rfl rfl)
theorem dX7_opens_218 : decode cX7_opens 218 = .ok (.getfield 38, 3) := dk_180 0 38 (dk_at dksX7_opens_9 9 rfl rfl)
theorem dX7_opens_221 : decode cX7_opens 221 = .ok (.iload 4, 2) := dk_21 4 (dk_at dksX7_opens_9 12 rfl rfl)
theorem dX7_opens_223 : decode cX7_opens 223 = .ok (.iaload, 1) := dk_46 (dk_at dksX7_opens_9 14 rfl rfl)
theorem dX7_opens_224 : decode cX7_opens 224 = .ok (.invokevirtual 227, 3) := dk_182 0 227 (dk_at dksX7_opens_9 15 rfl rfl)
theorem dX7_opens_227 : decode cX7_opens 227 = .ok (.goto (-39), 3) := dk_167 255 217 (dk_at dksX7_opens_9 18 rfl rfl)
theorem dX7_opens_230 : decode cX7_opens 230 = .ok (.aload_n 0, 1) := dk_42 (dk_at dksX7_opens_9 21 rfl rfl)
theorem dX7_opens_231 : decode cX7_opens 231 = .ok (.getfield 41, 3) := dk_180 0 41 (dk_at dksX7_opens_10 0 rfl rfl)
theorem dX7_opens_234 : decode cX7_opens 234 = .ok (.iload 5, 2) := dk_21 5 (dk_at dksX7_opens_10 3 rfl rfl)
theorem dX7_opens_236 : decode cX7_opens 236 = .ok (.aload_n 0, 1) := dk_42 (dk_at dksX7_opens_10 5 rfl rfl)
theorem dX7_opens_237 : decode cX7_opens 237 = .ok (.getfield 44, 3) := dk_180 0 44 (dk_at dksX7_opens_10 6 rfl rfl)
theorem dX7_opens_240 : decode cX7_opens 240 = .ok (.iload_n 1, 1) := dk_27 (dk_at dksX7_opens_10 9 rfl rfl)
theorem dX7_opens_241 : decode cX7_opens 241 = .ok (.iaload, 1) := dk_46 (dk_at dksX7_opens_10 10 rfl rfl)
theorem dX7_opens_242 : decode cX7_opens 242 = .ok (.iastore, 1) := dk_79 (dk_at dksX7_opens_10 11 rfl rfl)
theorem dX7_opens_243 : decode cX7_opens 243 = .ok (.aload_n 0, 1) := dk_42 (dk_at dksX7_opens_10 12 rfl rfl)
theorem dX7_opens_244 : decode cX7_opens 244 = .ok (.getfield 38, 3) := dk_180 0 38 (dk_at dksX7_opens_10 13 rfl rfl)
theorem dX7_opens_247 : decode cX7_opens 247 = .ok (.iload 4, 2) := dk_21 4 (dk_at dksX7_opens_10 16 rfl rfl)
theorem dX7_opens_249 : decode cX7_opens 249 = .ok (.iload 5, 2) := dk_21 5 (dk_at dksX7_opens_10 18 rfl rfl)
theorem dX7_opens_251 : decode cX7_opens 251 = .ok (.iastore, 1) := dk_79 (dk_at dksX7_opens_10 20 rfl rfl)
theorem dX7_opens_252 : decode cX7_opens 252 = .ok (.iinc 4 1, 3) := dk_132 4 1 (dk_at dksX7_opens_10 21 rfl rfl)
theorem dX7_opens_255 : decode cX7_opens 255 = .ok (.aload_n 0, 1) := dk_42 (dk_at dksX7_opens_11 0 rfl rfl)
theorem dX7_opens_256 : decode cX7_opens 256 = .ok (.dup, 1) := dk_89 (dk_at dksX7_opens_11 1 rfl rfl)
theorem dX7_opens_257 : decode cX7_opens 257 = .ok (.getfield 221, 3) := dk_180 0 221 (dk_at dksX7_opens_11 2 rfl rfl)
theorem dX7_opens_260 : decode cX7_opens 260 = .ok (.iconst 1, 1) := dk_4 (dk_at dksX7_opens_11 5 rfl rfl)
theorem dX7_opens_261 : decode cX7_opens 261 = .ok (.iadd, 1) := dk_96 (dk_at dksX7_opens_11 6 rfl rfl)
theorem dX7_opens_262 : decode cX7_opens 262 = .ok (.putfield 221, 3) := dk_181 0 221 (dk_at dksX7_opens_11 7 rfl rfl)
theorem dX7_opens_265 : decode cX7_opens 265 = .ok (.aload_n 0, 1) := dk_42 (dk_at dksX7_opens_11 10 rfl rfl)
theorem dX7_opens_266 : decode cX7_opens 266 = .ok (.dup, 1) := dk_89 (dk_at dksX7_opens_11 11 rfl rfl)
theorem dX7_opens_267 : decode cX7_opens 267 = .ok (.getfield 224, 3) := dk_180 0 224 (dk_at dksX7_opens_11 12 rfl rfl)
theorem dX7_opens_270 : decode cX7_opens 270 = .ok (.aload_n 0, 1) := dk_42 (dk_at dksX7_opens_11 15 rfl rfl)
theorem dX7_opens_271 : decode cX7_opens 271 = .ok (.getfield 7, 3) := dk_180 0 7 (dk_at dksX7_opens_11 16 rfl rfl)
theorem dX7_opens_274 : decode cX7_opens 274 = .ok (.bipush 10, 2) := dk_16 10 (dk_at dksX7_opens_11 19 rfl rfl)
theorem dX7_opens_276 : decode cX7_opens 276 = .ok (.aload_n 0, 1) := dk_42 (dk_at dksX7_opens_11 21 rfl rfl)
theorem dX7_opens_277 : decode cX7_opens 277 = .ok (.iload 5, 2) := dk_21 5 (dk_at dksX7_opens_11 22 rfl rfl)
theorem dX7_opens_279 : decode cX7_opens 279 = .ok (.iconst 0, 1) := dk_3 (dk_at dksX7_opens_12 0 rfl rfl)
theorem dX7_opens_280 : decode cX7_opens 280 = .ok (.invokevirtual 218, 3) := dk_182 0 218 (dk_at dksX7_opens_12 1 rfl rfl)
theorem dX7_opens_283 : decode cX7_opens 283 = .ok (.iadd, 1) := dk_96 (dk_at dksX7_opens_12 4 rfl rfl)
theorem dX7_opens_284 : decode cX7_opens 284 = .ok (.iaload, 1) := dk_46 (dk_at dksX7_opens_12 5 rfl rfl)
theorem dX7_opens_285 : decode cX7_opens 285 = .ok (.iadd, 1) := dk_96 (dk_at dksX7_opens_12 6 rfl rfl)
theorem dX7_opens_286 : decode cX7_opens 286 = .ok (.putfield 224, 3) := dk_181 0 224 (dk_at dksX7_opens_12 7 rfl rfl)
theorem dX7_opens_289 : decode cX7_opens 289 = .ok (.iinc 5 1, 3) := dk_132 5 1 (dk_at dksX7_opens_12 10 rfl rfl)
theorem dX7_opens_292 : decode cX7_opens 292 = .ok (.goto (-269), 3) := dk_167 254 243 (dk_at dksX7_opens_12 13 rfl rfl)
theorem dX7_opens_295 : decode cX7_opens 295 = .ok (.iload 4, 2) := dk_21 4 (dk_at dksX7_opens_12 16 rfl rfl)
theorem dX7_opens_297 : decode cX7_opens 297 = .ok (.ifCond .le 21, 3) := dk_158 0 21 (dk_at dksX7_opens_12 18 rfl rfl)
theorem dX7_opens_300 : decode cX7_opens 300 = .ok (.iinc 4 (-1), 3) := dk_132 4 255 (dk_at dksX7_opens_12 21 rfl rfl)
theorem dX7_opens_303 : decode cX7_opens 303 = .ok (.aload_n 0, 1) := dk_42 (dk_at dksX7_opens_13 0 rfl rfl)
theorem dX7_opens_304 : decode cX7_opens 304 = .ok (.iload_n 1, 1) := dk_27 (dk_at dksX7_opens_13 1 rfl rfl)
theorem dX7_opens_305 : decode cX7_opens 305 = .ok (.aload_n 0, 1) := dk_42 (dk_at dksX7_opens_13 2 rfl rfl)
theorem dX7_opens_306 : decode cX7_opens 306 = .ok (.getfield 38, 3) := dk_180 0 38 (dk_at dksX7_opens_13 3 rfl rfl)
theorem dX7_opens_309 : decode cX7_opens 309 = .ok (.iload 4, 2) := dk_21 4 (dk_at dksX7_opens_13 6 rfl rfl)
theorem dX7_opens_311 : decode cX7_opens 311 = .ok (.iaload, 1) := dk_46 (dk_at dksX7_opens_13 8 rfl rfl)
theorem dX7_opens_312 : decode cX7_opens 312 = .ok (.invokevirtual 227, 3) := dk_182 0 227 (dk_at dksX7_opens_13 9 rfl rfl)
theorem dX7_opens_315 : decode cX7_opens 315 = .ok (.goto (-20), 3) := dk_167 255 236 (dk_at dksX7_opens_13 12 rfl rfl)
theorem dX7_opens_318 : decode cX7_opens 318 = .ok (.aload_n 0, 1) := dk_42 (dk_at dksX7_opens_13 15 rfl rfl)
theorem dX7_opens_319 : decode cX7_opens 319 = .ok (.getfield 47, 3) := dk_180 0 47 (dk_at dksX7_opens_13 16 rfl rfl)
theorem dX7_opens_322 : decode cX7_opens 322 = .ok (.bipush 16, 2) := dk_16 16 (dk_at dksX7_opens_13 19 rfl rfl)
theorem dX7_opens_324 : decode cX7_opens 324 = .ok (.iload_n 1, 1) := dk_27 (dk_at dksX7_opens_13 21 rfl rfl)
theorem dX7_opens_325 : decode cX7_opens 325 = .ok (.imul, 1) := dk_104 (dk_at dksX7_opens_13 22 rfl rfl)
theorem dX7_opens_326 : decode cX7_opens 326 = .ok (.aload_n 0, 1) := dk_42 (dk_at dksX7_opens_13 23 rfl rfl)
theorem dX7_opens_327 : decode cX7_opens 327 = .ok (.getfield 44, 3) := dk_180 0 44 (dk_at dksX7_opens_14 0 rfl rfl)
theorem dX7_opens_330 : decode cX7_opens 330 = .ok (.iload_n 1, 1) := dk_27 (dk_at dksX7_opens_14 3 rfl rfl)
theorem dX7_opens_331 : decode cX7_opens 331 = .ok (.iaload, 1) := dk_46 (dk_at dksX7_opens_14 4 rfl rfl)
theorem dX7_opens_332 : decode cX7_opens 332 = .ok (.iadd, 1) := dk_96 (dk_at dksX7_opens_14 5 rfl rfl)
theorem dX7_opens_333 : decode cX7_opens 333 = .ok (.iconst (-1), 1) := dk_2 (dk_at dksX7_opens_14 6 rfl rfl)
theorem dX7_opens_334 : decode cX7_opens 334 = .ok (.iastore, 1) := dk_79 (dk_at dksX7_opens_14 7 rfl rfl)
theorem dX7_opens_335 : decode cX7_opens 335 = .ok (.aload_n 0, 1) := dk_42 (dk_at dksX7_opens_14 8 rfl rfl)
theorem dX7_opens_336 : decode cX7_opens 336 = .ok (.getfield 50, 3) := dk_180 0 50 (dk_at dksX7_opens_14 9 rfl rfl)
theorem dX7_opens_339 : decode cX7_opens 339 = .ok (.bipush 16, 2) := dk_16 16 (dk_at dksX7_opens_14 12 rfl rfl)
theorem dX7_opens_341 : decode cX7_opens 341 = .ok (.iload_n 1, 1) := dk_27 (dk_at dksX7_opens_14 14 rfl rfl)
theorem dX7_opens_342 : decode cX7_opens 342 = .ok (.imul, 1) := dk_104 (dk_at dksX7_opens_14 15 rfl rfl)
theorem dX7_opens_343 : decode cX7_opens 343 = .ok (.aload_n 0, 1) := dk_42 (dk_at dksX7_opens_14 16 rfl rfl)
theorem dX7_opens_344 : decode cX7_opens 344 = .ok (.getfield 44, 3) := dk_180 0 44 (dk_at dksX7_opens_14 17 rfl rfl)
theorem dX7_opens_347 : decode cX7_opens 347 = .ok (.iload_n 1, 1) := dk_27 (dk_at dksX7_opens_14 20 rfl rfl)
theorem dX7_opens_348 : decode cX7_opens 348 = .ok (.iaload, 1) := dk_46 (dk_at dksX7_opens_14 21 rfl rfl)
theorem dX7_opens_349 : decode cX7_opens 349 = .ok (.iadd, 1) := dk_96 (dk_at dksX7_opens_14 22 rfl rfl)
theorem dX7_opens_350 : decode cX7_opens 350 = .ok (.iconst 0, 1) := dk_3 (dk_at dksX7_opens_14 23 rfl rfl)
theorem dX7_opens_351 : decode cX7_opens 351 = .ok (.iastore, 1) := dk_79 (dk_at dksX7_opens_15 0 rfl rfl)
theorem dX7_opens_352 : decode cX7_opens 352 = .ok (.aload_n 0, 1) := dk_42 (dk_at dksX7_opens_15 1 rfl rfl)
theorem dX7_opens_353 : decode cX7_opens 353 = .ok (.getfield 53, 3) := dk_180 0 53 (dk_at dksX7_opens_15 2 rfl rfl)
theorem dX7_opens_356 : decode cX7_opens 356 = .ok (.bipush 16, 2) := dk_16 16 (dk_at dksX7_opens_15 5 rfl rfl)
theorem dX7_opens_358 : decode cX7_opens 358 = .ok (.iload_n 1, 1) := dk_27 (dk_at dksX7_opens_15 7 rfl rfl)
theorem dX7_opens_359 : decode cX7_opens 359 = .ok (.imul, 1) := dk_104 (dk_at dksX7_opens_15 8 rfl rfl)
theorem dX7_opens_360 : decode cX7_opens 360 = .ok (.aload_n 0, 1) := dk_42 (dk_at dksX7_opens_15 9 rfl rfl)
theorem dX7_opens_361 : decode cX7_opens 361 = .ok (.getfield 44, 3) := dk_180 0 44 (dk_at dksX7_opens_15 10 rfl rfl)
theorem dX7_opens_364 : decode cX7_opens 364 = .ok (.iload_n 1, 1) := dk_27 (dk_at dksX7_opens_15 13 rfl rfl)
theorem dX7_opens_365 : decode cX7_opens 365 = .ok (.iaload, 1) := dk_46 (dk_at dksX7_opens_15 14 rfl rfl)
theorem dX7_opens_366 : decode cX7_opens 366 = .ok (.iadd, 1) := dk_96 (dk_at dksX7_opens_15 15 rfl rfl)
theorem dX7_opens_367 : decode cX7_opens 367 = .ok (.iconst 0, 1) := dk_3 (dk_at dksX7_opens_15 16 rfl rfl)
theorem dX7_opens_368 : decode cX7_opens 368 = .ok (.iastore, 1) := dk_79 (dk_at dksX7_opens_15 17 rfl rfl)
theorem dX7_opens_369 : decode cX7_opens 369 = .ok (.aload_n 0, 1) := dk_42 (dk_at dksX7_opens_15 18 rfl rfl)
theorem dX7_opens_370 : decode cX7_opens 370 = .ok (.getfield 44, 3) := dk_180 0 44 (dk_at dksX7_opens_15 19 rfl rfl)
theorem dX7_opens_373 : decode cX7_opens 373 = .ok (.iload_n 1, 1) := dk_27 (dk_at dksX7_opens_15 22 rfl rfl)
theorem dX7_opens_374 : decode cX7_opens 374 = .ok (.dup2, 1) := dk_92 (dk_at dksX7_opens_15 23 rfl rfl)
theorem dX7_opens_375 : decode cX7_opens 375 = .ok (.iaload, 1) := dk_46 (dk_at dksX7_opens_16 0 rfl rfl)
theorem dX7_opens_376 : decode cX7_opens 376 = .ok (.iconst 1, 1) := dk_4 (dk_at dksX7_opens_16 1 rfl rfl)
theorem dX7_opens_377 : decode cX7_opens 377 = .ok (.iadd, 1) := dk_96 (dk_at dksX7_opens_16 2 rfl rfl)
theorem dX7_opens_378 : decode cX7_opens 378 = .ok (.iastore, 1) := dk_79 (dk_at dksX7_opens_16 3 rfl rfl)
theorem dX7_opens_379 : decode cX7_opens 379 = .ok (.return_, 1) := dk_177 (dk_at dksX7_opens_16 4 rfl rfl)
abbrev cX7_closes : ByteArray := prog_21_method_47_code
def yX7_closes : MethodName := ⟨RX7, "closes", "(II)V"⟩
def dkwX7_closes_2 : List UInt8 := [42, 180, 0, 44, 27, 92, 46, 4, 96, 79, 177]
abbrev dktX7_closes_2 : List UInt8 := dkwX7_closes_2 ++ []
def dkwX7_closes_1 : List UInt8 := [42, 180, 0, 50, 29, 42, 180, 0, 29, 28, 46, 79, 42, 180, 0, 53, 29, 42, 180, 0, 41, 28, 46, 79]
abbrev dktX7_closes_1 : List UInt8 := dkwX7_closes_1 ++ dktX7_closes_2
def dkwX7_closes_0 : List UInt8 := [16, 16, 27, 104, 42, 180, 0, 44, 27, 46, 96, 62, 42, 180, 0, 47, 29, 42, 28, 3, 182, 0, 218, 79]
abbrev dktX7_closes_0 : List UInt8 := dkwX7_closes_0 ++ dktX7_closes_1
theorem dksX7_closes_0 : cX7_closes.data.toList.drop 0 = dktX7_closes_0 := by decide +kernel
theorem dksX7_closes_1 : cX7_closes.data.toList.drop 24 = dktX7_closes_1 := dk_seg dksX7_closes_0 24 rfl rfl
theorem dksX7_closes_2 : cX7_closes.data.toList.drop 48 = dktX7_closes_2 := dk_seg dksX7_closes_1 24 rfl rfl
theorem dX7_closes_0 : decode cX7_closes 0 = .ok (.bipush 16, 2) := dk_16 16 (dk_at dksX7_closes_0 0 rfl rfl)
theorem dX7_closes_2 : decode cX7_closes 2 = .ok (.iload_n 1, 1) := dk_27 (dk_at dksX7_closes_0 2 rfl rfl)
theorem dX7_closes_3 : decode cX7_closes 3 = .ok (.imul, 1) := dk_104 (dk_at dksX7_closes_0 3 rfl rfl)
theorem dX7_closes_4 : decode cX7_closes 4 = .ok (.aload_n 0, 1) := dk_42 (dk_at dksX7_closes_0 4 rfl rfl)
theorem dX7_closes_5 : decode cX7_closes 5 = .ok (.getfield 44, 3) := dk_180 0 44 (dk_at dksX7_closes_0 5 rfl rfl)
theorem dX7_closes_8 : decode cX7_closes 8 = .ok (.iload_n 1, 1) := dk_27 (dk_at dksX7_closes_0 8 rfl rfl)
theorem dX7_closes_9 : decode cX7_closes 9 = .ok (.iaload, 1) := dk_46 (dk_at dksX7_closes_0 9 rfl rfl)
theorem dX7_closes_10 : decode cX7_closes 10 = .ok (.iadd, 1) := dk_96 (dk_at dksX7_closes_0 10 rfl rfl)
theorem dX7_closes_11 : decode cX7_closes 11 = .ok (.istore_n 3, 1) := dk_62 (dk_at dksX7_closes_0 11 rfl rfl)
theorem dX7_closes_12 : decode cX7_closes 12 = .ok (.aload_n 0, 1) := dk_42 (dk_at dksX7_closes_0 12 rfl rfl)
theorem dX7_closes_13 : decode cX7_closes 13 = .ok (.getfield 47, 3) := dk_180 0 47 (dk_at dksX7_closes_0 13 rfl rfl)
theorem dX7_closes_16 : decode cX7_closes 16 = .ok (.iload_n 3, 1) := dk_29 (dk_at dksX7_closes_0 16 rfl rfl)
theorem dX7_closes_17 : decode cX7_closes 17 = .ok (.aload_n 0, 1) := dk_42 (dk_at dksX7_closes_0 17 rfl rfl)
theorem dX7_closes_18 : decode cX7_closes 18 = .ok (.iload_n 2, 1) := dk_28 (dk_at dksX7_closes_0 18 rfl rfl)
theorem dX7_closes_19 : decode cX7_closes 19 = .ok (.iconst 0, 1) := dk_3 (dk_at dksX7_closes_0 19 rfl rfl)
theorem dX7_closes_20 : decode cX7_closes 20 = .ok (.invokevirtual 218, 3) := dk_182 0 218 (dk_at dksX7_closes_0 20 rfl rfl)
theorem dX7_closes_23 : decode cX7_closes 23 = .ok (.iastore, 1) := dk_79 (dk_at dksX7_closes_0 23 rfl rfl)
theorem dX7_closes_24 : decode cX7_closes 24 = .ok (.aload_n 0, 1) := dk_42 (dk_at dksX7_closes_1 0 rfl rfl)
theorem dX7_closes_25 : decode cX7_closes 25 = .ok (.getfield 50, 3) := dk_180 0 50 (dk_at dksX7_closes_1 1 rfl rfl)
theorem dX7_closes_28 : decode cX7_closes 28 = .ok (.iload_n 3, 1) := dk_29 (dk_at dksX7_closes_1 4 rfl rfl)
theorem dX7_closes_29 : decode cX7_closes 29 = .ok (.aload_n 0, 1) := dk_42 (dk_at dksX7_closes_1 5 rfl rfl)
theorem dX7_closes_30 : decode cX7_closes 30 = .ok (.getfield 29, 3) := dk_180 0 29 (dk_at dksX7_closes_1 6 rfl rfl)
theorem dX7_closes_33 : decode cX7_closes 33 = .ok (.iload_n 2, 1) := dk_28 (dk_at dksX7_closes_1 9 rfl rfl)
theorem dX7_closes_34 : decode cX7_closes 34 = .ok (.iaload, 1) := dk_46 (dk_at dksX7_closes_1 10 rfl rfl)
theorem dX7_closes_35 : decode cX7_closes 35 = .ok (.iastore, 1) := dk_79 (dk_at dksX7_closes_1 11 rfl rfl)
theorem dX7_closes_36 : decode cX7_closes 36 = .ok (.aload_n 0, 1) := dk_42 (dk_at dksX7_closes_1 12 rfl rfl)
theorem dX7_closes_37 : decode cX7_closes 37 = .ok (.getfield 53, 3) := dk_180 0 53 (dk_at dksX7_closes_1 13 rfl rfl)
theorem dX7_closes_40 : decode cX7_closes 40 = .ok (.iload_n 3, 1) := dk_29 (dk_at dksX7_closes_1 16 rfl rfl)
theorem dX7_closes_41 : decode cX7_closes 41 = .ok (.aload_n 0, 1) := dk_42 (dk_at dksX7_closes_1 17 rfl rfl)
theorem dX7_closes_42 : decode cX7_closes 42 = .ok (.getfield 41, 3) := dk_180 0 41 (dk_at dksX7_closes_1 18 rfl rfl)
theorem dX7_closes_45 : decode cX7_closes 45 = .ok (.iload_n 2, 1) := dk_28 (dk_at dksX7_closes_1 21 rfl rfl)
theorem dX7_closes_46 : decode cX7_closes 46 = .ok (.iaload, 1) := dk_46 (dk_at dksX7_closes_1 22 rfl rfl)
theorem dX7_closes_47 : decode cX7_closes 47 = .ok (.iastore, 1) := dk_79 (dk_at dksX7_closes_1 23 rfl rfl)
theorem dX7_closes_48 : decode cX7_closes 48 = .ok (.aload_n 0, 1) := dk_42 (dk_at dksX7_closes_2 0 rfl rfl)
theorem dX7_closes_49 : decode cX7_closes 49 = .ok (.getfield 44, 3) := dk_180 0 44 (dk_at dksX7_closes_2 1 rfl rfl)
theorem dX7_closes_52 : decode cX7_closes 52 = .ok (.iload_n 1, 1) := dk_27 (dk_at dksX7_closes_2 4 rfl rfl)
theorem dX7_closes_53 : decode cX7_closes 53 = .ok (.dup2, 1) := dk_92 (dk_at dksX7_closes_2 5 rfl rfl)
theorem dX7_closes_54 : decode cX7_closes 54 = .ok (.iaload, 1) := dk_46 (dk_at dksX7_closes_2 6 rfl rfl)
theorem dX7_closes_55 : decode cX7_closes 55 = .ok (.iconst 1, 1) := dk_4 (dk_at dksX7_closes_2 7 rfl rfl)
theorem dX7_closes_56 : decode cX7_closes 56 = .ok (.iadd, 1) := dk_96 (dk_at dksX7_closes_2 8 rfl rfl)
theorem dX7_closes_57 : decode cX7_closes 57 = .ok (.iastore, 1) := dk_79 (dk_at dksX7_closes_2 9 rfl rfl)
theorem dX7_closes_58 : decode cX7_closes 58 = .ok (.return_, 1) := dk_177 (dk_at dksX7_closes_2 10 rfl rfl)
abbrev cX7_box : ByteArray := prog_21_method_56_code
def yX7_box : MethodName := ⟨RX7, "box", "(III)I"⟩
def dkwX7_box_2 : List UInt8 := [104, 96, 29, 96, 46, 167, 0, 5, 16, 254, 172]
abbrev dktX7_box_2 : List UInt8 := dkwX7_box_2 ++ []
def dkwX7_box_1 : List UInt8 := [153, 0, 32, 29, 3, 7, 184, 0, 89, 153, 0, 23, 42, 180, 0, 7, 27, 184, 1, 1, 4, 96, 8, 28]
abbrev dktX7_box_1 : List UInt8 := dkwX7_box_1 ++ dktX7_box_2
def dkwX7_box_0 : List UInt8 := [42, 27, 182, 0, 202, 153, 0, 51, 28, 3, 42, 180, 0, 7, 27, 184, 1, 1, 46, 4, 100, 184, 0, 89]
abbrev dktX7_box_0 : List UInt8 := dkwX7_box_0 ++ dktX7_box_1
theorem dksX7_box_0 : cX7_box.data.toList.drop 0 = dktX7_box_0 := by decide +kernel
theorem dksX7_box_1 : cX7_box.data.toList.drop 24 = dktX7_box_1 := dk_seg dksX7_box_0 24 rfl rfl
theorem dksX7_box_2 : cX7_box.data.toList.drop 48 = dktX7_box_2 := dk_seg dksX7_box_1 24 rfl rfl
theorem dX7_box_0 : decode cX7_box 0 = .ok (.aload_n 0, 1) := dk_42 (dk_at dksX7_box_0 0 rfl rfl)
theorem dX7_box_1 : decode cX7_box 1 = .ok (.iload_n 1, 1) := dk_27 (dk_at dksX7_box_0 1 rfl rfl)
theorem dX7_box_2 : decode cX7_box 2 = .ok (.invokevirtual 202, 3) := dk_182 0 202 (dk_at dksX7_box_0 2 rfl rfl)
theorem dX7_box_5 : decode cX7_box 5 = .ok (.ifCond .eq 51, 3) := dk_153 0 51 (dk_at dksX7_box_0 5 rfl rfl)
theorem dX7_box_8 : decode cX7_box 8 = .ok (.iload_n 2, 1) := dk_28 (dk_at dksX7_box_0 8 rfl rfl)
theorem dX7_box_9 : decode cX7_box 9 = .ok (.iconst 0, 1) := dk_3 (dk_at dksX7_box_0 9 rfl rfl)
theorem dX7_box_10 : decode cX7_box 10 = .ok (.aload_n 0, 1) := dk_42 (dk_at dksX7_box_0 10 rfl rfl)
theorem dX7_box_11 : decode cX7_box 11 = .ok (.getfield 7, 3) := dk_180 0 7 (dk_at dksX7_box_0 11 rfl rfl)
theorem dX7_box_14 : decode cX7_box 14 = .ok (.iload_n 1, 1) := dk_27 (dk_at dksX7_box_0 14 rfl rfl)
theorem dX7_box_15 : decode cX7_box 15 = .ok (.invokestatic 257, 3) := dk_184 1 1 (dk_at dksX7_box_0 15 rfl rfl)
theorem dX7_box_18 : decode cX7_box 18 = .ok (.iaload, 1) := dk_46 (dk_at dksX7_box_0 18 rfl rfl)
theorem dX7_box_19 : decode cX7_box 19 = .ok (.iconst 1, 1) := dk_4 (dk_at dksX7_box_0 19 rfl rfl)
theorem dX7_box_20 : decode cX7_box 20 = .ok (.isub, 1) := dk_100 (dk_at dksX7_box_0 20 rfl rfl)
theorem dX7_box_21 : decode cX7_box 21 = .ok (.invokestatic 89, 3) := dk_184 0 89 (dk_at dksX7_box_0 21 rfl rfl)
theorem dX7_box_24 : decode cX7_box 24 = .ok (.ifCond .eq 32, 3) := dk_153 0 32 (dk_at dksX7_box_1 0 rfl rfl)
theorem dX7_box_27 : decode cX7_box 27 = .ok (.iload_n 3, 1) := dk_29 (dk_at dksX7_box_1 3 rfl rfl)
theorem dX7_box_28 : decode cX7_box 28 = .ok (.iconst 0, 1) := dk_3 (dk_at dksX7_box_1 4 rfl rfl)
theorem dX7_box_29 : decode cX7_box 29 = .ok (.iconst 4, 1) := dk_7 (dk_at dksX7_box_1 5 rfl rfl)
theorem dX7_box_30 : decode cX7_box 30 = .ok (.invokestatic 89, 3) := dk_184 0 89 (dk_at dksX7_box_1 6 rfl rfl)
theorem dX7_box_33 : decode cX7_box 33 = .ok (.ifCond .eq 23, 3) := dk_153 0 23 (dk_at dksX7_box_1 9 rfl rfl)
theorem dX7_box_36 : decode cX7_box 36 = .ok (.aload_n 0, 1) := dk_42 (dk_at dksX7_box_1 12 rfl rfl)
theorem dX7_box_37 : decode cX7_box 37 = .ok (.getfield 7, 3) := dk_180 0 7 (dk_at dksX7_box_1 13 rfl rfl)
theorem dX7_box_40 : decode cX7_box 40 = .ok (.iload_n 1, 1) := dk_27 (dk_at dksX7_box_1 16 rfl rfl)
theorem dX7_box_41 : decode cX7_box 41 = .ok (.invokestatic 257, 3) := dk_184 1 1 (dk_at dksX7_box_1 17 rfl rfl)
theorem dX7_box_44 : decode cX7_box 44 = .ok (.iconst 1, 1) := dk_4 (dk_at dksX7_box_1 20 rfl rfl)
theorem dX7_box_45 : decode cX7_box 45 = .ok (.iadd, 1) := dk_96 (dk_at dksX7_box_1 21 rfl rfl)
theorem dX7_box_46 : decode cX7_box 46 = .ok (.iconst 5, 1) := dk_8 (dk_at dksX7_box_1 22 rfl rfl)
theorem dX7_box_47 : decode cX7_box 47 = .ok (.iload_n 2, 1) := dk_28 (dk_at dksX7_box_1 23 rfl rfl)
theorem dX7_box_48 : decode cX7_box 48 = .ok (.imul, 1) := dk_104 (dk_at dksX7_box_2 0 rfl rfl)
theorem dX7_box_49 : decode cX7_box 49 = .ok (.iadd, 1) := dk_96 (dk_at dksX7_box_2 1 rfl rfl)
theorem dX7_box_50 : decode cX7_box 50 = .ok (.iload_n 3, 1) := dk_29 (dk_at dksX7_box_2 2 rfl rfl)
theorem dX7_box_51 : decode cX7_box 51 = .ok (.iadd, 1) := dk_96 (dk_at dksX7_box_2 3 rfl rfl)
theorem dX7_box_52 : decode cX7_box 52 = .ok (.iaload, 1) := dk_46 (dk_at dksX7_box_2 4 rfl rfl)
theorem dX7_box_53 : decode cX7_box 53 = .ok (.goto 5, 3) := dk_167 0 5 (dk_at dksX7_box_2 5 rfl rfl)
theorem dX7_box_56 : decode cX7_box 56 = .ok (.bipush (-2), 2) := dk_16 254 (dk_at dksX7_box_2 8 rfl rfl)
theorem dX7_box_58 : decode cX7_box 58 = .ok (.ireturn, 1) := dk_172 (dk_at dksX7_box_2 10 rfl rfl)
abbrev cX7_far : ByteArray := prog_21_method_57_code
def yX7_far : MethodName := ⟨RX7, "far", "(IIII)I"⟩
def dkwX7_far_2 : List UInt8 := [2, 172]
abbrev dktX7_far_2 : List UInt8 := dkwX7_far_2 ++ []
def dkwX7_far_1 : List UInt8 := [153, 0, 24, 42, 27, 184, 1, 1, 29, 21, 4, 28, 184, 1, 1, 29, 21, 4, 182, 1, 4, 167, 0, 4]
abbrev dktX7_far_1 : List UInt8 := dkwX7_far_1 ++ dktX7_far_2
def dkwX7_far_0 : List UInt8 := [42, 27, 182, 0, 202, 153, 0, 41, 42, 28, 182, 0, 202, 153, 0, 33, 29, 21, 4, 184, 0, 254]
abbrev dktX7_far_0 : List UInt8 := dkwX7_far_0 ++ dktX7_far_1
theorem dksX7_far_0 : cX7_far.data.toList.drop 0 = dktX7_far_0 := by decide +kernel
theorem dksX7_far_1 : cX7_far.data.toList.drop 22 = dktX7_far_1 := dk_seg dksX7_far_0 22 rfl rfl
theorem dksX7_far_2 : cX7_far.data.toList.drop 46 = dktX7_far_2 := dk_seg dksX7_far_1 24 rfl rfl
theorem dX7_far_0 : decode cX7_far 0 = .ok (.aload_n 0, 1) := dk_42 (dk_at dksX7_far_0 0 rfl rfl)
theorem dX7_far_1 : decode cX7_far 1 = .ok (.iload_n 1, 1) := dk_27 (dk_at dksX7_far_0 1 rfl rfl)
theorem dX7_far_2 : decode cX7_far 2 = .ok (.invokevirtual 202, 3) := dk_182 0 202 (dk_at dksX7_far_0 2 rfl rfl)
theorem dX7_far_5 : decode cX7_far 5 = .ok (.ifCond .eq 41, 3) := dk_153 0 41 (dk_at dksX7_far_0 5 rfl rfl)
theorem dX7_far_8 : decode cX7_far 8 = .ok (.aload_n 0, 1) := dk_42 (dk_at dksX7_far_0 8 rfl rfl)
theorem dX7_far_9 : decode cX7_far 9 = .ok (.iload_n 2, 1) := dk_28 (dk_at dksX7_far_0 9 rfl rfl)
theorem dX7_far_10 : decode cX7_far 10 = .ok (.invokevirtual 202, 3) := dk_182 0 202 (dk_at dksX7_far_0 10 rfl rfl)
theorem dX7_far_13 : decode cX7_far 13 = .ok (.ifCond .eq 33, 3) := dk_153 0 33 (dk_at dksX7_far_0 13 rfl rfl)
theorem dX7_far_16 : decode cX7_far 16 = .ok (.iload_n 3, 1) := dk_29 (dk_at dksX7_far_0 16 rfl rfl)
theorem dX7_far_17 : decode cX7_far 17 = .ok (.iload 4, 2) := dk_21 4 (dk_at dksX7_far_0 17 rfl rfl)
theorem dX7_far_19 : decode cX7_far 19 = .ok (.invokestatic 254, 3) := dk_184 0 254 (dk_at dksX7_far_0 19 rfl rfl)
theorem dX7_far_22 : decode cX7_far 22 = .ok (.ifCond .eq 24, 3) := dk_153 0 24 (dk_at dksX7_far_1 0 rfl rfl)
theorem dX7_far_25 : decode cX7_far 25 = .ok (.aload_n 0, 1) := dk_42 (dk_at dksX7_far_1 3 rfl rfl)
theorem dX7_far_26 : decode cX7_far 26 = .ok (.iload_n 1, 1) := dk_27 (dk_at dksX7_far_1 4 rfl rfl)
theorem dX7_far_27 : decode cX7_far 27 = .ok (.invokestatic 257, 3) := dk_184 1 1 (dk_at dksX7_far_1 5 rfl rfl)
theorem dX7_far_30 : decode cX7_far 30 = .ok (.iload_n 3, 1) := dk_29 (dk_at dksX7_far_1 8 rfl rfl)
theorem dX7_far_31 : decode cX7_far 31 = .ok (.iload 4, 2) := dk_21 4 (dk_at dksX7_far_1 9 rfl rfl)
theorem dX7_far_33 : decode cX7_far 33 = .ok (.iload_n 2, 1) := dk_28 (dk_at dksX7_far_1 11 rfl rfl)
theorem dX7_far_34 : decode cX7_far 34 = .ok (.invokestatic 257, 3) := dk_184 1 1 (dk_at dksX7_far_1 12 rfl rfl)
theorem dX7_far_37 : decode cX7_far 37 = .ok (.iload_n 3, 1) := dk_29 (dk_at dksX7_far_1 15 rfl rfl)
theorem dX7_far_38 : decode cX7_far 38 = .ok (.iload 4, 2) := dk_21 4 (dk_at dksX7_far_1 16 rfl rfl)
theorem dX7_far_40 : decode cX7_far 40 = .ok (.invokevirtual 260, 3) := dk_182 1 4 (dk_at dksX7_far_1 18 rfl rfl)
theorem dX7_far_43 : decode cX7_far 43 = .ok (.goto 4, 3) := dk_167 0 4 (dk_at dksX7_far_1 21 rfl rfl)
theorem dX7_far_46 : decode cX7_far 46 = .ok (.iconst (-1), 1) := dk_2 (dk_at dksX7_far_2 0 rfl rfl)
theorem dX7_far_47 : decode cX7_far 47 = .ok (.ireturn, 1) := dk_172 (dk_at dksX7_far_2 1 rfl rfl)
abbrev cX7_farOf : ByteArray := prog_21_method_54_code
def yX7_farOf : MethodName := ⟨RX7, "farOf", "(IIIIII)I"⟩
def dkwX7_farOf_1 : List UInt8 := [182, 0, 246, 42, 182, 0, 250, 172]
abbrev dktX7_farOf_1 : List UInt8 := dkwX7_farOf_1 ++ []
def dkwX7_farOf_0 : List UInt8 := [42, 27, 182, 0, 243, 42, 3, 28, 29, 182, 0, 246, 42, 21, 4, 182, 0, 243, 42, 4, 21, 5, 21, 6]
abbrev dktX7_farOf_0 : List UInt8 := dkwX7_farOf_0 ++ dktX7_farOf_1
theorem dksX7_farOf_0 : cX7_farOf.data.toList.drop 0 = dktX7_farOf_0 := by decide +kernel
theorem dksX7_farOf_1 : cX7_farOf.data.toList.drop 24 = dktX7_farOf_1 := dk_seg dksX7_farOf_0 24 rfl rfl
theorem dX7_farOf_0 : decode cX7_farOf 0 = .ok (.aload_n 0, 1) := dk_42 (dk_at dksX7_farOf_0 0 rfl rfl)
theorem dX7_farOf_1 : decode cX7_farOf 1 = .ok (.iload_n 1, 1) := dk_27 (dk_at dksX7_farOf_0 1 rfl rfl)
theorem dX7_farOf_2 : decode cX7_farOf 2 = .ok (.invokevirtual 243, 3) := dk_182 0 243 (dk_at dksX7_farOf_0 2 rfl rfl)
theorem dX7_farOf_5 : decode cX7_farOf 5 = .ok (.aload_n 0, 1) := dk_42 (dk_at dksX7_farOf_0 5 rfl rfl)
theorem dX7_farOf_6 : decode cX7_farOf 6 = .ok (.iconst 0, 1) := dk_3 (dk_at dksX7_farOf_0 6 rfl rfl)
theorem dX7_farOf_7 : decode cX7_farOf 7 = .ok (.iload_n 2, 1) := dk_28 (dk_at dksX7_farOf_0 7 rfl rfl)
theorem dX7_farOf_8 : decode cX7_farOf 8 = .ok (.iload_n 3, 1) := dk_29 (dk_at dksX7_farOf_0 8 rfl rfl)
theorem dX7_farOf_9 : decode cX7_farOf 9 = .ok (.invokevirtual 246, 3) := dk_182 0 246 (dk_at dksX7_farOf_0 9 rfl rfl)
theorem dX7_farOf_12 : decode cX7_farOf 12 = .ok (.aload_n 0, 1) := dk_42 (dk_at dksX7_farOf_0 12 rfl rfl)
theorem dX7_farOf_13 : decode cX7_farOf 13 = .ok (.iload 4, 2) := dk_21 4 (dk_at dksX7_farOf_0 13 rfl rfl)
theorem dX7_farOf_15 : decode cX7_farOf 15 = .ok (.invokevirtual 243, 3) := dk_182 0 243 (dk_at dksX7_farOf_0 15 rfl rfl)
theorem dX7_farOf_18 : decode cX7_farOf 18 = .ok (.aload_n 0, 1) := dk_42 (dk_at dksX7_farOf_0 18 rfl rfl)
theorem dX7_farOf_19 : decode cX7_farOf 19 = .ok (.iconst 1, 1) := dk_4 (dk_at dksX7_farOf_0 19 rfl rfl)
theorem dX7_farOf_20 : decode cX7_farOf 20 = .ok (.iload 5, 2) := dk_21 5 (dk_at dksX7_farOf_0 20 rfl rfl)
theorem dX7_farOf_22 : decode cX7_farOf 22 = .ok (.iload 6, 2) := dk_21 6 (dk_at dksX7_farOf_0 22 rfl rfl)
theorem dX7_farOf_24 : decode cX7_farOf 24 = .ok (.invokevirtual 246, 3) := dk_182 0 246 (dk_at dksX7_farOf_1 0 rfl rfl)
theorem dX7_farOf_27 : decode cX7_farOf 27 = .ok (.aload_n 0, 1) := dk_42 (dk_at dksX7_farOf_1 3 rfl rfl)
theorem dX7_farOf_28 : decode cX7_farOf 28 = .ok (.invokevirtual 250, 3) := dk_182 0 250 (dk_at dksX7_farOf_1 4 rfl rfl)
theorem dX7_farOf_31 : decode cX7_farOf 31 = .ok (.ireturn, 1) := dk_172 (dk_at dksX7_farOf_1 7 rfl rfl)
abbrev cX7_farNow : ByteArray := prog_21_method_52_code
def yX7_farNow : MethodName := ⟨RX7, "farNow", "()I"⟩
def dkwX7_farNow_3 : List UInt8 := [180, 0, 44, 3, 46, 4, 100, 104, 42, 180, 0, 44, 4, 46, 96, 4, 100, 46, 172]
abbrev dktX7_farNow_3 : List UInt8 := dkwX7_farNow_3 ++ []
def dkwX7_farNow_2 : List UInt8 := [182, 0, 240, 132, 2, 1, 167, 255, 218, 132, 1, 1, 167, 255, 200, 42, 180, 0, 56, 16, 16, 42]
abbrev dktX7_farNow_2 : List UInt8 := dkwX7_farNow_2 ++ dktX7_farNow_3
def dkwX7_farNow_1 : List UInt8 := [42, 3, 27, 182, 0, 236, 153, 0, 19, 42, 16, 16, 28, 182, 0, 236, 153, 0, 9, 42, 27, 28]
abbrev dktX7_farNow_1 : List UInt8 := dkwX7_farNow_1 ++ dktX7_farNow_2
def dkwX7_farNow_0 : List UInt8 := [3, 60, 27, 42, 180, 0, 44, 3, 46, 162, 0, 52, 3, 61, 28, 42, 180, 0, 44, 4, 46, 162, 0, 34]
abbrev dktX7_farNow_0 : List UInt8 := dkwX7_farNow_0 ++ dktX7_farNow_1
theorem dksX7_farNow_0 : cX7_farNow.data.toList.drop 0 = dktX7_farNow_0 := by decide +kernel
theorem dksX7_farNow_1 : cX7_farNow.data.toList.drop 24 = dktX7_farNow_1 := dk_seg dksX7_farNow_0 24 rfl rfl
theorem dksX7_farNow_2 : cX7_farNow.data.toList.drop 46 = dktX7_farNow_2 := dk_seg dksX7_farNow_1 22 rfl rfl
theorem dksX7_farNow_3 : cX7_farNow.data.toList.drop 68 = dktX7_farNow_3 := dk_seg dksX7_farNow_2 22 rfl rfl
theorem dX7_farNow_0 : decode cX7_farNow 0 = .ok (.iconst 0, 1) := dk_3 (dk_at dksX7_farNow_0 0 rfl rfl)
theorem dX7_farNow_1 : decode cX7_farNow 1 = .ok (.istore_n 1, 1) := dk_60 (dk_at dksX7_farNow_0 1 rfl rfl)
theorem dX7_farNow_2 : decode cX7_farNow 2 = .ok (.iload_n 1, 1) := dk_27 (dk_at dksX7_farNow_0 2 rfl rfl)
theorem dX7_farNow_3 : decode cX7_farNow 3 = .ok (.aload_n 0, 1) := dk_42 (dk_at dksX7_farNow_0 3 rfl rfl)
theorem dX7_farNow_4 : decode cX7_farNow 4 = .ok (.getfield 44, 3) := dk_180 0 44 (dk_at dksX7_farNow_0 4 rfl rfl)
theorem dX7_farNow_7 : decode cX7_farNow 7 = .ok (.iconst 0, 1) := dk_3 (dk_at dksX7_farNow_0 7 rfl rfl)
theorem dX7_farNow_8 : decode cX7_farNow 8 = .ok (.iaload, 1) := dk_46 (dk_at dksX7_farNow_0 8 rfl rfl)
theorem dX7_farNow_9 : decode cX7_farNow 9 = .ok (.if_icmp .ge 52, 3) := dk_162 0 52 (dk_at dksX7_farNow_0 9 rfl rfl)
theorem dX7_farNow_12 : decode cX7_farNow 12 = .ok (.iconst 0, 1) := dk_3 (dk_at dksX7_farNow_0 12 rfl rfl)
theorem dX7_farNow_13 : decode cX7_farNow 13 = .ok (.istore_n 2, 1) := dk_61 (dk_at dksX7_farNow_0 13 rfl rfl)
theorem dX7_farNow_14 : decode cX7_farNow 14 = .ok (.iload_n 2, 1) := dk_28 (dk_at dksX7_farNow_0 14 rfl rfl)
theorem dX7_farNow_15 : decode cX7_farNow 15 = .ok (.aload_n 0, 1) := dk_42 (dk_at dksX7_farNow_0 15 rfl rfl)
theorem dX7_farNow_16 : decode cX7_farNow 16 = .ok (.getfield 44, 3) := dk_180 0 44 (dk_at dksX7_farNow_0 16 rfl rfl)
theorem dX7_farNow_19 : decode cX7_farNow 19 = .ok (.iconst 1, 1) := dk_4 (dk_at dksX7_farNow_0 19 rfl rfl)
theorem dX7_farNow_20 : decode cX7_farNow 20 = .ok (.iaload, 1) := dk_46 (dk_at dksX7_farNow_0 20 rfl rfl)
theorem dX7_farNow_21 : decode cX7_farNow 21 = .ok (.if_icmp .ge 34, 3) := dk_162 0 34 (dk_at dksX7_farNow_0 21 rfl rfl)
theorem dX7_farNow_24 : decode cX7_farNow 24 = .ok (.aload_n 0, 1) := dk_42 (dk_at dksX7_farNow_1 0 rfl rfl)
theorem dX7_farNow_25 : decode cX7_farNow 25 = .ok (.iconst 0, 1) := dk_3 (dk_at dksX7_farNow_1 1 rfl rfl)
theorem dX7_farNow_26 : decode cX7_farNow 26 = .ok (.iload_n 1, 1) := dk_27 (dk_at dksX7_farNow_1 2 rfl rfl)
theorem dX7_farNow_27 : decode cX7_farNow 27 = .ok (.invokevirtual 236, 3) := dk_182 0 236 (dk_at dksX7_farNow_1 3 rfl rfl)
theorem dX7_farNow_30 : decode cX7_farNow 30 = .ok (.ifCond .eq 19, 3) := dk_153 0 19 (dk_at dksX7_farNow_1 6 rfl rfl)
theorem dX7_farNow_33 : decode cX7_farNow 33 = .ok (.aload_n 0, 1) := dk_42 (dk_at dksX7_farNow_1 9 rfl rfl)
theorem dX7_farNow_34 : decode cX7_farNow 34 = .ok (.bipush 16, 2) := dk_16 16 (dk_at dksX7_farNow_1 10 rfl rfl)
theorem dX7_farNow_36 : decode cX7_farNow 36 = .ok (.iload_n 2, 1) := dk_28 (dk_at dksX7_farNow_1 12 rfl rfl)
theorem dX7_farNow_37 : decode cX7_farNow 37 = .ok (.invokevirtual 236, 3) := dk_182 0 236 (dk_at dksX7_farNow_1 13 rfl rfl)
theorem dX7_farNow_40 : decode cX7_farNow 40 = .ok (.ifCond .eq 9, 3) := dk_153 0 9 (dk_at dksX7_farNow_1 16 rfl rfl)
theorem dX7_farNow_43 : decode cX7_farNow 43 = .ok (.aload_n 0, 1) := dk_42 (dk_at dksX7_farNow_1 19 rfl rfl)
theorem dX7_farNow_44 : decode cX7_farNow 44 = .ok (.iload_n 1, 1) := dk_27 (dk_at dksX7_farNow_1 20 rfl rfl)
theorem dX7_farNow_45 : decode cX7_farNow 45 = .ok (.iload_n 2, 1) := dk_28 (dk_at dksX7_farNow_1 21 rfl rfl)
theorem dX7_farNow_46 : decode cX7_farNow 46 = .ok (.invokevirtual 240, 3) := dk_182 0 240 (dk_at dksX7_farNow_2 0 rfl rfl)
theorem dX7_farNow_49 : decode cX7_farNow 49 = .ok (.iinc 2 1, 3) := dk_132 2 1 (dk_at dksX7_farNow_2 3 rfl rfl)
theorem dX7_farNow_52 : decode cX7_farNow 52 = .ok (.goto (-38), 3) := dk_167 255 218 (dk_at dksX7_farNow_2 6 rfl rfl)
theorem dX7_farNow_55 : decode cX7_farNow 55 = .ok (.iinc 1 1, 3) := dk_132 1 1 (dk_at dksX7_farNow_2 9 rfl rfl)
theorem dX7_farNow_58 : decode cX7_farNow 58 = .ok (.goto (-56), 3) := dk_167 255 200 (dk_at dksX7_farNow_2 12 rfl rfl)
theorem dX7_farNow_61 : decode cX7_farNow 61 = .ok (.aload_n 0, 1) := dk_42 (dk_at dksX7_farNow_2 15 rfl rfl)
theorem dX7_farNow_62 : decode cX7_farNow 62 = .ok (.getfield 56, 3) := dk_180 0 56 (dk_at dksX7_farNow_2 16 rfl rfl)
theorem dX7_farNow_65 : decode cX7_farNow 65 = .ok (.bipush 16, 2) := dk_16 16 (dk_at dksX7_farNow_2 19 rfl rfl)
theorem dX7_farNow_67 : decode cX7_farNow 67 = .ok (.aload_n 0, 1) := dk_42 (dk_at dksX7_farNow_2 21 rfl rfl)
theorem dX7_farNow_68 : decode cX7_farNow 68 = .ok (.getfield 44, 3) := dk_180 0 44 (dk_at dksX7_farNow_3 0 rfl rfl)
theorem dX7_farNow_71 : decode cX7_farNow 71 = .ok (.iconst 0, 1) := dk_3 (dk_at dksX7_farNow_3 3 rfl rfl)
theorem dX7_farNow_72 : decode cX7_farNow 72 = .ok (.iaload, 1) := dk_46 (dk_at dksX7_farNow_3 4 rfl rfl)
theorem dX7_farNow_73 : decode cX7_farNow 73 = .ok (.iconst 1, 1) := dk_4 (dk_at dksX7_farNow_3 5 rfl rfl)
theorem dX7_farNow_74 : decode cX7_farNow 74 = .ok (.isub, 1) := dk_100 (dk_at dksX7_farNow_3 6 rfl rfl)
theorem dX7_farNow_75 : decode cX7_farNow 75 = .ok (.imul, 1) := dk_104 (dk_at dksX7_farNow_3 7 rfl rfl)
theorem dX7_farNow_76 : decode cX7_farNow 76 = .ok (.aload_n 0, 1) := dk_42 (dk_at dksX7_farNow_3 8 rfl rfl)
theorem dX7_farNow_77 : decode cX7_farNow 77 = .ok (.getfield 44, 3) := dk_180 0 44 (dk_at dksX7_farNow_3 9 rfl rfl)
theorem dX7_farNow_80 : decode cX7_farNow 80 = .ok (.iconst 1, 1) := dk_4 (dk_at dksX7_farNow_3 12 rfl rfl)
theorem dX7_farNow_81 : decode cX7_farNow 81 = .ok (.iaload, 1) := dk_46 (dk_at dksX7_farNow_3 13 rfl rfl)
theorem dX7_farNow_82 : decode cX7_farNow 82 = .ok (.iadd, 1) := dk_96 (dk_at dksX7_farNow_3 14 rfl rfl)
theorem dX7_farNow_83 : decode cX7_farNow 83 = .ok (.iconst 1, 1) := dk_4 (dk_at dksX7_farNow_3 15 rfl rfl)
theorem dX7_farNow_84 : decode cX7_farNow 84 = .ok (.isub, 1) := dk_100 (dk_at dksX7_farNow_3 16 rfl rfl)
theorem dX7_farNow_85 : decode cX7_farNow 85 = .ok (.iaload, 1) := dk_46 (dk_at dksX7_farNow_3 17 rfl rfl)
theorem dX7_farNow_86 : decode cX7_farNow 86 = .ok (.ireturn, 1) := dk_172 (dk_at dksX7_farNow_3 18 rfl rfl)
abbrev cX7_isLast : ByteArray := prog_21_method_53_code
def yX7_isLast : MethodName := ⟨RX7, "isLast", "(II)Z"⟩
def dkwX7_isLast_2 : List UInt8 := [167, 0, 4, 3, 62, 132, 4, 1, 167, 255, 209, 29, 172]
abbrev dktX7_isLast_2 : List UInt8 := dkwX7_isLast_2 ++ []
def dkwX7_isLast_1 : List UInt8 := [153, 0, 35, 42, 180, 0, 53, 27, 21, 4, 96, 46, 42, 180, 0, 53, 27, 28, 96, 46, 159, 0, 7, 4]
abbrev dktX7_isLast_1 : List UInt8 := dkwX7_isLast_1 ++ dktX7_isLast_2
def dkwX7_isLast_0 : List UInt8 := [4, 62, 28, 4, 96, 54, 4, 21, 4, 42, 180, 0, 44, 27, 16, 16, 108, 46, 162, 0, 39, 29]
abbrev dktX7_isLast_0 : List UInt8 := dkwX7_isLast_0 ++ dktX7_isLast_1
theorem dksX7_isLast_0 : cX7_isLast.data.toList.drop 0 = dktX7_isLast_0 := by decide +kernel
theorem dksX7_isLast_1 : cX7_isLast.data.toList.drop 22 = dktX7_isLast_1 := dk_seg dksX7_isLast_0 22 rfl rfl
theorem dksX7_isLast_2 : cX7_isLast.data.toList.drop 46 = dktX7_isLast_2 := dk_seg dksX7_isLast_1 24 rfl rfl
theorem dX7_isLast_0 : decode cX7_isLast 0 = .ok (.iconst 1, 1) := dk_4 (dk_at dksX7_isLast_0 0 rfl rfl)
theorem dX7_isLast_1 : decode cX7_isLast 1 = .ok (.istore_n 3, 1) := dk_62 (dk_at dksX7_isLast_0 1 rfl rfl)
theorem dX7_isLast_2 : decode cX7_isLast 2 = .ok (.iload_n 2, 1) := dk_28 (dk_at dksX7_isLast_0 2 rfl rfl)
theorem dX7_isLast_3 : decode cX7_isLast 3 = .ok (.iconst 1, 1) := dk_4 (dk_at dksX7_isLast_0 3 rfl rfl)
theorem dX7_isLast_4 : decode cX7_isLast 4 = .ok (.iadd, 1) := dk_96 (dk_at dksX7_isLast_0 4 rfl rfl)
theorem dX7_isLast_5 : decode cX7_isLast 5 = .ok (.istore 4, 2) := dk_54 4 (dk_at dksX7_isLast_0 5 rfl rfl)
theorem dX7_isLast_7 : decode cX7_isLast 7 = .ok (.iload 4, 2) := dk_21 4 (dk_at dksX7_isLast_0 7 rfl rfl)
theorem dX7_isLast_9 : decode cX7_isLast 9 = .ok (.aload_n 0, 1) := dk_42 (dk_at dksX7_isLast_0 9 rfl rfl)
theorem dX7_isLast_10 : decode cX7_isLast 10 = .ok (.getfield 44, 3) := dk_180 0 44 (dk_at dksX7_isLast_0 10 rfl rfl)
theorem dX7_isLast_13 : decode cX7_isLast 13 = .ok (.iload_n 1, 1) := dk_27 (dk_at dksX7_isLast_0 13 rfl rfl)
theorem dX7_isLast_14 : decode cX7_isLast 14 = .ok (.bipush 16, 2) := dk_16 16 (dk_at dksX7_isLast_0 14 rfl rfl)
theorem dX7_isLast_16 : decode cX7_isLast 16 = .ok (.idiv, 1) := dk_108 (dk_at dksX7_isLast_0 16 rfl rfl)
theorem dX7_isLast_17 : decode cX7_isLast 17 = .ok (.iaload, 1) := dk_46 (dk_at dksX7_isLast_0 17 rfl rfl)
theorem dX7_isLast_18 : decode cX7_isLast 18 = .ok (.if_icmp .ge 39, 3) := dk_162 0 39 (dk_at dksX7_isLast_0 18 rfl rfl)
theorem dX7_isLast_21 : decode cX7_isLast 21 = .ok (.iload_n 3, 1) := dk_29 (dk_at dksX7_isLast_0 21 rfl rfl)
theorem dX7_isLast_22 : decode cX7_isLast 22 = .ok (.ifCond .eq 35, 3) := dk_153 0 35 (dk_at dksX7_isLast_1 0 rfl rfl)
theorem dX7_isLast_25 : decode cX7_isLast 25 = .ok (.aload_n 0, 1) := dk_42 (dk_at dksX7_isLast_1 3 rfl rfl)
theorem dX7_isLast_26 : decode cX7_isLast 26 = .ok (.getfield 53, 3) := dk_180 0 53 (dk_at dksX7_isLast_1 4 rfl rfl)
theorem dX7_isLast_29 : decode cX7_isLast 29 = .ok (.iload_n 1, 1) := dk_27 (dk_at dksX7_isLast_1 7 rfl rfl)
theorem dX7_isLast_30 : decode cX7_isLast 30 = .ok (.iload 4, 2) := dk_21 4 (dk_at dksX7_isLast_1 8 rfl rfl)
theorem dX7_isLast_32 : decode cX7_isLast 32 = .ok (.iadd, 1) := dk_96 (dk_at dksX7_isLast_1 10 rfl rfl)
theorem dX7_isLast_33 : decode cX7_isLast 33 = .ok (.iaload, 1) := dk_46 (dk_at dksX7_isLast_1 11 rfl rfl)
theorem dX7_isLast_34 : decode cX7_isLast 34 = .ok (.aload_n 0, 1) := dk_42 (dk_at dksX7_isLast_1 12 rfl rfl)
theorem dX7_isLast_35 : decode cX7_isLast 35 = .ok (.getfield 53, 3) := dk_180 0 53 (dk_at dksX7_isLast_1 13 rfl rfl)
theorem dX7_isLast_38 : decode cX7_isLast 38 = .ok (.iload_n 1, 1) := dk_27 (dk_at dksX7_isLast_1 16 rfl rfl)
theorem dX7_isLast_39 : decode cX7_isLast 39 = .ok (.iload_n 2, 1) := dk_28 (dk_at dksX7_isLast_1 17 rfl rfl)
theorem dX7_isLast_40 : decode cX7_isLast 40 = .ok (.iadd, 1) := dk_96 (dk_at dksX7_isLast_1 18 rfl rfl)
theorem dX7_isLast_41 : decode cX7_isLast 41 = .ok (.iaload, 1) := dk_46 (dk_at dksX7_isLast_1 19 rfl rfl)
theorem dX7_isLast_42 : decode cX7_isLast 42 = .ok (.if_icmp .eq 7, 3) := dk_159 0 7 (dk_at dksX7_isLast_1 20 rfl rfl)
theorem dX7_isLast_45 : decode cX7_isLast 45 = .ok (.iconst 1, 1) := dk_4 (dk_at dksX7_isLast_1 23 rfl rfl)
theorem dX7_isLast_46 : decode cX7_isLast 46 = .ok (.goto 4, 3) := dk_167 0 4 (dk_at dksX7_isLast_2 0 rfl rfl)
theorem dX7_isLast_49 : decode cX7_isLast 49 = .ok (.iconst 0, 1) := dk_3 (dk_at dksX7_isLast_2 3 rfl rfl)
theorem dX7_isLast_50 : decode cX7_isLast 50 = .ok (.istore_n 3, 1) := dk_62 (dk_at dksX7_isLast_2 4 rfl rfl)
theorem dX7_isLast_51 : decode cX7_isLast 51 = .ok (.iinc 4 1, 3) := dk_132 4 1 (dk_at dksX7_isLast_2 5 rfl rfl)
theorem dX7_isLast_54 : decode cX7_isLast 54 = .ok (.goto (-47), 3) := dk_167 255 209 (dk_at dksX7_isLast_2 8 rfl rfl)
theorem dX7_isLast_57 : decode cX7_isLast 57 = .ok (.iload_n 3, 1) := dk_29 (dk_at dksX7_isLast_2 11 rfl rfl)
theorem dX7_isLast_58 : decode cX7_isLast 58 = .ok (.ireturn, 1) := dk_172 (dk_at dksX7_isLast_2 12 rfl rfl)
abbrev cX7_lays : ByteArray := prog_21_method_51_code
def yX7_lays : MethodName := ⟨RX7, "lays", "(II)V"⟩
def dkwX7_lays_15 : List UInt8 := [132, 6, 1, 167, 255, 46, 132, 5, 1, 167, 255, 30, 177]
abbrev dktX7_lays_15 : List UInt8 := dkwX7_lays_15 ++ []
def dkwX7_lays_14 : List UInt8 := [21, 7, 79, 21, 8, 153, 0, 18, 42, 180, 0, 56, 16, 16, 21, 5, 104, 21, 6, 96, 21, 7, 79]
abbrev dktX7_lays_14 : List UInt8 := dkwX7_lays_14 ++ dktX7_lays_15
def dkwX7_lays_13 : List UInt8 := [96, 46, 96, 184, 0, 205, 54, 7, 42, 180, 0, 59, 16, 17, 21, 5, 4, 96, 104, 21, 6, 96, 4, 96]
abbrev dktX7_lays_13 : List UInt8 := dkwX7_lays_13 ++ dktX7_lays_14
def dkwX7_lays_12 : List UInt8 := [104, 42, 180, 0, 53, 16, 16, 21, 6, 96, 46, 96, 46, 42, 180, 0, 56, 16, 16, 21, 5, 104, 21, 6]
abbrev dktX7_lays_12 : List UInt8 := dkwX7_lays_12 ++ dktX7_lays_13
def dkwX7_lays_11 : List UInt8 := [21, 5, 21, 6, 182, 0, 233, 96, 167, 0, 43, 42, 180, 0, 59, 16, 17, 42, 180, 0, 53, 21, 5, 46]
abbrev dktX7_lays_11 : List UInt8 := dkwX7_lays_11 ++ dktX7_lays_12
def dkwX7_lays_10 : List UInt8 := [54, 8, 21, 7, 21, 8, 153, 0, 28, 42, 180, 0, 59, 16, 17, 21, 5, 104, 21, 6, 96, 46, 42]
abbrev dktX7_lays_10 : List UInt8 := dkwX7_lays_10 ++ dktX7_lays_11
def dkwX7_lays_9 : List UInt8 := [29, 160, 0, 22, 42, 180, 0, 53, 16, 16, 21, 6, 96, 46, 21, 4, 160, 0, 7, 4, 167, 0, 4, 3]
abbrev dktX7_lays_9 : List UInt8 := dkwX7_lays_9 ++ dktX7_lays_10
def dkwX7_lays_8 : List UInt8 := [96, 46, 42, 16, 16, 21, 6, 96, 182, 0, 230, 96, 184, 0, 205, 54, 7, 42, 180, 0, 53, 21, 5, 46]
abbrev dktX7_lays_8 : List UInt8 := dkwX7_lays_8 ++ dktX7_lays_9
def dkwX7_lays_7 : List UInt8 := [96, 4, 96, 46, 42, 21, 5, 182, 0, 230, 96, 42, 180, 0, 59, 16, 17, 21, 5, 4, 96, 104, 21, 6]
abbrev dktX7_lays_7 : List UInt8 := dkwX7_lays_7 ++ dktX7_lays_8
def dkwX7_lays_6 : List UInt8 := [163, 0, 226, 21, 4, 54, 6, 21, 6, 28, 163, 0, 210, 42, 180, 0, 59, 16, 17, 21, 5, 104, 21, 6]
abbrev dktX7_lays_6 : List UInt8 := dkwX7_lays_6 ++ dktX7_lays_7
def dkwX7_lays_5 : List UInt8 := [42, 16, 16, 21, 5, 96, 182, 0, 230, 96, 79, 132, 5, 1, 167, 255, 211, 29, 54, 5, 21, 5, 27]
abbrev dktX7_lays_5 : List UInt8 := dkwX7_lays_5 ++ dktX7_lays_6
def dkwX7_lays_4 : List UInt8 := [180, 0, 59, 16, 17, 29, 104, 21, 5, 96, 4, 96, 42, 180, 0, 59, 16, 17, 29, 104, 21, 5, 96, 46]
abbrev dktX7_lays_4 : List UInt8 := dkwX7_lays_4 ++ dktX7_lays_5
def dkwX7_lays_3 : List UInt8 := [182, 0, 230, 96, 79, 132, 5, 1, 167, 255, 212, 21, 4, 54, 5, 21, 5, 28, 163, 0, 45, 42]
abbrev dktX7_lays_3 : List UInt8 := dkwX7_lays_3 ++ dktX7_lays_4
def dkwX7_lays_2 : List UInt8 := [4, 96, 104, 21, 4, 96, 42, 180, 0, 59, 16, 17, 21, 5, 104, 21, 4, 96, 46, 42, 21, 5]
abbrev dktX7_lays_2 : List UInt8 := dkwX7_lays_2 ++ dktX7_lays_3
def dkwX7_lays_1 : List UInt8 := [29, 104, 21, 4, 96, 3, 79, 29, 54, 5, 21, 5, 27, 163, 0, 44, 42, 180, 0, 59, 16, 17, 21, 5]
abbrev dktX7_lays_1 : List UInt8 := dkwX7_lays_1 ++ dktX7_lays_2
def dkwX7_lays_0 : List UInt8 := [42, 180, 0, 53, 27, 46, 62, 42, 180, 0, 53, 16, 16, 28, 96, 46, 54, 4, 42, 180, 0, 59, 16, 17]
abbrev dktX7_lays_0 : List UInt8 := dkwX7_lays_0 ++ dktX7_lays_1
theorem dksX7_lays_0 : cX7_lays.data.toList.drop 0 = dktX7_lays_0 := by decide +kernel
theorem dksX7_lays_1 : cX7_lays.data.toList.drop 24 = dktX7_lays_1 := dk_seg dksX7_lays_0 24 rfl rfl
theorem dksX7_lays_2 : cX7_lays.data.toList.drop 48 = dktX7_lays_2 := dk_seg dksX7_lays_1 24 rfl rfl
theorem dksX7_lays_3 : cX7_lays.data.toList.drop 70 = dktX7_lays_3 := dk_seg dksX7_lays_2 22 rfl rfl
theorem dksX7_lays_4 : cX7_lays.data.toList.drop 92 = dktX7_lays_4 := dk_seg dksX7_lays_3 22 rfl rfl
theorem dksX7_lays_5 : cX7_lays.data.toList.drop 116 = dktX7_lays_5 := dk_seg dksX7_lays_4 24 rfl rfl
theorem dksX7_lays_6 : cX7_lays.data.toList.drop 139 = dktX7_lays_6 := dk_seg dksX7_lays_5 23 rfl rfl
theorem dksX7_lays_7 : cX7_lays.data.toList.drop 163 = dktX7_lays_7 := dk_seg dksX7_lays_6 24 rfl rfl
theorem dksX7_lays_8 : cX7_lays.data.toList.drop 187 = dktX7_lays_8 := dk_seg dksX7_lays_7 24 rfl rfl
theorem dksX7_lays_9 : cX7_lays.data.toList.drop 211 = dktX7_lays_9 := dk_seg dksX7_lays_8 24 rfl rfl
theorem dksX7_lays_10 : cX7_lays.data.toList.drop 235 = dktX7_lays_10 := dk_seg dksX7_lays_9 24 rfl rfl
theorem dksX7_lays_11 : cX7_lays.data.toList.drop 258 = dktX7_lays_11 := dk_seg dksX7_lays_10 23 rfl rfl
theorem dksX7_lays_12 : cX7_lays.data.toList.drop 282 = dktX7_lays_12 := dk_seg dksX7_lays_11 24 rfl rfl
theorem dksX7_lays_13 : cX7_lays.data.toList.drop 306 = dktX7_lays_13 := dk_seg dksX7_lays_12 24 rfl rfl
theorem dksX7_lays_14 : cX7_lays.data.toList.drop 330 = dktX7_lays_14 := dk_seg dksX7_lays_13 24 rfl rfl
theorem dksX7_lays_15 : cX7_lays.data.toList.drop 353 = dktX7_lays_15 := dk_seg dksX7_lays_14 23 rfl rfl
theorem dX7_lays_0 : decode cX7_lays 0 = .ok (.aload_n 0, 1) := dk_42 (dk_at dksX7_lays_0 0 rfl rfl)
theorem dX7_lays_1 : decode cX7_lays 1 = .ok (.getfield 53, 3) := dk_180 0 53 (dk_at dksX7_lays_0 1 rfl rfl)
theorem dX7_lays_4 : decode cX7_lays 4 = .ok (.iload_n 1, 1) := dk_27 (dk_at dksX7_lays_0 4 rfl rfl)
theorem dX7_lays_5 : decode cX7_lays 5 = .ok (.iaload, 1) := dk_46 (dk_at dksX7_lays_0 5 rfl rfl)
theorem dX7_lays_6 : decode cX7_lays 6 = .ok (.istore_n 3, 1) := dk_62 (dk_at dksX7_lays_0 6 rfl rfl)
theorem dX7_lays_7 : decode cX7_lays 7 = .ok (.aload_n 0, 1) := dk_42 (dk_at dksX7_lays_0 7 rfl rfl)
theorem dX7_lays_8 : decode cX7_lays 8 = .ok (.getfield 53, 3) := dk_180 0 53 (dk_at dksX7_lays_0 8 rfl rfl)
theorem dX7_lays_11 : decode cX7_lays 11 = .ok (.bipush 16, 2) := dk_16 16 (dk_at dksX7_lays_0 11 rfl rfl)
theorem dX7_lays_13 : decode cX7_lays 13 = .ok (.iload_n 2, 1) := dk_28 (dk_at dksX7_lays_0 13 rfl rfl)
theorem dX7_lays_14 : decode cX7_lays 14 = .ok (.iadd, 1) := dk_96 (dk_at dksX7_lays_0 14 rfl rfl)
theorem dX7_lays_15 : decode cX7_lays 15 = .ok (.iaload, 1) := dk_46 (dk_at dksX7_lays_0 15 rfl rfl)
theorem dX7_lays_16 : decode cX7_lays 16 = .ok (.istore 4, 2) := dk_54 4 (dk_at dksX7_lays_0 16 rfl rfl)
theorem dX7_lays_18 : decode cX7_lays 18 = .ok (.aload_n 0, 1) := dk_42 (dk_at dksX7_lays_0 18 rfl rfl)
theorem dX7_lays_19 : decode cX7_lays 19 = .ok (.getfield 59, 3) := dk_180 0 59 (dk_at dksX7_lays_0 19 rfl rfl)
theorem dX7_lays_22 : decode cX7_lays 22 = .ok (.bipush 17, 2) := dk_16 17 (dk_at dksX7_lays_0 22 rfl rfl)
theorem dX7_lays_24 : decode cX7_lays 24 = .ok (.iload_n 3, 1) := dk_29 (dk_at dksX7_lays_1 0 rfl rfl)
theorem dX7_lays_25 : decode cX7_lays 25 = .ok (.imul, 1) := dk_104 (dk_at dksX7_lays_1 1 rfl rfl)
theorem dX7_lays_26 : decode cX7_lays 26 = .ok (.iload 4, 2) := dk_21 4 (dk_at dksX7_lays_1 2 rfl rfl)
theorem dX7_lays_28 : decode cX7_lays 28 = .ok (.iadd, 1) := dk_96 (dk_at dksX7_lays_1 4 rfl rfl)
theorem dX7_lays_29 : decode cX7_lays 29 = .ok (.iconst 0, 1) := dk_3 (dk_at dksX7_lays_1 5 rfl rfl)
theorem dX7_lays_30 : decode cX7_lays 30 = .ok (.iastore, 1) := dk_79 (dk_at dksX7_lays_1 6 rfl rfl)
theorem dX7_lays_31 : decode cX7_lays 31 = .ok (.iload_n 3, 1) := dk_29 (dk_at dksX7_lays_1 7 rfl rfl)
theorem dX7_lays_32 : decode cX7_lays 32 = .ok (.istore 5, 2) := dk_54 5 (dk_at dksX7_lays_1 8 rfl rfl)
theorem dX7_lays_34 : decode cX7_lays 34 = .ok (.iload 5, 2) := dk_21 5 (dk_at dksX7_lays_1 10 rfl rfl)
theorem dX7_lays_36 : decode cX7_lays 36 = .ok (.iload_n 1, 1) := dk_27 (dk_at dksX7_lays_1 12 rfl rfl)
theorem dX7_lays_37 : decode cX7_lays 37 = .ok (.if_icmp .gt 44, 3) := dk_163 0 44 (dk_at dksX7_lays_1 13 rfl rfl)
theorem dX7_lays_40 : decode cX7_lays 40 = .ok (.aload_n 0, 1) := dk_42 (dk_at dksX7_lays_1 16 rfl rfl)
theorem dX7_lays_41 : decode cX7_lays 41 = .ok (.getfield 59, 3) := dk_180 0 59 (dk_at dksX7_lays_1 17 rfl rfl)
theorem dX7_lays_44 : decode cX7_lays 44 = .ok (.bipush 17, 2) := dk_16 17 (dk_at dksX7_lays_1 20 rfl rfl)
theorem dX7_lays_46 : decode cX7_lays 46 = .ok (.iload 5, 2) := dk_21 5 (dk_at dksX7_lays_1 22 rfl rfl)
theorem dX7_lays_48 : decode cX7_lays 48 = .ok (.iconst 1, 1) := dk_4 (dk_at dksX7_lays_2 0 rfl rfl)
theorem dX7_lays_49 : decode cX7_lays 49 = .ok (.iadd, 1) := dk_96 (dk_at dksX7_lays_2 1 rfl rfl)
theorem dX7_lays_50 : decode cX7_lays 50 = .ok (.imul, 1) := dk_104 (dk_at dksX7_lays_2 2 rfl rfl)
theorem dX7_lays_51 : decode cX7_lays 51 = .ok (.iload 4, 2) := dk_21 4 (dk_at dksX7_lays_2 3 rfl rfl)
theorem dX7_lays_53 : decode cX7_lays 53 = .ok (.iadd, 1) := dk_96 (dk_at dksX7_lays_2 5 rfl rfl)
theorem dX7_lays_54 : decode cX7_lays 54 = .ok (.aload_n 0, 1) := dk_42 (dk_at dksX7_lays_2 6 rfl rfl)
theorem dX7_lays_55 : decode cX7_lays 55 = .ok (.getfield 59, 3) := dk_180 0 59 (dk_at dksX7_lays_2 7 rfl rfl)
theorem dX7_lays_58 : decode cX7_lays 58 = .ok (.bipush 17, 2) := dk_16 17 (dk_at dksX7_lays_2 10 rfl rfl)
theorem dX7_lays_60 : decode cX7_lays 60 = .ok (.iload 5, 2) := dk_21 5 (dk_at dksX7_lays_2 12 rfl rfl)
theorem dX7_lays_62 : decode cX7_lays 62 = .ok (.imul, 1) := dk_104 (dk_at dksX7_lays_2 14 rfl rfl)
theorem dX7_lays_63 : decode cX7_lays 63 = .ok (.iload 4, 2) := dk_21 4 (dk_at dksX7_lays_2 15 rfl rfl)
theorem dX7_lays_65 : decode cX7_lays 65 = .ok (.iadd, 1) := dk_96 (dk_at dksX7_lays_2 17 rfl rfl)
theorem dX7_lays_66 : decode cX7_lays 66 = .ok (.iaload, 1) := dk_46 (dk_at dksX7_lays_2 18 rfl rfl)
theorem dX7_lays_67 : decode cX7_lays 67 = .ok (.aload_n 0, 1) := dk_42 (dk_at dksX7_lays_2 19 rfl rfl)
theorem dX7_lays_68 : decode cX7_lays 68 = .ok (.iload 5, 2) := dk_21 5 (dk_at dksX7_lays_2 20 rfl rfl)
theorem dX7_lays_70 : decode cX7_lays 70 = .ok (.invokevirtual 230, 3) := dk_182 0 230 (dk_at dksX7_lays_3 0 rfl rfl)
theorem dX7_lays_73 : decode cX7_lays 73 = .ok (.iadd, 1) := dk_96 (dk_at dksX7_lays_3 3 rfl rfl)
theorem dX7_lays_74 : decode cX7_lays 74 = .ok (.iastore, 1) := dk_79 (dk_at dksX7_lays_3 4 rfl rfl)
theorem dX7_lays_75 : decode cX7_lays 75 = .ok (.iinc 5 1, 3) := dk_132 5 1 (dk_at dksX7_lays_3 5 rfl rfl)
theorem dX7_lays_78 : decode cX7_lays 78 = .ok (.goto (-44), 3) := dk_167 255 212 (dk_at dksX7_lays_3 8 rfl rfl)
theorem dX7_lays_81 : decode cX7_lays 81 = .ok (.iload 4, 2) := dk_21 4 (dk_at dksX7_lays_3 11 rfl rfl)
theorem dX7_lays_83 : decode cX7_lays 83 = .ok (.istore 5, 2) := dk_54 5 (dk_at dksX7_lays_3 13 rfl rfl)
theorem dX7_lays_85 : decode cX7_lays 85 = .ok (.iload 5, 2) := dk_21 5 (dk_at dksX7_lays_3 15 rfl rfl)
theorem dX7_lays_87 : decode cX7_lays 87 = .ok (.iload_n 2, 1) := dk_28 (dk_at dksX7_lays_3 17 rfl rfl)
theorem dX7_lays_88 : decode cX7_lays 88 = .ok (.if_icmp .gt 45, 3) := dk_163 0 45 (dk_at dksX7_lays_3 18 rfl rfl)
theorem dX7_lays_91 : decode cX7_lays 91 = .ok (.aload_n 0, 1) := dk_42 (dk_at dksX7_lays_3 21 rfl rfl)
theorem dX7_lays_92 : decode cX7_lays 92 = .ok (.getfield 59, 3) := dk_180 0 59 (dk_at dksX7_lays_4 0 rfl rfl)
theorem dX7_lays_95 : decode cX7_lays 95 = .ok (.bipush 17, 2) := dk_16 17 (dk_at dksX7_lays_4 3 rfl rfl)
theorem dX7_lays_97 : decode cX7_lays 97 = .ok (.iload_n 3, 1) := dk_29 (dk_at dksX7_lays_4 5 rfl rfl)
theorem dX7_lays_98 : decode cX7_lays 98 = .ok (.imul, 1) := dk_104 (dk_at dksX7_lays_4 6 rfl rfl)
theorem dX7_lays_99 : decode cX7_lays 99 = .ok (.iload 5, 2) := dk_21 5 (dk_at dksX7_lays_4 7 rfl rfl)
theorem dX7_lays_101 : decode cX7_lays 101 = .ok (.iadd, 1) := dk_96 (dk_at dksX7_lays_4 9 rfl rfl)
theorem dX7_lays_102 : decode cX7_lays 102 = .ok (.iconst 1, 1) := dk_4 (dk_at dksX7_lays_4 10 rfl rfl)
theorem dX7_lays_103 : decode cX7_lays 103 = .ok (.iadd, 1) := dk_96 (dk_at dksX7_lays_4 11 rfl rfl)
theorem dX7_lays_104 : decode cX7_lays 104 = .ok (.aload_n 0, 1) := dk_42 (dk_at dksX7_lays_4 12 rfl rfl)
theorem dX7_lays_105 : decode cX7_lays 105 = .ok (.getfield 59, 3) := dk_180 0 59 (dk_at dksX7_lays_4 13 rfl rfl)
theorem dX7_lays_108 : decode cX7_lays 108 = .ok (.bipush 17, 2) := dk_16 17 (dk_at dksX7_lays_4 16 rfl rfl)
theorem dX7_lays_110 : decode cX7_lays 110 = .ok (.iload_n 3, 1) := dk_29 (dk_at dksX7_lays_4 18 rfl rfl)
theorem dX7_lays_111 : decode cX7_lays 111 = .ok (.imul, 1) := dk_104 (dk_at dksX7_lays_4 19 rfl rfl)
theorem dX7_lays_112 : decode cX7_lays 112 = .ok (.iload 5, 2) := dk_21 5 (dk_at dksX7_lays_4 20 rfl rfl)
theorem dX7_lays_114 : decode cX7_lays 114 = .ok (.iadd, 1) := dk_96 (dk_at dksX7_lays_4 22 rfl rfl)
theorem dX7_lays_115 : decode cX7_lays 115 = .ok (.iaload, 1) := dk_46 (dk_at dksX7_lays_4 23 rfl rfl)
theorem dX7_lays_116 : decode cX7_lays 116 = .ok (.aload_n 0, 1) := dk_42 (dk_at dksX7_lays_5 0 rfl rfl)
theorem dX7_lays_117 : decode cX7_lays 117 = .ok (.bipush 16, 2) := dk_16 16 (dk_at dksX7_lays_5 1 rfl rfl)
theorem dX7_lays_119 : decode cX7_lays 119 = .ok (.iload 5, 2) := dk_21 5 (dk_at dksX7_lays_5 3 rfl rfl)
theorem dX7_lays_121 : decode cX7_lays 121 = .ok (.iadd, 1) := dk_96 (dk_at dksX7_lays_5 5 rfl rfl)
theorem dX7_lays_122 : decode cX7_lays 122 = .ok (.invokevirtual 230, 3) := dk_182 0 230 (dk_at dksX7_lays_5 6 rfl rfl)
theorem dX7_lays_125 : decode cX7_lays 125 = .ok (.iadd, 1) := dk_96 (dk_at dksX7_lays_5 9 rfl rfl)
theorem dX7_lays_126 : decode cX7_lays 126 = .ok (.iastore, 1) := dk_79 (dk_at dksX7_lays_5 10 rfl rfl)
theorem dX7_lays_127 : decode cX7_lays 127 = .ok (.iinc 5 1, 3) := dk_132 5 1 (dk_at dksX7_lays_5 11 rfl rfl)
theorem dX7_lays_130 : decode cX7_lays 130 = .ok (.goto (-45), 3) := dk_167 255 211 (dk_at dksX7_lays_5 14 rfl rfl)
theorem dX7_lays_133 : decode cX7_lays 133 = .ok (.iload_n 3, 1) := dk_29 (dk_at dksX7_lays_5 17 rfl rfl)
theorem dX7_lays_134 : decode cX7_lays 134 = .ok (.istore 5, 2) := dk_54 5 (dk_at dksX7_lays_5 18 rfl rfl)
theorem dX7_lays_136 : decode cX7_lays 136 = .ok (.iload 5, 2) := dk_21 5 (dk_at dksX7_lays_5 20 rfl rfl)
theorem dX7_lays_138 : decode cX7_lays 138 = .ok (.iload_n 1, 1) := dk_27 (dk_at dksX7_lays_5 22 rfl rfl)
theorem dX7_lays_139 : decode cX7_lays 139 = .ok (.if_icmp .gt 226, 3) := dk_163 0 226 (dk_at dksX7_lays_6 0 rfl rfl)
theorem dX7_lays_142 : decode cX7_lays 142 = .ok (.iload 4, 2) := dk_21 4 (dk_at dksX7_lays_6 3 rfl rfl)
theorem dX7_lays_144 : decode cX7_lays 144 = .ok (.istore 6, 2) := dk_54 6 (dk_at dksX7_lays_6 5 rfl rfl)
theorem dX7_lays_146 : decode cX7_lays 146 = .ok (.iload 6, 2) := dk_21 6 (dk_at dksX7_lays_6 7 rfl rfl)
theorem dX7_lays_148 : decode cX7_lays 148 = .ok (.iload_n 2, 1) := dk_28 (dk_at dksX7_lays_6 9 rfl rfl)
theorem dX7_lays_149 : decode cX7_lays 149 = .ok (.if_icmp .gt 210, 3) := dk_163 0 210 (dk_at dksX7_lays_6 10 rfl rfl)
theorem dX7_lays_152 : decode cX7_lays 152 = .ok (.aload_n 0, 1) := dk_42 (dk_at dksX7_lays_6 13 rfl rfl)
theorem dX7_lays_153 : decode cX7_lays 153 = .ok (.getfield 59, 3) := dk_180 0 59 (dk_at dksX7_lays_6 14 rfl rfl)
theorem dX7_lays_156 : decode cX7_lays 156 = .ok (.bipush 17, 2) := dk_16 17 (dk_at dksX7_lays_6 17 rfl rfl)
theorem dX7_lays_158 : decode cX7_lays 158 = .ok (.iload 5, 2) := dk_21 5 (dk_at dksX7_lays_6 19 rfl rfl)
theorem dX7_lays_160 : decode cX7_lays 160 = .ok (.imul, 1) := dk_104 (dk_at dksX7_lays_6 21 rfl rfl)
theorem dX7_lays_161 : decode cX7_lays 161 = .ok (.iload 6, 2) := dk_21 6 (dk_at dksX7_lays_6 22 rfl rfl)
theorem dX7_lays_163 : decode cX7_lays 163 = .ok (.iadd, 1) := dk_96 (dk_at dksX7_lays_7 0 rfl rfl)
theorem dX7_lays_164 : decode cX7_lays 164 = .ok (.iconst 1, 1) := dk_4 (dk_at dksX7_lays_7 1 rfl rfl)
theorem dX7_lays_165 : decode cX7_lays 165 = .ok (.iadd, 1) := dk_96 (dk_at dksX7_lays_7 2 rfl rfl)
theorem dX7_lays_166 : decode cX7_lays 166 = .ok (.iaload, 1) := dk_46 (dk_at dksX7_lays_7 3 rfl rfl)
theorem dX7_lays_167 : decode cX7_lays 167 = .ok (.aload_n 0, 1) := dk_42 (dk_at dksX7_lays_7 4 rfl rfl)
theorem dX7_lays_168 : decode cX7_lays 168 = .ok (.iload 5, 2) := dk_21 5 (dk_at dksX7_lays_7 5 rfl rfl)
theorem dX7_lays_170 : decode cX7_lays 170 = .ok (.invokevirtual 230, 3) := dk_182 0 230 (dk_at dksX7_lays_7 7 rfl rfl)
theorem dX7_lays_173 : decode cX7_lays 173 = .ok (.iadd, 1) := dk_96 (dk_at dksX7_lays_7 10 rfl rfl)
theorem dX7_lays_174 : decode cX7_lays 174 = .ok (.aload_n 0, 1) := dk_42 (dk_at dksX7_lays_7 11 rfl rfl)
theorem dX7_lays_175 : decode cX7_lays 175 = .ok (.getfield 59, 3) := dk_180 0 59 (dk_at dksX7_lays_7 12 rfl rfl)
theorem dX7_lays_178 : decode cX7_lays 178 = .ok (.bipush 17, 2) := dk_16 17 (dk_at dksX7_lays_7 15 rfl rfl)
theorem dX7_lays_180 : decode cX7_lays 180 = .ok (.iload 5, 2) := dk_21 5 (dk_at dksX7_lays_7 17 rfl rfl)
theorem dX7_lays_182 : decode cX7_lays 182 = .ok (.iconst 1, 1) := dk_4 (dk_at dksX7_lays_7 19 rfl rfl)
theorem dX7_lays_183 : decode cX7_lays 183 = .ok (.iadd, 1) := dk_96 (dk_at dksX7_lays_7 20 rfl rfl)
theorem dX7_lays_184 : decode cX7_lays 184 = .ok (.imul, 1) := dk_104 (dk_at dksX7_lays_7 21 rfl rfl)
theorem dX7_lays_185 : decode cX7_lays 185 = .ok (.iload 6, 2) := dk_21 6 (dk_at dksX7_lays_7 22 rfl rfl)
theorem dX7_lays_187 : decode cX7_lays 187 = .ok (.iadd, 1) := dk_96 (dk_at dksX7_lays_8 0 rfl rfl)
theorem dX7_lays_188 : decode cX7_lays 188 = .ok (.iaload, 1) := dk_46 (dk_at dksX7_lays_8 1 rfl rfl)
theorem dX7_lays_189 : decode cX7_lays 189 = .ok (.aload_n 0, 1) := dk_42 (dk_at dksX7_lays_8 2 rfl rfl)
theorem dX7_lays_190 : decode cX7_lays 190 = .ok (.bipush 16, 2) := dk_16 16 (dk_at dksX7_lays_8 3 rfl rfl)
theorem dX7_lays_192 : decode cX7_lays 192 = .ok (.iload 6, 2) := dk_21 6 (dk_at dksX7_lays_8 5 rfl rfl)
theorem dX7_lays_194 : decode cX7_lays 194 = .ok (.iadd, 1) := dk_96 (dk_at dksX7_lays_8 7 rfl rfl)
theorem dX7_lays_195 : decode cX7_lays 195 = .ok (.invokevirtual 230, 3) := dk_182 0 230 (dk_at dksX7_lays_8 8 rfl rfl)
theorem dX7_lays_198 : decode cX7_lays 198 = .ok (.iadd, 1) := dk_96 (dk_at dksX7_lays_8 11 rfl rfl)
theorem dX7_lays_199 : decode cX7_lays 199 = .ok (.invokestatic 205, 3) := dk_184 0 205 (dk_at dksX7_lays_8 12 rfl rfl)
theorem dX7_lays_202 : decode cX7_lays 202 = .ok (.istore 7, 2) := dk_54 7 (dk_at dksX7_lays_8 15 rfl rfl)
theorem dX7_lays_204 : decode cX7_lays 204 = .ok (.aload_n 0, 1) := dk_42 (dk_at dksX7_lays_8 17 rfl rfl)
theorem dX7_lays_205 : decode cX7_lays 205 = .ok (.getfield 53, 3) := dk_180 0 53 (dk_at dksX7_lays_8 18 rfl rfl)
theorem dX7_lays_208 : decode cX7_lays 208 = .ok (.iload 5, 2) := dk_21 5 (dk_at dksX7_lays_8 21 rfl rfl)
theorem dX7_lays_210 : decode cX7_lays 210 = .ok (.iaload, 1) := dk_46 (dk_at dksX7_lays_8 23 rfl rfl)
theorem dX7_lays_211 : decode cX7_lays 211 = .ok (.iload_n 3, 1) := dk_29 (dk_at dksX7_lays_9 0 rfl rfl)
theorem dX7_lays_212 : decode cX7_lays 212 = .ok (.if_icmp .ne 22, 3) := dk_160 0 22 (dk_at dksX7_lays_9 1 rfl rfl)
theorem dX7_lays_215 : decode cX7_lays 215 = .ok (.aload_n 0, 1) := dk_42 (dk_at dksX7_lays_9 4 rfl rfl)
theorem dX7_lays_216 : decode cX7_lays 216 = .ok (.getfield 53, 3) := dk_180 0 53 (dk_at dksX7_lays_9 5 rfl rfl)
theorem dX7_lays_219 : decode cX7_lays 219 = .ok (.bipush 16, 2) := dk_16 16 (dk_at dksX7_lays_9 8 rfl rfl)
theorem dX7_lays_221 : decode cX7_lays 221 = .ok (.iload 6, 2) := dk_21 6 (dk_at dksX7_lays_9 10 rfl rfl)
theorem dX7_lays_223 : decode cX7_lays 223 = .ok (.iadd, 1) := dk_96 (dk_at dksX7_lays_9 12 rfl rfl)
theorem dX7_lays_224 : decode cX7_lays 224 = .ok (.iaload, 1) := dk_46 (dk_at dksX7_lays_9 13 rfl rfl)
theorem dX7_lays_225 : decode cX7_lays 225 = .ok (.iload 4, 2) := dk_21 4 (dk_at dksX7_lays_9 14 rfl rfl)
theorem dX7_lays_227 : decode cX7_lays 227 = .ok (.if_icmp .ne 7, 3) := dk_160 0 7 (dk_at dksX7_lays_9 16 rfl rfl)
theorem dX7_lays_230 : decode cX7_lays 230 = .ok (.iconst 1, 1) := dk_4 (dk_at dksX7_lays_9 19 rfl rfl)
theorem dX7_lays_231 : decode cX7_lays 231 = .ok (.goto 4, 3) := dk_167 0 4 (dk_at dksX7_lays_9 20 rfl rfl)
theorem dX7_lays_234 : decode cX7_lays 234 = .ok (.iconst 0, 1) := dk_3 (dk_at dksX7_lays_9 23 rfl rfl)
theorem dX7_lays_235 : decode cX7_lays 235 = .ok (.istore 8, 2) := dk_54 8 (dk_at dksX7_lays_10 0 rfl rfl)
theorem dX7_lays_237 : decode cX7_lays 237 = .ok (.iload 7, 2) := dk_21 7 (dk_at dksX7_lays_10 2 rfl rfl)
theorem dX7_lays_239 : decode cX7_lays 239 = .ok (.iload 8, 2) := dk_21 8 (dk_at dksX7_lays_10 4 rfl rfl)
theorem dX7_lays_241 : decode cX7_lays 241 = .ok (.ifCond .eq 28, 3) := dk_153 0 28 (dk_at dksX7_lays_10 6 rfl rfl)
theorem dX7_lays_244 : decode cX7_lays 244 = .ok (.aload_n 0, 1) := dk_42 (dk_at dksX7_lays_10 9 rfl rfl)
theorem dX7_lays_245 : decode cX7_lays 245 = .ok (.getfield 59, 3) := dk_180 0 59 (dk_at dksX7_lays_10 10 rfl rfl)
theorem dX7_lays_248 : decode cX7_lays 248 = .ok (.bipush 17, 2) := dk_16 17 (dk_at dksX7_lays_10 13 rfl rfl)
theorem dX7_lays_250 : decode cX7_lays 250 = .ok (.iload 5, 2) := dk_21 5 (dk_at dksX7_lays_10 15 rfl rfl)
theorem dX7_lays_252 : decode cX7_lays 252 = .ok (.imul, 1) := dk_104 (dk_at dksX7_lays_10 17 rfl rfl)
theorem dX7_lays_253 : decode cX7_lays 253 = .ok (.iload 6, 2) := dk_21 6 (dk_at dksX7_lays_10 18 rfl rfl)
theorem dX7_lays_255 : decode cX7_lays 255 = .ok (.iadd, 1) := dk_96 (dk_at dksX7_lays_10 20 rfl rfl)
theorem dX7_lays_256 : decode cX7_lays 256 = .ok (.iaload, 1) := dk_46 (dk_at dksX7_lays_10 21 rfl rfl)
theorem dX7_lays_257 : decode cX7_lays 257 = .ok (.aload_n 0, 1) := dk_42 (dk_at dksX7_lays_10 22 rfl rfl)
theorem dX7_lays_258 : decode cX7_lays 258 = .ok (.iload 5, 2) := dk_21 5 (dk_at dksX7_lays_11 0 rfl rfl)
theorem dX7_lays_260 : decode cX7_lays 260 = .ok (.iload 6, 2) := dk_21 6 (dk_at dksX7_lays_11 2 rfl rfl)
theorem dX7_lays_262 : decode cX7_lays 262 = .ok (.invokevirtual 233, 3) := dk_182 0 233 (dk_at dksX7_lays_11 4 rfl rfl)
theorem dX7_lays_265 : decode cX7_lays 265 = .ok (.iadd, 1) := dk_96 (dk_at dksX7_lays_11 7 rfl rfl)
theorem dX7_lays_266 : decode cX7_lays 266 = .ok (.goto 43, 3) := dk_167 0 43 (dk_at dksX7_lays_11 8 rfl rfl)
theorem dX7_lays_269 : decode cX7_lays 269 = .ok (.aload_n 0, 1) := dk_42 (dk_at dksX7_lays_11 11 rfl rfl)
theorem dX7_lays_270 : decode cX7_lays 270 = .ok (.getfield 59, 3) := dk_180 0 59 (dk_at dksX7_lays_11 12 rfl rfl)
theorem dX7_lays_273 : decode cX7_lays 273 = .ok (.bipush 17, 2) := dk_16 17 (dk_at dksX7_lays_11 15 rfl rfl)
theorem dX7_lays_275 : decode cX7_lays 275 = .ok (.aload_n 0, 1) := dk_42 (dk_at dksX7_lays_11 17 rfl rfl)
theorem dX7_lays_276 : decode cX7_lays 276 = .ok (.getfield 53, 3) := dk_180 0 53 (dk_at dksX7_lays_11 18 rfl rfl)
theorem dX7_lays_279 : decode cX7_lays 279 = .ok (.iload 5, 2) := dk_21 5 (dk_at dksX7_lays_11 21 rfl rfl)
theorem dX7_lays_281 : decode cX7_lays 281 = .ok (.iaload, 1) := dk_46 (dk_at dksX7_lays_11 23 rfl rfl)
theorem dX7_lays_282 : decode cX7_lays 282 = .ok (.imul, 1) := dk_104 (dk_at dksX7_lays_12 0 rfl rfl)
theorem dX7_lays_283 : decode cX7_lays 283 = .ok (.aload_n 0, 1) := dk_42 (dk_at dksX7_lays_12 1 rfl rfl)
theorem dX7_lays_284 : decode cX7_lays 284 = .ok (.getfield 53, 3) := dk_180 0 53 (dk_at dksX7_lays_12 2 rfl rfl)
theorem dX7_lays_287 : decode cX7_lays 287 = .ok (.bipush 16, 2) := dk_16 16 (dk_at dksX7_lays_12 5 rfl rfl)
theorem dX7_lays_289 : decode cX7_lays 289 = .ok (.iload 6, 2) := dk_21 6 (dk_at dksX7_lays_12 7 rfl rfl)
theorem dX7_lays_291 : decode cX7_lays 291 = .ok (.iadd, 1) := dk_96 (dk_at dksX7_lays_12 9 rfl rfl)
theorem dX7_lays_292 : decode cX7_lays 292 = .ok (.iaload, 1) := dk_46 (dk_at dksX7_lays_12 10 rfl rfl)
theorem dX7_lays_293 : decode cX7_lays 293 = .ok (.iadd, 1) := dk_96 (dk_at dksX7_lays_12 11 rfl rfl)
theorem dX7_lays_294 : decode cX7_lays 294 = .ok (.iaload, 1) := dk_46 (dk_at dksX7_lays_12 12 rfl rfl)
theorem dX7_lays_295 : decode cX7_lays 295 = .ok (.aload_n 0, 1) := dk_42 (dk_at dksX7_lays_12 13 rfl rfl)
theorem dX7_lays_296 : decode cX7_lays 296 = .ok (.getfield 56, 3) := dk_180 0 56 (dk_at dksX7_lays_12 14 rfl rfl)
theorem dX7_lays_299 : decode cX7_lays 299 = .ok (.bipush 16, 2) := dk_16 16 (dk_at dksX7_lays_12 17 rfl rfl)
theorem dX7_lays_301 : decode cX7_lays 301 = .ok (.iload 5, 2) := dk_21 5 (dk_at dksX7_lays_12 19 rfl rfl)
theorem dX7_lays_303 : decode cX7_lays 303 = .ok (.imul, 1) := dk_104 (dk_at dksX7_lays_12 21 rfl rfl)
theorem dX7_lays_304 : decode cX7_lays 304 = .ok (.iload 6, 2) := dk_21 6 (dk_at dksX7_lays_12 22 rfl rfl)
theorem dX7_lays_306 : decode cX7_lays 306 = .ok (.iadd, 1) := dk_96 (dk_at dksX7_lays_13 0 rfl rfl)
theorem dX7_lays_307 : decode cX7_lays 307 = .ok (.iaload, 1) := dk_46 (dk_at dksX7_lays_13 1 rfl rfl)
theorem dX7_lays_308 : decode cX7_lays 308 = .ok (.iadd, 1) := dk_96 (dk_at dksX7_lays_13 2 rfl rfl)
theorem dX7_lays_309 : decode cX7_lays 309 = .ok (.invokestatic 205, 3) := dk_184 0 205 (dk_at dksX7_lays_13 3 rfl rfl)
theorem dX7_lays_312 : decode cX7_lays 312 = .ok (.istore 7, 2) := dk_54 7 (dk_at dksX7_lays_13 6 rfl rfl)
theorem dX7_lays_314 : decode cX7_lays 314 = .ok (.aload_n 0, 1) := dk_42 (dk_at dksX7_lays_13 8 rfl rfl)
theorem dX7_lays_315 : decode cX7_lays 315 = .ok (.getfield 59, 3) := dk_180 0 59 (dk_at dksX7_lays_13 9 rfl rfl)
theorem dX7_lays_318 : decode cX7_lays 318 = .ok (.bipush 17, 2) := dk_16 17 (dk_at dksX7_lays_13 12 rfl rfl)
theorem dX7_lays_320 : decode cX7_lays 320 = .ok (.iload 5, 2) := dk_21 5 (dk_at dksX7_lays_13 14 rfl rfl)
theorem dX7_lays_322 : decode cX7_lays 322 = .ok (.iconst 1, 1) := dk_4 (dk_at dksX7_lays_13 16 rfl rfl)
theorem dX7_lays_323 : decode cX7_lays 323 = .ok (.iadd, 1) := dk_96 (dk_at dksX7_lays_13 17 rfl rfl)
theorem dX7_lays_324 : decode cX7_lays 324 = .ok (.imul, 1) := dk_104 (dk_at dksX7_lays_13 18 rfl rfl)
theorem dX7_lays_325 : decode cX7_lays 325 = .ok (.iload 6, 2) := dk_21 6 (dk_at dksX7_lays_13 19 rfl rfl)
theorem dX7_lays_327 : decode cX7_lays 327 = .ok (.iadd, 1) := dk_96 (dk_at dksX7_lays_13 21 rfl rfl)
theorem dX7_lays_328 : decode cX7_lays 328 = .ok (.iconst 1, 1) := dk_4 (dk_at dksX7_lays_13 22 rfl rfl)
theorem dX7_lays_329 : decode cX7_lays 329 = .ok (.iadd, 1) := dk_96 (dk_at dksX7_lays_13 23 rfl rfl)
theorem dX7_lays_330 : decode cX7_lays 330 = .ok (.iload 7, 2) := dk_21 7 (dk_at dksX7_lays_14 0 rfl rfl)
theorem dX7_lays_332 : decode cX7_lays 332 = .ok (.iastore, 1) := dk_79 (dk_at dksX7_lays_14 2 rfl rfl)
theorem dX7_lays_333 : decode cX7_lays 333 = .ok (.iload 8, 2) := dk_21 8 (dk_at dksX7_lays_14 3 rfl rfl)
theorem dX7_lays_335 : decode cX7_lays 335 = .ok (.ifCond .eq 18, 3) := dk_153 0 18 (dk_at dksX7_lays_14 5 rfl rfl)
theorem dX7_lays_338 : decode cX7_lays 338 = .ok (.aload_n 0, 1) := dk_42 (dk_at dksX7_lays_14 8 rfl rfl)
theorem dX7_lays_339 : decode cX7_lays 339 = .ok (.getfield 56, 3) := dk_180 0 56 (dk_at dksX7_lays_14 9 rfl rfl)
theorem dX7_lays_342 : decode cX7_lays 342 = .ok (.bipush 16, 2) := dk_16 16 (dk_at dksX7_lays_14 12 rfl rfl)
theorem dX7_lays_344 : decode cX7_lays 344 = .ok (.iload 5, 2) := dk_21 5 (dk_at dksX7_lays_14 14 rfl rfl)
theorem dX7_lays_346 : decode cX7_lays 346 = .ok (.imul, 1) := dk_104 (dk_at dksX7_lays_14 16 rfl rfl)
theorem dX7_lays_347 : decode cX7_lays 347 = .ok (.iload 6, 2) := dk_21 6 (dk_at dksX7_lays_14 17 rfl rfl)
theorem dX7_lays_349 : decode cX7_lays 349 = .ok (.iadd, 1) := dk_96 (dk_at dksX7_lays_14 19 rfl rfl)
theorem dX7_lays_350 : decode cX7_lays 350 = .ok (.iload 7, 2) := dk_21 7 (dk_at dksX7_lays_14 20 rfl rfl)
theorem dX7_lays_352 : decode cX7_lays 352 = .ok (.iastore, 1) := dk_79 (dk_at dksX7_lays_14 22 rfl rfl)
theorem dX7_lays_353 : decode cX7_lays 353 = .ok (.iinc 6 1, 3) := dk_132 6 1 (dk_at dksX7_lays_15 0 rfl rfl)
theorem dX7_lays_356 : decode cX7_lays 356 = .ok (.goto (-210), 3) := dk_167 255 46 (dk_at dksX7_lays_15 3 rfl rfl)
theorem dX7_lays_359 : decode cX7_lays 359 = .ok (.iinc 5 1, 3) := dk_132 5 1 (dk_at dksX7_lays_15 6 rfl rfl)
theorem dX7_lays_362 : decode cX7_lays 362 = .ok (.goto (-226), 3) := dk_167 255 30 (dk_at dksX7_lays_15 9 rfl rfl)
theorem dX7_lays_365 : decode cX7_lays 365 = .ok (.return_, 1) := dk_177 (dk_at dksX7_lays_15 12 rfl rfl)
abbrev cX7_without : ByteArray := prog_21_method_50_code
def yX7_without : MethodName := ⟨RX7, "without", "(I)I"⟩
def dkwX7_without_0 : List UInt8 := [42, 180, 0, 47, 27, 46, 156, 0, 9, 17, 3, 232, 167, 0, 4, 5, 172]
abbrev dktX7_without_0 : List UInt8 := dkwX7_without_0 ++ []
theorem dksX7_without_0 : cX7_without.data.toList.drop 0 = dktX7_without_0 := by decide +kernel
theorem dX7_without_0 : decode cX7_without 0 = .ok (.aload_n 0, 1) := dk_42 (dk_at dksX7_without_0 0 rfl rfl)
theorem dX7_without_1 : decode cX7_without 1 = .ok (.getfield 47, 3) := dk_180 0 47 (dk_at dksX7_without_0 1 rfl rfl)
theorem dX7_without_4 : decode cX7_without 4 = .ok (.iload_n 1, 1) := dk_27 (dk_at dksX7_without_0 4 rfl rfl)
theorem dX7_without_5 : decode cX7_without 5 = .ok (.iaload, 1) := dk_46 (dk_at dksX7_without_0 5 rfl rfl)
theorem dX7_without_6 : decode cX7_without 6 = .ok (.ifCond .ge 9, 3) := dk_156 0 9 (dk_at dksX7_without_0 6 rfl rfl)
theorem dX7_without_9 : decode cX7_without 9 = .ok (.sipush 1000, 3) := dk_17 3 232 (dk_at dksX7_without_0 9 rfl rfl)
theorem dX7_without_12 : decode cX7_without 12 = .ok (.goto 4, 3) := dk_167 0 4 (dk_at dksX7_without_0 12 rfl rfl)
theorem dX7_without_15 : decode cX7_without 15 = .ok (.iconst 2, 1) := dk_5 (dk_at dksX7_without_0 15 rfl rfl)
theorem dX7_without_16 : decode cX7_without 16 = .ok (.ireturn, 1) := dk_172 (dk_at dksX7_without_0 16 rfl rfl)
abbrev cX7_changed : ByteArray := prog_21_method_49_code
def yX7_changed : MethodName := ⟨RX7, "changed", "(II)I"⟩
def dkwX7_changed_4 : List UInt8 := [172]
abbrev dktX7_changed_4 : List UInt8 := dkwX7_changed_4 ++ []
def dkwX7_changed_3 : List UInt8 := [42, 180, 0, 50, 27, 46, 42, 180, 0, 50, 16, 16, 28, 96, 46, 160, 0, 7, 3, 167, 0, 4, 4, 96]
abbrev dktX7_changed_3 : List UInt8 := dkwX7_changed_3 ++ dktX7_changed_4
def dkwX7_changed_2 : List UInt8 := [172, 42, 180, 0, 47, 27, 46, 42, 180, 0, 47, 16, 16, 28, 96, 46, 160, 0, 7, 3, 167, 0, 4, 6]
abbrev dktX7_changed_2 : List UInt8 := dkwX7_changed_2 ++ dktX7_changed_3
def dkwX7_changed_1 : List UInt8 := [180, 0, 47, 27, 46, 42, 180, 0, 47, 16, 16, 28, 96, 46, 160, 0, 7, 3, 167, 0, 6, 17, 3, 232]
abbrev dktX7_changed_1 : List UInt8 := dkwX7_changed_1 ++ dktX7_changed_2
def dkwX7_changed_0 : List UInt8 := [42, 180, 0, 47, 27, 46, 155, 0, 15, 42, 180, 0, 47, 16, 16, 28, 96, 46, 156, 0, 29, 42]
abbrev dktX7_changed_0 : List UInt8 := dkwX7_changed_0 ++ dktX7_changed_1
theorem dksX7_changed_0 : cX7_changed.data.toList.drop 0 = dktX7_changed_0 := by decide +kernel
theorem dksX7_changed_1 : cX7_changed.data.toList.drop 22 = dktX7_changed_1 := dk_seg dksX7_changed_0 22 rfl rfl
theorem dksX7_changed_2 : cX7_changed.data.toList.drop 46 = dktX7_changed_2 := dk_seg dksX7_changed_1 24 rfl rfl
theorem dksX7_changed_3 : cX7_changed.data.toList.drop 70 = dktX7_changed_3 := dk_seg dksX7_changed_2 24 rfl rfl
theorem dksX7_changed_4 : cX7_changed.data.toList.drop 94 = dktX7_changed_4 := dk_seg dksX7_changed_3 24 rfl rfl
theorem dX7_changed_0 : decode cX7_changed 0 = .ok (.aload_n 0, 1) := dk_42 (dk_at dksX7_changed_0 0 rfl rfl)
theorem dX7_changed_1 : decode cX7_changed 1 = .ok (.getfield 47, 3) := dk_180 0 47 (dk_at dksX7_changed_0 1 rfl rfl)
theorem dX7_changed_4 : decode cX7_changed 4 = .ok (.iload_n 1, 1) := dk_27 (dk_at dksX7_changed_0 4 rfl rfl)
theorem dX7_changed_5 : decode cX7_changed 5 = .ok (.iaload, 1) := dk_46 (dk_at dksX7_changed_0 5 rfl rfl)
theorem dX7_changed_6 : decode cX7_changed 6 = .ok (.ifCond .lt 15, 3) := dk_155 0 15 (dk_at dksX7_changed_0 6 rfl rfl)
theorem dX7_changed_9 : decode cX7_changed 9 = .ok (.aload_n 0, 1) := dk_42 (dk_at dksX7_changed_0 9 rfl rfl)
theorem dX7_changed_10 : decode cX7_changed 10 = .ok (.getfield 47, 3) := dk_180 0 47 (dk_at dksX7_changed_0 10 rfl rfl)
theorem dX7_changed_13 : decode cX7_changed 13 = .ok (.bipush 16, 2) := dk_16 16 (dk_at dksX7_changed_0 13 rfl rfl)
theorem dX7_changed_15 : decode cX7_changed 15 = .ok (.iload_n 2, 1) := dk_28 (dk_at dksX7_changed_0 15 rfl rfl)
theorem dX7_changed_16 : decode cX7_changed 16 = .ok (.iadd, 1) := dk_96 (dk_at dksX7_changed_0 16 rfl rfl)
theorem dX7_changed_17 : decode cX7_changed 17 = .ok (.iaload, 1) := dk_46 (dk_at dksX7_changed_0 17 rfl rfl)
theorem dX7_changed_18 : decode cX7_changed 18 = .ok (.ifCond .ge 29, 3) := dk_156 0 29 (dk_at dksX7_changed_0 18 rfl rfl)
theorem dX7_changed_21 : decode cX7_changed 21 = .ok (.aload_n 0, 1) := dk_42 (dk_at dksX7_changed_0 21 rfl rfl)
theorem dX7_changed_22 : decode cX7_changed 22 = .ok (.getfield 47, 3) := dk_180 0 47 (dk_at dksX7_changed_1 0 rfl rfl)
theorem dX7_changed_25 : decode cX7_changed 25 = .ok (.iload_n 1, 1) := dk_27 (dk_at dksX7_changed_1 3 rfl rfl)
theorem dX7_changed_26 : decode cX7_changed 26 = .ok (.iaload, 1) := dk_46 (dk_at dksX7_changed_1 4 rfl rfl)
theorem dX7_changed_27 : decode cX7_changed 27 = .ok (.aload_n 0, 1) := dk_42 (dk_at dksX7_changed_1 5 rfl rfl)
theorem dX7_changed_28 : decode cX7_changed 28 = .ok (.getfield 47, 3) := dk_180 0 47 (dk_at dksX7_changed_1 6 rfl rfl)
theorem dX7_changed_31 : decode cX7_changed 31 = .ok (.bipush 16, 2) := dk_16 16 (dk_at dksX7_changed_1 9 rfl rfl)
theorem dX7_changed_33 : decode cX7_changed 33 = .ok (.iload_n 2, 1) := dk_28 (dk_at dksX7_changed_1 11 rfl rfl)
theorem dX7_changed_34 : decode cX7_changed 34 = .ok (.iadd, 1) := dk_96 (dk_at dksX7_changed_1 12 rfl rfl)
theorem dX7_changed_35 : decode cX7_changed 35 = .ok (.iaload, 1) := dk_46 (dk_at dksX7_changed_1 13 rfl rfl)
theorem dX7_changed_36 : decode cX7_changed 36 = .ok (.if_icmp .ne 7, 3) := dk_160 0 7 (dk_at dksX7_changed_1 14 rfl rfl)
theorem dX7_changed_39 : decode cX7_changed 39 = .ok (.iconst 0, 1) := dk_3 (dk_at dksX7_changed_1 17 rfl rfl)
theorem dX7_changed_40 : decode cX7_changed 40 = .ok (.goto 6, 3) := dk_167 0 6 (dk_at dksX7_changed_1 18 rfl rfl)
theorem dX7_changed_43 : decode cX7_changed 43 = .ok (.sipush 1000, 3) := dk_17 3 232 (dk_at dksX7_changed_1 21 rfl rfl)
theorem dX7_changed_46 : decode cX7_changed 46 = .ok (.ireturn, 1) := dk_172 (dk_at dksX7_changed_2 0 rfl rfl)
theorem dX7_changed_47 : decode cX7_changed 47 = .ok (.aload_n 0, 1) := dk_42 (dk_at dksX7_changed_2 1 rfl rfl)
theorem dX7_changed_48 : decode cX7_changed 48 = .ok (.getfield 47, 3) := dk_180 0 47 (dk_at dksX7_changed_2 2 rfl rfl)
theorem dX7_changed_51 : decode cX7_changed 51 = .ok (.iload_n 1, 1) := dk_27 (dk_at dksX7_changed_2 5 rfl rfl)
theorem dX7_changed_52 : decode cX7_changed 52 = .ok (.iaload, 1) := dk_46 (dk_at dksX7_changed_2 6 rfl rfl)
theorem dX7_changed_53 : decode cX7_changed 53 = .ok (.aload_n 0, 1) := dk_42 (dk_at dksX7_changed_2 7 rfl rfl)
theorem dX7_changed_54 : decode cX7_changed 54 = .ok (.getfield 47, 3) := dk_180 0 47 (dk_at dksX7_changed_2 8 rfl rfl)
theorem dX7_changed_57 : decode cX7_changed 57 = .ok (.bipush 16, 2) := dk_16 16 (dk_at dksX7_changed_2 11 rfl rfl)
theorem dX7_changed_59 : decode cX7_changed 59 = .ok (.iload_n 2, 1) := dk_28 (dk_at dksX7_changed_2 13 rfl rfl)
theorem dX7_changed_60 : decode cX7_changed 60 = .ok (.iadd, 1) := dk_96 (dk_at dksX7_changed_2 14 rfl rfl)
theorem dX7_changed_61 : decode cX7_changed 61 = .ok (.iaload, 1) := dk_46 (dk_at dksX7_changed_2 15 rfl rfl)
theorem dX7_changed_62 : decode cX7_changed 62 = .ok (.if_icmp .ne 7, 3) := dk_160 0 7 (dk_at dksX7_changed_2 16 rfl rfl)
theorem dX7_changed_65 : decode cX7_changed 65 = .ok (.iconst 0, 1) := dk_3 (dk_at dksX7_changed_2 19 rfl rfl)
theorem dX7_changed_66 : decode cX7_changed 66 = .ok (.goto 4, 3) := dk_167 0 4 (dk_at dksX7_changed_2 20 rfl rfl)
theorem dX7_changed_69 : decode cX7_changed 69 = .ok (.iconst 3, 1) := dk_6 (dk_at dksX7_changed_2 23 rfl rfl)
theorem dX7_changed_70 : decode cX7_changed 70 = .ok (.aload_n 0, 1) := dk_42 (dk_at dksX7_changed_3 0 rfl rfl)
theorem dX7_changed_71 : decode cX7_changed 71 = .ok (.getfield 50, 3) := dk_180 0 50 (dk_at dksX7_changed_3 1 rfl rfl)
theorem dX7_changed_74 : decode cX7_changed 74 = .ok (.iload_n 1, 1) := dk_27 (dk_at dksX7_changed_3 4 rfl rfl)
theorem dX7_changed_75 : decode cX7_changed 75 = .ok (.iaload, 1) := dk_46 (dk_at dksX7_changed_3 5 rfl rfl)
theorem dX7_changed_76 : decode cX7_changed 76 = .ok (.aload_n 0, 1) := dk_42 (dk_at dksX7_changed_3 6 rfl rfl)
theorem dX7_changed_77 : decode cX7_changed 77 = .ok (.getfield 50, 3) := dk_180 0 50 (dk_at dksX7_changed_3 7 rfl rfl)
theorem dX7_changed_80 : decode cX7_changed 80 = .ok (.bipush 16, 2) := dk_16 16 (dk_at dksX7_changed_3 10 rfl rfl)
theorem dX7_changed_82 : decode cX7_changed 82 = .ok (.iload_n 2, 1) := dk_28 (dk_at dksX7_changed_3 12 rfl rfl)
theorem dX7_changed_83 : decode cX7_changed 83 = .ok (.iadd, 1) := dk_96 (dk_at dksX7_changed_3 13 rfl rfl)
theorem dX7_changed_84 : decode cX7_changed 84 = .ok (.iaload, 1) := dk_46 (dk_at dksX7_changed_3 14 rfl rfl)
theorem dX7_changed_85 : decode cX7_changed 85 = .ok (.if_icmp .ne 7, 3) := dk_160 0 7 (dk_at dksX7_changed_3 15 rfl rfl)
theorem dX7_changed_88 : decode cX7_changed 88 = .ok (.iconst 0, 1) := dk_3 (dk_at dksX7_changed_3 18 rfl rfl)
theorem dX7_changed_89 : decode cX7_changed 89 = .ok (.goto 4, 3) := dk_167 0 4 (dk_at dksX7_changed_3 19 rfl rfl)
theorem dX7_changed_92 : decode cX7_changed 92 = .ok (.iconst 1, 1) := dk_4 (dk_at dksX7_changed_3 22 rfl rfl)
theorem dX7_changed_93 : decode cX7_changed 93 = .ok (.iadd, 1) := dk_96 (dk_at dksX7_changed_3 23 rfl rfl)
theorem dX7_changed_94 : decode cX7_changed 94 = .ok (.ireturn, 1) := dk_172 (dk_at dksX7_changed_4 0 rfl rfl)
abbrev cX7_look : ByteArray := prog_21_method_60_code
def yX7_look : MethodName := ⟨RX7, "look", "(IIII)I"⟩
def dkwX7_look_1 : List UInt8 := [154, 0, 5, 2, 172, 42, 27, 29, 21, 4, 182, 1, 8, 42, 28, 29, 21, 4, 182, 1, 11, 172]
abbrev dktX7_look_1 : List UInt8 := dkwX7_look_1 ++ []
def dkwX7_look_0 : List UInt8 := [42, 27, 182, 0, 202, 153, 0, 20, 42, 28, 182, 0, 182, 153, 0, 12, 29, 21, 4, 184, 0, 254]
abbrev dktX7_look_0 : List UInt8 := dkwX7_look_0 ++ dktX7_look_1
theorem dksX7_look_0 : cX7_look.data.toList.drop 0 = dktX7_look_0 := by decide +kernel
theorem dksX7_look_1 : cX7_look.data.toList.drop 22 = dktX7_look_1 := dk_seg dksX7_look_0 22 rfl rfl
theorem dX7_look_0 : decode cX7_look 0 = .ok (.aload_n 0, 1) := dk_42 (dk_at dksX7_look_0 0 rfl rfl)
theorem dX7_look_1 : decode cX7_look 1 = .ok (.iload_n 1, 1) := dk_27 (dk_at dksX7_look_0 1 rfl rfl)
theorem dX7_look_2 : decode cX7_look 2 = .ok (.invokevirtual 202, 3) := dk_182 0 202 (dk_at dksX7_look_0 2 rfl rfl)
theorem dX7_look_5 : decode cX7_look 5 = .ok (.ifCond .eq 20, 3) := dk_153 0 20 (dk_at dksX7_look_0 5 rfl rfl)
theorem dX7_look_8 : decode cX7_look 8 = .ok (.aload_n 0, 1) := dk_42 (dk_at dksX7_look_0 8 rfl rfl)
theorem dX7_look_9 : decode cX7_look 9 = .ok (.iload_n 2, 1) := dk_28 (dk_at dksX7_look_0 9 rfl rfl)
theorem dX7_look_10 : decode cX7_look 10 = .ok (.invokevirtual 182, 3) := dk_182 0 182 (dk_at dksX7_look_0 10 rfl rfl)
theorem dX7_look_13 : decode cX7_look 13 = .ok (.ifCond .eq 12, 3) := dk_153 0 12 (dk_at dksX7_look_0 13 rfl rfl)
theorem dX7_look_16 : decode cX7_look 16 = .ok (.iload_n 3, 1) := dk_29 (dk_at dksX7_look_0 16 rfl rfl)
theorem dX7_look_17 : decode cX7_look 17 = .ok (.iload 4, 2) := dk_21 4 (dk_at dksX7_look_0 17 rfl rfl)
theorem dX7_look_19 : decode cX7_look 19 = .ok (.invokestatic 254, 3) := dk_184 0 254 (dk_at dksX7_look_0 19 rfl rfl)
theorem dX7_look_22 : decode cX7_look 22 = .ok (.ifCond .ne 5, 3) := dk_154 0 5 (dk_at dksX7_look_1 0 rfl rfl)
theorem dX7_look_25 : decode cX7_look 25 = .ok (.iconst (-1), 1) := dk_2 (dk_at dksX7_look_1 3 rfl rfl)
theorem dX7_look_26 : decode cX7_look 26 = .ok (.ireturn, 1) := dk_172 (dk_at dksX7_look_1 4 rfl rfl)
theorem dX7_look_27 : decode cX7_look 27 = .ok (.aload_n 0, 1) := dk_42 (dk_at dksX7_look_1 5 rfl rfl)
theorem dX7_look_28 : decode cX7_look 28 = .ok (.iload_n 1, 1) := dk_27 (dk_at dksX7_look_1 6 rfl rfl)
theorem dX7_look_29 : decode cX7_look 29 = .ok (.iload_n 3, 1) := dk_29 (dk_at dksX7_look_1 7 rfl rfl)
theorem dX7_look_30 : decode cX7_look 30 = .ok (.iload 4, 2) := dk_21 4 (dk_at dksX7_look_1 8 rfl rfl)
theorem dX7_look_32 : decode cX7_look 32 = .ok (.invokevirtual 264, 3) := dk_182 1 8 (dk_at dksX7_look_1 10 rfl rfl)
theorem dX7_look_35 : decode cX7_look 35 = .ok (.aload_n 0, 1) := dk_42 (dk_at dksX7_look_1 13 rfl rfl)
theorem dX7_look_36 : decode cX7_look 36 = .ok (.iload_n 2, 1) := dk_28 (dk_at dksX7_look_1 14 rfl rfl)
theorem dX7_look_37 : decode cX7_look 37 = .ok (.iload_n 3, 1) := dk_29 (dk_at dksX7_look_1 15 rfl rfl)
theorem dX7_look_38 : decode cX7_look 38 = .ok (.iload 4, 2) := dk_21 4 (dk_at dksX7_look_1 16 rfl rfl)
theorem dX7_look_40 : decode cX7_look 40 = .ok (.invokevirtual 267, 3) := dk_182 1 11 (dk_at dksX7_look_1 18 rfl rfl)
theorem dX7_look_43 : decode cX7_look 43 = .ok (.ireturn, 1) := dk_172 (dk_at dksX7_look_1 21 rfl rfl)
abbrev cX7_shows : ByteArray := prog_21_method_59_code
def yX7_shows : MethodName := ⟨RX7, "shows", "(III)V"⟩
def dkwX7_shows_0 : List UInt8 := [42, 27, 184, 1, 1, 182, 0, 243, 42, 3, 28, 29, 182, 0, 246, 177]
abbrev dktX7_shows_0 : List UInt8 := dkwX7_shows_0 ++ []
theorem dksX7_shows_0 : cX7_shows.data.toList.drop 0 = dktX7_shows_0 := by decide +kernel
theorem dX7_shows_0 : decode cX7_shows 0 = .ok (.aload_n 0, 1) := dk_42 (dk_at dksX7_shows_0 0 rfl rfl)
theorem dX7_shows_1 : decode cX7_shows 1 = .ok (.iload_n 1, 1) := dk_27 (dk_at dksX7_shows_0 1 rfl rfl)
theorem dX7_shows_2 : decode cX7_shows 2 = .ok (.invokestatic 257, 3) := dk_184 1 1 (dk_at dksX7_shows_0 2 rfl rfl)
theorem dX7_shows_5 : decode cX7_shows 5 = .ok (.invokevirtual 243, 3) := dk_182 0 243 (dk_at dksX7_shows_0 5 rfl rfl)
theorem dX7_shows_8 : decode cX7_shows 8 = .ok (.aload_n 0, 1) := dk_42 (dk_at dksX7_shows_0 8 rfl rfl)
theorem dX7_shows_9 : decode cX7_shows 9 = .ok (.iconst 0, 1) := dk_3 (dk_at dksX7_shows_0 9 rfl rfl)
theorem dX7_shows_10 : decode cX7_shows 10 = .ok (.iload_n 2, 1) := dk_28 (dk_at dksX7_shows_0 10 rfl rfl)
theorem dX7_shows_11 : decode cX7_shows 11 = .ok (.iload_n 3, 1) := dk_29 (dk_at dksX7_shows_0 11 rfl rfl)
theorem dX7_shows_12 : decode cX7_shows 12 = .ok (.invokevirtual 246, 3) := dk_182 0 246 (dk_at dksX7_shows_0 12 rfl rfl)
theorem dX7_shows_15 : decode cX7_shows 15 = .ok (.return_, 1) := dk_177 (dk_at dksX7_shows_0 15 rfl rfl)
abbrev cX7_lookAt : ByteArray := prog_21_method_58_code
def yX7_lookAt : MethodName := ⟨RX7, "lookAt", "(III)I"⟩
def dkwX7_lookAt_2 : List UInt8 := [182, 0, 250, 184, 0, 205, 54, 4, 132, 5, 1, 167, 255, 208, 21, 4, 172]
abbrev dktX7_lookAt_2 : List UInt8 := dkwX7_lookAt_2 ++ []
def dkwX7_lookAt_1 : List UInt8 := [162, 0, 37, 42, 27, 21, 5, 184, 0, 189, 182, 0, 243, 42, 4, 28, 29, 182, 0, 246, 21, 4, 42]
abbrev dktX7_lookAt_1 : List UInt8 := dkwX7_lookAt_1 ++ dktX7_lookAt_2
def dkwX7_lookAt_0 : List UInt8 := [17, 3, 231, 54, 4, 3, 54, 5, 21, 5, 42, 180, 0, 7, 27, 184, 0, 97, 16, 13, 96, 46]
abbrev dktX7_lookAt_0 : List UInt8 := dkwX7_lookAt_0 ++ dktX7_lookAt_1
theorem dksX7_lookAt_0 : cX7_lookAt.data.toList.drop 0 = dktX7_lookAt_0 := by decide +kernel
theorem dksX7_lookAt_1 : cX7_lookAt.data.toList.drop 22 = dktX7_lookAt_1 := dk_seg dksX7_lookAt_0 22 rfl rfl
theorem dksX7_lookAt_2 : cX7_lookAt.data.toList.drop 45 = dktX7_lookAt_2 := dk_seg dksX7_lookAt_1 23 rfl rfl
theorem dX7_lookAt_0 : decode cX7_lookAt 0 = .ok (.sipush 999, 3) := dk_17 3 231 (dk_at dksX7_lookAt_0 0 rfl rfl)
theorem dX7_lookAt_3 : decode cX7_lookAt 3 = .ok (.istore 4, 2) := dk_54 4 (dk_at dksX7_lookAt_0 3 rfl rfl)
theorem dX7_lookAt_5 : decode cX7_lookAt 5 = .ok (.iconst 0, 1) := dk_3 (dk_at dksX7_lookAt_0 5 rfl rfl)
theorem dX7_lookAt_6 : decode cX7_lookAt 6 = .ok (.istore 5, 2) := dk_54 5 (dk_at dksX7_lookAt_0 6 rfl rfl)
theorem dX7_lookAt_8 : decode cX7_lookAt 8 = .ok (.iload 5, 2) := dk_21 5 (dk_at dksX7_lookAt_0 8 rfl rfl)
theorem dX7_lookAt_10 : decode cX7_lookAt 10 = .ok (.aload_n 0, 1) := dk_42 (dk_at dksX7_lookAt_0 10 rfl rfl)
theorem dX7_lookAt_11 : decode cX7_lookAt 11 = .ok (.getfield 7, 3) := dk_180 0 7 (dk_at dksX7_lookAt_0 11 rfl rfl)
theorem dX7_lookAt_14 : decode cX7_lookAt 14 = .ok (.iload_n 1, 1) := dk_27 (dk_at dksX7_lookAt_0 14 rfl rfl)
theorem dX7_lookAt_15 : decode cX7_lookAt 15 = .ok (.invokestatic 97, 3) := dk_184 0 97 (dk_at dksX7_lookAt_0 15 rfl rfl)
theorem dX7_lookAt_18 : decode cX7_lookAt 18 = .ok (.bipush 13, 2) := dk_16 13 (dk_at dksX7_lookAt_0 18 rfl rfl)
theorem dX7_lookAt_20 : decode cX7_lookAt 20 = .ok (.iadd, 1) := dk_96 (dk_at dksX7_lookAt_0 20 rfl rfl)
theorem dX7_lookAt_21 : decode cX7_lookAt 21 = .ok (.iaload, 1) := dk_46 (dk_at dksX7_lookAt_0 21 rfl rfl)
theorem dX7_lookAt_22 : decode cX7_lookAt 22 = .ok (.if_icmp .ge 37, 3) := dk_162 0 37 (dk_at dksX7_lookAt_1 0 rfl rfl)
theorem dX7_lookAt_25 : decode cX7_lookAt 25 = .ok (.aload_n 0, 1) := dk_42 (dk_at dksX7_lookAt_1 3 rfl rfl)
theorem dX7_lookAt_26 : decode cX7_lookAt 26 = .ok (.iload_n 1, 1) := dk_27 (dk_at dksX7_lookAt_1 4 rfl rfl)
theorem dX7_lookAt_27 : decode cX7_lookAt 27 = .ok (.iload 5, 2) := dk_21 5 (dk_at dksX7_lookAt_1 5 rfl rfl)
theorem dX7_lookAt_29 : decode cX7_lookAt 29 = .ok (.invokestatic 189, 3) := dk_184 0 189 (dk_at dksX7_lookAt_1 7 rfl rfl)
theorem dX7_lookAt_32 : decode cX7_lookAt 32 = .ok (.invokevirtual 243, 3) := dk_182 0 243 (dk_at dksX7_lookAt_1 10 rfl rfl)
theorem dX7_lookAt_35 : decode cX7_lookAt 35 = .ok (.aload_n 0, 1) := dk_42 (dk_at dksX7_lookAt_1 13 rfl rfl)
theorem dX7_lookAt_36 : decode cX7_lookAt 36 = .ok (.iconst 1, 1) := dk_4 (dk_at dksX7_lookAt_1 14 rfl rfl)
theorem dX7_lookAt_37 : decode cX7_lookAt 37 = .ok (.iload_n 2, 1) := dk_28 (dk_at dksX7_lookAt_1 15 rfl rfl)
theorem dX7_lookAt_38 : decode cX7_lookAt 38 = .ok (.iload_n 3, 1) := dk_29 (dk_at dksX7_lookAt_1 16 rfl rfl)
theorem dX7_lookAt_39 : decode cX7_lookAt 39 = .ok (.invokevirtual 246, 3) := dk_182 0 246 (dk_at dksX7_lookAt_1 17 rfl rfl)
theorem dX7_lookAt_42 : decode cX7_lookAt 42 = .ok (.iload 4, 2) := dk_21 4 (dk_at dksX7_lookAt_1 20 rfl rfl)
theorem dX7_lookAt_44 : decode cX7_lookAt 44 = .ok (.aload_n 0, 1) := dk_42 (dk_at dksX7_lookAt_1 22 rfl rfl)
theorem dX7_lookAt_45 : decode cX7_lookAt 45 = .ok (.invokevirtual 250, 3) := dk_182 0 250 (dk_at dksX7_lookAt_2 0 rfl rfl)
theorem dX7_lookAt_48 : decode cX7_lookAt 48 = .ok (.invokestatic 205, 3) := dk_184 0 205 (dk_at dksX7_lookAt_2 3 rfl rfl)
theorem dX7_lookAt_51 : decode cX7_lookAt 51 = .ok (.istore 4, 2) := dk_54 4 (dk_at dksX7_lookAt_2 6 rfl rfl)
theorem dX7_lookAt_53 : decode cX7_lookAt 53 = .ok (.iinc 5 1, 3) := dk_132 5 1 (dk_at dksX7_lookAt_2 8 rfl rfl)
theorem dX7_lookAt_56 : decode cX7_lookAt 56 = .ok (.goto (-48), 3) := dk_167 255 208 (dk_at dksX7_lookAt_2 11 rfl rfl)
theorem dX7_lookAt_59 : decode cX7_lookAt 59 = .ok (.iload 4, 2) := dk_21 4 (dk_at dksX7_lookAt_2 14 rfl rfl)
theorem dX7_lookAt_61 : decode cX7_lookAt 61 = .ok (.ireturn, 1) := dk_172 (dk_at dksX7_lookAt_2 16 rfl rfl)
abbrev cX7_like : ByteArray := prog_21_method_62_code
def yX7_like : MethodName := ⟨RX7, "like", "(III)I"⟩
def dkwX7_like_1 : List UInt8 := [182, 1, 8, 42, 28, 29, 182, 1, 17, 172]
abbrev dktX7_like_1 : List UInt8 := dkwX7_like_1 ++ []
def dkwX7_like_0 : List UInt8 := [42, 27, 182, 0, 202, 153, 0, 11, 28, 29, 184, 0, 254, 154, 0, 5, 2, 172, 42, 27, 28, 29]
abbrev dktX7_like_0 : List UInt8 := dkwX7_like_0 ++ dktX7_like_1
theorem dksX7_like_0 : cX7_like.data.toList.drop 0 = dktX7_like_0 := by decide +kernel
theorem dksX7_like_1 : cX7_like.data.toList.drop 22 = dktX7_like_1 := dk_seg dksX7_like_0 22 rfl rfl
theorem dX7_like_0 : decode cX7_like 0 = .ok (.aload_n 0, 1) := dk_42 (dk_at dksX7_like_0 0 rfl rfl)
theorem dX7_like_1 : decode cX7_like 1 = .ok (.iload_n 1, 1) := dk_27 (dk_at dksX7_like_0 1 rfl rfl)
theorem dX7_like_2 : decode cX7_like 2 = .ok (.invokevirtual 202, 3) := dk_182 0 202 (dk_at dksX7_like_0 2 rfl rfl)
theorem dX7_like_5 : decode cX7_like 5 = .ok (.ifCond .eq 11, 3) := dk_153 0 11 (dk_at dksX7_like_0 5 rfl rfl)
theorem dX7_like_8 : decode cX7_like 8 = .ok (.iload_n 2, 1) := dk_28 (dk_at dksX7_like_0 8 rfl rfl)
theorem dX7_like_9 : decode cX7_like 9 = .ok (.iload_n 3, 1) := dk_29 (dk_at dksX7_like_0 9 rfl rfl)
theorem dX7_like_10 : decode cX7_like 10 = .ok (.invokestatic 254, 3) := dk_184 0 254 (dk_at dksX7_like_0 10 rfl rfl)
theorem dX7_like_13 : decode cX7_like 13 = .ok (.ifCond .ne 5, 3) := dk_154 0 5 (dk_at dksX7_like_0 13 rfl rfl)
theorem dX7_like_16 : decode cX7_like 16 = .ok (.iconst (-1), 1) := dk_2 (dk_at dksX7_like_0 16 rfl rfl)
theorem dX7_like_17 : decode cX7_like 17 = .ok (.ireturn, 1) := dk_172 (dk_at dksX7_like_0 17 rfl rfl)
theorem dX7_like_18 : decode cX7_like 18 = .ok (.aload_n 0, 1) := dk_42 (dk_at dksX7_like_0 18 rfl rfl)
theorem dX7_like_19 : decode cX7_like 19 = .ok (.iload_n 1, 1) := dk_27 (dk_at dksX7_like_0 19 rfl rfl)
theorem dX7_like_20 : decode cX7_like 20 = .ok (.iload_n 2, 1) := dk_28 (dk_at dksX7_like_0 20 rfl rfl)
theorem dX7_like_21 : decode cX7_like 21 = .ok (.iload_n 3, 1) := dk_29 (dk_at dksX7_like_0 21 rfl rfl)
theorem dX7_like_22 : decode cX7_like 22 = .ok (.invokevirtual 264, 3) := dk_182 1 8 (dk_at dksX7_like_1 0 rfl rfl)
theorem dX7_like_25 : decode cX7_like 25 = .ok (.aload_n 0, 1) := dk_42 (dk_at dksX7_like_1 3 rfl rfl)
theorem dX7_like_26 : decode cX7_like 26 = .ok (.iload_n 2, 1) := dk_28 (dk_at dksX7_like_1 4 rfl rfl)
theorem dX7_like_27 : decode cX7_like 27 = .ok (.iload_n 3, 1) := dk_29 (dk_at dksX7_like_1 5 rfl rfl)
theorem dX7_like_28 : decode cX7_like 28 = .ok (.invokevirtual 273, 3) := dk_182 1 17 (dk_at dksX7_like_1 6 rfl rfl)
theorem dX7_like_31 : decode cX7_like 31 = .ok (.ireturn, 1) := dk_172 (dk_at dksX7_like_1 9 rfl rfl)
abbrev cX7_likeNow : ByteArray := prog_21_method_61_code
def yX7_likeNow : MethodName := ⟨RX7, "likeNow", "(II)I"⟩
def dkwX7_likeNow_2 : List UInt8 := [21, 4, 62, 42, 21, 5, 181, 1, 14, 132, 4, 1, 167, 255, 207, 29, 172]
abbrev dktX7_likeNow_2 : List UInt8 := dkwX7_likeNow_2 ++ []
def dkwX7_likeNow_1 : List UInt8 := [27, 28, 182, 1, 11, 54, 5, 29, 155, 0, 15, 21, 5, 42, 180, 1, 14, 161, 0, 6, 167, 0, 12]
abbrev dktX7_likeNow_1 : List UInt8 := dkwX7_likeNow_1 ++ dktX7_likeNow_2
def dkwX7_likeNow_0 : List UInt8 := [2, 62, 42, 3, 181, 1, 14, 3, 54, 4, 21, 4, 42, 180, 0, 7, 3, 46, 162, 0, 44, 42, 21, 4]
abbrev dktX7_likeNow_0 : List UInt8 := dkwX7_likeNow_0 ++ dktX7_likeNow_1
theorem dksX7_likeNow_0 : cX7_likeNow.data.toList.drop 0 = dktX7_likeNow_0 := by decide +kernel
theorem dksX7_likeNow_1 : cX7_likeNow.data.toList.drop 24 = dktX7_likeNow_1 := dk_seg dksX7_likeNow_0 24 rfl rfl
theorem dksX7_likeNow_2 : cX7_likeNow.data.toList.drop 47 = dktX7_likeNow_2 := dk_seg dksX7_likeNow_1 23 rfl rfl
theorem dX7_likeNow_0 : decode cX7_likeNow 0 = .ok (.iconst (-1), 1) := dk_2 (dk_at dksX7_likeNow_0 0 rfl rfl)
theorem dX7_likeNow_1 : decode cX7_likeNow 1 = .ok (.istore_n 3, 1) := dk_62 (dk_at dksX7_likeNow_0 1 rfl rfl)
theorem dX7_likeNow_2 : decode cX7_likeNow 2 = .ok (.aload_n 0, 1) := dk_42 (dk_at dksX7_likeNow_0 2 rfl rfl)
theorem dX7_likeNow_3 : decode cX7_likeNow 3 = .ok (.iconst 0, 1) := dk_3 (dk_at dksX7_likeNow_0 3 rfl rfl)
theorem dX7_likeNow_4 : decode cX7_likeNow 4 = .ok (.putfield 270, 3) := dk_181 1 14 (dk_at dksX7_likeNow_0 4 rfl rfl)
theorem dX7_likeNow_7 : decode cX7_likeNow 7 = .ok (.iconst 0, 1) := dk_3 (dk_at dksX7_likeNow_0 7 rfl rfl)
theorem dX7_likeNow_8 : decode cX7_likeNow 8 = .ok (.istore 4, 2) := dk_54 4 (dk_at dksX7_likeNow_0 8 rfl rfl)
theorem dX7_likeNow_10 : decode cX7_likeNow 10 = .ok (.iload 4, 2) := dk_21 4 (dk_at dksX7_likeNow_0 10 rfl rfl)
theorem dX7_likeNow_12 : decode cX7_likeNow 12 = .ok (.aload_n 0, 1) := dk_42 (dk_at dksX7_likeNow_0 12 rfl rfl)
theorem dX7_likeNow_13 : decode cX7_likeNow 13 = .ok (.getfield 7, 3) := dk_180 0 7 (dk_at dksX7_likeNow_0 13 rfl rfl)
theorem dX7_likeNow_16 : decode cX7_likeNow 16 = .ok (.iconst 0, 1) := dk_3 (dk_at dksX7_likeNow_0 16 rfl rfl)
theorem dX7_likeNow_17 : decode cX7_likeNow 17 = .ok (.iaload, 1) := dk_46 (dk_at dksX7_likeNow_0 17 rfl rfl)
theorem dX7_likeNow_18 : decode cX7_likeNow 18 = .ok (.if_icmp .ge 44, 3) := dk_162 0 44 (dk_at dksX7_likeNow_0 18 rfl rfl)
theorem dX7_likeNow_21 : decode cX7_likeNow 21 = .ok (.aload_n 0, 1) := dk_42 (dk_at dksX7_likeNow_0 21 rfl rfl)
theorem dX7_likeNow_22 : decode cX7_likeNow 22 = .ok (.iload 4, 2) := dk_21 4 (dk_at dksX7_likeNow_0 22 rfl rfl)
theorem dX7_likeNow_24 : decode cX7_likeNow 24 = .ok (.iload_n 1, 1) := dk_27 (dk_at dksX7_likeNow_1 0 rfl rfl)
theorem dX7_likeNow_25 : decode cX7_likeNow 25 = .ok (.iload_n 2, 1) := dk_28 (dk_at dksX7_likeNow_1 1 rfl rfl)
theorem dX7_likeNow_26 : decode cX7_likeNow 26 = .ok (.invokevirtual 267, 3) := dk_182 1 11 (dk_at dksX7_likeNow_1 2 rfl rfl)
theorem dX7_likeNow_29 : decode cX7_likeNow 29 = .ok (.istore 5, 2) := dk_54 5 (dk_at dksX7_likeNow_1 5 rfl rfl)
theorem dX7_likeNow_31 : decode cX7_likeNow 31 = .ok (.iload_n 3, 1) := dk_29 (dk_at dksX7_likeNow_1 7 rfl rfl)
theorem dX7_likeNow_32 : decode cX7_likeNow 32 = .ok (.ifCond .lt 15, 3) := dk_155 0 15 (dk_at dksX7_likeNow_1 8 rfl rfl)
theorem dX7_likeNow_35 : decode cX7_likeNow 35 = .ok (.iload 5, 2) := dk_21 5 (dk_at dksX7_likeNow_1 11 rfl rfl)
theorem dX7_likeNow_37 : decode cX7_likeNow 37 = .ok (.aload_n 0, 1) := dk_42 (dk_at dksX7_likeNow_1 13 rfl rfl)
theorem dX7_likeNow_38 : decode cX7_likeNow 38 = .ok (.getfield 270, 3) := dk_180 1 14 (dk_at dksX7_likeNow_1 14 rfl rfl)
theorem dX7_likeNow_41 : decode cX7_likeNow 41 = .ok (.if_icmp .lt 6, 3) := dk_161 0 6 (dk_at dksX7_likeNow_1 17 rfl rfl)
theorem dX7_likeNow_44 : decode cX7_likeNow 44 = .ok (.goto 12, 3) := dk_167 0 12 (dk_at dksX7_likeNow_1 20 rfl rfl)
theorem dX7_likeNow_47 : decode cX7_likeNow 47 = .ok (.iload 4, 2) := dk_21 4 (dk_at dksX7_likeNow_2 0 rfl rfl)
theorem dX7_likeNow_49 : decode cX7_likeNow 49 = .ok (.istore_n 3, 1) := dk_62 (dk_at dksX7_likeNow_2 2 rfl rfl)
theorem dX7_likeNow_50 : decode cX7_likeNow 50 = .ok (.aload_n 0, 1) := dk_42 (dk_at dksX7_likeNow_2 3 rfl rfl)
theorem dX7_likeNow_51 : decode cX7_likeNow 51 = .ok (.iload 5, 2) := dk_21 5 (dk_at dksX7_likeNow_2 4 rfl rfl)
theorem dX7_likeNow_53 : decode cX7_likeNow 53 = .ok (.putfield 270, 3) := dk_181 1 14 (dk_at dksX7_likeNow_2 6 rfl rfl)
theorem dX7_likeNow_56 : decode cX7_likeNow 56 = .ok (.iinc 4 1, 3) := dk_132 4 1 (dk_at dksX7_likeNow_2 9 rfl rfl)
theorem dX7_likeNow_59 : decode cX7_likeNow 59 = .ok (.goto (-49), 3) := dk_167 255 207 (dk_at dksX7_likeNow_2 12 rfl rfl)
theorem dX7_likeNow_62 : decode cX7_likeNow 62 = .ok (.iload_n 3, 1) := dk_29 (dk_at dksX7_likeNow_2 15 rfl rfl)
theorem dX7_likeNow_63 : decode cX7_likeNow 63 = .ok (.ireturn, 1) := dk_172 (dk_at dksX7_likeNow_2 16 rfl rfl)
abbrev cX7_asks : ByteArray := prog_21_method_63_code
def yX7_asks : MethodName := ⟨RX7, "asks", "(III)I"⟩
def dkwX7_asks_1 : List UInt8 := [182, 1, 8, 42, 180, 0, 224, 172]
abbrev dktX7_asks_1 : List UInt8 := dkwX7_asks_1 ++ []
def dkwX7_asks_0 : List UInt8 := [42, 27, 182, 0, 202, 153, 0, 11, 28, 29, 184, 0, 254, 154, 0, 5, 2, 172, 42, 27, 28, 29]
abbrev dktX7_asks_0 : List UInt8 := dkwX7_asks_0 ++ dktX7_asks_1
theorem dksX7_asks_0 : cX7_asks.data.toList.drop 0 = dktX7_asks_0 := by decide +kernel
theorem dksX7_asks_1 : cX7_asks.data.toList.drop 22 = dktX7_asks_1 := dk_seg dksX7_asks_0 22 rfl rfl
theorem dX7_asks_0 : decode cX7_asks 0 = .ok (.aload_n 0, 1) := dk_42 (dk_at dksX7_asks_0 0 rfl rfl)
theorem dX7_asks_1 : decode cX7_asks 1 = .ok (.iload_n 1, 1) := dk_27 (dk_at dksX7_asks_0 1 rfl rfl)
theorem dX7_asks_2 : decode cX7_asks 2 = .ok (.invokevirtual 202, 3) := dk_182 0 202 (dk_at dksX7_asks_0 2 rfl rfl)
theorem dX7_asks_5 : decode cX7_asks 5 = .ok (.ifCond .eq 11, 3) := dk_153 0 11 (dk_at dksX7_asks_0 5 rfl rfl)
theorem dX7_asks_8 : decode cX7_asks 8 = .ok (.iload_n 2, 1) := dk_28 (dk_at dksX7_asks_0 8 rfl rfl)
theorem dX7_asks_9 : decode cX7_asks 9 = .ok (.iload_n 3, 1) := dk_29 (dk_at dksX7_asks_0 9 rfl rfl)
theorem dX7_asks_10 : decode cX7_asks 10 = .ok (.invokestatic 254, 3) := dk_184 0 254 (dk_at dksX7_asks_0 10 rfl rfl)
theorem dX7_asks_13 : decode cX7_asks 13 = .ok (.ifCond .ne 5, 3) := dk_154 0 5 (dk_at dksX7_asks_0 13 rfl rfl)
theorem dX7_asks_16 : decode cX7_asks 16 = .ok (.iconst (-1), 1) := dk_2 (dk_at dksX7_asks_0 16 rfl rfl)
theorem dX7_asks_17 : decode cX7_asks 17 = .ok (.ireturn, 1) := dk_172 (dk_at dksX7_asks_0 17 rfl rfl)
theorem dX7_asks_18 : decode cX7_asks 18 = .ok (.aload_n 0, 1) := dk_42 (dk_at dksX7_asks_0 18 rfl rfl)
theorem dX7_asks_19 : decode cX7_asks 19 = .ok (.iload_n 1, 1) := dk_27 (dk_at dksX7_asks_0 19 rfl rfl)
theorem dX7_asks_20 : decode cX7_asks 20 = .ok (.iload_n 2, 1) := dk_28 (dk_at dksX7_asks_0 20 rfl rfl)
theorem dX7_asks_21 : decode cX7_asks 21 = .ok (.iload_n 3, 1) := dk_29 (dk_at dksX7_asks_0 21 rfl rfl)
theorem dX7_asks_22 : decode cX7_asks 22 = .ok (.invokevirtual 264, 3) := dk_182 1 8 (dk_at dksX7_asks_1 0 rfl rfl)
theorem dX7_asks_25 : decode cX7_asks 25 = .ok (.aload_n 0, 1) := dk_42 (dk_at dksX7_asks_1 3 rfl rfl)
theorem dX7_asks_26 : decode cX7_asks 26 = .ok (.getfield 224, 3) := dk_180 0 224 (dk_at dksX7_asks_1 4 rfl rfl)
theorem dX7_asks_29 : decode cX7_asks 29 = .ok (.ireturn, 1) := dk_172 (dk_at dksX7_asks_1 7 rfl rfl)
abbrev cX7_strange : ByteArray := prog_21_method_64_code
def yX7_strange : MethodName := ⟨RX7, "strange", "()I"⟩
def dkwX7_strange_5 : List UInt8 := [167, 255, 143, 27, 172]
abbrev dktX7_strange_5 : List UInt8 := dkwX7_strange_5 ++ []
def dkwX7_strange_4 : List UInt8 := [60, 132, 5, 1, 167, 255, 201, 132, 4, 1, 167, 255, 175, 132, 3, 1, 167, 255, 161, 132, 2, 1]
abbrev dktX7_strange_4 : List UInt8 := dkwX7_strange_4 ++ dktX7_strange_5
def dkwX7_strange_3 : List UInt8 := [21, 5, 184, 0, 189, 3, 3, 182, 1, 4, 54, 6, 27, 155, 0, 9, 21, 6, 27, 162, 0, 6, 21, 6]
abbrev dktX7_strange_3 : List UInt8 := dkwX7_strange_3 ++ dktX7_strange_4
def dkwX7_strange_2 : List UInt8 := [180, 0, 7, 29, 184, 0, 97, 16, 13, 96, 46, 162, 0, 44, 42, 28, 21, 4, 184, 0, 189, 3, 3, 29]
abbrev dktX7_strange_2 : List UInt8 := dkwX7_strange_2 ++ dktX7_strange_3
def dkwX7_strange_1 : List UInt8 := [21, 4, 42, 180, 0, 7, 28, 184, 0, 97, 16, 13, 96, 46, 162, 0, 70, 3, 54, 5, 21, 5, 42]
abbrev dktX7_strange_1 : List UInt8 := dkwX7_strange_1 ++ dktX7_strange_2
def dkwX7_strange_0 : List UInt8 := [2, 60, 3, 61, 28, 42, 180, 0, 7, 3, 46, 162, 0, 109, 3, 62, 29, 28, 162, 0, 96, 3, 54, 4]
abbrev dktX7_strange_0 : List UInt8 := dkwX7_strange_0 ++ dktX7_strange_1
theorem dksX7_strange_0 : cX7_strange.data.toList.drop 0 = dktX7_strange_0 := by decide +kernel
theorem dksX7_strange_1 : cX7_strange.data.toList.drop 24 = dktX7_strange_1 := dk_seg dksX7_strange_0 24 rfl rfl
theorem dksX7_strange_2 : cX7_strange.data.toList.drop 47 = dktX7_strange_2 := dk_seg dksX7_strange_1 23 rfl rfl
theorem dksX7_strange_3 : cX7_strange.data.toList.drop 71 = dktX7_strange_3 := dk_seg dksX7_strange_2 24 rfl rfl
theorem dksX7_strange_4 : cX7_strange.data.toList.drop 95 = dktX7_strange_4 := dk_seg dksX7_strange_3 24 rfl rfl
theorem dksX7_strange_5 : cX7_strange.data.toList.drop 117 = dktX7_strange_5 := dk_seg dksX7_strange_4 22 rfl rfl
theorem dX7_strange_0 : decode cX7_strange 0 = .ok (.iconst (-1), 1) := dk_2 (dk_at dksX7_strange_0 0 rfl rfl)
theorem dX7_strange_1 : decode cX7_strange 1 = .ok (.istore_n 1, 1) := dk_60 (dk_at dksX7_strange_0 1 rfl rfl)
theorem dX7_strange_2 : decode cX7_strange 2 = .ok (.iconst 0, 1) := dk_3 (dk_at dksX7_strange_0 2 rfl rfl)
theorem dX7_strange_3 : decode cX7_strange 3 = .ok (.istore_n 2, 1) := dk_61 (dk_at dksX7_strange_0 3 rfl rfl)
theorem dX7_strange_4 : decode cX7_strange 4 = .ok (.iload_n 2, 1) := dk_28 (dk_at dksX7_strange_0 4 rfl rfl)
theorem dX7_strange_5 : decode cX7_strange 5 = .ok (.aload_n 0, 1) := dk_42 (dk_at dksX7_strange_0 5 rfl rfl)
theorem dX7_strange_6 : decode cX7_strange 6 = .ok (.getfield 7, 3) := dk_180 0 7 (dk_at dksX7_strange_0 6 rfl rfl)
theorem dX7_strange_9 : decode cX7_strange 9 = .ok (.iconst 0, 1) := dk_3 (dk_at dksX7_strange_0 9 rfl rfl)
theorem dX7_strange_10 : decode cX7_strange 10 = .ok (.iaload, 1) := dk_46 (dk_at dksX7_strange_0 10 rfl rfl)
theorem dX7_strange_11 : decode cX7_strange 11 = .ok (.if_icmp .ge 109, 3) := dk_162 0 109 (dk_at dksX7_strange_0 11 rfl rfl)
theorem dX7_strange_14 : decode cX7_strange 14 = .ok (.iconst 0, 1) := dk_3 (dk_at dksX7_strange_0 14 rfl rfl)
theorem dX7_strange_15 : decode cX7_strange 15 = .ok (.istore_n 3, 1) := dk_62 (dk_at dksX7_strange_0 15 rfl rfl)
theorem dX7_strange_16 : decode cX7_strange 16 = .ok (.iload_n 3, 1) := dk_29 (dk_at dksX7_strange_0 16 rfl rfl)
theorem dX7_strange_17 : decode cX7_strange 17 = .ok (.iload_n 2, 1) := dk_28 (dk_at dksX7_strange_0 17 rfl rfl)
theorem dX7_strange_18 : decode cX7_strange 18 = .ok (.if_icmp .ge 96, 3) := dk_162 0 96 (dk_at dksX7_strange_0 18 rfl rfl)
theorem dX7_strange_21 : decode cX7_strange 21 = .ok (.iconst 0, 1) := dk_3 (dk_at dksX7_strange_0 21 rfl rfl)
theorem dX7_strange_22 : decode cX7_strange 22 = .ok (.istore 4, 2) := dk_54 4 (dk_at dksX7_strange_0 22 rfl rfl)
theorem dX7_strange_24 : decode cX7_strange 24 = .ok (.iload 4, 2) := dk_21 4 (dk_at dksX7_strange_1 0 rfl rfl)
theorem dX7_strange_26 : decode cX7_strange 26 = .ok (.aload_n 0, 1) := dk_42 (dk_at dksX7_strange_1 2 rfl rfl)
theorem dX7_strange_27 : decode cX7_strange 27 = .ok (.getfield 7, 3) := dk_180 0 7 (dk_at dksX7_strange_1 3 rfl rfl)
theorem dX7_strange_30 : decode cX7_strange 30 = .ok (.iload_n 2, 1) := dk_28 (dk_at dksX7_strange_1 6 rfl rfl)
theorem dX7_strange_31 : decode cX7_strange 31 = .ok (.invokestatic 97, 3) := dk_184 0 97 (dk_at dksX7_strange_1 7 rfl rfl)
theorem dX7_strange_34 : decode cX7_strange 34 = .ok (.bipush 13, 2) := dk_16 13 (dk_at dksX7_strange_1 10 rfl rfl)
theorem dX7_strange_36 : decode cX7_strange 36 = .ok (.iadd, 1) := dk_96 (dk_at dksX7_strange_1 12 rfl rfl)
theorem dX7_strange_37 : decode cX7_strange 37 = .ok (.iaload, 1) := dk_46 (dk_at dksX7_strange_1 13 rfl rfl)
theorem dX7_strange_38 : decode cX7_strange 38 = .ok (.if_icmp .ge 70, 3) := dk_162 0 70 (dk_at dksX7_strange_1 14 rfl rfl)
theorem dX7_strange_41 : decode cX7_strange 41 = .ok (.iconst 0, 1) := dk_3 (dk_at dksX7_strange_1 17 rfl rfl)
theorem dX7_strange_42 : decode cX7_strange 42 = .ok (.istore 5, 2) := dk_54 5 (dk_at dksX7_strange_1 18 rfl rfl)
theorem dX7_strange_44 : decode cX7_strange 44 = .ok (.iload 5, 2) := dk_21 5 (dk_at dksX7_strange_1 20 rfl rfl)
theorem dX7_strange_46 : decode cX7_strange 46 = .ok (.aload_n 0, 1) := dk_42 (dk_at dksX7_strange_1 22 rfl rfl)
theorem dX7_strange_47 : decode cX7_strange 47 = .ok (.getfield 7, 3) := dk_180 0 7 (dk_at dksX7_strange_2 0 rfl rfl)
theorem dX7_strange_50 : decode cX7_strange 50 = .ok (.iload_n 3, 1) := dk_29 (dk_at dksX7_strange_2 3 rfl rfl)
theorem dX7_strange_51 : decode cX7_strange 51 = .ok (.invokestatic 97, 3) := dk_184 0 97 (dk_at dksX7_strange_2 4 rfl rfl)
theorem dX7_strange_54 : decode cX7_strange 54 = .ok (.bipush 13, 2) := dk_16 13 (dk_at dksX7_strange_2 7 rfl rfl)
theorem dX7_strange_56 : decode cX7_strange 56 = .ok (.iadd, 1) := dk_96 (dk_at dksX7_strange_2 9 rfl rfl)
theorem dX7_strange_57 : decode cX7_strange 57 = .ok (.iaload, 1) := dk_46 (dk_at dksX7_strange_2 10 rfl rfl)
theorem dX7_strange_58 : decode cX7_strange 58 = .ok (.if_icmp .ge 44, 3) := dk_162 0 44 (dk_at dksX7_strange_2 11 rfl rfl)
theorem dX7_strange_61 : decode cX7_strange 61 = .ok (.aload_n 0, 1) := dk_42 (dk_at dksX7_strange_2 14 rfl rfl)
theorem dX7_strange_62 : decode cX7_strange 62 = .ok (.iload_n 2, 1) := dk_28 (dk_at dksX7_strange_2 15 rfl rfl)
theorem dX7_strange_63 : decode cX7_strange 63 = .ok (.iload 4, 2) := dk_21 4 (dk_at dksX7_strange_2 16 rfl rfl)
theorem dX7_strange_65 : decode cX7_strange 65 = .ok (.invokestatic 189, 3) := dk_184 0 189 (dk_at dksX7_strange_2 18 rfl rfl)
theorem dX7_strange_68 : decode cX7_strange 68 = .ok (.iconst 0, 1) := dk_3 (dk_at dksX7_strange_2 21 rfl rfl)
theorem dX7_strange_69 : decode cX7_strange 69 = .ok (.iconst 0, 1) := dk_3 (dk_at dksX7_strange_2 22 rfl rfl)
theorem dX7_strange_70 : decode cX7_strange 70 = .ok (.iload_n 3, 1) := dk_29 (dk_at dksX7_strange_2 23 rfl rfl)
theorem dX7_strange_71 : decode cX7_strange 71 = .ok (.iload 5, 2) := dk_21 5 (dk_at dksX7_strange_3 0 rfl rfl)
theorem dX7_strange_73 : decode cX7_strange 73 = .ok (.invokestatic 189, 3) := dk_184 0 189 (dk_at dksX7_strange_3 2 rfl rfl)
theorem dX7_strange_76 : decode cX7_strange 76 = .ok (.iconst 0, 1) := dk_3 (dk_at dksX7_strange_3 5 rfl rfl)
theorem dX7_strange_77 : decode cX7_strange 77 = .ok (.iconst 0, 1) := dk_3 (dk_at dksX7_strange_3 6 rfl rfl)
theorem dX7_strange_78 : decode cX7_strange 78 = .ok (.invokevirtual 260, 3) := dk_182 1 4 (dk_at dksX7_strange_3 7 rfl rfl)
theorem dX7_strange_81 : decode cX7_strange 81 = .ok (.istore 6, 2) := dk_54 6 (dk_at dksX7_strange_3 10 rfl rfl)
theorem dX7_strange_83 : decode cX7_strange 83 = .ok (.iload_n 1, 1) := dk_27 (dk_at dksX7_strange_3 12 rfl rfl)
theorem dX7_strange_84 : decode cX7_strange 84 = .ok (.ifCond .lt 9, 3) := dk_155 0 9 (dk_at dksX7_strange_3 13 rfl rfl)
theorem dX7_strange_87 : decode cX7_strange 87 = .ok (.iload 6, 2) := dk_21 6 (dk_at dksX7_strange_3 16 rfl rfl)
theorem dX7_strange_89 : decode cX7_strange 89 = .ok (.iload_n 1, 1) := dk_27 (dk_at dksX7_strange_3 18 rfl rfl)
theorem dX7_strange_90 : decode cX7_strange 90 = .ok (.if_icmp .ge 6, 3) := dk_162 0 6 (dk_at dksX7_strange_3 19 rfl rfl)
theorem dX7_strange_93 : decode cX7_strange 93 = .ok (.iload 6, 2) := dk_21 6 (dk_at dksX7_strange_3 22 rfl rfl)
theorem dX7_strange_95 : decode cX7_strange 95 = .ok (.istore_n 1, 1) := dk_60 (dk_at dksX7_strange_4 0 rfl rfl)
theorem dX7_strange_96 : decode cX7_strange 96 = .ok (.iinc 5 1, 3) := dk_132 5 1 (dk_at dksX7_strange_4 1 rfl rfl)
theorem dX7_strange_99 : decode cX7_strange 99 = .ok (.goto (-55), 3) := dk_167 255 201 (dk_at dksX7_strange_4 4 rfl rfl)
theorem dX7_strange_102 : decode cX7_strange 102 = .ok (.iinc 4 1, 3) := dk_132 4 1 (dk_at dksX7_strange_4 7 rfl rfl)
theorem dX7_strange_105 : decode cX7_strange 105 = .ok (.goto (-81), 3) := dk_167 255 175 (dk_at dksX7_strange_4 10 rfl rfl)
theorem dX7_strange_108 : decode cX7_strange 108 = .ok (.iinc 3 1, 3) := dk_132 3 1 (dk_at dksX7_strange_4 13 rfl rfl)
theorem dX7_strange_111 : decode cX7_strange 111 = .ok (.goto (-95), 3) := dk_167 255 161 (dk_at dksX7_strange_4 16 rfl rfl)
theorem dX7_strange_114 : decode cX7_strange 114 = .ok (.iinc 2 1, 3) := dk_132 2 1 (dk_at dksX7_strange_4 19 rfl rfl)
theorem dX7_strange_117 : decode cX7_strange 117 = .ok (.goto (-113), 3) := dk_167 255 143 (dk_at dksX7_strange_5 0 rfl rfl)
theorem dX7_strange_120 : decode cX7_strange 120 = .ok (.iload_n 1, 1) := dk_27 (dk_at dksX7_strange_5 3 rfl rfl)
theorem dX7_strange_121 : decode cX7_strange 121 = .ok (.ireturn, 1) := dk_172 (dk_at dksX7_strange_5 4 rfl rfl)
abbrev cX7_marks : ByteArray := prog_21_method_65_code
def yX7_marks : MethodName := ⟨RX7, "marks", "(III)Z"⟩
def dkwX7_marks_2 : List UInt8 := [42, 180, 0, 7, 8, 29, 79, 4, 172]
abbrev dktX7_marks_2 : List UInt8 := dkwX7_marks_2 ++ []
def dkwX7_marks_1 : List UInt8 := [16, 99, 184, 0, 89, 154, 0, 5, 3, 172, 42, 180, 0, 7, 6, 27, 79, 42, 180, 0, 7, 7, 28, 79]
abbrev dktX7_marks_1 : List UInt8 := dkwX7_marks_1 ++ dktX7_marks_2
def dkwX7_marks_0 : List UInt8 := [27, 3, 16, 60, 184, 0, 89, 153, 0, 24, 28, 3, 17, 0, 200, 184, 0, 89, 153, 0, 13, 29, 3]
abbrev dktX7_marks_0 : List UInt8 := dkwX7_marks_0 ++ dktX7_marks_1
theorem dksX7_marks_0 : cX7_marks.data.toList.drop 0 = dktX7_marks_0 := by decide +kernel
theorem dksX7_marks_1 : cX7_marks.data.toList.drop 23 = dktX7_marks_1 := dk_seg dksX7_marks_0 23 rfl rfl
theorem dksX7_marks_2 : cX7_marks.data.toList.drop 47 = dktX7_marks_2 := dk_seg dksX7_marks_1 24 rfl rfl
theorem dX7_marks_0 : decode cX7_marks 0 = .ok (.iload_n 1, 1) := dk_27 (dk_at dksX7_marks_0 0 rfl rfl)
theorem dX7_marks_1 : decode cX7_marks 1 = .ok (.iconst 0, 1) := dk_3 (dk_at dksX7_marks_0 1 rfl rfl)
theorem dX7_marks_2 : decode cX7_marks 2 = .ok (.bipush 60, 2) := dk_16 60 (dk_at dksX7_marks_0 2 rfl rfl)
theorem dX7_marks_4 : decode cX7_marks 4 = .ok (.invokestatic 89, 3) := dk_184 0 89 (dk_at dksX7_marks_0 4 rfl rfl)
theorem dX7_marks_7 : decode cX7_marks 7 = .ok (.ifCond .eq 24, 3) := dk_153 0 24 (dk_at dksX7_marks_0 7 rfl rfl)
theorem dX7_marks_10 : decode cX7_marks 10 = .ok (.iload_n 2, 1) := dk_28 (dk_at dksX7_marks_0 10 rfl rfl)
theorem dX7_marks_11 : decode cX7_marks 11 = .ok (.iconst 0, 1) := dk_3 (dk_at dksX7_marks_0 11 rfl rfl)
theorem dX7_marks_12 : decode cX7_marks 12 = .ok (.sipush 200, 3) := dk_17 0 200 (dk_at dksX7_marks_0 12 rfl rfl)
theorem dX7_marks_15 : decode cX7_marks 15 = .ok (.invokestatic 89, 3) := dk_184 0 89 (dk_at dksX7_marks_0 15 rfl rfl)
theorem dX7_marks_18 : decode cX7_marks 18 = .ok (.ifCond .eq 13, 3) := dk_153 0 13 (dk_at dksX7_marks_0 18 rfl rfl)
theorem dX7_marks_21 : decode cX7_marks 21 = .ok (.iload_n 3, 1) := dk_29 (dk_at dksX7_marks_0 21 rfl rfl)
theorem dX7_marks_22 : decode cX7_marks 22 = .ok (.iconst 0, 1) := dk_3 (dk_at dksX7_marks_0 22 rfl rfl)
theorem dX7_marks_23 : decode cX7_marks 23 = .ok (.bipush 99, 2) := dk_16 99 (dk_at dksX7_marks_1 0 rfl rfl)
theorem dX7_marks_25 : decode cX7_marks 25 = .ok (.invokestatic 89, 3) := dk_184 0 89 (dk_at dksX7_marks_1 2 rfl rfl)
theorem dX7_marks_28 : decode cX7_marks 28 = .ok (.ifCond .ne 5, 3) := dk_154 0 5 (dk_at dksX7_marks_1 5 rfl rfl)
theorem dX7_marks_31 : decode cX7_marks 31 = .ok (.iconst 0, 1) := dk_3 (dk_at dksX7_marks_1 8 rfl rfl)
theorem dX7_marks_32 : decode cX7_marks 32 = .ok (.ireturn, 1) := dk_172 (dk_at dksX7_marks_1 9 rfl rfl)
theorem dX7_marks_33 : decode cX7_marks 33 = .ok (.aload_n 0, 1) := dk_42 (dk_at dksX7_marks_1 10 rfl rfl)
theorem dX7_marks_34 : decode cX7_marks 34 = .ok (.getfield 7, 3) := dk_180 0 7 (dk_at dksX7_marks_1 11 rfl rfl)
theorem dX7_marks_37 : decode cX7_marks 37 = .ok (.iconst 3, 1) := dk_6 (dk_at dksX7_marks_1 14 rfl rfl)
theorem dX7_marks_38 : decode cX7_marks 38 = .ok (.iload_n 1, 1) := dk_27 (dk_at dksX7_marks_1 15 rfl rfl)
theorem dX7_marks_39 : decode cX7_marks 39 = .ok (.iastore, 1) := dk_79 (dk_at dksX7_marks_1 16 rfl rfl)
theorem dX7_marks_40 : decode cX7_marks 40 = .ok (.aload_n 0, 1) := dk_42 (dk_at dksX7_marks_1 17 rfl rfl)
theorem dX7_marks_41 : decode cX7_marks 41 = .ok (.getfield 7, 3) := dk_180 0 7 (dk_at dksX7_marks_1 18 rfl rfl)
theorem dX7_marks_44 : decode cX7_marks 44 = .ok (.iconst 4, 1) := dk_7 (dk_at dksX7_marks_1 21 rfl rfl)
theorem dX7_marks_45 : decode cX7_marks 45 = .ok (.iload_n 2, 1) := dk_28 (dk_at dksX7_marks_1 22 rfl rfl)
theorem dX7_marks_46 : decode cX7_marks 46 = .ok (.iastore, 1) := dk_79 (dk_at dksX7_marks_1 23 rfl rfl)
theorem dX7_marks_47 : decode cX7_marks 47 = .ok (.aload_n 0, 1) := dk_42 (dk_at dksX7_marks_2 0 rfl rfl)
theorem dX7_marks_48 : decode cX7_marks 48 = .ok (.getfield 7, 3) := dk_180 0 7 (dk_at dksX7_marks_2 1 rfl rfl)
theorem dX7_marks_51 : decode cX7_marks 51 = .ok (.iconst 5, 1) := dk_8 (dk_at dksX7_marks_2 4 rfl rfl)
theorem dX7_marks_52 : decode cX7_marks 52 = .ok (.iload_n 3, 1) := dk_29 (dk_at dksX7_marks_2 5 rfl rfl)
theorem dX7_marks_53 : decode cX7_marks 53 = .ok (.iastore, 1) := dk_79 (dk_at dksX7_marks_2 6 rfl rfl)
theorem dX7_marks_54 : decode cX7_marks 54 = .ok (.iconst 1, 1) := dk_4 (dk_at dksX7_marks_2 7 rfl rfl)
theorem dX7_marks_55 : decode cX7_marks 55 = .ok (.ireturn, 1) := dk_172 (dk_at dksX7_marks_2 8 rfl rfl)
abbrev cX7_signs : ByteArray := prog_21_method_71_code
def yX7_signs : MethodName := ⟨RX7, "signs", "(III)I"⟩
def dkwX7_signs_1 : List UInt8 := [167, 0, 4, 2, 172]
abbrev dktX7_signs_1 : List UInt8 := dkwX7_signs_1 ++ []
def dkwX7_signs_0 : List UInt8 := [42, 27, 182, 0, 202, 153, 0, 21, 28, 29, 184, 0, 254, 153, 0, 13, 42, 27, 28, 29, 182, 1, 47]
abbrev dktX7_signs_0 : List UInt8 := dkwX7_signs_0 ++ dktX7_signs_1
theorem dksX7_signs_0 : cX7_signs.data.toList.drop 0 = dktX7_signs_0 := by decide +kernel
theorem dksX7_signs_1 : cX7_signs.data.toList.drop 23 = dktX7_signs_1 := dk_seg dksX7_signs_0 23 rfl rfl
theorem dX7_signs_0 : decode cX7_signs 0 = .ok (.aload_n 0, 1) := dk_42 (dk_at dksX7_signs_0 0 rfl rfl)
theorem dX7_signs_1 : decode cX7_signs 1 = .ok (.iload_n 1, 1) := dk_27 (dk_at dksX7_signs_0 1 rfl rfl)
theorem dX7_signs_2 : decode cX7_signs 2 = .ok (.invokevirtual 202, 3) := dk_182 0 202 (dk_at dksX7_signs_0 2 rfl rfl)
theorem dX7_signs_5 : decode cX7_signs 5 = .ok (.ifCond .eq 21, 3) := dk_153 0 21 (dk_at dksX7_signs_0 5 rfl rfl)
theorem dX7_signs_8 : decode cX7_signs 8 = .ok (.iload_n 2, 1) := dk_28 (dk_at dksX7_signs_0 8 rfl rfl)
theorem dX7_signs_9 : decode cX7_signs 9 = .ok (.iload_n 3, 1) := dk_29 (dk_at dksX7_signs_0 9 rfl rfl)
theorem dX7_signs_10 : decode cX7_signs 10 = .ok (.invokestatic 254, 3) := dk_184 0 254 (dk_at dksX7_signs_0 10 rfl rfl)
theorem dX7_signs_13 : decode cX7_signs 13 = .ok (.ifCond .eq 13, 3) := dk_153 0 13 (dk_at dksX7_signs_0 13 rfl rfl)
theorem dX7_signs_16 : decode cX7_signs 16 = .ok (.aload_n 0, 1) := dk_42 (dk_at dksX7_signs_0 16 rfl rfl)
theorem dX7_signs_17 : decode cX7_signs 17 = .ok (.iload_n 1, 1) := dk_27 (dk_at dksX7_signs_0 17 rfl rfl)
theorem dX7_signs_18 : decode cX7_signs 18 = .ok (.iload_n 2, 1) := dk_28 (dk_at dksX7_signs_0 18 rfl rfl)
theorem dX7_signs_19 : decode cX7_signs 19 = .ok (.iload_n 3, 1) := dk_29 (dk_at dksX7_signs_0 19 rfl rfl)
theorem dX7_signs_20 : decode cX7_signs 20 = .ok (.invokevirtual 303, 3) := dk_182 1 47 (dk_at dksX7_signs_0 20 rfl rfl)
theorem dX7_signs_23 : decode cX7_signs 23 = .ok (.goto 4, 3) := dk_167 0 4 (dk_at dksX7_signs_1 0 rfl rfl)
theorem dX7_signs_26 : decode cX7_signs 26 = .ok (.iconst (-1), 1) := dk_2 (dk_at dksX7_signs_1 3 rfl rfl)
theorem dX7_signs_27 : decode cX7_signs 27 = .ok (.ireturn, 1) := dk_172 (dk_at dksX7_signs_1 4 rfl rfl)
abbrev cX7_signsOf : ByteArray := prog_21_method_70_code
def yX7_signsOf : MethodName := ⟨RX7, "signsOf", "(III)I"⟩
def dkwX7_signsOf_1 : List UInt8 := [172]
abbrev dktX7_signsOf_1 : List UInt8 := dkwX7_signsOf_1 ++ []
def dkwX7_signsOf_0 : List UInt8 := [42, 27, 28, 29, 182, 1, 8, 42, 27, 28, 29, 182, 1, 38, 42, 42, 27, 29, 182, 1, 41, 182, 1, 44]
abbrev dktX7_signsOf_0 : List UInt8 := dkwX7_signsOf_0 ++ dktX7_signsOf_1
theorem dksX7_signsOf_0 : cX7_signsOf.data.toList.drop 0 = dktX7_signsOf_0 := by decide +kernel
theorem dksX7_signsOf_1 : cX7_signsOf.data.toList.drop 24 = dktX7_signsOf_1 := dk_seg dksX7_signsOf_0 24 rfl rfl
theorem dX7_signsOf_0 : decode cX7_signsOf 0 = .ok (.aload_n 0, 1) := dk_42 (dk_at dksX7_signsOf_0 0 rfl rfl)
theorem dX7_signsOf_1 : decode cX7_signsOf 1 = .ok (.iload_n 1, 1) := dk_27 (dk_at dksX7_signsOf_0 1 rfl rfl)
theorem dX7_signsOf_2 : decode cX7_signsOf 2 = .ok (.iload_n 2, 1) := dk_28 (dk_at dksX7_signsOf_0 2 rfl rfl)
theorem dX7_signsOf_3 : decode cX7_signsOf 3 = .ok (.iload_n 3, 1) := dk_29 (dk_at dksX7_signsOf_0 3 rfl rfl)
theorem dX7_signsOf_4 : decode cX7_signsOf 4 = .ok (.invokevirtual 264, 3) := dk_182 1 8 (dk_at dksX7_signsOf_0 4 rfl rfl)
theorem dX7_signsOf_7 : decode cX7_signsOf 7 = .ok (.aload_n 0, 1) := dk_42 (dk_at dksX7_signsOf_0 7 rfl rfl)
theorem dX7_signsOf_8 : decode cX7_signsOf 8 = .ok (.iload_n 1, 1) := dk_27 (dk_at dksX7_signsOf_0 8 rfl rfl)
theorem dX7_signsOf_9 : decode cX7_signsOf 9 = .ok (.iload_n 2, 1) := dk_28 (dk_at dksX7_signsOf_0 9 rfl rfl)
theorem dX7_signsOf_10 : decode cX7_signsOf 10 = .ok (.iload_n 3, 1) := dk_29 (dk_at dksX7_signsOf_0 10 rfl rfl)
theorem dX7_signsOf_11 : decode cX7_signsOf 11 = .ok (.invokevirtual 294, 3) := dk_182 1 38 (dk_at dksX7_signsOf_0 11 rfl rfl)
theorem dX7_signsOf_14 : decode cX7_signsOf 14 = .ok (.aload_n 0, 1) := dk_42 (dk_at dksX7_signsOf_0 14 rfl rfl)
theorem dX7_signsOf_15 : decode cX7_signsOf 15 = .ok (.aload_n 0, 1) := dk_42 (dk_at dksX7_signsOf_0 15 rfl rfl)
theorem dX7_signsOf_16 : decode cX7_signsOf 16 = .ok (.iload_n 1, 1) := dk_27 (dk_at dksX7_signsOf_0 16 rfl rfl)
theorem dX7_signsOf_17 : decode cX7_signsOf 17 = .ok (.iload_n 3, 1) := dk_29 (dk_at dksX7_signsOf_0 17 rfl rfl)
theorem dX7_signsOf_18 : decode cX7_signsOf 18 = .ok (.invokevirtual 297, 3) := dk_182 1 41 (dk_at dksX7_signsOf_0 18 rfl rfl)
theorem dX7_signsOf_21 : decode cX7_signsOf 21 = .ok (.invokevirtual 300, 3) := dk_182 1 44 (dk_at dksX7_signsOf_0 21 rfl rfl)
theorem dX7_signsOf_24 : decode cX7_signsOf 24 = .ok (.ireturn, 1) := dk_172 (dk_at dksX7_signsOf_1 0 rfl rfl)
abbrev cX7_judges : ByteArray := prog_21_method_67_code
def yX7_judges : MethodName := ⟨RX7, "judges", "(III)V"⟩
def dkwX7_judges_2 : List UInt8 := [167, 0, 4, 3, 181, 1, 32, 177]
abbrev dktX7_judges_2 : List UInt8 := dkwX7_judges_2 ++ []
def dkwX7_judges_1 : List UInt8 := [181, 1, 26, 42, 42, 180, 1, 23, 155, 0, 19, 42, 27, 42, 180, 1, 23, 182, 1, 29, 154, 0, 7, 4]
abbrev dktX7_judges_1 : List UInt8 := dkwX7_judges_1 ++ dktX7_judges_2
def dkwX7_judges_0 : List UInt8 := [42, 42, 180, 0, 224, 181, 1, 20, 42, 42, 28, 29, 182, 1, 17, 181, 1, 23, 42, 42, 180, 1, 14]
abbrev dktX7_judges_0 : List UInt8 := dkwX7_judges_0 ++ dktX7_judges_1
theorem dksX7_judges_0 : cX7_judges.data.toList.drop 0 = dktX7_judges_0 := by decide +kernel
theorem dksX7_judges_1 : cX7_judges.data.toList.drop 23 = dktX7_judges_1 := dk_seg dksX7_judges_0 23 rfl rfl
theorem dksX7_judges_2 : cX7_judges.data.toList.drop 47 = dktX7_judges_2 := dk_seg dksX7_judges_1 24 rfl rfl
theorem dX7_judges_0 : decode cX7_judges 0 = .ok (.aload_n 0, 1) := dk_42 (dk_at dksX7_judges_0 0 rfl rfl)
theorem dX7_judges_1 : decode cX7_judges 1 = .ok (.aload_n 0, 1) := dk_42 (dk_at dksX7_judges_0 1 rfl rfl)
theorem dX7_judges_2 : decode cX7_judges 2 = .ok (.getfield 224, 3) := dk_180 0 224 (dk_at dksX7_judges_0 2 rfl rfl)
theorem dX7_judges_5 : decode cX7_judges 5 = .ok (.putfield 276, 3) := dk_181 1 20 (dk_at dksX7_judges_0 5 rfl rfl)
theorem dX7_judges_8 : decode cX7_judges 8 = .ok (.aload_n 0, 1) := dk_42 (dk_at dksX7_judges_0 8 rfl rfl)
theorem dX7_judges_9 : decode cX7_judges 9 = .ok (.aload_n 0, 1) := dk_42 (dk_at dksX7_judges_0 9 rfl rfl)
theorem dX7_judges_10 : decode cX7_judges 10 = .ok (.iload_n 2, 1) := dk_28 (dk_at dksX7_judges_0 10 rfl rfl)
theorem dX7_judges_11 : decode cX7_judges 11 = .ok (.iload_n 3, 1) := dk_29 (dk_at dksX7_judges_0 11 rfl rfl)
theorem dX7_judges_12 : decode cX7_judges 12 = .ok (.invokevirtual 273, 3) := dk_182 1 17 (dk_at dksX7_judges_0 12 rfl rfl)
theorem dX7_judges_15 : decode cX7_judges 15 = .ok (.putfield 279, 3) := dk_181 1 23 (dk_at dksX7_judges_0 15 rfl rfl)
theorem dX7_judges_18 : decode cX7_judges 18 = .ok (.aload_n 0, 1) := dk_42 (dk_at dksX7_judges_0 18 rfl rfl)
theorem dX7_judges_19 : decode cX7_judges 19 = .ok (.aload_n 0, 1) := dk_42 (dk_at dksX7_judges_0 19 rfl rfl)
theorem dX7_judges_20 : decode cX7_judges 20 = .ok (.getfield 270, 3) := dk_180 1 14 (dk_at dksX7_judges_0 20 rfl rfl)
theorem dX7_judges_23 : decode cX7_judges 23 = .ok (.putfield 282, 3) := dk_181 1 26 (dk_at dksX7_judges_1 0 rfl rfl)
theorem dX7_judges_26 : decode cX7_judges 26 = .ok (.aload_n 0, 1) := dk_42 (dk_at dksX7_judges_1 3 rfl rfl)
theorem dX7_judges_27 : decode cX7_judges 27 = .ok (.aload_n 0, 1) := dk_42 (dk_at dksX7_judges_1 4 rfl rfl)
theorem dX7_judges_28 : decode cX7_judges 28 = .ok (.getfield 279, 3) := dk_180 1 23 (dk_at dksX7_judges_1 5 rfl rfl)
theorem dX7_judges_31 : decode cX7_judges 31 = .ok (.ifCond .lt 19, 3) := dk_155 0 19 (dk_at dksX7_judges_1 8 rfl rfl)
theorem dX7_judges_34 : decode cX7_judges 34 = .ok (.aload_n 0, 1) := dk_42 (dk_at dksX7_judges_1 11 rfl rfl)
theorem dX7_judges_35 : decode cX7_judges 35 = .ok (.iload_n 1, 1) := dk_27 (dk_at dksX7_judges_1 12 rfl rfl)
theorem dX7_judges_36 : decode cX7_judges 36 = .ok (.aload_n 0, 1) := dk_42 (dk_at dksX7_judges_1 13 rfl rfl)
theorem dX7_judges_37 : decode cX7_judges 37 = .ok (.getfield 279, 3) := dk_180 1 23 (dk_at dksX7_judges_1 14 rfl rfl)
theorem dX7_judges_40 : decode cX7_judges 40 = .ok (.invokevirtual 285, 3) := dk_182 1 29 (dk_at dksX7_judges_1 17 rfl rfl)
theorem dX7_judges_43 : decode cX7_judges 43 = .ok (.ifCond .ne 7, 3) := dk_154 0 7 (dk_at dksX7_judges_1 20 rfl rfl)
theorem dX7_judges_46 : decode cX7_judges 46 = .ok (.iconst 1, 1) := dk_4 (dk_at dksX7_judges_1 23 rfl rfl)
theorem dX7_judges_47 : decode cX7_judges 47 = .ok (.goto 4, 3) := dk_167 0 4 (dk_at dksX7_judges_2 0 rfl rfl)
theorem dX7_judges_50 : decode cX7_judges 50 = .ok (.iconst 0, 1) := dk_3 (dk_at dksX7_judges_2 3 rfl rfl)
theorem dX7_judges_51 : decode cX7_judges 51 = .ok (.putfield 288, 3) := dk_181 1 32 (dk_at dksX7_judges_2 4 rfl rfl)
theorem dX7_judges_54 : decode cX7_judges 54 = .ok (.return_, 1) := dk_177 (dk_at dksX7_judges_2 7 rfl rfl)
abbrev cX7_isNameOf : ByteArray := prog_21_method_42_code
def yX7_isNameOf : MethodName := ⟨RX7, "isNameOf", "(II)Z"⟩
def dkwX7_isNameOf_3 : List UInt8 := [21, 4, 96, 46, 160, 0, 7, 4, 167, 0, 4, 3, 62, 132, 4, 1, 167, 255, 202, 29, 172]
abbrev dktX7_isNameOf_3 : List UInt8 := dkwX7_isNameOf_3 ++ []
def dkwX7_isNameOf_2 : List UInt8 := [153, 0, 34, 42, 180, 0, 7, 27, 184, 0, 93, 21, 4, 96, 46, 42, 180, 0, 7, 28, 184, 0, 97]
abbrev dktX7_isNameOf_2 : List UInt8 := dkwX7_isNameOf_2 ++ dktX7_isNameOf_3
def dkwX7_isNameOf_1 : List UInt8 := [167, 0, 4, 3, 62, 4, 54, 4, 21, 4, 42, 180, 0, 7, 28, 184, 0, 97, 46, 163, 0, 46, 29]
abbrev dktX7_isNameOf_1 : List UInt8 := dkwX7_isNameOf_1 ++ dktX7_isNameOf_2
def dkwX7_isNameOf_0 : List UInt8 := [42, 180, 0, 7, 27, 184, 0, 93, 46, 42, 180, 0, 7, 28, 184, 0, 97, 46, 160, 0, 7, 4]
abbrev dktX7_isNameOf_0 : List UInt8 := dkwX7_isNameOf_0 ++ dktX7_isNameOf_1
theorem dksX7_isNameOf_0 : cX7_isNameOf.data.toList.drop 0 = dktX7_isNameOf_0 := by decide +kernel
theorem dksX7_isNameOf_1 : cX7_isNameOf.data.toList.drop 22 = dktX7_isNameOf_1 := dk_seg dksX7_isNameOf_0 22 rfl rfl
theorem dksX7_isNameOf_2 : cX7_isNameOf.data.toList.drop 45 = dktX7_isNameOf_2 := dk_seg dksX7_isNameOf_1 23 rfl rfl
theorem dksX7_isNameOf_3 : cX7_isNameOf.data.toList.drop 68 = dktX7_isNameOf_3 := dk_seg dksX7_isNameOf_2 23 rfl rfl
theorem dX7_isNameOf_0 : decode cX7_isNameOf 0 = .ok (.aload_n 0, 1) := dk_42 (dk_at dksX7_isNameOf_0 0 rfl rfl)
theorem dX7_isNameOf_1 : decode cX7_isNameOf 1 = .ok (.getfield 7, 3) := dk_180 0 7 (dk_at dksX7_isNameOf_0 1 rfl rfl)
theorem dX7_isNameOf_4 : decode cX7_isNameOf 4 = .ok (.iload_n 1, 1) := dk_27 (dk_at dksX7_isNameOf_0 4 rfl rfl)
theorem dX7_isNameOf_5 : decode cX7_isNameOf 5 = .ok (.invokestatic 93, 3) := dk_184 0 93 (dk_at dksX7_isNameOf_0 5 rfl rfl)
theorem dX7_isNameOf_8 : decode cX7_isNameOf 8 = .ok (.iaload, 1) := dk_46 (dk_at dksX7_isNameOf_0 8 rfl rfl)
theorem dX7_isNameOf_9 : decode cX7_isNameOf 9 = .ok (.aload_n 0, 1) := dk_42 (dk_at dksX7_isNameOf_0 9 rfl rfl)
theorem dX7_isNameOf_10 : decode cX7_isNameOf 10 = .ok (.getfield 7, 3) := dk_180 0 7 (dk_at dksX7_isNameOf_0 10 rfl rfl)
theorem dX7_isNameOf_13 : decode cX7_isNameOf 13 = .ok (.iload_n 2, 1) := dk_28 (dk_at dksX7_isNameOf_0 13 rfl rfl)
theorem dX7_isNameOf_14 : decode cX7_isNameOf 14 = .ok (.invokestatic 97, 3) := dk_184 0 97 (dk_at dksX7_isNameOf_0 14 rfl rfl)
theorem dX7_isNameOf_17 : decode cX7_isNameOf 17 = .ok (.iaload, 1) := dk_46 (dk_at dksX7_isNameOf_0 17 rfl rfl)
theorem dX7_isNameOf_18 : decode cX7_isNameOf 18 = .ok (.if_icmp .ne 7, 3) := dk_160 0 7 (dk_at dksX7_isNameOf_0 18 rfl rfl)
theorem dX7_isNameOf_21 : decode cX7_isNameOf 21 = .ok (.iconst 1, 1) := dk_4 (dk_at dksX7_isNameOf_0 21 rfl rfl)
theorem dX7_isNameOf_22 : decode cX7_isNameOf 22 = .ok (.goto 4, 3) := dk_167 0 4 (dk_at dksX7_isNameOf_1 0 rfl rfl)
theorem dX7_isNameOf_25 : decode cX7_isNameOf 25 = .ok (.iconst 0, 1) := dk_3 (dk_at dksX7_isNameOf_1 3 rfl rfl)
theorem dX7_isNameOf_26 : decode cX7_isNameOf 26 = .ok (.istore_n 3, 1) := dk_62 (dk_at dksX7_isNameOf_1 4 rfl rfl)
theorem dX7_isNameOf_27 : decode cX7_isNameOf 27 = .ok (.iconst 1, 1) := dk_4 (dk_at dksX7_isNameOf_1 5 rfl rfl)
theorem dX7_isNameOf_28 : decode cX7_isNameOf 28 = .ok (.istore 4, 2) := dk_54 4 (dk_at dksX7_isNameOf_1 6 rfl rfl)
theorem dX7_isNameOf_30 : decode cX7_isNameOf 30 = .ok (.iload 4, 2) := dk_21 4 (dk_at dksX7_isNameOf_1 8 rfl rfl)
theorem dX7_isNameOf_32 : decode cX7_isNameOf 32 = .ok (.aload_n 0, 1) := dk_42 (dk_at dksX7_isNameOf_1 10 rfl rfl)
theorem dX7_isNameOf_33 : decode cX7_isNameOf 33 = .ok (.getfield 7, 3) := dk_180 0 7 (dk_at dksX7_isNameOf_1 11 rfl rfl)
theorem dX7_isNameOf_36 : decode cX7_isNameOf 36 = .ok (.iload_n 2, 1) := dk_28 (dk_at dksX7_isNameOf_1 14 rfl rfl)
theorem dX7_isNameOf_37 : decode cX7_isNameOf 37 = .ok (.invokestatic 97, 3) := dk_184 0 97 (dk_at dksX7_isNameOf_1 15 rfl rfl)
theorem dX7_isNameOf_40 : decode cX7_isNameOf 40 = .ok (.iaload, 1) := dk_46 (dk_at dksX7_isNameOf_1 18 rfl rfl)
theorem dX7_isNameOf_41 : decode cX7_isNameOf 41 = .ok (.if_icmp .gt 46, 3) := dk_163 0 46 (dk_at dksX7_isNameOf_1 19 rfl rfl)
theorem dX7_isNameOf_44 : decode cX7_isNameOf 44 = .ok (.iload_n 3, 1) := dk_29 (dk_at dksX7_isNameOf_1 22 rfl rfl)
theorem dX7_isNameOf_45 : decode cX7_isNameOf 45 = .ok (.ifCond .eq 34, 3) := dk_153 0 34 (dk_at dksX7_isNameOf_2 0 rfl rfl)
theorem dX7_isNameOf_48 : decode cX7_isNameOf 48 = .ok (.aload_n 0, 1) := dk_42 (dk_at dksX7_isNameOf_2 3 rfl rfl)
theorem dX7_isNameOf_49 : decode cX7_isNameOf 49 = .ok (.getfield 7, 3) := dk_180 0 7 (dk_at dksX7_isNameOf_2 4 rfl rfl)
theorem dX7_isNameOf_52 : decode cX7_isNameOf 52 = .ok (.iload_n 1, 1) := dk_27 (dk_at dksX7_isNameOf_2 7 rfl rfl)
theorem dX7_isNameOf_53 : decode cX7_isNameOf 53 = .ok (.invokestatic 93, 3) := dk_184 0 93 (dk_at dksX7_isNameOf_2 8 rfl rfl)
theorem dX7_isNameOf_56 : decode cX7_isNameOf 56 = .ok (.iload 4, 2) := dk_21 4 (dk_at dksX7_isNameOf_2 11 rfl rfl)
theorem dX7_isNameOf_58 : decode cX7_isNameOf 58 = .ok (.iadd, 1) := dk_96 (dk_at dksX7_isNameOf_2 13 rfl rfl)
theorem dX7_isNameOf_59 : decode cX7_isNameOf 59 = .ok (.iaload, 1) := dk_46 (dk_at dksX7_isNameOf_2 14 rfl rfl)
theorem dX7_isNameOf_60 : decode cX7_isNameOf 60 = .ok (.aload_n 0, 1) := dk_42 (dk_at dksX7_isNameOf_2 15 rfl rfl)
theorem dX7_isNameOf_61 : decode cX7_isNameOf 61 = .ok (.getfield 7, 3) := dk_180 0 7 (dk_at dksX7_isNameOf_2 16 rfl rfl)
theorem dX7_isNameOf_64 : decode cX7_isNameOf 64 = .ok (.iload_n 2, 1) := dk_28 (dk_at dksX7_isNameOf_2 19 rfl rfl)
theorem dX7_isNameOf_65 : decode cX7_isNameOf 65 = .ok (.invokestatic 97, 3) := dk_184 0 97 (dk_at dksX7_isNameOf_2 20 rfl rfl)
theorem dX7_isNameOf_68 : decode cX7_isNameOf 68 = .ok (.iload 4, 2) := dk_21 4 (dk_at dksX7_isNameOf_3 0 rfl rfl)
theorem dX7_isNameOf_70 : decode cX7_isNameOf 70 = .ok (.iadd, 1) := dk_96 (dk_at dksX7_isNameOf_3 2 rfl rfl)
theorem dX7_isNameOf_71 : decode cX7_isNameOf 71 = .ok (.iaload, 1) := dk_46 (dk_at dksX7_isNameOf_3 3 rfl rfl)
theorem dX7_isNameOf_72 : decode cX7_isNameOf 72 = .ok (.if_icmp .ne 7, 3) := dk_160 0 7 (dk_at dksX7_isNameOf_3 4 rfl rfl)
theorem dX7_isNameOf_75 : decode cX7_isNameOf 75 = .ok (.iconst 1, 1) := dk_4 (dk_at dksX7_isNameOf_3 7 rfl rfl)
theorem dX7_isNameOf_76 : decode cX7_isNameOf 76 = .ok (.goto 4, 3) := dk_167 0 4 (dk_at dksX7_isNameOf_3 8 rfl rfl)
theorem dX7_isNameOf_79 : decode cX7_isNameOf 79 = .ok (.iconst 0, 1) := dk_3 (dk_at dksX7_isNameOf_3 11 rfl rfl)
theorem dX7_isNameOf_80 : decode cX7_isNameOf 80 = .ok (.istore_n 3, 1) := dk_62 (dk_at dksX7_isNameOf_3 12 rfl rfl)
theorem dX7_isNameOf_81 : decode cX7_isNameOf 81 = .ok (.iinc 4 1, 3) := dk_132 4 1 (dk_at dksX7_isNameOf_3 13 rfl rfl)
theorem dX7_isNameOf_84 : decode cX7_isNameOf 84 = .ok (.goto (-54), 3) := dk_167 255 202 (dk_at dksX7_isNameOf_3 16 rfl rfl)
theorem dX7_isNameOf_87 : decode cX7_isNameOf 87 = .ok (.iload_n 3, 1) := dk_29 (dk_at dksX7_isNameOf_3 19 rfl rfl)
theorem dX7_isNameOf_88 : decode cX7_isNameOf 88 = .ok (.ireturn, 1) := dk_172 (dk_at dksX7_isNameOf_3 20 rfl rfl)
abbrev cX7_ageOf : ByteArray := prog_21_method_66_code
def yX7_ageOf : MethodName := ⟨RX7, "ageOf", "(II)I"⟩
def dkwX7_ageOf_1 : List UInt8 := [180, 0, 7, 27, 184, 0, 93, 16, 13, 96, 46, 100, 172]
abbrev dktX7_ageOf_1 : List UInt8 := dkwX7_ageOf_1 ++ []
def dkwX7_ageOf_0 : List UInt8 := [28, 42, 180, 0, 7, 27, 184, 0, 93, 16, 13, 96, 46, 162, 0, 7, 3, 167, 0, 17, 28, 42]
abbrev dktX7_ageOf_0 : List UInt8 := dkwX7_ageOf_0 ++ dktX7_ageOf_1
theorem dksX7_ageOf_0 : cX7_ageOf.data.toList.drop 0 = dktX7_ageOf_0 := by decide +kernel
theorem dksX7_ageOf_1 : cX7_ageOf.data.toList.drop 22 = dktX7_ageOf_1 := dk_seg dksX7_ageOf_0 22 rfl rfl
theorem dX7_ageOf_0 : decode cX7_ageOf 0 = .ok (.iload_n 2, 1) := dk_28 (dk_at dksX7_ageOf_0 0 rfl rfl)
theorem dX7_ageOf_1 : decode cX7_ageOf 1 = .ok (.aload_n 0, 1) := dk_42 (dk_at dksX7_ageOf_0 1 rfl rfl)
theorem dX7_ageOf_2 : decode cX7_ageOf 2 = .ok (.getfield 7, 3) := dk_180 0 7 (dk_at dksX7_ageOf_0 2 rfl rfl)
theorem dX7_ageOf_5 : decode cX7_ageOf 5 = .ok (.iload_n 1, 1) := dk_27 (dk_at dksX7_ageOf_0 5 rfl rfl)
theorem dX7_ageOf_6 : decode cX7_ageOf 6 = .ok (.invokestatic 93, 3) := dk_184 0 93 (dk_at dksX7_ageOf_0 6 rfl rfl)
theorem dX7_ageOf_9 : decode cX7_ageOf 9 = .ok (.bipush 13, 2) := dk_16 13 (dk_at dksX7_ageOf_0 9 rfl rfl)
theorem dX7_ageOf_11 : decode cX7_ageOf 11 = .ok (.iadd, 1) := dk_96 (dk_at dksX7_ageOf_0 11 rfl rfl)
theorem dX7_ageOf_12 : decode cX7_ageOf 12 = .ok (.iaload, 1) := dk_46 (dk_at dksX7_ageOf_0 12 rfl rfl)
theorem dX7_ageOf_13 : decode cX7_ageOf 13 = .ok (.if_icmp .ge 7, 3) := dk_162 0 7 (dk_at dksX7_ageOf_0 13 rfl rfl)
theorem dX7_ageOf_16 : decode cX7_ageOf 16 = .ok (.iconst 0, 1) := dk_3 (dk_at dksX7_ageOf_0 16 rfl rfl)
theorem dX7_ageOf_17 : decode cX7_ageOf 17 = .ok (.goto 17, 3) := dk_167 0 17 (dk_at dksX7_ageOf_0 17 rfl rfl)
theorem dX7_ageOf_20 : decode cX7_ageOf 20 = .ok (.iload_n 2, 1) := dk_28 (dk_at dksX7_ageOf_0 20 rfl rfl)
theorem dX7_ageOf_21 : decode cX7_ageOf 21 = .ok (.aload_n 0, 1) := dk_42 (dk_at dksX7_ageOf_0 21 rfl rfl)
theorem dX7_ageOf_22 : decode cX7_ageOf 22 = .ok (.getfield 7, 3) := dk_180 0 7 (dk_at dksX7_ageOf_1 0 rfl rfl)
theorem dX7_ageOf_25 : decode cX7_ageOf 25 = .ok (.iload_n 1, 1) := dk_27 (dk_at dksX7_ageOf_1 3 rfl rfl)
theorem dX7_ageOf_26 : decode cX7_ageOf 26 = .ok (.invokestatic 93, 3) := dk_184 0 93 (dk_at dksX7_ageOf_1 4 rfl rfl)
theorem dX7_ageOf_29 : decode cX7_ageOf 29 = .ok (.bipush 13, 2) := dk_16 13 (dk_at dksX7_ageOf_1 7 rfl rfl)
theorem dX7_ageOf_31 : decode cX7_ageOf 31 = .ok (.iadd, 1) := dk_96 (dk_at dksX7_ageOf_1 9 rfl rfl)
theorem dX7_ageOf_32 : decode cX7_ageOf 32 = .ok (.iaload, 1) := dk_46 (dk_at dksX7_ageOf_1 10 rfl rfl)
theorem dX7_ageOf_33 : decode cX7_ageOf 33 = .ok (.isub, 1) := dk_100 (dk_at dksX7_ageOf_1 11 rfl rfl)
theorem dX7_ageOf_34 : decode cX7_ageOf 34 = .ok (.ireturn, 1) := dk_172 (dk_at dksX7_ageOf_1 12 rfl rfl)
abbrev cX7_signsBy : ByteArray := prog_21_method_68_code
def yX7_signsBy : MethodName := ⟨RX7, "signsBy", "(I)I"⟩
def dkwX7_signsBy_2 : List UInt8 := [153, 0, 17, 27, 42, 180, 0, 7, 8, 46, 163, 0, 7, 28, 7, 128, 61, 28, 172]
abbrev dktX7_signsBy_2 : List UInt8 := dkwX7_signsBy_2 ++ []
def dkwX7_signsBy_1 : List UInt8 := [3, 61, 42, 180, 1, 20, 42, 180, 0, 7, 7, 46, 161, 0, 7, 28, 5, 128, 61, 42, 180, 1, 32]
abbrev dktX7_signsBy_1 : List UInt8 := dkwX7_signsBy_1 ++ dktX7_signsBy_2
def dkwX7_signsBy_0 : List UInt8 := [42, 180, 1, 23, 155, 0, 20, 42, 180, 1, 26, 42, 180, 0, 7, 6, 46, 163, 0, 7, 4, 167, 0, 4]
abbrev dktX7_signsBy_0 : List UInt8 := dkwX7_signsBy_0 ++ dktX7_signsBy_1
theorem dksX7_signsBy_0 : cX7_signsBy.data.toList.drop 0 = dktX7_signsBy_0 := by decide +kernel
theorem dksX7_signsBy_1 : cX7_signsBy.data.toList.drop 24 = dktX7_signsBy_1 := dk_seg dksX7_signsBy_0 24 rfl rfl
theorem dksX7_signsBy_2 : cX7_signsBy.data.toList.drop 47 = dktX7_signsBy_2 := dk_seg dksX7_signsBy_1 23 rfl rfl
theorem dX7_signsBy_0 : decode cX7_signsBy 0 = .ok (.aload_n 0, 1) := dk_42 (dk_at dksX7_signsBy_0 0 rfl rfl)
theorem dX7_signsBy_1 : decode cX7_signsBy 1 = .ok (.getfield 279, 3) := dk_180 1 23 (dk_at dksX7_signsBy_0 1 rfl rfl)
theorem dX7_signsBy_4 : decode cX7_signsBy 4 = .ok (.ifCond .lt 20, 3) := dk_155 0 20 (dk_at dksX7_signsBy_0 4 rfl rfl)
theorem dX7_signsBy_7 : decode cX7_signsBy 7 = .ok (.aload_n 0, 1) := dk_42 (dk_at dksX7_signsBy_0 7 rfl rfl)
theorem dX7_signsBy_8 : decode cX7_signsBy 8 = .ok (.getfield 282, 3) := dk_180 1 26 (dk_at dksX7_signsBy_0 8 rfl rfl)
theorem dX7_signsBy_11 : decode cX7_signsBy 11 = .ok (.aload_n 0, 1) := dk_42 (dk_at dksX7_signsBy_0 11 rfl rfl)
theorem dX7_signsBy_12 : decode cX7_signsBy 12 = .ok (.getfield 7, 3) := dk_180 0 7 (dk_at dksX7_signsBy_0 12 rfl rfl)
theorem dX7_signsBy_15 : decode cX7_signsBy 15 = .ok (.iconst 3, 1) := dk_6 (dk_at dksX7_signsBy_0 15 rfl rfl)
theorem dX7_signsBy_16 : decode cX7_signsBy 16 = .ok (.iaload, 1) := dk_46 (dk_at dksX7_signsBy_0 16 rfl rfl)
theorem dX7_signsBy_17 : decode cX7_signsBy 17 = .ok (.if_icmp .gt 7, 3) := dk_163 0 7 (dk_at dksX7_signsBy_0 17 rfl rfl)
theorem dX7_signsBy_20 : decode cX7_signsBy 20 = .ok (.iconst 1, 1) := dk_4 (dk_at dksX7_signsBy_0 20 rfl rfl)
theorem dX7_signsBy_21 : decode cX7_signsBy 21 = .ok (.goto 4, 3) := dk_167 0 4 (dk_at dksX7_signsBy_0 21 rfl rfl)
theorem dX7_signsBy_24 : decode cX7_signsBy 24 = .ok (.iconst 0, 1) := dk_3 (dk_at dksX7_signsBy_1 0 rfl rfl)
theorem dX7_signsBy_25 : decode cX7_signsBy 25 = .ok (.istore_n 2, 1) := dk_61 (dk_at dksX7_signsBy_1 1 rfl rfl)
theorem dX7_signsBy_26 : decode cX7_signsBy 26 = .ok (.aload_n 0, 1) := dk_42 (dk_at dksX7_signsBy_1 2 rfl rfl)
theorem dX7_signsBy_27 : decode cX7_signsBy 27 = .ok (.getfield 276, 3) := dk_180 1 20 (dk_at dksX7_signsBy_1 3 rfl rfl)
theorem dX7_signsBy_30 : decode cX7_signsBy 30 = .ok (.aload_n 0, 1) := dk_42 (dk_at dksX7_signsBy_1 6 rfl rfl)
theorem dX7_signsBy_31 : decode cX7_signsBy 31 = .ok (.getfield 7, 3) := dk_180 0 7 (dk_at dksX7_signsBy_1 7 rfl rfl)
theorem dX7_signsBy_34 : decode cX7_signsBy 34 = .ok (.iconst 4, 1) := dk_7 (dk_at dksX7_signsBy_1 10 rfl rfl)
theorem dX7_signsBy_35 : decode cX7_signsBy 35 = .ok (.iaload, 1) := dk_46 (dk_at dksX7_signsBy_1 11 rfl rfl)
theorem dX7_signsBy_36 : decode cX7_signsBy 36 = .ok (.if_icmp .lt 7, 3) := dk_161 0 7 (dk_at dksX7_signsBy_1 12 rfl rfl)
theorem dX7_signsBy_39 : decode cX7_signsBy 39 = .ok (.iload_n 2, 1) := dk_28 (dk_at dksX7_signsBy_1 15 rfl rfl)
theorem dX7_signsBy_40 : decode cX7_signsBy 40 = .ok (.iconst 2, 1) := dk_5 (dk_at dksX7_signsBy_1 16 rfl rfl)
theorem dX7_signsBy_41 : decode cX7_signsBy 41 = .ok (.ior, 1) := dk_128 (dk_at dksX7_signsBy_1 17 rfl rfl)
theorem dX7_signsBy_42 : decode cX7_signsBy 42 = .ok (.istore_n 2, 1) := dk_61 (dk_at dksX7_signsBy_1 18 rfl rfl)
theorem dX7_signsBy_43 : decode cX7_signsBy 43 = .ok (.aload_n 0, 1) := dk_42 (dk_at dksX7_signsBy_1 19 rfl rfl)
theorem dX7_signsBy_44 : decode cX7_signsBy 44 = .ok (.getfield 288, 3) := dk_180 1 32 (dk_at dksX7_signsBy_1 20 rfl rfl)
theorem dX7_signsBy_47 : decode cX7_signsBy 47 = .ok (.ifCond .eq 17, 3) := dk_153 0 17 (dk_at dksX7_signsBy_2 0 rfl rfl)
theorem dX7_signsBy_50 : decode cX7_signsBy 50 = .ok (.iload_n 1, 1) := dk_27 (dk_at dksX7_signsBy_2 3 rfl rfl)
theorem dX7_signsBy_51 : decode cX7_signsBy 51 = .ok (.aload_n 0, 1) := dk_42 (dk_at dksX7_signsBy_2 4 rfl rfl)
theorem dX7_signsBy_52 : decode cX7_signsBy 52 = .ok (.getfield 7, 3) := dk_180 0 7 (dk_at dksX7_signsBy_2 5 rfl rfl)
theorem dX7_signsBy_55 : decode cX7_signsBy 55 = .ok (.iconst 5, 1) := dk_8 (dk_at dksX7_signsBy_2 8 rfl rfl)
theorem dX7_signsBy_56 : decode cX7_signsBy 56 = .ok (.iaload, 1) := dk_46 (dk_at dksX7_signsBy_2 9 rfl rfl)
theorem dX7_signsBy_57 : decode cX7_signsBy 57 = .ok (.if_icmp .gt 7, 3) := dk_163 0 7 (dk_at dksX7_signsBy_2 10 rfl rfl)
theorem dX7_signsBy_60 : decode cX7_signsBy 60 = .ok (.iload_n 2, 1) := dk_28 (dk_at dksX7_signsBy_2 13 rfl rfl)
theorem dX7_signsBy_61 : decode cX7_signsBy 61 = .ok (.iconst 4, 1) := dk_7 (dk_at dksX7_signsBy_2 14 rfl rfl)
theorem dX7_signsBy_62 : decode cX7_signsBy 62 = .ok (.ior, 1) := dk_128 (dk_at dksX7_signsBy_2 15 rfl rfl)
theorem dX7_signsBy_63 : decode cX7_signsBy 63 = .ok (.istore_n 2, 1) := dk_61 (dk_at dksX7_signsBy_2 16 rfl rfl)
theorem dX7_signsBy_64 : decode cX7_signsBy 64 = .ok (.iload_n 2, 1) := dk_28 (dk_at dksX7_signsBy_2 17 rfl rfl)
theorem dX7_signsBy_65 : decode cX7_signsBy 65 = .ok (.ireturn, 1) := dk_172 (dk_at dksX7_signsBy_2 18 rfl rfl)
abbrev cX7_say : ByteArray := prog_21_method_72_code
def yX7_say : MethodName := ⟨RX7, "say", "(III)I"⟩
def dkwX7_say_1 : List UInt8 := [184, 1, 50, 167, 0, 4, 2, 172]
abbrev dktX7_say_1 : List UInt8 := dkwX7_say_1 ++ []
def dkwX7_say_0 : List UInt8 := [42, 27, 182, 0, 202, 153, 0, 24, 28, 29, 184, 0, 254, 153, 0, 16, 42, 27, 28, 29, 182, 1, 47]
abbrev dktX7_say_0 : List UInt8 := dkwX7_say_0 ++ dktX7_say_1
theorem dksX7_say_0 : cX7_say.data.toList.drop 0 = dktX7_say_0 := by decide +kernel
theorem dksX7_say_1 : cX7_say.data.toList.drop 23 = dktX7_say_1 := dk_seg dksX7_say_0 23 rfl rfl
theorem dX7_say_0 : decode cX7_say 0 = .ok (.aload_n 0, 1) := dk_42 (dk_at dksX7_say_0 0 rfl rfl)
theorem dX7_say_1 : decode cX7_say 1 = .ok (.iload_n 1, 1) := dk_27 (dk_at dksX7_say_0 1 rfl rfl)
theorem dX7_say_2 : decode cX7_say 2 = .ok (.invokevirtual 202, 3) := dk_182 0 202 (dk_at dksX7_say_0 2 rfl rfl)
theorem dX7_say_5 : decode cX7_say 5 = .ok (.ifCond .eq 24, 3) := dk_153 0 24 (dk_at dksX7_say_0 5 rfl rfl)
theorem dX7_say_8 : decode cX7_say 8 = .ok (.iload_n 2, 1) := dk_28 (dk_at dksX7_say_0 8 rfl rfl)
theorem dX7_say_9 : decode cX7_say 9 = .ok (.iload_n 3, 1) := dk_29 (dk_at dksX7_say_0 9 rfl rfl)
theorem dX7_say_10 : decode cX7_say 10 = .ok (.invokestatic 254, 3) := dk_184 0 254 (dk_at dksX7_say_0 10 rfl rfl)
theorem dX7_say_13 : decode cX7_say 13 = .ok (.ifCond .eq 16, 3) := dk_153 0 16 (dk_at dksX7_say_0 13 rfl rfl)
theorem dX7_say_16 : decode cX7_say 16 = .ok (.aload_n 0, 1) := dk_42 (dk_at dksX7_say_0 16 rfl rfl)
theorem dX7_say_17 : decode cX7_say 17 = .ok (.iload_n 1, 1) := dk_27 (dk_at dksX7_say_0 17 rfl rfl)
theorem dX7_say_18 : decode cX7_say 18 = .ok (.iload_n 2, 1) := dk_28 (dk_at dksX7_say_0 18 rfl rfl)
theorem dX7_say_19 : decode cX7_say 19 = .ok (.iload_n 3, 1) := dk_29 (dk_at dksX7_say_0 19 rfl rfl)
theorem dX7_say_20 : decode cX7_say 20 = .ok (.invokevirtual 303, 3) := dk_182 1 47 (dk_at dksX7_say_0 20 rfl rfl)
theorem dX7_say_23 : decode cX7_say 23 = .ok (.invokestatic 306, 3) := dk_184 1 50 (dk_at dksX7_say_1 0 rfl rfl)
theorem dX7_say_26 : decode cX7_say 26 = .ok (.goto 4, 3) := dk_167 0 4 (dk_at dksX7_say_1 3 rfl rfl)
theorem dX7_say_29 : decode cX7_say 29 = .ok (.iconst (-1), 1) := dk_2 (dk_at dksX7_say_1 6 rfl rfl)
theorem dX7_say_30 : decode cX7_say 30 = .ok (.ireturn, 1) := dk_172 (dk_at dksX7_say_1 7 rfl rfl)
abbrev cX7_sayOf : ByteArray := prog_21_method_69_code
def yX7_sayOf : MethodName := ⟨RX7, "sayOf", "(I)I"⟩
def dkwX7_sayOf_0 : List UInt8 := [26, 16, 7, 160, 0, 7, 5, 167, 0, 16, 26, 184, 1, 35, 5, 160, 0, 7, 4, 167, 0, 4, 3, 172]
abbrev dktX7_sayOf_0 : List UInt8 := dkwX7_sayOf_0 ++ []
theorem dksX7_sayOf_0 : cX7_sayOf.data.toList.drop 0 = dktX7_sayOf_0 := by decide +kernel
theorem dX7_sayOf_0 : decode cX7_sayOf 0 = .ok (.iload_n 0, 1) := dk_26 (dk_at dksX7_sayOf_0 0 rfl rfl)
theorem dX7_sayOf_1 : decode cX7_sayOf 1 = .ok (.bipush 7, 2) := dk_16 7 (dk_at dksX7_sayOf_0 1 rfl rfl)
theorem dX7_sayOf_3 : decode cX7_sayOf 3 = .ok (.if_icmp .ne 7, 3) := dk_160 0 7 (dk_at dksX7_sayOf_0 3 rfl rfl)
theorem dX7_sayOf_6 : decode cX7_sayOf 6 = .ok (.iconst 2, 1) := dk_5 (dk_at dksX7_sayOf_0 6 rfl rfl)
theorem dX7_sayOf_7 : decode cX7_sayOf 7 = .ok (.goto 16, 3) := dk_167 0 16 (dk_at dksX7_sayOf_0 7 rfl rfl)
theorem dX7_sayOf_10 : decode cX7_sayOf 10 = .ok (.iload_n 0, 1) := dk_26 (dk_at dksX7_sayOf_0 10 rfl rfl)
theorem dX7_sayOf_11 : decode cX7_sayOf 11 = .ok (.invokestatic 291, 3) := dk_184 1 35 (dk_at dksX7_sayOf_0 11 rfl rfl)
theorem dX7_sayOf_14 : decode cX7_sayOf 14 = .ok (.iconst 2, 1) := dk_5 (dk_at dksX7_sayOf_0 14 rfl rfl)
theorem dX7_sayOf_15 : decode cX7_sayOf 15 = .ok (.if_icmp .ne 7, 3) := dk_160 0 7 (dk_at dksX7_sayOf_0 15 rfl rfl)
theorem dX7_sayOf_18 : decode cX7_sayOf 18 = .ok (.iconst 1, 1) := dk_4 (dk_at dksX7_sayOf_0 18 rfl rfl)
theorem dX7_sayOf_19 : decode cX7_sayOf 19 = .ok (.goto 4, 3) := dk_167 0 4 (dk_at dksX7_sayOf_0 19 rfl rfl)
theorem dX7_sayOf_22 : decode cX7_sayOf 22 = .ok (.iconst 0, 1) := dk_3 (dk_at dksX7_sayOf_0 22 rfl rfl)
theorem dX7_sayOf_23 : decode cX7_sayOf 23 = .ok (.ireturn, 1) := dk_172 (dk_at dksX7_sayOf_0 23 rfl rfl)
abbrev cX7_ones : ByteArray := prog_21_method_3_code
def yX7_ones : MethodName := ⟨RX7, "ones", "(I)I"⟩
def dkwX7_ones_0 : List UInt8 := [3, 60, 26, 61, 28, 153, 0, 15, 132, 1, 1, 28, 28, 4, 100, 126, 61, 167, 255, 243, 27, 172]
abbrev dktX7_ones_0 : List UInt8 := dkwX7_ones_0 ++ []
theorem dksX7_ones_0 : cX7_ones.data.toList.drop 0 = dktX7_ones_0 := by decide +kernel
theorem dX7_ones_0 : decode cX7_ones 0 = .ok (.iconst 0, 1) := dk_3 (dk_at dksX7_ones_0 0 rfl rfl)
theorem dX7_ones_1 : decode cX7_ones 1 = .ok (.istore_n 1, 1) := dk_60 (dk_at dksX7_ones_0 1 rfl rfl)
theorem dX7_ones_2 : decode cX7_ones 2 = .ok (.iload_n 0, 1) := dk_26 (dk_at dksX7_ones_0 2 rfl rfl)
theorem dX7_ones_3 : decode cX7_ones 3 = .ok (.istore_n 2, 1) := dk_61 (dk_at dksX7_ones_0 3 rfl rfl)
theorem dX7_ones_4 : decode cX7_ones 4 = .ok (.iload_n 2, 1) := dk_28 (dk_at dksX7_ones_0 4 rfl rfl)
theorem dX7_ones_5 : decode cX7_ones 5 = .ok (.ifCond .eq 15, 3) := dk_153 0 15 (dk_at dksX7_ones_0 5 rfl rfl)
theorem dX7_ones_8 : decode cX7_ones 8 = .ok (.iinc 1 1, 3) := dk_132 1 1 (dk_at dksX7_ones_0 8 rfl rfl)
theorem dX7_ones_11 : decode cX7_ones 11 = .ok (.iload_n 2, 1) := dk_28 (dk_at dksX7_ones_0 11 rfl rfl)
theorem dX7_ones_12 : decode cX7_ones 12 = .ok (.iload_n 2, 1) := dk_28 (dk_at dksX7_ones_0 12 rfl rfl)
theorem dX7_ones_13 : decode cX7_ones 13 = .ok (.iconst 1, 1) := dk_4 (dk_at dksX7_ones_0 13 rfl rfl)
theorem dX7_ones_14 : decode cX7_ones 14 = .ok (.isub, 1) := dk_100 (dk_at dksX7_ones_0 14 rfl rfl)
theorem dX7_ones_15 : decode cX7_ones 15 = .ok (.iand, 1) := dk_126 (dk_at dksX7_ones_0 15 rfl rfl)
theorem dX7_ones_16 : decode cX7_ones 16 = .ok (.istore_n 2, 1) := dk_61 (dk_at dksX7_ones_0 16 rfl rfl)
theorem dX7_ones_17 : decode cX7_ones 17 = .ok (.goto (-13), 3) := dk_167 255 243 (dk_at dksX7_ones_0 17 rfl rfl)
theorem dX7_ones_20 : decode cX7_ones 20 = .ok (.iload_n 1, 1) := dk_27 (dk_at dksX7_ones_0 20 rfl rfl)
theorem dX7_ones_21 : decode cX7_ones 21 = .ok (.ireturn, 1) := dk_172 (dk_at dksX7_ones_0 21 rfl rfl)
abbrev cX7_differs : ByteArray := prog_21_method_73_code
def yX7_differs : MethodName := ⟨RX7, "differs", "(IIIII)I"⟩
def dkwX7_differs_1 : List UInt8 := [154, 0, 5, 2, 172, 42, 27, 184, 1, 1, 28, 29, 27, 184, 1, 1, 21, 4, 21, 5, 182, 1, 4, 172]
abbrev dktX7_differs_1 : List UInt8 := dkwX7_differs_1 ++ []
def dkwX7_differs_0 : List UInt8 := [42, 27, 182, 0, 202, 153, 0, 21, 28, 29, 184, 0, 254, 153, 0, 13, 21, 4, 21, 5, 184, 0, 254]
abbrev dktX7_differs_0 : List UInt8 := dkwX7_differs_0 ++ dktX7_differs_1
theorem dksX7_differs_0 : cX7_differs.data.toList.drop 0 = dktX7_differs_0 := by decide +kernel
theorem dksX7_differs_1 : cX7_differs.data.toList.drop 23 = dktX7_differs_1 := dk_seg dksX7_differs_0 23 rfl rfl
theorem dX7_differs_0 : decode cX7_differs 0 = .ok (.aload_n 0, 1) := dk_42 (dk_at dksX7_differs_0 0 rfl rfl)
theorem dX7_differs_1 : decode cX7_differs 1 = .ok (.iload_n 1, 1) := dk_27 (dk_at dksX7_differs_0 1 rfl rfl)
theorem dX7_differs_2 : decode cX7_differs 2 = .ok (.invokevirtual 202, 3) := dk_182 0 202 (dk_at dksX7_differs_0 2 rfl rfl)
theorem dX7_differs_5 : decode cX7_differs 5 = .ok (.ifCond .eq 21, 3) := dk_153 0 21 (dk_at dksX7_differs_0 5 rfl rfl)
theorem dX7_differs_8 : decode cX7_differs 8 = .ok (.iload_n 2, 1) := dk_28 (dk_at dksX7_differs_0 8 rfl rfl)
theorem dX7_differs_9 : decode cX7_differs 9 = .ok (.iload_n 3, 1) := dk_29 (dk_at dksX7_differs_0 9 rfl rfl)
theorem dX7_differs_10 : decode cX7_differs 10 = .ok (.invokestatic 254, 3) := dk_184 0 254 (dk_at dksX7_differs_0 10 rfl rfl)
theorem dX7_differs_13 : decode cX7_differs 13 = .ok (.ifCond .eq 13, 3) := dk_153 0 13 (dk_at dksX7_differs_0 13 rfl rfl)
theorem dX7_differs_16 : decode cX7_differs 16 = .ok (.iload 4, 2) := dk_21 4 (dk_at dksX7_differs_0 16 rfl rfl)
theorem dX7_differs_18 : decode cX7_differs 18 = .ok (.iload 5, 2) := dk_21 5 (dk_at dksX7_differs_0 18 rfl rfl)
theorem dX7_differs_20 : decode cX7_differs 20 = .ok (.invokestatic 254, 3) := dk_184 0 254 (dk_at dksX7_differs_0 20 rfl rfl)
theorem dX7_differs_23 : decode cX7_differs 23 = .ok (.ifCond .ne 5, 3) := dk_154 0 5 (dk_at dksX7_differs_1 0 rfl rfl)
theorem dX7_differs_26 : decode cX7_differs 26 = .ok (.iconst (-1), 1) := dk_2 (dk_at dksX7_differs_1 3 rfl rfl)
theorem dX7_differs_27 : decode cX7_differs 27 = .ok (.ireturn, 1) := dk_172 (dk_at dksX7_differs_1 4 rfl rfl)
theorem dX7_differs_28 : decode cX7_differs 28 = .ok (.aload_n 0, 1) := dk_42 (dk_at dksX7_differs_1 5 rfl rfl)
theorem dX7_differs_29 : decode cX7_differs 29 = .ok (.iload_n 1, 1) := dk_27 (dk_at dksX7_differs_1 6 rfl rfl)
theorem dX7_differs_30 : decode cX7_differs 30 = .ok (.invokestatic 257, 3) := dk_184 1 1 (dk_at dksX7_differs_1 7 rfl rfl)
theorem dX7_differs_33 : decode cX7_differs 33 = .ok (.iload_n 2, 1) := dk_28 (dk_at dksX7_differs_1 10 rfl rfl)
theorem dX7_differs_34 : decode cX7_differs 34 = .ok (.iload_n 3, 1) := dk_29 (dk_at dksX7_differs_1 11 rfl rfl)
theorem dX7_differs_35 : decode cX7_differs 35 = .ok (.iload_n 1, 1) := dk_27 (dk_at dksX7_differs_1 12 rfl rfl)
theorem dX7_differs_36 : decode cX7_differs 36 = .ok (.invokestatic 257, 3) := dk_184 1 1 (dk_at dksX7_differs_1 13 rfl rfl)
theorem dX7_differs_39 : decode cX7_differs 39 = .ok (.iload 4, 2) := dk_21 4 (dk_at dksX7_differs_1 16 rfl rfl)
theorem dX7_differs_41 : decode cX7_differs 41 = .ok (.iload 5, 2) := dk_21 5 (dk_at dksX7_differs_1 18 rfl rfl)
theorem dX7_differs_43 : decode cX7_differs 43 = .ok (.invokevirtual 260, 3) := dk_182 1 4 (dk_at dksX7_differs_1 20 rfl rfl)
theorem dX7_differs_46 : decode cX7_differs 46 = .ok (.ireturn, 1) := dk_172 (dk_at dksX7_differs_1 23 rfl rfl)
abbrev cX7_hides : ByteArray := prog_21_method_74_code
def yX7_hides : MethodName := ⟨RX7, "hides", "(II)I"⟩
def dkwX7_hides_3 : List UInt8 := [167, 0, 4, 29, 62, 132, 5, 1, 167, 255, 213, 132, 4, 1, 167, 255, 198, 29, 172]
abbrev dktX7_hides_3 : List UInt8 := dkwX7_hides_3 ++ []
def dkwX7_hides_2 : List UInt8 := [21, 4, 28, 27, 184, 1, 1, 21, 5, 28, 182, 1, 4, 54, 6, 21, 6, 29, 164, 0, 8, 21, 6]
abbrev dktX7_hides_2 : List UInt8 := dkwX7_hides_2 ++ dktX7_hides_3
def dkwX7_hides_1 : List UInt8 := [54, 4, 21, 4, 7, 162, 0, 58, 3, 54, 5, 21, 5, 21, 4, 162, 0, 42, 42, 27, 184, 1, 1]
abbrev dktX7_hides_1 : List UInt8 := dkwX7_hides_1 ++ dktX7_hides_2
def dkwX7_hides_0 : List UInt8 := [42, 27, 182, 0, 202, 153, 0, 13, 28, 3, 16, 99, 184, 0, 89, 154, 0, 5, 2, 172, 3, 62, 3]
abbrev dktX7_hides_0 : List UInt8 := dkwX7_hides_0 ++ dktX7_hides_1
theorem dksX7_hides_0 : cX7_hides.data.toList.drop 0 = dktX7_hides_0 := by decide +kernel
theorem dksX7_hides_1 : cX7_hides.data.toList.drop 23 = dktX7_hides_1 := dk_seg dksX7_hides_0 23 rfl rfl
theorem dksX7_hides_2 : cX7_hides.data.toList.drop 46 = dktX7_hides_2 := dk_seg dksX7_hides_1 23 rfl rfl
theorem dksX7_hides_3 : cX7_hides.data.toList.drop 69 = dktX7_hides_3 := dk_seg dksX7_hides_2 23 rfl rfl
theorem dX7_hides_0 : decode cX7_hides 0 = .ok (.aload_n 0, 1) := dk_42 (dk_at dksX7_hides_0 0 rfl rfl)
theorem dX7_hides_1 : decode cX7_hides 1 = .ok (.iload_n 1, 1) := dk_27 (dk_at dksX7_hides_0 1 rfl rfl)
theorem dX7_hides_2 : decode cX7_hides 2 = .ok (.invokevirtual 202, 3) := dk_182 0 202 (dk_at dksX7_hides_0 2 rfl rfl)
theorem dX7_hides_5 : decode cX7_hides 5 = .ok (.ifCond .eq 13, 3) := dk_153 0 13 (dk_at dksX7_hides_0 5 rfl rfl)
theorem dX7_hides_8 : decode cX7_hides 8 = .ok (.iload_n 2, 1) := dk_28 (dk_at dksX7_hides_0 8 rfl rfl)
theorem dX7_hides_9 : decode cX7_hides 9 = .ok (.iconst 0, 1) := dk_3 (dk_at dksX7_hides_0 9 rfl rfl)
theorem dX7_hides_10 : decode cX7_hides 10 = .ok (.bipush 99, 2) := dk_16 99 (dk_at dksX7_hides_0 10 rfl rfl)
theorem dX7_hides_12 : decode cX7_hides 12 = .ok (.invokestatic 89, 3) := dk_184 0 89 (dk_at dksX7_hides_0 12 rfl rfl)
theorem dX7_hides_15 : decode cX7_hides 15 = .ok (.ifCond .ne 5, 3) := dk_154 0 5 (dk_at dksX7_hides_0 15 rfl rfl)
theorem dX7_hides_18 : decode cX7_hides 18 = .ok (.iconst (-1), 1) := dk_2 (dk_at dksX7_hides_0 18 rfl rfl)
theorem dX7_hides_19 : decode cX7_hides 19 = .ok (.ireturn, 1) := dk_172 (dk_at dksX7_hides_0 19 rfl rfl)
theorem dX7_hides_20 : decode cX7_hides 20 = .ok (.iconst 0, 1) := dk_3 (dk_at dksX7_hides_0 20 rfl rfl)
theorem dX7_hides_21 : decode cX7_hides 21 = .ok (.istore_n 3, 1) := dk_62 (dk_at dksX7_hides_0 21 rfl rfl)
theorem dX7_hides_22 : decode cX7_hides 22 = .ok (.iconst 0, 1) := dk_3 (dk_at dksX7_hides_0 22 rfl rfl)
theorem dX7_hides_23 : decode cX7_hides 23 = .ok (.istore 4, 2) := dk_54 4 (dk_at dksX7_hides_1 0 rfl rfl)
theorem dX7_hides_25 : decode cX7_hides 25 = .ok (.iload 4, 2) := dk_21 4 (dk_at dksX7_hides_1 2 rfl rfl)
theorem dX7_hides_27 : decode cX7_hides 27 = .ok (.iconst 4, 1) := dk_7 (dk_at dksX7_hides_1 4 rfl rfl)
theorem dX7_hides_28 : decode cX7_hides 28 = .ok (.if_icmp .ge 58, 3) := dk_162 0 58 (dk_at dksX7_hides_1 5 rfl rfl)
theorem dX7_hides_31 : decode cX7_hides 31 = .ok (.iconst 0, 1) := dk_3 (dk_at dksX7_hides_1 8 rfl rfl)
theorem dX7_hides_32 : decode cX7_hides 32 = .ok (.istore 5, 2) := dk_54 5 (dk_at dksX7_hides_1 9 rfl rfl)
theorem dX7_hides_34 : decode cX7_hides 34 = .ok (.iload 5, 2) := dk_21 5 (dk_at dksX7_hides_1 11 rfl rfl)
theorem dX7_hides_36 : decode cX7_hides 36 = .ok (.iload 4, 2) := dk_21 4 (dk_at dksX7_hides_1 13 rfl rfl)
theorem dX7_hides_38 : decode cX7_hides 38 = .ok (.if_icmp .ge 42, 3) := dk_162 0 42 (dk_at dksX7_hides_1 15 rfl rfl)
theorem dX7_hides_41 : decode cX7_hides 41 = .ok (.aload_n 0, 1) := dk_42 (dk_at dksX7_hides_1 18 rfl rfl)
theorem dX7_hides_42 : decode cX7_hides 42 = .ok (.iload_n 1, 1) := dk_27 (dk_at dksX7_hides_1 19 rfl rfl)
theorem dX7_hides_43 : decode cX7_hides 43 = .ok (.invokestatic 257, 3) := dk_184 1 1 (dk_at dksX7_hides_1 20 rfl rfl)
theorem dX7_hides_46 : decode cX7_hides 46 = .ok (.iload 4, 2) := dk_21 4 (dk_at dksX7_hides_2 0 rfl rfl)
theorem dX7_hides_48 : decode cX7_hides 48 = .ok (.iload_n 2, 1) := dk_28 (dk_at dksX7_hides_2 2 rfl rfl)
theorem dX7_hides_49 : decode cX7_hides 49 = .ok (.iload_n 1, 1) := dk_27 (dk_at dksX7_hides_2 3 rfl rfl)
theorem dX7_hides_50 : decode cX7_hides 50 = .ok (.invokestatic 257, 3) := dk_184 1 1 (dk_at dksX7_hides_2 4 rfl rfl)
theorem dX7_hides_53 : decode cX7_hides 53 = .ok (.iload 5, 2) := dk_21 5 (dk_at dksX7_hides_2 7 rfl rfl)
theorem dX7_hides_55 : decode cX7_hides 55 = .ok (.iload_n 2, 1) := dk_28 (dk_at dksX7_hides_2 9 rfl rfl)
theorem dX7_hides_56 : decode cX7_hides 56 = .ok (.invokevirtual 260, 3) := dk_182 1 4 (dk_at dksX7_hides_2 10 rfl rfl)
theorem dX7_hides_59 : decode cX7_hides 59 = .ok (.istore 6, 2) := dk_54 6 (dk_at dksX7_hides_2 13 rfl rfl)
theorem dX7_hides_61 : decode cX7_hides 61 = .ok (.iload 6, 2) := dk_21 6 (dk_at dksX7_hides_2 15 rfl rfl)
theorem dX7_hides_63 : decode cX7_hides 63 = .ok (.iload_n 3, 1) := dk_29 (dk_at dksX7_hides_2 17 rfl rfl)
theorem dX7_hides_64 : decode cX7_hides 64 = .ok (.if_icmp .le 8, 3) := dk_164 0 8 (dk_at dksX7_hides_2 18 rfl rfl)
theorem dX7_hides_67 : decode cX7_hides 67 = .ok (.iload 6, 2) := dk_21 6 (dk_at dksX7_hides_2 21 rfl rfl)
theorem dX7_hides_69 : decode cX7_hides 69 = .ok (.goto 4, 3) := dk_167 0 4 (dk_at dksX7_hides_3 0 rfl rfl)
theorem dX7_hides_72 : decode cX7_hides 72 = .ok (.iload_n 3, 1) := dk_29 (dk_at dksX7_hides_3 3 rfl rfl)
theorem dX7_hides_73 : decode cX7_hides 73 = .ok (.istore_n 3, 1) := dk_62 (dk_at dksX7_hides_3 4 rfl rfl)
theorem dX7_hides_74 : decode cX7_hides 74 = .ok (.iinc 5 1, 3) := dk_132 5 1 (dk_at dksX7_hides_3 5 rfl rfl)
theorem dX7_hides_77 : decode cX7_hides 77 = .ok (.goto (-43), 3) := dk_167 255 213 (dk_at dksX7_hides_3 8 rfl rfl)
theorem dX7_hides_80 : decode cX7_hides 80 = .ok (.iinc 4 1, 3) := dk_132 4 1 (dk_at dksX7_hides_3 11 rfl rfl)
theorem dX7_hides_83 : decode cX7_hides 83 = .ok (.goto (-58), 3) := dk_167 255 198 (dk_at dksX7_hides_3 14 rfl rfl)
theorem dX7_hides_86 : decode cX7_hides 86 = .ok (.iload_n 3, 1) := dk_29 (dk_at dksX7_hides_3 17 rfl rfl)
theorem dX7_hides_87 : decode cX7_hides 87 = .ok (.ireturn, 1) := dk_172 (dk_at dksX7_hides_3 18 rfl rfl)
abbrev cX7_late : ByteArray := prog_21_method_75_code
def yX7_late : MethodName := ⟨RX7, "late", "(II)I"⟩
def dkwX7_late_2 : List UInt8 := [182, 1, 8, 42, 180, 0, 221, 29, 159, 0, 6, 21, 4, 172, 132, 4, 1, 167, 255, 227, 2, 172]
abbrev dktX7_late_2 : List UInt8 := dkwX7_late_2 ++ []
def dkwX7_late_1 : List UInt8 := [182, 1, 8, 42, 180, 0, 221, 62, 4, 54, 4, 21, 4, 16, 100, 162, 0, 28, 42, 27, 28, 21, 4]
abbrev dktX7_late_1 : List UInt8 := dkwX7_late_1 ++ dktX7_late_2
def dkwX7_late_0 : List UInt8 := [42, 27, 182, 0, 202, 153, 0, 12, 28, 3, 6, 184, 0, 89, 154, 0, 5, 2, 172, 42, 27, 28, 3]
abbrev dktX7_late_0 : List UInt8 := dkwX7_late_0 ++ dktX7_late_1
theorem dksX7_late_0 : cX7_late.data.toList.drop 0 = dktX7_late_0 := by decide +kernel
theorem dksX7_late_1 : cX7_late.data.toList.drop 23 = dktX7_late_1 := dk_seg dksX7_late_0 23 rfl rfl
theorem dksX7_late_2 : cX7_late.data.toList.drop 46 = dktX7_late_2 := dk_seg dksX7_late_1 23 rfl rfl
theorem dX7_late_0 : decode cX7_late 0 = .ok (.aload_n 0, 1) := dk_42 (dk_at dksX7_late_0 0 rfl rfl)
theorem dX7_late_1 : decode cX7_late 1 = .ok (.iload_n 1, 1) := dk_27 (dk_at dksX7_late_0 1 rfl rfl)
theorem dX7_late_2 : decode cX7_late 2 = .ok (.invokevirtual 202, 3) := dk_182 0 202 (dk_at dksX7_late_0 2 rfl rfl)
theorem dX7_late_5 : decode cX7_late 5 = .ok (.ifCond .eq 12, 3) := dk_153 0 12 (dk_at dksX7_late_0 5 rfl rfl)
theorem dX7_late_8 : decode cX7_late 8 = .ok (.iload_n 2, 1) := dk_28 (dk_at dksX7_late_0 8 rfl rfl)
theorem dX7_late_9 : decode cX7_late 9 = .ok (.iconst 0, 1) := dk_3 (dk_at dksX7_late_0 9 rfl rfl)
theorem dX7_late_10 : decode cX7_late 10 = .ok (.iconst 3, 1) := dk_6 (dk_at dksX7_late_0 10 rfl rfl)
theorem dX7_late_11 : decode cX7_late 11 = .ok (.invokestatic 89, 3) := dk_184 0 89 (dk_at dksX7_late_0 11 rfl rfl)
theorem dX7_late_14 : decode cX7_late 14 = .ok (.ifCond .ne 5, 3) := dk_154 0 5 (dk_at dksX7_late_0 14 rfl rfl)
theorem dX7_late_17 : decode cX7_late 17 = .ok (.iconst (-1), 1) := dk_2 (dk_at dksX7_late_0 17 rfl rfl)
theorem dX7_late_18 : decode cX7_late 18 = .ok (.ireturn, 1) := dk_172 (dk_at dksX7_late_0 18 rfl rfl)
theorem dX7_late_19 : decode cX7_late 19 = .ok (.aload_n 0, 1) := dk_42 (dk_at dksX7_late_0 19 rfl rfl)
theorem dX7_late_20 : decode cX7_late 20 = .ok (.iload_n 1, 1) := dk_27 (dk_at dksX7_late_0 20 rfl rfl)
theorem dX7_late_21 : decode cX7_late 21 = .ok (.iload_n 2, 1) := dk_28 (dk_at dksX7_late_0 21 rfl rfl)
theorem dX7_late_22 : decode cX7_late 22 = .ok (.iconst 0, 1) := dk_3 (dk_at dksX7_late_0 22 rfl rfl)
theorem dX7_late_23 : decode cX7_late 23 = .ok (.invokevirtual 264, 3) := dk_182 1 8 (dk_at dksX7_late_1 0 rfl rfl)
theorem dX7_late_26 : decode cX7_late 26 = .ok (.aload_n 0, 1) := dk_42 (dk_at dksX7_late_1 3 rfl rfl)
theorem dX7_late_27 : decode cX7_late 27 = .ok (.getfield 221, 3) := dk_180 0 221 (dk_at dksX7_late_1 4 rfl rfl)
theorem dX7_late_30 : decode cX7_late 30 = .ok (.istore_n 3, 1) := dk_62 (dk_at dksX7_late_1 7 rfl rfl)
theorem dX7_late_31 : decode cX7_late 31 = .ok (.iconst 1, 1) := dk_4 (dk_at dksX7_late_1 8 rfl rfl)
theorem dX7_late_32 : decode cX7_late 32 = .ok (.istore 4, 2) := dk_54 4 (dk_at dksX7_late_1 9 rfl rfl)
theorem dX7_late_34 : decode cX7_late 34 = .ok (.iload 4, 2) := dk_21 4 (dk_at dksX7_late_1 11 rfl rfl)
theorem dX7_late_36 : decode cX7_late 36 = .ok (.bipush 100, 2) := dk_16 100 (dk_at dksX7_late_1 13 rfl rfl)
theorem dX7_late_38 : decode cX7_late 38 = .ok (.if_icmp .ge 28, 3) := dk_162 0 28 (dk_at dksX7_late_1 15 rfl rfl)
theorem dX7_late_41 : decode cX7_late 41 = .ok (.aload_n 0, 1) := dk_42 (dk_at dksX7_late_1 18 rfl rfl)
theorem dX7_late_42 : decode cX7_late 42 = .ok (.iload_n 1, 1) := dk_27 (dk_at dksX7_late_1 19 rfl rfl)
theorem dX7_late_43 : decode cX7_late 43 = .ok (.iload_n 2, 1) := dk_28 (dk_at dksX7_late_1 20 rfl rfl)
theorem dX7_late_44 : decode cX7_late 44 = .ok (.iload 4, 2) := dk_21 4 (dk_at dksX7_late_1 21 rfl rfl)
theorem dX7_late_46 : decode cX7_late 46 = .ok (.invokevirtual 264, 3) := dk_182 1 8 (dk_at dksX7_late_2 0 rfl rfl)
theorem dX7_late_49 : decode cX7_late 49 = .ok (.aload_n 0, 1) := dk_42 (dk_at dksX7_late_2 3 rfl rfl)
theorem dX7_late_50 : decode cX7_late 50 = .ok (.getfield 221, 3) := dk_180 0 221 (dk_at dksX7_late_2 4 rfl rfl)
theorem dX7_late_53 : decode cX7_late 53 = .ok (.iload_n 3, 1) := dk_29 (dk_at dksX7_late_2 7 rfl rfl)
theorem dX7_late_54 : decode cX7_late 54 = .ok (.if_icmp .eq 6, 3) := dk_159 0 6 (dk_at dksX7_late_2 8 rfl rfl)
theorem dX7_late_57 : decode cX7_late 57 = .ok (.iload 4, 2) := dk_21 4 (dk_at dksX7_late_2 11 rfl rfl)
theorem dX7_late_59 : decode cX7_late 59 = .ok (.ireturn, 1) := dk_172 (dk_at dksX7_late_2 13 rfl rfl)
theorem dX7_late_60 : decode cX7_late 60 = .ok (.iinc 4 1, 3) := dk_132 4 1 (dk_at dksX7_late_2 14 rfl rfl)
theorem dX7_late_63 : decode cX7_late 63 = .ok (.goto (-29), 3) := dk_167 255 227 (dk_at dksX7_late_2 17 rfl rfl)
theorem dX7_late_66 : decode cX7_late 66 = .ok (.iconst (-1), 1) := dk_2 (dk_at dksX7_late_2 20 rfl rfl)
theorem dX7_late_67 : decode cX7_late 67 = .ok (.ireturn, 1) := dk_172 (dk_at dksX7_late_2 21 rfl rfl)
abbrev cX7_keep : ByteArray := prog_21_method_76_code
def yX7_keep : MethodName := ⟨RX7, "keep", "(IIZ)I"⟩
def dkwX7_keep_4 : List UInt8 := [180, 0, 7, 5, 46, 4, 100, 172]
abbrev dktX7_keep_4 : List UInt8 := dkwX7_keep_4 ++ []
def dkwX7_keep_3 : List UInt8 := [96, 29, 153, 0, 7, 4, 167, 0, 4, 3, 79, 42, 180, 0, 7, 5, 92, 46, 4, 96, 79, 42]
abbrev dktX7_keep_3 : List UInt8 := dkwX7_keep_3 ++ dktX7_keep_4
def dkwX7_keep_2 : List UInt8 := [180, 0, 7, 21, 4, 27, 79, 42, 180, 0, 7, 21, 4, 4, 96, 28, 79, 42, 180, 0, 7, 21, 4, 5]
abbrev dktX7_keep_2 : List UInt8 := dkwX7_keep_2 ++ dktX7_keep_3
def dkwX7_keep_1 : List UInt8 := [184, 0, 89, 154, 0, 5, 2, 172, 16, 20, 6, 42, 180, 0, 7, 5, 46, 104, 96, 54, 4, 42]
abbrev dktX7_keep_1 : List UInt8 := dkwX7_keep_1 ++ dktX7_keep_2
def dkwX7_keep_0 : List UInt8 := [42, 180, 0, 7, 5, 46, 16, 16, 159, 0, 21, 42, 27, 182, 0, 202, 153, 0, 13, 28, 3, 16, 99]
abbrev dktX7_keep_0 : List UInt8 := dkwX7_keep_0 ++ dktX7_keep_1
theorem dksX7_keep_0 : cX7_keep.data.toList.drop 0 = dktX7_keep_0 := by decide +kernel
theorem dksX7_keep_1 : cX7_keep.data.toList.drop 23 = dktX7_keep_1 := dk_seg dksX7_keep_0 23 rfl rfl
theorem dksX7_keep_2 : cX7_keep.data.toList.drop 45 = dktX7_keep_2 := dk_seg dksX7_keep_1 22 rfl rfl
theorem dksX7_keep_3 : cX7_keep.data.toList.drop 69 = dktX7_keep_3 := dk_seg dksX7_keep_2 24 rfl rfl
theorem dksX7_keep_4 : cX7_keep.data.toList.drop 91 = dktX7_keep_4 := dk_seg dksX7_keep_3 22 rfl rfl
theorem dX7_keep_0 : decode cX7_keep 0 = .ok (.aload_n 0, 1) := dk_42 (dk_at dksX7_keep_0 0 rfl rfl)
theorem dX7_keep_1 : decode cX7_keep 1 = .ok (.getfield 7, 3) := dk_180 0 7 (dk_at dksX7_keep_0 1 rfl rfl)
theorem dX7_keep_4 : decode cX7_keep 4 = .ok (.iconst 2, 1) := dk_5 (dk_at dksX7_keep_0 4 rfl rfl)
theorem dX7_keep_5 : decode cX7_keep 5 = .ok (.iaload, 1) := dk_46 (dk_at dksX7_keep_0 5 rfl rfl)
theorem dX7_keep_6 : decode cX7_keep 6 = .ok (.bipush 16, 2) := dk_16 16 (dk_at dksX7_keep_0 6 rfl rfl)
theorem dX7_keep_8 : decode cX7_keep 8 = .ok (.if_icmp .eq 21, 3) := dk_159 0 21 (dk_at dksX7_keep_0 8 rfl rfl)
theorem dX7_keep_11 : decode cX7_keep 11 = .ok (.aload_n 0, 1) := dk_42 (dk_at dksX7_keep_0 11 rfl rfl)
theorem dX7_keep_12 : decode cX7_keep 12 = .ok (.iload_n 1, 1) := dk_27 (dk_at dksX7_keep_0 12 rfl rfl)
theorem dX7_keep_13 : decode cX7_keep 13 = .ok (.invokevirtual 202, 3) := dk_182 0 202 (dk_at dksX7_keep_0 13 rfl rfl)
theorem dX7_keep_16 : decode cX7_keep 16 = .ok (.ifCond .eq 13, 3) := dk_153 0 13 (dk_at dksX7_keep_0 16 rfl rfl)
theorem dX7_keep_19 : decode cX7_keep 19 = .ok (.iload_n 2, 1) := dk_28 (dk_at dksX7_keep_0 19 rfl rfl)
theorem dX7_keep_20 : decode cX7_keep 20 = .ok (.iconst 0, 1) := dk_3 (dk_at dksX7_keep_0 20 rfl rfl)
theorem dX7_keep_21 : decode cX7_keep 21 = .ok (.bipush 99, 2) := dk_16 99 (dk_at dksX7_keep_0 21 rfl rfl)
theorem dX7_keep_23 : decode cX7_keep 23 = .ok (.invokestatic 89, 3) := dk_184 0 89 (dk_at dksX7_keep_1 0 rfl rfl)
theorem dX7_keep_26 : decode cX7_keep 26 = .ok (.ifCond .ne 5, 3) := dk_154 0 5 (dk_at dksX7_keep_1 3 rfl rfl)
theorem dX7_keep_29 : decode cX7_keep 29 = .ok (.iconst (-1), 1) := dk_2 (dk_at dksX7_keep_1 6 rfl rfl)
theorem dX7_keep_30 : decode cX7_keep 30 = .ok (.ireturn, 1) := dk_172 (dk_at dksX7_keep_1 7 rfl rfl)
theorem dX7_keep_31 : decode cX7_keep 31 = .ok (.bipush 20, 2) := dk_16 20 (dk_at dksX7_keep_1 8 rfl rfl)
theorem dX7_keep_33 : decode cX7_keep 33 = .ok (.iconst 3, 1) := dk_6 (dk_at dksX7_keep_1 10 rfl rfl)
theorem dX7_keep_34 : decode cX7_keep 34 = .ok (.aload_n 0, 1) := dk_42 (dk_at dksX7_keep_1 11 rfl rfl)
theorem dX7_keep_35 : decode cX7_keep 35 = .ok (.getfield 7, 3) := dk_180 0 7 (dk_at dksX7_keep_1 12 rfl rfl)
theorem dX7_keep_38 : decode cX7_keep 38 = .ok (.iconst 2, 1) := dk_5 (dk_at dksX7_keep_1 15 rfl rfl)
theorem dX7_keep_39 : decode cX7_keep 39 = .ok (.iaload, 1) := dk_46 (dk_at dksX7_keep_1 16 rfl rfl)
theorem dX7_keep_40 : decode cX7_keep 40 = .ok (.imul, 1) := dk_104 (dk_at dksX7_keep_1 17 rfl rfl)
theorem dX7_keep_41 : decode cX7_keep 41 = .ok (.iadd, 1) := dk_96 (dk_at dksX7_keep_1 18 rfl rfl)
theorem dX7_keep_42 : decode cX7_keep 42 = .ok (.istore 4, 2) := dk_54 4 (dk_at dksX7_keep_1 19 rfl rfl)
theorem dX7_keep_44 : decode cX7_keep 44 = .ok (.aload_n 0, 1) := dk_42 (dk_at dksX7_keep_1 21 rfl rfl)
theorem dX7_keep_45 : decode cX7_keep 45 = .ok (.getfield 7, 3) := dk_180 0 7 (dk_at dksX7_keep_2 0 rfl rfl)
theorem dX7_keep_48 : decode cX7_keep 48 = .ok (.iload 4, 2) := dk_21 4 (dk_at dksX7_keep_2 3 rfl rfl)
theorem dX7_keep_50 : decode cX7_keep 50 = .ok (.iload_n 1, 1) := dk_27 (dk_at dksX7_keep_2 5 rfl rfl)
theorem dX7_keep_51 : decode cX7_keep 51 = .ok (.iastore, 1) := dk_79 (dk_at dksX7_keep_2 6 rfl rfl)
theorem dX7_keep_52 : decode cX7_keep 52 = .ok (.aload_n 0, 1) := dk_42 (dk_at dksX7_keep_2 7 rfl rfl)
theorem dX7_keep_53 : decode cX7_keep 53 = .ok (.getfield 7, 3) := dk_180 0 7 (dk_at dksX7_keep_2 8 rfl rfl)
theorem dX7_keep_56 : decode cX7_keep 56 = .ok (.iload 4, 2) := dk_21 4 (dk_at dksX7_keep_2 11 rfl rfl)
theorem dX7_keep_58 : decode cX7_keep 58 = .ok (.iconst 1, 1) := dk_4 (dk_at dksX7_keep_2 13 rfl rfl)
theorem dX7_keep_59 : decode cX7_keep 59 = .ok (.iadd, 1) := dk_96 (dk_at dksX7_keep_2 14 rfl rfl)
theorem dX7_keep_60 : decode cX7_keep 60 = .ok (.iload_n 2, 1) := dk_28 (dk_at dksX7_keep_2 15 rfl rfl)
theorem dX7_keep_61 : decode cX7_keep 61 = .ok (.iastore, 1) := dk_79 (dk_at dksX7_keep_2 16 rfl rfl)
theorem dX7_keep_62 : decode cX7_keep 62 = .ok (.aload_n 0, 1) := dk_42 (dk_at dksX7_keep_2 17 rfl rfl)
theorem dX7_keep_63 : decode cX7_keep 63 = .ok (.getfield 7, 3) := dk_180 0 7 (dk_at dksX7_keep_2 18 rfl rfl)
theorem dX7_keep_66 : decode cX7_keep 66 = .ok (.iload 4, 2) := dk_21 4 (dk_at dksX7_keep_2 21 rfl rfl)
theorem dX7_keep_68 : decode cX7_keep 68 = .ok (.iconst 2, 1) := dk_5 (dk_at dksX7_keep_2 23 rfl rfl)
theorem dX7_keep_69 : decode cX7_keep 69 = .ok (.iadd, 1) := dk_96 (dk_at dksX7_keep_3 0 rfl rfl)
theorem dX7_keep_70 : decode cX7_keep 70 = .ok (.iload_n 3, 1) := dk_29 (dk_at dksX7_keep_3 1 rfl rfl)
theorem dX7_keep_71 : decode cX7_keep 71 = .ok (.ifCond .eq 7, 3) := dk_153 0 7 (dk_at dksX7_keep_3 2 rfl rfl)
theorem dX7_keep_74 : decode cX7_keep 74 = .ok (.iconst 1, 1) := dk_4 (dk_at dksX7_keep_3 5 rfl rfl)
theorem dX7_keep_75 : decode cX7_keep 75 = .ok (.goto 4, 3) := dk_167 0 4 (dk_at dksX7_keep_3 6 rfl rfl)
theorem dX7_keep_78 : decode cX7_keep 78 = .ok (.iconst 0, 1) := dk_3 (dk_at dksX7_keep_3 9 rfl rfl)
theorem dX7_keep_79 : decode cX7_keep 79 = .ok (.iastore, 1) := dk_79 (dk_at dksX7_keep_3 10 rfl rfl)
theorem dX7_keep_80 : decode cX7_keep 80 = .ok (.aload_n 0, 1) := dk_42 (dk_at dksX7_keep_3 11 rfl rfl)
theorem dX7_keep_81 : decode cX7_keep 81 = .ok (.getfield 7, 3) := dk_180 0 7 (dk_at dksX7_keep_3 12 rfl rfl)
theorem dX7_keep_84 : decode cX7_keep 84 = .ok (.iconst 2, 1) := dk_5 (dk_at dksX7_keep_3 15 rfl rfl)
theorem dX7_keep_85 : decode cX7_keep 85 = .ok (.dup2, 1) := dk_92 (dk_at dksX7_keep_3 16 rfl rfl)
theorem dX7_keep_86 : decode cX7_keep 86 = .ok (.iaload, 1) := dk_46 (dk_at dksX7_keep_3 17 rfl rfl)
theorem dX7_keep_87 : decode cX7_keep 87 = .ok (.iconst 1, 1) := dk_4 (dk_at dksX7_keep_3 18 rfl rfl)
theorem dX7_keep_88 : decode cX7_keep 88 = .ok (.iadd, 1) := dk_96 (dk_at dksX7_keep_3 19 rfl rfl)
theorem dX7_keep_89 : decode cX7_keep 89 = .ok (.iastore, 1) := dk_79 (dk_at dksX7_keep_3 20 rfl rfl)
theorem dX7_keep_90 : decode cX7_keep 90 = .ok (.aload_n 0, 1) := dk_42 (dk_at dksX7_keep_3 21 rfl rfl)
theorem dX7_keep_91 : decode cX7_keep 91 = .ok (.getfield 7, 3) := dk_180 0 7 (dk_at dksX7_keep_4 0 rfl rfl)
theorem dX7_keep_94 : decode cX7_keep 94 = .ok (.iconst 2, 1) := dk_5 (dk_at dksX7_keep_4 3 rfl rfl)
theorem dX7_keep_95 : decode cX7_keep 95 = .ok (.iaload, 1) := dk_46 (dk_at dksX7_keep_4 4 rfl rfl)
theorem dX7_keep_96 : decode cX7_keep 96 = .ok (.iconst 1, 1) := dk_4 (dk_at dksX7_keep_4 5 rfl rfl)
theorem dX7_keep_97 : decode cX7_keep 97 = .ok (.isub, 1) := dk_100 (dk_at dksX7_keep_4 6 rfl rfl)
theorem dX7_keep_98 : decode cX7_keep 98 = .ok (.ireturn, 1) := dk_172 (dk_at dksX7_keep_4 7 rfl rfl)
abbrev cX7_fit : ByteArray := prog_21_method_82_code
def yX7_fit : MethodName := ⟨RX7, "fit", "(II)I"⟩
def dkwX7_fit_1 : List UInt8 := [182, 1, 66, 42, 180, 0, 74, 3, 46, 156, 0, 7, 2, 167, 0, 9, 42, 180, 0, 74, 28, 46, 172]
abbrev dktX7_fit_1 : List UInt8 := dkwX7_fit_1 ++ []
def dkwX7_fit_0 : List UInt8 := [27, 3, 16, 16, 184, 0, 89, 153, 0, 12, 28, 3, 7, 184, 0, 89, 154, 0, 5, 2, 172, 42, 27]
abbrev dktX7_fit_0 : List UInt8 := dkwX7_fit_0 ++ dktX7_fit_1
theorem dksX7_fit_0 : cX7_fit.data.toList.drop 0 = dktX7_fit_0 := by decide +kernel
theorem dksX7_fit_1 : cX7_fit.data.toList.drop 23 = dktX7_fit_1 := dk_seg dksX7_fit_0 23 rfl rfl
theorem dX7_fit_0 : decode cX7_fit 0 = .ok (.iload_n 1, 1) := dk_27 (dk_at dksX7_fit_0 0 rfl rfl)
theorem dX7_fit_1 : decode cX7_fit 1 = .ok (.iconst 0, 1) := dk_3 (dk_at dksX7_fit_0 1 rfl rfl)
theorem dX7_fit_2 : decode cX7_fit 2 = .ok (.bipush 16, 2) := dk_16 16 (dk_at dksX7_fit_0 2 rfl rfl)
theorem dX7_fit_4 : decode cX7_fit 4 = .ok (.invokestatic 89, 3) := dk_184 0 89 (dk_at dksX7_fit_0 4 rfl rfl)
theorem dX7_fit_7 : decode cX7_fit 7 = .ok (.ifCond .eq 12, 3) := dk_153 0 12 (dk_at dksX7_fit_0 7 rfl rfl)
theorem dX7_fit_10 : decode cX7_fit 10 = .ok (.iload_n 2, 1) := dk_28 (dk_at dksX7_fit_0 10 rfl rfl)
theorem dX7_fit_11 : decode cX7_fit 11 = .ok (.iconst 0, 1) := dk_3 (dk_at dksX7_fit_0 11 rfl rfl)
theorem dX7_fit_12 : decode cX7_fit 12 = .ok (.iconst 4, 1) := dk_7 (dk_at dksX7_fit_0 12 rfl rfl)
theorem dX7_fit_13 : decode cX7_fit 13 = .ok (.invokestatic 89, 3) := dk_184 0 89 (dk_at dksX7_fit_0 13 rfl rfl)
theorem dX7_fit_16 : decode cX7_fit 16 = .ok (.ifCond .ne 5, 3) := dk_154 0 5 (dk_at dksX7_fit_0 16 rfl rfl)
theorem dX7_fit_19 : decode cX7_fit 19 = .ok (.iconst (-1), 1) := dk_2 (dk_at dksX7_fit_0 19 rfl rfl)
theorem dX7_fit_20 : decode cX7_fit 20 = .ok (.ireturn, 1) := dk_172 (dk_at dksX7_fit_0 20 rfl rfl)
theorem dX7_fit_21 : decode cX7_fit 21 = .ok (.aload_n 0, 1) := dk_42 (dk_at dksX7_fit_0 21 rfl rfl)
theorem dX7_fit_22 : decode cX7_fit 22 = .ok (.iload_n 1, 1) := dk_27 (dk_at dksX7_fit_0 22 rfl rfl)
theorem dX7_fit_23 : decode cX7_fit 23 = .ok (.invokevirtual 322, 3) := dk_182 1 66 (dk_at dksX7_fit_1 0 rfl rfl)
theorem dX7_fit_26 : decode cX7_fit 26 = .ok (.aload_n 0, 1) := dk_42 (dk_at dksX7_fit_1 3 rfl rfl)
theorem dX7_fit_27 : decode cX7_fit 27 = .ok (.getfield 74, 3) := dk_180 0 74 (dk_at dksX7_fit_1 4 rfl rfl)
theorem dX7_fit_30 : decode cX7_fit 30 = .ok (.iconst 0, 1) := dk_3 (dk_at dksX7_fit_1 7 rfl rfl)
theorem dX7_fit_31 : decode cX7_fit 31 = .ok (.iaload, 1) := dk_46 (dk_at dksX7_fit_1 8 rfl rfl)
theorem dX7_fit_32 : decode cX7_fit 32 = .ok (.ifCond .ge 7, 3) := dk_156 0 7 (dk_at dksX7_fit_1 9 rfl rfl)
theorem dX7_fit_35 : decode cX7_fit 35 = .ok (.iconst (-1), 1) := dk_2 (dk_at dksX7_fit_1 12 rfl rfl)
theorem dX7_fit_36 : decode cX7_fit 36 = .ok (.goto 9, 3) := dk_167 0 9 (dk_at dksX7_fit_1 13 rfl rfl)
theorem dX7_fit_39 : decode cX7_fit 39 = .ok (.aload_n 0, 1) := dk_42 (dk_at dksX7_fit_1 16 rfl rfl)
theorem dX7_fit_40 : decode cX7_fit 40 = .ok (.getfield 74, 3) := dk_180 0 74 (dk_at dksX7_fit_1 17 rfl rfl)
theorem dX7_fit_43 : decode cX7_fit 43 = .ok (.iload_n 2, 1) := dk_28 (dk_at dksX7_fit_1 20 rfl rfl)
theorem dX7_fit_44 : decode cX7_fit 44 = .ok (.iaload, 1) := dk_46 (dk_at dksX7_fit_1 21 rfl rfl)
theorem dX7_fit_45 : decode cX7_fit 45 = .ok (.ireturn, 1) := dk_172 (dk_at dksX7_fit_1 22 rfl rfl)
abbrev cX7_fits : ByteArray := prog_21_method_81_code
def yX7_fits : MethodName := ⟨RX7, "fits", "(I)V"⟩
def dkwX7_fits_7 : List UInt8 := [132, 4, 1, 167, 255, 150, 132, 3, 1, 167, 255, 119, 132, 2, 1, 167, 255, 89, 177]
abbrev dktX7_fits_7 : List UInt8 := dkwX7_fits_7 ++ []
def dkwX7_fits_6 : List UInt8 := [46, 79, 132, 7, 1, 167, 255, 233, 42, 180, 0, 74, 6, 21, 6, 79, 42, 180, 0, 74, 7, 21, 5, 79]
abbrev dktX7_fits_6 : List UInt8 := dkwX7_fits_6 ++ dktX7_fits_7
def dkwX7_fits_5 : List UInt8 := [167, 0, 48, 3, 54, 7, 21, 7, 6, 162, 0, 23, 42, 180, 0, 74, 21, 7, 42, 180, 0, 71, 21, 7]
abbrev dktX7_fits_5 : List UInt8 := dkwX7_fits_5 ++ dktX7_fits_6
def dkwX7_fits_4 : List UInt8 := [3, 182, 1, 59, 54, 6, 21, 5, 27, 163, 0, 62, 42, 21, 6, 21, 5, 182, 1, 63, 154, 0, 6]
abbrev dktX7_fits_4 : List UInt8 := dkwX7_fits_4 ++ dktX7_fits_5
def dkwX7_fits_3 : List UInt8 := [162, 0, 101, 42, 5, 21, 4, 182, 1, 56, 154, 0, 6, 167, 0, 82, 42, 4, 182, 1, 59, 54, 5, 42]
abbrev dktX7_fits_3 : List UInt8 := dkwX7_fits_3 ++ dktX7_fits_4
def dkwX7_fits_2 : List UInt8 := [4, 29, 182, 1, 56, 154, 0, 6, 167, 0, 115, 2, 54, 4, 21, 4, 42, 180, 0, 7, 5, 46]
abbrev dktX7_fits_2 : List UInt8 := dkwX7_fits_2 ++ dktX7_fits_3
def dkwX7_fits_1 : List UInt8 := [3, 28, 182, 1, 56, 154, 0, 6, 167, 0, 145, 2, 62, 29, 42, 180, 0, 7, 5, 46, 162, 0, 133, 42]
abbrev dktX7_fits_1 : List UInt8 := dkwX7_fits_1 ++ dktX7_fits_2
def dkwX7_fits_0 : List UInt8 := [42, 182, 1, 53, 42, 180, 0, 74, 3, 2, 79, 2, 61, 28, 42, 180, 0, 7, 5, 46, 162, 0, 163, 42]
abbrev dktX7_fits_0 : List UInt8 := dkwX7_fits_0 ++ dktX7_fits_1
theorem dksX7_fits_0 : cX7_fits.data.toList.drop 0 = dktX7_fits_0 := by decide +kernel
theorem dksX7_fits_1 : cX7_fits.data.toList.drop 24 = dktX7_fits_1 := dk_seg dksX7_fits_0 24 rfl rfl
theorem dksX7_fits_2 : cX7_fits.data.toList.drop 48 = dktX7_fits_2 := dk_seg dksX7_fits_1 24 rfl rfl
theorem dksX7_fits_3 : cX7_fits.data.toList.drop 70 = dktX7_fits_3 := dk_seg dksX7_fits_2 22 rfl rfl
theorem dksX7_fits_4 : cX7_fits.data.toList.drop 94 = dktX7_fits_4 := dk_seg dksX7_fits_3 24 rfl rfl
theorem dksX7_fits_5 : cX7_fits.data.toList.drop 117 = dktX7_fits_5 := dk_seg dksX7_fits_4 23 rfl rfl
theorem dksX7_fits_6 : cX7_fits.data.toList.drop 141 = dktX7_fits_6 := dk_seg dksX7_fits_5 24 rfl rfl
theorem dksX7_fits_7 : cX7_fits.data.toList.drop 165 = dktX7_fits_7 := dk_seg dksX7_fits_6 24 rfl rfl
theorem dX7_fits_0 : decode cX7_fits 0 = .ok (.aload_n 0, 1) := dk_42 (dk_at dksX7_fits_0 0 rfl rfl)
theorem dX7_fits_1 : decode cX7_fits 1 = .ok (.invokevirtual 309, 3) := dk_182 1 53 (dk_at dksX7_fits_0 1 rfl rfl)
theorem dX7_fits_4 : decode cX7_fits 4 = .ok (.aload_n 0, 1) := dk_42 (dk_at dksX7_fits_0 4 rfl rfl)
theorem dX7_fits_5 : decode cX7_fits 5 = .ok (.getfield 74, 3) := dk_180 0 74 (dk_at dksX7_fits_0 5 rfl rfl)
theorem dX7_fits_8 : decode cX7_fits 8 = .ok (.iconst 0, 1) := dk_3 (dk_at dksX7_fits_0 8 rfl rfl)
theorem dX7_fits_9 : decode cX7_fits 9 = .ok (.iconst (-1), 1) := dk_2 (dk_at dksX7_fits_0 9 rfl rfl)
theorem dX7_fits_10 : decode cX7_fits 10 = .ok (.iastore, 1) := dk_79 (dk_at dksX7_fits_0 10 rfl rfl)
theorem dX7_fits_11 : decode cX7_fits 11 = .ok (.iconst (-1), 1) := dk_2 (dk_at dksX7_fits_0 11 rfl rfl)
theorem dX7_fits_12 : decode cX7_fits 12 = .ok (.istore_n 2, 1) := dk_61 (dk_at dksX7_fits_0 12 rfl rfl)
theorem dX7_fits_13 : decode cX7_fits 13 = .ok (.iload_n 2, 1) := dk_28 (dk_at dksX7_fits_0 13 rfl rfl)
theorem dX7_fits_14 : decode cX7_fits 14 = .ok (.aload_n 0, 1) := dk_42 (dk_at dksX7_fits_0 14 rfl rfl)
theorem dX7_fits_15 : decode cX7_fits 15 = .ok (.getfield 7, 3) := dk_180 0 7 (dk_at dksX7_fits_0 15 rfl rfl)
theorem dX7_fits_18 : decode cX7_fits 18 = .ok (.iconst 2, 1) := dk_5 (dk_at dksX7_fits_0 18 rfl rfl)
theorem dX7_fits_19 : decode cX7_fits 19 = .ok (.iaload, 1) := dk_46 (dk_at dksX7_fits_0 19 rfl rfl)
theorem dX7_fits_20 : decode cX7_fits 20 = .ok (.if_icmp .ge 163, 3) := dk_162 0 163 (dk_at dksX7_fits_0 20 rfl rfl)
theorem dX7_fits_23 : decode cX7_fits 23 = .ok (.aload_n 0, 1) := dk_42 (dk_at dksX7_fits_0 23 rfl rfl)
theorem dX7_fits_24 : decode cX7_fits 24 = .ok (.iconst 0, 1) := dk_3 (dk_at dksX7_fits_1 0 rfl rfl)
theorem dX7_fits_25 : decode cX7_fits 25 = .ok (.iload_n 2, 1) := dk_28 (dk_at dksX7_fits_1 1 rfl rfl)
theorem dX7_fits_26 : decode cX7_fits 26 = .ok (.invokevirtual 312, 3) := dk_182 1 56 (dk_at dksX7_fits_1 2 rfl rfl)
theorem dX7_fits_29 : decode cX7_fits 29 = .ok (.ifCond .ne 6, 3) := dk_154 0 6 (dk_at dksX7_fits_1 5 rfl rfl)
theorem dX7_fits_32 : decode cX7_fits 32 = .ok (.goto 145, 3) := dk_167 0 145 (dk_at dksX7_fits_1 8 rfl rfl)
theorem dX7_fits_35 : decode cX7_fits 35 = .ok (.iconst (-1), 1) := dk_2 (dk_at dksX7_fits_1 11 rfl rfl)
theorem dX7_fits_36 : decode cX7_fits 36 = .ok (.istore_n 3, 1) := dk_62 (dk_at dksX7_fits_1 12 rfl rfl)
theorem dX7_fits_37 : decode cX7_fits 37 = .ok (.iload_n 3, 1) := dk_29 (dk_at dksX7_fits_1 13 rfl rfl)
theorem dX7_fits_38 : decode cX7_fits 38 = .ok (.aload_n 0, 1) := dk_42 (dk_at dksX7_fits_1 14 rfl rfl)
theorem dX7_fits_39 : decode cX7_fits 39 = .ok (.getfield 7, 3) := dk_180 0 7 (dk_at dksX7_fits_1 15 rfl rfl)
theorem dX7_fits_42 : decode cX7_fits 42 = .ok (.iconst 2, 1) := dk_5 (dk_at dksX7_fits_1 18 rfl rfl)
theorem dX7_fits_43 : decode cX7_fits 43 = .ok (.iaload, 1) := dk_46 (dk_at dksX7_fits_1 19 rfl rfl)
theorem dX7_fits_44 : decode cX7_fits 44 = .ok (.if_icmp .ge 133, 3) := dk_162 0 133 (dk_at dksX7_fits_1 20 rfl rfl)
theorem dX7_fits_47 : decode cX7_fits 47 = .ok (.aload_n 0, 1) := dk_42 (dk_at dksX7_fits_1 23 rfl rfl)
theorem dX7_fits_48 : decode cX7_fits 48 = .ok (.iconst 1, 1) := dk_4 (dk_at dksX7_fits_2 0 rfl rfl)
theorem dX7_fits_49 : decode cX7_fits 49 = .ok (.iload_n 3, 1) := dk_29 (dk_at dksX7_fits_2 1 rfl rfl)
theorem dX7_fits_50 : decode cX7_fits 50 = .ok (.invokevirtual 312, 3) := dk_182 1 56 (dk_at dksX7_fits_2 2 rfl rfl)
theorem dX7_fits_53 : decode cX7_fits 53 = .ok (.ifCond .ne 6, 3) := dk_154 0 6 (dk_at dksX7_fits_2 5 rfl rfl)
theorem dX7_fits_56 : decode cX7_fits 56 = .ok (.goto 115, 3) := dk_167 0 115 (dk_at dksX7_fits_2 8 rfl rfl)
theorem dX7_fits_59 : decode cX7_fits 59 = .ok (.iconst (-1), 1) := dk_2 (dk_at dksX7_fits_2 11 rfl rfl)
theorem dX7_fits_60 : decode cX7_fits 60 = .ok (.istore 4, 2) := dk_54 4 (dk_at dksX7_fits_2 12 rfl rfl)
theorem dX7_fits_62 : decode cX7_fits 62 = .ok (.iload 4, 2) := dk_21 4 (dk_at dksX7_fits_2 14 rfl rfl)
theorem dX7_fits_64 : decode cX7_fits 64 = .ok (.aload_n 0, 1) := dk_42 (dk_at dksX7_fits_2 16 rfl rfl)
theorem dX7_fits_65 : decode cX7_fits 65 = .ok (.getfield 7, 3) := dk_180 0 7 (dk_at dksX7_fits_2 17 rfl rfl)
theorem dX7_fits_68 : decode cX7_fits 68 = .ok (.iconst 2, 1) := dk_5 (dk_at dksX7_fits_2 20 rfl rfl)
theorem dX7_fits_69 : decode cX7_fits 69 = .ok (.iaload, 1) := dk_46 (dk_at dksX7_fits_2 21 rfl rfl)
theorem dX7_fits_70 : decode cX7_fits 70 = .ok (.if_icmp .ge 101, 3) := dk_162 0 101 (dk_at dksX7_fits_3 0 rfl rfl)
theorem dX7_fits_73 : decode cX7_fits 73 = .ok (.aload_n 0, 1) := dk_42 (dk_at dksX7_fits_3 3 rfl rfl)
theorem dX7_fits_74 : decode cX7_fits 74 = .ok (.iconst 2, 1) := dk_5 (dk_at dksX7_fits_3 4 rfl rfl)
theorem dX7_fits_75 : decode cX7_fits 75 = .ok (.iload 4, 2) := dk_21 4 (dk_at dksX7_fits_3 5 rfl rfl)
theorem dX7_fits_77 : decode cX7_fits 77 = .ok (.invokevirtual 312, 3) := dk_182 1 56 (dk_at dksX7_fits_3 7 rfl rfl)
theorem dX7_fits_80 : decode cX7_fits 80 = .ok (.ifCond .ne 6, 3) := dk_154 0 6 (dk_at dksX7_fits_3 10 rfl rfl)
theorem dX7_fits_83 : decode cX7_fits 83 = .ok (.goto 82, 3) := dk_167 0 82 (dk_at dksX7_fits_3 13 rfl rfl)
theorem dX7_fits_86 : decode cX7_fits 86 = .ok (.aload_n 0, 1) := dk_42 (dk_at dksX7_fits_3 16 rfl rfl)
theorem dX7_fits_87 : decode cX7_fits 87 = .ok (.iconst 1, 1) := dk_4 (dk_at dksX7_fits_3 17 rfl rfl)
theorem dX7_fits_88 : decode cX7_fits 88 = .ok (.invokevirtual 315, 3) := dk_182 1 59 (dk_at dksX7_fits_3 18 rfl rfl)
theorem dX7_fits_91 : decode cX7_fits 91 = .ok (.istore 5, 2) := dk_54 5 (dk_at dksX7_fits_3 21 rfl rfl)
theorem dX7_fits_93 : decode cX7_fits 93 = .ok (.aload_n 0, 1) := dk_42 (dk_at dksX7_fits_3 23 rfl rfl)
theorem dX7_fits_94 : decode cX7_fits 94 = .ok (.iconst 0, 1) := dk_3 (dk_at dksX7_fits_4 0 rfl rfl)
theorem dX7_fits_95 : decode cX7_fits 95 = .ok (.invokevirtual 315, 3) := dk_182 1 59 (dk_at dksX7_fits_4 1 rfl rfl)
theorem dX7_fits_98 : decode cX7_fits 98 = .ok (.istore 6, 2) := dk_54 6 (dk_at dksX7_fits_4 4 rfl rfl)
theorem dX7_fits_100 : decode cX7_fits 100 = .ok (.iload 5, 2) := dk_21 5 (dk_at dksX7_fits_4 6 rfl rfl)
theorem dX7_fits_102 : decode cX7_fits 102 = .ok (.iload_n 1, 1) := dk_27 (dk_at dksX7_fits_4 8 rfl rfl)
theorem dX7_fits_103 : decode cX7_fits 103 = .ok (.if_icmp .gt 62, 3) := dk_163 0 62 (dk_at dksX7_fits_4 9 rfl rfl)
theorem dX7_fits_106 : decode cX7_fits 106 = .ok (.aload_n 0, 1) := dk_42 (dk_at dksX7_fits_4 12 rfl rfl)
theorem dX7_fits_107 : decode cX7_fits 107 = .ok (.iload 6, 2) := dk_21 6 (dk_at dksX7_fits_4 13 rfl rfl)
theorem dX7_fits_109 : decode cX7_fits 109 = .ok (.iload 5, 2) := dk_21 5 (dk_at dksX7_fits_4 15 rfl rfl)
theorem dX7_fits_111 : decode cX7_fits 111 = .ok (.invokevirtual 319, 3) := dk_182 1 63 (dk_at dksX7_fits_4 17 rfl rfl)
theorem dX7_fits_114 : decode cX7_fits 114 = .ok (.ifCond .ne 6, 3) := dk_154 0 6 (dk_at dksX7_fits_4 20 rfl rfl)
theorem dX7_fits_117 : decode cX7_fits 117 = .ok (.goto 48, 3) := dk_167 0 48 (dk_at dksX7_fits_5 0 rfl rfl)
theorem dX7_fits_120 : decode cX7_fits 120 = .ok (.iconst 0, 1) := dk_3 (dk_at dksX7_fits_5 3 rfl rfl)
theorem dX7_fits_121 : decode cX7_fits 121 = .ok (.istore 7, 2) := dk_54 7 (dk_at dksX7_fits_5 4 rfl rfl)
theorem dX7_fits_123 : decode cX7_fits 123 = .ok (.iload 7, 2) := dk_21 7 (dk_at dksX7_fits_5 6 rfl rfl)
theorem dX7_fits_125 : decode cX7_fits 125 = .ok (.iconst 3, 1) := dk_6 (dk_at dksX7_fits_5 8 rfl rfl)
theorem dX7_fits_126 : decode cX7_fits 126 = .ok (.if_icmp .ge 23, 3) := dk_162 0 23 (dk_at dksX7_fits_5 9 rfl rfl)
theorem dX7_fits_129 : decode cX7_fits 129 = .ok (.aload_n 0, 1) := dk_42 (dk_at dksX7_fits_5 12 rfl rfl)
theorem dX7_fits_130 : decode cX7_fits 130 = .ok (.getfield 74, 3) := dk_180 0 74 (dk_at dksX7_fits_5 13 rfl rfl)
theorem dX7_fits_133 : decode cX7_fits 133 = .ok (.iload 7, 2) := dk_21 7 (dk_at dksX7_fits_5 16 rfl rfl)
theorem dX7_fits_135 : decode cX7_fits 135 = .ok (.aload_n 0, 1) := dk_42 (dk_at dksX7_fits_5 18 rfl rfl)
theorem dX7_fits_136 : decode cX7_fits 136 = .ok (.getfield 71, 3) := dk_180 0 71 (dk_at dksX7_fits_5 19 rfl rfl)
theorem dX7_fits_139 : decode cX7_fits 139 = .ok (.iload 7, 2) := dk_21 7 (dk_at dksX7_fits_5 22 rfl rfl)
theorem dX7_fits_141 : decode cX7_fits 141 = .ok (.iaload, 1) := dk_46 (dk_at dksX7_fits_6 0 rfl rfl)
theorem dX7_fits_142 : decode cX7_fits 142 = .ok (.iastore, 1) := dk_79 (dk_at dksX7_fits_6 1 rfl rfl)
theorem dX7_fits_143 : decode cX7_fits 143 = .ok (.iinc 7 1, 3) := dk_132 7 1 (dk_at dksX7_fits_6 2 rfl rfl)
theorem dX7_fits_146 : decode cX7_fits 146 = .ok (.goto (-23), 3) := dk_167 255 233 (dk_at dksX7_fits_6 5 rfl rfl)
theorem dX7_fits_149 : decode cX7_fits 149 = .ok (.aload_n 0, 1) := dk_42 (dk_at dksX7_fits_6 8 rfl rfl)
theorem dX7_fits_150 : decode cX7_fits 150 = .ok (.getfield 74, 3) := dk_180 0 74 (dk_at dksX7_fits_6 9 rfl rfl)
theorem dX7_fits_153 : decode cX7_fits 153 = .ok (.iconst 3, 1) := dk_6 (dk_at dksX7_fits_6 12 rfl rfl)
theorem dX7_fits_154 : decode cX7_fits 154 = .ok (.iload 6, 2) := dk_21 6 (dk_at dksX7_fits_6 13 rfl rfl)
theorem dX7_fits_156 : decode cX7_fits 156 = .ok (.iastore, 1) := dk_79 (dk_at dksX7_fits_6 15 rfl rfl)
theorem dX7_fits_157 : decode cX7_fits 157 = .ok (.aload_n 0, 1) := dk_42 (dk_at dksX7_fits_6 16 rfl rfl)
theorem dX7_fits_158 : decode cX7_fits 158 = .ok (.getfield 74, 3) := dk_180 0 74 (dk_at dksX7_fits_6 17 rfl rfl)
theorem dX7_fits_161 : decode cX7_fits 161 = .ok (.iconst 4, 1) := dk_7 (dk_at dksX7_fits_6 20 rfl rfl)
theorem dX7_fits_162 : decode cX7_fits 162 = .ok (.iload 5, 2) := dk_21 5 (dk_at dksX7_fits_6 21 rfl rfl)
theorem dX7_fits_164 : decode cX7_fits 164 = .ok (.iastore, 1) := dk_79 (dk_at dksX7_fits_6 23 rfl rfl)
theorem dX7_fits_165 : decode cX7_fits 165 = .ok (.iinc 4 1, 3) := dk_132 4 1 (dk_at dksX7_fits_7 0 rfl rfl)
theorem dX7_fits_168 : decode cX7_fits 168 = .ok (.goto (-106), 3) := dk_167 255 150 (dk_at dksX7_fits_7 3 rfl rfl)
theorem dX7_fits_171 : decode cX7_fits 171 = .ok (.iinc 3 1, 3) := dk_132 3 1 (dk_at dksX7_fits_7 6 rfl rfl)
theorem dX7_fits_174 : decode cX7_fits 174 = .ok (.goto (-137), 3) := dk_167 255 119 (dk_at dksX7_fits_7 9 rfl rfl)
theorem dX7_fits_177 : decode cX7_fits 177 = .ok (.iinc 2 1, 3) := dk_132 2 1 (dk_at dksX7_fits_7 12 rfl rfl)
theorem dX7_fits_180 : decode cX7_fits 180 = .ok (.goto (-167), 3) := dk_167 255 89 (dk_at dksX7_fits_7 15 rfl rfl)
theorem dX7_fits_183 : decode cX7_fits 183 = .ok (.return_, 1) := dk_177 (dk_at dksX7_fits_7 18 rfl rfl)
abbrev cX7_weighs : ByteArray := prog_21_method_77_code
def yX7_weighs : MethodName := ⟨RX7, "weighs", "()V"⟩
def dkwX7_weighs_5 : List UInt8 := [96, 46, 182, 1, 41, 167, 0, 6, 17, 3, 231, 79, 132, 1, 1, 167, 255, 128, 177]
abbrev dktX7_weighs_5 : List UInt8 := dkwX7_weighs_5 ++ []
def dkwX7_weighs_4 : List UInt8 := [180, 0, 68, 27, 42, 180, 1, 32, 153, 0, 24, 42, 42, 180, 0, 7, 28, 46, 42, 180, 0, 7, 28, 4]
abbrev dktX7_weighs_4 : List UInt8 := dkwX7_weighs_4 ++ dktX7_weighs_5
def dkwX7_weighs_3 : List UInt8 := [17, 3, 231, 167, 0, 7, 42, 180, 1, 26, 79, 42, 180, 0, 65, 27, 42, 180, 1, 20, 79, 42]
abbrev dktX7_weighs_3 : List UInt8 := dkwX7_weighs_3 ++ dktX7_weighs_4
def dkwX7_weighs_2 : List UInt8 := [180, 0, 7, 28, 4, 96, 46, 182, 1, 38, 42, 180, 0, 62, 27, 42, 180, 1, 23, 156, 0, 9]
abbrev dktX7_weighs_2 : List UInt8 := dkwX7_weighs_2 ++ dktX7_weighs_3
def dkwX7_weighs_1 : List UInt8 := [28, 46, 3, 42, 180, 0, 7, 28, 4, 96, 46, 182, 1, 8, 42, 42, 180, 0, 7, 28, 46, 3, 42]
abbrev dktX7_weighs_1 : List UInt8 := dkwX7_weighs_1 ++ dktX7_weighs_2
def dkwX7_weighs_0 : List UInt8 := [3, 60, 27, 42, 180, 0, 7, 5, 46, 162, 0, 124, 16, 20, 6, 27, 104, 96, 61, 42, 42, 180, 0, 7]
abbrev dktX7_weighs_0 : List UInt8 := dkwX7_weighs_0 ++ dktX7_weighs_1
theorem dksX7_weighs_0 : cX7_weighs.data.toList.drop 0 = dktX7_weighs_0 := by decide +kernel
theorem dksX7_weighs_1 : cX7_weighs.data.toList.drop 24 = dktX7_weighs_1 := dk_seg dksX7_weighs_0 24 rfl rfl
theorem dksX7_weighs_2 : cX7_weighs.data.toList.drop 47 = dktX7_weighs_2 := dk_seg dksX7_weighs_1 23 rfl rfl
theorem dksX7_weighs_3 : cX7_weighs.data.toList.drop 69 = dktX7_weighs_3 := dk_seg dksX7_weighs_2 22 rfl rfl
theorem dksX7_weighs_4 : cX7_weighs.data.toList.drop 91 = dktX7_weighs_4 := dk_seg dksX7_weighs_3 22 rfl rfl
theorem dksX7_weighs_5 : cX7_weighs.data.toList.drop 115 = dktX7_weighs_5 := dk_seg dksX7_weighs_4 24 rfl rfl
theorem dX7_weighs_0 : decode cX7_weighs 0 = .ok (.iconst 0, 1) := dk_3 (dk_at dksX7_weighs_0 0 rfl rfl)
theorem dX7_weighs_1 : decode cX7_weighs 1 = .ok (.istore_n 1, 1) := dk_60 (dk_at dksX7_weighs_0 1 rfl rfl)
theorem dX7_weighs_2 : decode cX7_weighs 2 = .ok (.iload_n 1, 1) := dk_27 (dk_at dksX7_weighs_0 2 rfl rfl)
theorem dX7_weighs_3 : decode cX7_weighs 3 = .ok (.aload_n 0, 1) := dk_42 (dk_at dksX7_weighs_0 3 rfl rfl)
theorem dX7_weighs_4 : decode cX7_weighs 4 = .ok (.getfield 7, 3) := dk_180 0 7 (dk_at dksX7_weighs_0 4 rfl rfl)
theorem dX7_weighs_7 : decode cX7_weighs 7 = .ok (.iconst 2, 1) := dk_5 (dk_at dksX7_weighs_0 7 rfl rfl)
theorem dX7_weighs_8 : decode cX7_weighs 8 = .ok (.iaload, 1) := dk_46 (dk_at dksX7_weighs_0 8 rfl rfl)
theorem dX7_weighs_9 : decode cX7_weighs 9 = .ok (.if_icmp .ge 124, 3) := dk_162 0 124 (dk_at dksX7_weighs_0 9 rfl rfl)
theorem dX7_weighs_12 : decode cX7_weighs 12 = .ok (.bipush 20, 2) := dk_16 20 (dk_at dksX7_weighs_0 12 rfl rfl)
theorem dX7_weighs_14 : decode cX7_weighs 14 = .ok (.iconst 3, 1) := dk_6 (dk_at dksX7_weighs_0 14 rfl rfl)
theorem dX7_weighs_15 : decode cX7_weighs 15 = .ok (.iload_n 1, 1) := dk_27 (dk_at dksX7_weighs_0 15 rfl rfl)
theorem dX7_weighs_16 : decode cX7_weighs 16 = .ok (.imul, 1) := dk_104 (dk_at dksX7_weighs_0 16 rfl rfl)
theorem dX7_weighs_17 : decode cX7_weighs 17 = .ok (.iadd, 1) := dk_96 (dk_at dksX7_weighs_0 17 rfl rfl)
theorem dX7_weighs_18 : decode cX7_weighs 18 = .ok (.istore_n 2, 1) := dk_61 (dk_at dksX7_weighs_0 18 rfl rfl)
theorem dX7_weighs_19 : decode cX7_weighs 19 = .ok (.aload_n 0, 1) := dk_42 (dk_at dksX7_weighs_0 19 rfl rfl)
theorem dX7_weighs_20 : decode cX7_weighs 20 = .ok (.aload_n 0, 1) := dk_42 (dk_at dksX7_weighs_0 20 rfl rfl)
theorem dX7_weighs_21 : decode cX7_weighs 21 = .ok (.getfield 7, 3) := dk_180 0 7 (dk_at dksX7_weighs_0 21 rfl rfl)
theorem dX7_weighs_24 : decode cX7_weighs 24 = .ok (.iload_n 2, 1) := dk_28 (dk_at dksX7_weighs_1 0 rfl rfl)
theorem dX7_weighs_25 : decode cX7_weighs 25 = .ok (.iaload, 1) := dk_46 (dk_at dksX7_weighs_1 1 rfl rfl)
theorem dX7_weighs_26 : decode cX7_weighs 26 = .ok (.iconst 0, 1) := dk_3 (dk_at dksX7_weighs_1 2 rfl rfl)
theorem dX7_weighs_27 : decode cX7_weighs 27 = .ok (.aload_n 0, 1) := dk_42 (dk_at dksX7_weighs_1 3 rfl rfl)
theorem dX7_weighs_28 : decode cX7_weighs 28 = .ok (.getfield 7, 3) := dk_180 0 7 (dk_at dksX7_weighs_1 4 rfl rfl)
theorem dX7_weighs_31 : decode cX7_weighs 31 = .ok (.iload_n 2, 1) := dk_28 (dk_at dksX7_weighs_1 7 rfl rfl)
theorem dX7_weighs_32 : decode cX7_weighs 32 = .ok (.iconst 1, 1) := dk_4 (dk_at dksX7_weighs_1 8 rfl rfl)
theorem dX7_weighs_33 : decode cX7_weighs 33 = .ok (.iadd, 1) := dk_96 (dk_at dksX7_weighs_1 9 rfl rfl)
theorem dX7_weighs_34 : decode cX7_weighs 34 = .ok (.iaload, 1) := dk_46 (dk_at dksX7_weighs_1 10 rfl rfl)
theorem dX7_weighs_35 : decode cX7_weighs 35 = .ok (.invokevirtual 264, 3) := dk_182 1 8 (dk_at dksX7_weighs_1 11 rfl rfl)
theorem dX7_weighs_38 : decode cX7_weighs 38 = .ok (.aload_n 0, 1) := dk_42 (dk_at dksX7_weighs_1 14 rfl rfl)
theorem dX7_weighs_39 : decode cX7_weighs 39 = .ok (.aload_n 0, 1) := dk_42 (dk_at dksX7_weighs_1 15 rfl rfl)
theorem dX7_weighs_40 : decode cX7_weighs 40 = .ok (.getfield 7, 3) := dk_180 0 7 (dk_at dksX7_weighs_1 16 rfl rfl)
theorem dX7_weighs_43 : decode cX7_weighs 43 = .ok (.iload_n 2, 1) := dk_28 (dk_at dksX7_weighs_1 19 rfl rfl)
theorem dX7_weighs_44 : decode cX7_weighs 44 = .ok (.iaload, 1) := dk_46 (dk_at dksX7_weighs_1 20 rfl rfl)
theorem dX7_weighs_45 : decode cX7_weighs 45 = .ok (.iconst 0, 1) := dk_3 (dk_at dksX7_weighs_1 21 rfl rfl)
theorem dX7_weighs_46 : decode cX7_weighs 46 = .ok (.aload_n 0, 1) := dk_42 (dk_at dksX7_weighs_1 22 rfl rfl)
theorem dX7_weighs_47 : decode cX7_weighs 47 = .ok (.getfield 7, 3) := dk_180 0 7 (dk_at dksX7_weighs_2 0 rfl rfl)
theorem dX7_weighs_50 : decode cX7_weighs 50 = .ok (.iload_n 2, 1) := dk_28 (dk_at dksX7_weighs_2 3 rfl rfl)
theorem dX7_weighs_51 : decode cX7_weighs 51 = .ok (.iconst 1, 1) := dk_4 (dk_at dksX7_weighs_2 4 rfl rfl)
theorem dX7_weighs_52 : decode cX7_weighs 52 = .ok (.iadd, 1) := dk_96 (dk_at dksX7_weighs_2 5 rfl rfl)
theorem dX7_weighs_53 : decode cX7_weighs 53 = .ok (.iaload, 1) := dk_46 (dk_at dksX7_weighs_2 6 rfl rfl)
theorem dX7_weighs_54 : decode cX7_weighs 54 = .ok (.invokevirtual 294, 3) := dk_182 1 38 (dk_at dksX7_weighs_2 7 rfl rfl)
theorem dX7_weighs_57 : decode cX7_weighs 57 = .ok (.aload_n 0, 1) := dk_42 (dk_at dksX7_weighs_2 10 rfl rfl)
theorem dX7_weighs_58 : decode cX7_weighs 58 = .ok (.getfield 62, 3) := dk_180 0 62 (dk_at dksX7_weighs_2 11 rfl rfl)
theorem dX7_weighs_61 : decode cX7_weighs 61 = .ok (.iload_n 1, 1) := dk_27 (dk_at dksX7_weighs_2 14 rfl rfl)
theorem dX7_weighs_62 : decode cX7_weighs 62 = .ok (.aload_n 0, 1) := dk_42 (dk_at dksX7_weighs_2 15 rfl rfl)
theorem dX7_weighs_63 : decode cX7_weighs 63 = .ok (.getfield 279, 3) := dk_180 1 23 (dk_at dksX7_weighs_2 16 rfl rfl)
theorem dX7_weighs_66 : decode cX7_weighs 66 = .ok (.ifCond .ge 9, 3) := dk_156 0 9 (dk_at dksX7_weighs_2 19 rfl rfl)
theorem dX7_weighs_69 : decode cX7_weighs 69 = .ok (.sipush 999, 3) := dk_17 3 231 (dk_at dksX7_weighs_3 0 rfl rfl)
theorem dX7_weighs_72 : decode cX7_weighs 72 = .ok (.goto 7, 3) := dk_167 0 7 (dk_at dksX7_weighs_3 3 rfl rfl)
theorem dX7_weighs_75 : decode cX7_weighs 75 = .ok (.aload_n 0, 1) := dk_42 (dk_at dksX7_weighs_3 6 rfl rfl)
theorem dX7_weighs_76 : decode cX7_weighs 76 = .ok (.getfield 282, 3) := dk_180 1 26 (dk_at dksX7_weighs_3 7 rfl rfl)
theorem dX7_weighs_79 : decode cX7_weighs 79 = .ok (.iastore, 1) := dk_79 (dk_at dksX7_weighs_3 10 rfl rfl)
theorem dX7_weighs_80 : decode cX7_weighs 80 = .ok (.aload_n 0, 1) := dk_42 (dk_at dksX7_weighs_3 11 rfl rfl)
theorem dX7_weighs_81 : decode cX7_weighs 81 = .ok (.getfield 65, 3) := dk_180 0 65 (dk_at dksX7_weighs_3 12 rfl rfl)
theorem dX7_weighs_84 : decode cX7_weighs 84 = .ok (.iload_n 1, 1) := dk_27 (dk_at dksX7_weighs_3 15 rfl rfl)
theorem dX7_weighs_85 : decode cX7_weighs 85 = .ok (.aload_n 0, 1) := dk_42 (dk_at dksX7_weighs_3 16 rfl rfl)
theorem dX7_weighs_86 : decode cX7_weighs 86 = .ok (.getfield 276, 3) := dk_180 1 20 (dk_at dksX7_weighs_3 17 rfl rfl)
theorem dX7_weighs_89 : decode cX7_weighs 89 = .ok (.iastore, 1) := dk_79 (dk_at dksX7_weighs_3 20 rfl rfl)
theorem dX7_weighs_90 : decode cX7_weighs 90 = .ok (.aload_n 0, 1) := dk_42 (dk_at dksX7_weighs_3 21 rfl rfl)
theorem dX7_weighs_91 : decode cX7_weighs 91 = .ok (.getfield 68, 3) := dk_180 0 68 (dk_at dksX7_weighs_4 0 rfl rfl)
theorem dX7_weighs_94 : decode cX7_weighs 94 = .ok (.iload_n 1, 1) := dk_27 (dk_at dksX7_weighs_4 3 rfl rfl)
theorem dX7_weighs_95 : decode cX7_weighs 95 = .ok (.aload_n 0, 1) := dk_42 (dk_at dksX7_weighs_4 4 rfl rfl)
theorem dX7_weighs_96 : decode cX7_weighs 96 = .ok (.getfield 288, 3) := dk_180 1 32 (dk_at dksX7_weighs_4 5 rfl rfl)
theorem dX7_weighs_99 : decode cX7_weighs 99 = .ok (.ifCond .eq 24, 3) := dk_153 0 24 (dk_at dksX7_weighs_4 8 rfl rfl)
theorem dX7_weighs_102 : decode cX7_weighs 102 = .ok (.aload_n 0, 1) := dk_42 (dk_at dksX7_weighs_4 11 rfl rfl)
theorem dX7_weighs_103 : decode cX7_weighs 103 = .ok (.aload_n 0, 1) := dk_42 (dk_at dksX7_weighs_4 12 rfl rfl)
theorem dX7_weighs_104 : decode cX7_weighs 104 = .ok (.getfield 7, 3) := dk_180 0 7 (dk_at dksX7_weighs_4 13 rfl rfl)
theorem dX7_weighs_107 : decode cX7_weighs 107 = .ok (.iload_n 2, 1) := dk_28 (dk_at dksX7_weighs_4 16 rfl rfl)
theorem dX7_weighs_108 : decode cX7_weighs 108 = .ok (.iaload, 1) := dk_46 (dk_at dksX7_weighs_4 17 rfl rfl)
theorem dX7_weighs_109 : decode cX7_weighs 109 = .ok (.aload_n 0, 1) := dk_42 (dk_at dksX7_weighs_4 18 rfl rfl)
theorem dX7_weighs_110 : decode cX7_weighs 110 = .ok (.getfield 7, 3) := dk_180 0 7 (dk_at dksX7_weighs_4 19 rfl rfl)
theorem dX7_weighs_113 : decode cX7_weighs 113 = .ok (.iload_n 2, 1) := dk_28 (dk_at dksX7_weighs_4 22 rfl rfl)
theorem dX7_weighs_114 : decode cX7_weighs 114 = .ok (.iconst 1, 1) := dk_4 (dk_at dksX7_weighs_4 23 rfl rfl)
theorem dX7_weighs_115 : decode cX7_weighs 115 = .ok (.iadd, 1) := dk_96 (dk_at dksX7_weighs_5 0 rfl rfl)
theorem dX7_weighs_116 : decode cX7_weighs 116 = .ok (.iaload, 1) := dk_46 (dk_at dksX7_weighs_5 1 rfl rfl)
theorem dX7_weighs_117 : decode cX7_weighs 117 = .ok (.invokevirtual 297, 3) := dk_182 1 41 (dk_at dksX7_weighs_5 2 rfl rfl)
theorem dX7_weighs_120 : decode cX7_weighs 120 = .ok (.goto 6, 3) := dk_167 0 6 (dk_at dksX7_weighs_5 5 rfl rfl)
theorem dX7_weighs_123 : decode cX7_weighs 123 = .ok (.sipush 999, 3) := dk_17 3 231 (dk_at dksX7_weighs_5 8 rfl rfl)
theorem dX7_weighs_126 : decode cX7_weighs 126 = .ok (.iastore, 1) := dk_79 (dk_at dksX7_weighs_5 11 rfl rfl)
theorem dX7_weighs_127 : decode cX7_weighs 127 = .ok (.iinc 1 1, 3) := dk_132 1 1 (dk_at dksX7_weighs_5 12 rfl rfl)
theorem dX7_weighs_130 : decode cX7_weighs 130 = .ok (.goto (-128), 3) := dk_167 255 128 (dk_at dksX7_weighs_5 15 rfl rfl)
theorem dX7_weighs_133 : decode cX7_weighs 133 = .ok (.return_, 1) := dk_177 (dk_at dksX7_weighs_5 18 rfl rfl)
abbrev cX7_tells : ByteArray := prog_21_method_80_code
def yX7_tells : MethodName := ⟨RX7, "tells", "(II)Z"⟩
def dkwX7_tells_3 : List UInt8 := [167, 0, 5, 16, 99, 163, 0, 7, 4, 167, 0, 4, 3, 172]
abbrev dktX7_tells_3 : List UInt8 := dkwX7_tells_3 ++ []
def dkwX7_tells_2 : List UInt8 := [180, 0, 71, 27, 29, 79, 29, 27, 154, 0, 8, 16, 60, 167, 0, 16, 27, 4, 160, 0, 9, 17, 0, 200]
abbrev dktX7_tells_2 : List UInt8 := dkwX7_tells_2 ++ dktX7_tells_3
def dkwX7_tells_1 : List UInt8 := [160, 0, 14, 42, 180, 0, 65, 28, 46, 4, 96, 167, 0, 9, 42, 180, 0, 68, 28, 46, 62, 42]
abbrev dktX7_tells_1 : List UInt8 := dkwX7_tells_1 ++ dktX7_tells_2
def dkwX7_tells_0 : List UInt8 := [28, 156, 0, 7, 3, 167, 0, 38, 27, 154, 0, 12, 42, 180, 0, 62, 28, 46, 167, 0, 25, 27, 4]
abbrev dktX7_tells_0 : List UInt8 := dkwX7_tells_0 ++ dktX7_tells_1
theorem dksX7_tells_0 : cX7_tells.data.toList.drop 0 = dktX7_tells_0 := by decide +kernel
theorem dksX7_tells_1 : cX7_tells.data.toList.drop 23 = dktX7_tells_1 := dk_seg dksX7_tells_0 23 rfl rfl
theorem dksX7_tells_2 : cX7_tells.data.toList.drop 45 = dktX7_tells_2 := dk_seg dksX7_tells_1 22 rfl rfl
theorem dksX7_tells_3 : cX7_tells.data.toList.drop 69 = dktX7_tells_3 := dk_seg dksX7_tells_2 24 rfl rfl
theorem dX7_tells_0 : decode cX7_tells 0 = .ok (.iload_n 2, 1) := dk_28 (dk_at dksX7_tells_0 0 rfl rfl)
theorem dX7_tells_1 : decode cX7_tells 1 = .ok (.ifCond .ge 7, 3) := dk_156 0 7 (dk_at dksX7_tells_0 1 rfl rfl)
theorem dX7_tells_4 : decode cX7_tells 4 = .ok (.iconst 0, 1) := dk_3 (dk_at dksX7_tells_0 4 rfl rfl)
theorem dX7_tells_5 : decode cX7_tells 5 = .ok (.goto 38, 3) := dk_167 0 38 (dk_at dksX7_tells_0 5 rfl rfl)
theorem dX7_tells_8 : decode cX7_tells 8 = .ok (.iload_n 1, 1) := dk_27 (dk_at dksX7_tells_0 8 rfl rfl)
theorem dX7_tells_9 : decode cX7_tells 9 = .ok (.ifCond .ne 12, 3) := dk_154 0 12 (dk_at dksX7_tells_0 9 rfl rfl)
theorem dX7_tells_12 : decode cX7_tells 12 = .ok (.aload_n 0, 1) := dk_42 (dk_at dksX7_tells_0 12 rfl rfl)
theorem dX7_tells_13 : decode cX7_tells 13 = .ok (.getfield 62, 3) := dk_180 0 62 (dk_at dksX7_tells_0 13 rfl rfl)
theorem dX7_tells_16 : decode cX7_tells 16 = .ok (.iload_n 2, 1) := dk_28 (dk_at dksX7_tells_0 16 rfl rfl)
theorem dX7_tells_17 : decode cX7_tells 17 = .ok (.iaload, 1) := dk_46 (dk_at dksX7_tells_0 17 rfl rfl)
theorem dX7_tells_18 : decode cX7_tells 18 = .ok (.goto 25, 3) := dk_167 0 25 (dk_at dksX7_tells_0 18 rfl rfl)
theorem dX7_tells_21 : decode cX7_tells 21 = .ok (.iload_n 1, 1) := dk_27 (dk_at dksX7_tells_0 21 rfl rfl)
theorem dX7_tells_22 : decode cX7_tells 22 = .ok (.iconst 1, 1) := dk_4 (dk_at dksX7_tells_0 22 rfl rfl)
theorem dX7_tells_23 : decode cX7_tells 23 = .ok (.if_icmp .ne 14, 3) := dk_160 0 14 (dk_at dksX7_tells_1 0 rfl rfl)
theorem dX7_tells_26 : decode cX7_tells 26 = .ok (.aload_n 0, 1) := dk_42 (dk_at dksX7_tells_1 3 rfl rfl)
theorem dX7_tells_27 : decode cX7_tells 27 = .ok (.getfield 65, 3) := dk_180 0 65 (dk_at dksX7_tells_1 4 rfl rfl)
theorem dX7_tells_30 : decode cX7_tells 30 = .ok (.iload_n 2, 1) := dk_28 (dk_at dksX7_tells_1 7 rfl rfl)
theorem dX7_tells_31 : decode cX7_tells 31 = .ok (.iaload, 1) := dk_46 (dk_at dksX7_tells_1 8 rfl rfl)
theorem dX7_tells_32 : decode cX7_tells 32 = .ok (.iconst 1, 1) := dk_4 (dk_at dksX7_tells_1 9 rfl rfl)
theorem dX7_tells_33 : decode cX7_tells 33 = .ok (.iadd, 1) := dk_96 (dk_at dksX7_tells_1 10 rfl rfl)
theorem dX7_tells_34 : decode cX7_tells 34 = .ok (.goto 9, 3) := dk_167 0 9 (dk_at dksX7_tells_1 11 rfl rfl)
theorem dX7_tells_37 : decode cX7_tells 37 = .ok (.aload_n 0, 1) := dk_42 (dk_at dksX7_tells_1 14 rfl rfl)
theorem dX7_tells_38 : decode cX7_tells 38 = .ok (.getfield 68, 3) := dk_180 0 68 (dk_at dksX7_tells_1 15 rfl rfl)
theorem dX7_tells_41 : decode cX7_tells 41 = .ok (.iload_n 2, 1) := dk_28 (dk_at dksX7_tells_1 18 rfl rfl)
theorem dX7_tells_42 : decode cX7_tells 42 = .ok (.iaload, 1) := dk_46 (dk_at dksX7_tells_1 19 rfl rfl)
theorem dX7_tells_43 : decode cX7_tells 43 = .ok (.istore_n 3, 1) := dk_62 (dk_at dksX7_tells_1 20 rfl rfl)
theorem dX7_tells_44 : decode cX7_tells 44 = .ok (.aload_n 0, 1) := dk_42 (dk_at dksX7_tells_1 21 rfl rfl)
theorem dX7_tells_45 : decode cX7_tells 45 = .ok (.getfield 71, 3) := dk_180 0 71 (dk_at dksX7_tells_2 0 rfl rfl)
theorem dX7_tells_48 : decode cX7_tells 48 = .ok (.iload_n 1, 1) := dk_27 (dk_at dksX7_tells_2 3 rfl rfl)
theorem dX7_tells_49 : decode cX7_tells 49 = .ok (.iload_n 3, 1) := dk_29 (dk_at dksX7_tells_2 4 rfl rfl)
theorem dX7_tells_50 : decode cX7_tells 50 = .ok (.iastore, 1) := dk_79 (dk_at dksX7_tells_2 5 rfl rfl)
theorem dX7_tells_51 : decode cX7_tells 51 = .ok (.iload_n 3, 1) := dk_29 (dk_at dksX7_tells_2 6 rfl rfl)
theorem dX7_tells_52 : decode cX7_tells 52 = .ok (.iload_n 1, 1) := dk_27 (dk_at dksX7_tells_2 7 rfl rfl)
theorem dX7_tells_53 : decode cX7_tells 53 = .ok (.ifCond .ne 8, 3) := dk_154 0 8 (dk_at dksX7_tells_2 8 rfl rfl)
theorem dX7_tells_56 : decode cX7_tells 56 = .ok (.bipush 60, 2) := dk_16 60 (dk_at dksX7_tells_2 11 rfl rfl)
theorem dX7_tells_58 : decode cX7_tells 58 = .ok (.goto 16, 3) := dk_167 0 16 (dk_at dksX7_tells_2 13 rfl rfl)
theorem dX7_tells_61 : decode cX7_tells 61 = .ok (.iload_n 1, 1) := dk_27 (dk_at dksX7_tells_2 16 rfl rfl)
theorem dX7_tells_62 : decode cX7_tells 62 = .ok (.iconst 1, 1) := dk_4 (dk_at dksX7_tells_2 17 rfl rfl)
theorem dX7_tells_63 : decode cX7_tells 63 = .ok (.if_icmp .ne 9, 3) := dk_160 0 9 (dk_at dksX7_tells_2 18 rfl rfl)
theorem dX7_tells_66 : decode cX7_tells 66 = .ok (.sipush 200, 3) := dk_17 0 200 (dk_at dksX7_tells_2 21 rfl rfl)
theorem dX7_tells_69 : decode cX7_tells 69 = .ok (.goto 5, 3) := dk_167 0 5 (dk_at dksX7_tells_3 0 rfl rfl)
theorem dX7_tells_72 : decode cX7_tells 72 = .ok (.bipush 99, 2) := dk_16 99 (dk_at dksX7_tells_3 3 rfl rfl)
theorem dX7_tells_74 : decode cX7_tells 74 = .ok (.if_icmp .gt 7, 3) := dk_163 0 7 (dk_at dksX7_tells_3 5 rfl rfl)
theorem dX7_tells_77 : decode cX7_tells 77 = .ok (.iconst 1, 1) := dk_4 (dk_at dksX7_tells_3 8 rfl rfl)
theorem dX7_tells_78 : decode cX7_tells 78 = .ok (.goto 4, 3) := dk_167 0 4 (dk_at dksX7_tells_3 9 rfl rfl)
theorem dX7_tells_81 : decode cX7_tells 81 = .ok (.iconst 0, 1) := dk_3 (dk_at dksX7_tells_3 12 rfl rfl)
theorem dX7_tells_82 : decode cX7_tells 82 = .ok (.ireturn, 1) := dk_172 (dk_at dksX7_tells_3 13 rfl rfl)
abbrev cX7_missed : ByteArray := prog_21_method_78_code
def yX7_missed : MethodName := ⟨RX7, "missed", "(Z)I"⟩
def dkwX7_missed_5 : List UInt8 := [21, 4, 154, 0, 7, 4, 167, 0, 4, 3, 96, 61, 132, 3, 1, 167, 255, 127, 28, 172]
abbrev dktX7_missed_5 : List UInt8 := dkwX7_missed_5 ++ []
def dkwX7_missed_4 : List UInt8 := [21, 5, 154, 0, 12, 21, 4, 153, 0, 7, 4, 167, 0, 22, 3, 167, 0, 18, 21, 5, 153, 0, 12]
abbrev dktX7_missed_4 : List UInt8 := dkwX7_missed_4 ++ dktX7_missed_5
def dkwX7_missed_3 : List UInt8 := [6, 29, 104, 96, 5, 96, 46, 4, 160, 0, 7, 4, 167, 0, 4, 3, 54, 5, 28, 27, 153, 0, 21]
abbrev dktX7_missed_3 : List UInt8 := dkwX7_missed_3 ++ dktX7_missed_4
def dkwX7_missed_2 : List UInt8 := [29, 46, 42, 180, 0, 71, 5, 46, 163, 0, 7, 4, 167, 0, 4, 3, 54, 4, 42, 180, 0, 7, 16, 20]
abbrev dktX7_missed_2 : List UInt8 := dkwX7_missed_2 ++ dktX7_missed_3
def dkwX7_missed_1 : List UInt8 := [3, 46, 163, 0, 37, 42, 180, 0, 65, 29, 46, 42, 180, 0, 71, 4, 46, 161, 0, 22, 42, 180, 0, 68]
abbrev dktX7_missed_1 : List UInt8 := dkwX7_missed_1 ++ dktX7_missed_2
def dkwX7_missed_0 : List UInt8 := [3, 61, 3, 62, 29, 42, 180, 0, 7, 5, 46, 162, 0, 125, 42, 180, 0, 62, 29, 46, 42, 180, 0, 71]
abbrev dktX7_missed_0 : List UInt8 := dkwX7_missed_0 ++ dktX7_missed_1
theorem dksX7_missed_0 : cX7_missed.data.toList.drop 0 = dktX7_missed_0 := by decide +kernel
theorem dksX7_missed_1 : cX7_missed.data.toList.drop 24 = dktX7_missed_1 := dk_seg dksX7_missed_0 24 rfl rfl
theorem dksX7_missed_2 : cX7_missed.data.toList.drop 48 = dktX7_missed_2 := dk_seg dksX7_missed_1 24 rfl rfl
theorem dksX7_missed_3 : cX7_missed.data.toList.drop 72 = dktX7_missed_3 := dk_seg dksX7_missed_2 24 rfl rfl
theorem dksX7_missed_4 : cX7_missed.data.toList.drop 95 = dktX7_missed_4 := dk_seg dksX7_missed_3 23 rfl rfl
theorem dksX7_missed_5 : cX7_missed.data.toList.drop 118 = dktX7_missed_5 := dk_seg dksX7_missed_4 23 rfl rfl
theorem dX7_missed_0 : decode cX7_missed 0 = .ok (.iconst 0, 1) := dk_3 (dk_at dksX7_missed_0 0 rfl rfl)
theorem dX7_missed_1 : decode cX7_missed 1 = .ok (.istore_n 2, 1) := dk_61 (dk_at dksX7_missed_0 1 rfl rfl)
theorem dX7_missed_2 : decode cX7_missed 2 = .ok (.iconst 0, 1) := dk_3 (dk_at dksX7_missed_0 2 rfl rfl)
theorem dX7_missed_3 : decode cX7_missed 3 = .ok (.istore_n 3, 1) := dk_62 (dk_at dksX7_missed_0 3 rfl rfl)
theorem dX7_missed_4 : decode cX7_missed 4 = .ok (.iload_n 3, 1) := dk_29 (dk_at dksX7_missed_0 4 rfl rfl)
theorem dX7_missed_5 : decode cX7_missed 5 = .ok (.aload_n 0, 1) := dk_42 (dk_at dksX7_missed_0 5 rfl rfl)
theorem dX7_missed_6 : decode cX7_missed 6 = .ok (.getfield 7, 3) := dk_180 0 7 (dk_at dksX7_missed_0 6 rfl rfl)
theorem dX7_missed_9 : decode cX7_missed 9 = .ok (.iconst 2, 1) := dk_5 (dk_at dksX7_missed_0 9 rfl rfl)
theorem dX7_missed_10 : decode cX7_missed 10 = .ok (.iaload, 1) := dk_46 (dk_at dksX7_missed_0 10 rfl rfl)
theorem dX7_missed_11 : decode cX7_missed 11 = .ok (.if_icmp .ge 125, 3) := dk_162 0 125 (dk_at dksX7_missed_0 11 rfl rfl)
theorem dX7_missed_14 : decode cX7_missed 14 = .ok (.aload_n 0, 1) := dk_42 (dk_at dksX7_missed_0 14 rfl rfl)
theorem dX7_missed_15 : decode cX7_missed 15 = .ok (.getfield 62, 3) := dk_180 0 62 (dk_at dksX7_missed_0 15 rfl rfl)
theorem dX7_missed_18 : decode cX7_missed 18 = .ok (.iload_n 3, 1) := dk_29 (dk_at dksX7_missed_0 18 rfl rfl)
theorem dX7_missed_19 : decode cX7_missed 19 = .ok (.iaload, 1) := dk_46 (dk_at dksX7_missed_0 19 rfl rfl)
theorem dX7_missed_20 : decode cX7_missed 20 = .ok (.aload_n 0, 1) := dk_42 (dk_at dksX7_missed_0 20 rfl rfl)
theorem dX7_missed_21 : decode cX7_missed 21 = .ok (.getfield 71, 3) := dk_180 0 71 (dk_at dksX7_missed_0 21 rfl rfl)
theorem dX7_missed_24 : decode cX7_missed 24 = .ok (.iconst 0, 1) := dk_3 (dk_at dksX7_missed_1 0 rfl rfl)
theorem dX7_missed_25 : decode cX7_missed 25 = .ok (.iaload, 1) := dk_46 (dk_at dksX7_missed_1 1 rfl rfl)
theorem dX7_missed_26 : decode cX7_missed 26 = .ok (.if_icmp .gt 37, 3) := dk_163 0 37 (dk_at dksX7_missed_1 2 rfl rfl)
theorem dX7_missed_29 : decode cX7_missed 29 = .ok (.aload_n 0, 1) := dk_42 (dk_at dksX7_missed_1 5 rfl rfl)
theorem dX7_missed_30 : decode cX7_missed 30 = .ok (.getfield 65, 3) := dk_180 0 65 (dk_at dksX7_missed_1 6 rfl rfl)
theorem dX7_missed_33 : decode cX7_missed 33 = .ok (.iload_n 3, 1) := dk_29 (dk_at dksX7_missed_1 9 rfl rfl)
theorem dX7_missed_34 : decode cX7_missed 34 = .ok (.iaload, 1) := dk_46 (dk_at dksX7_missed_1 10 rfl rfl)
theorem dX7_missed_35 : decode cX7_missed 35 = .ok (.aload_n 0, 1) := dk_42 (dk_at dksX7_missed_1 11 rfl rfl)
theorem dX7_missed_36 : decode cX7_missed 36 = .ok (.getfield 71, 3) := dk_180 0 71 (dk_at dksX7_missed_1 12 rfl rfl)
theorem dX7_missed_39 : decode cX7_missed 39 = .ok (.iconst 1, 1) := dk_4 (dk_at dksX7_missed_1 15 rfl rfl)
theorem dX7_missed_40 : decode cX7_missed 40 = .ok (.iaload, 1) := dk_46 (dk_at dksX7_missed_1 16 rfl rfl)
theorem dX7_missed_41 : decode cX7_missed 41 = .ok (.if_icmp .lt 22, 3) := dk_161 0 22 (dk_at dksX7_missed_1 17 rfl rfl)
theorem dX7_missed_44 : decode cX7_missed 44 = .ok (.aload_n 0, 1) := dk_42 (dk_at dksX7_missed_1 20 rfl rfl)
theorem dX7_missed_45 : decode cX7_missed 45 = .ok (.getfield 68, 3) := dk_180 0 68 (dk_at dksX7_missed_1 21 rfl rfl)
theorem dX7_missed_48 : decode cX7_missed 48 = .ok (.iload_n 3, 1) := dk_29 (dk_at dksX7_missed_2 0 rfl rfl)
theorem dX7_missed_49 : decode cX7_missed 49 = .ok (.iaload, 1) := dk_46 (dk_at dksX7_missed_2 1 rfl rfl)
theorem dX7_missed_50 : decode cX7_missed 50 = .ok (.aload_n 0, 1) := dk_42 (dk_at dksX7_missed_2 2 rfl rfl)
theorem dX7_missed_51 : decode cX7_missed 51 = .ok (.getfield 71, 3) := dk_180 0 71 (dk_at dksX7_missed_2 3 rfl rfl)
theorem dX7_missed_54 : decode cX7_missed 54 = .ok (.iconst 2, 1) := dk_5 (dk_at dksX7_missed_2 6 rfl rfl)
theorem dX7_missed_55 : decode cX7_missed 55 = .ok (.iaload, 1) := dk_46 (dk_at dksX7_missed_2 7 rfl rfl)
theorem dX7_missed_56 : decode cX7_missed 56 = .ok (.if_icmp .gt 7, 3) := dk_163 0 7 (dk_at dksX7_missed_2 8 rfl rfl)
theorem dX7_missed_59 : decode cX7_missed 59 = .ok (.iconst 1, 1) := dk_4 (dk_at dksX7_missed_2 11 rfl rfl)
theorem dX7_missed_60 : decode cX7_missed 60 = .ok (.goto 4, 3) := dk_167 0 4 (dk_at dksX7_missed_2 12 rfl rfl)
theorem dX7_missed_63 : decode cX7_missed 63 = .ok (.iconst 0, 1) := dk_3 (dk_at dksX7_missed_2 15 rfl rfl)
theorem dX7_missed_64 : decode cX7_missed 64 = .ok (.istore 4, 2) := dk_54 4 (dk_at dksX7_missed_2 16 rfl rfl)
theorem dX7_missed_66 : decode cX7_missed 66 = .ok (.aload_n 0, 1) := dk_42 (dk_at dksX7_missed_2 18 rfl rfl)
theorem dX7_missed_67 : decode cX7_missed 67 = .ok (.getfield 7, 3) := dk_180 0 7 (dk_at dksX7_missed_2 19 rfl rfl)
theorem dX7_missed_70 : decode cX7_missed 70 = .ok (.bipush 20, 2) := dk_16 20 (dk_at dksX7_missed_2 22 rfl rfl)
theorem dX7_missed_72 : decode cX7_missed 72 = .ok (.iconst 3, 1) := dk_6 (dk_at dksX7_missed_3 0 rfl rfl)
theorem dX7_missed_73 : decode cX7_missed 73 = .ok (.iload_n 3, 1) := dk_29 (dk_at dksX7_missed_3 1 rfl rfl)
theorem dX7_missed_74 : decode cX7_missed 74 = .ok (.imul, 1) := dk_104 (dk_at dksX7_missed_3 2 rfl rfl)
theorem dX7_missed_75 : decode cX7_missed 75 = .ok (.iadd, 1) := dk_96 (dk_at dksX7_missed_3 3 rfl rfl)
theorem dX7_missed_76 : decode cX7_missed 76 = .ok (.iconst 2, 1) := dk_5 (dk_at dksX7_missed_3 4 rfl rfl)
theorem dX7_missed_77 : decode cX7_missed 77 = .ok (.iadd, 1) := dk_96 (dk_at dksX7_missed_3 5 rfl rfl)
theorem dX7_missed_78 : decode cX7_missed 78 = .ok (.iaload, 1) := dk_46 (dk_at dksX7_missed_3 6 rfl rfl)
theorem dX7_missed_79 : decode cX7_missed 79 = .ok (.iconst 1, 1) := dk_4 (dk_at dksX7_missed_3 7 rfl rfl)
theorem dX7_missed_80 : decode cX7_missed 80 = .ok (.if_icmp .ne 7, 3) := dk_160 0 7 (dk_at dksX7_missed_3 8 rfl rfl)
theorem dX7_missed_83 : decode cX7_missed 83 = .ok (.iconst 1, 1) := dk_4 (dk_at dksX7_missed_3 11 rfl rfl)
theorem dX7_missed_84 : decode cX7_missed 84 = .ok (.goto 4, 3) := dk_167 0 4 (dk_at dksX7_missed_3 12 rfl rfl)
theorem dX7_missed_87 : decode cX7_missed 87 = .ok (.iconst 0, 1) := dk_3 (dk_at dksX7_missed_3 15 rfl rfl)
theorem dX7_missed_88 : decode cX7_missed 88 = .ok (.istore 5, 2) := dk_54 5 (dk_at dksX7_missed_3 16 rfl rfl)
theorem dX7_missed_90 : decode cX7_missed 90 = .ok (.iload_n 2, 1) := dk_28 (dk_at dksX7_missed_3 18 rfl rfl)
theorem dX7_missed_91 : decode cX7_missed 91 = .ok (.iload_n 1, 1) := dk_27 (dk_at dksX7_missed_3 19 rfl rfl)
theorem dX7_missed_92 : decode cX7_missed 92 = .ok (.ifCond .eq 21, 3) := dk_153 0 21 (dk_at dksX7_missed_3 20 rfl rfl)
theorem dX7_missed_95 : decode cX7_missed 95 = .ok (.iload 5, 2) := dk_21 5 (dk_at dksX7_missed_4 0 rfl rfl)
theorem dX7_missed_97 : decode cX7_missed 97 = .ok (.ifCond .ne 12, 3) := dk_154 0 12 (dk_at dksX7_missed_4 2 rfl rfl)
theorem dX7_missed_100 : decode cX7_missed 100 = .ok (.iload 4, 2) := dk_21 4 (dk_at dksX7_missed_4 5 rfl rfl)
theorem dX7_missed_102 : decode cX7_missed 102 = .ok (.ifCond .eq 7, 3) := dk_153 0 7 (dk_at dksX7_missed_4 7 rfl rfl)
theorem dX7_missed_105 : decode cX7_missed 105 = .ok (.iconst 1, 1) := dk_4 (dk_at dksX7_missed_4 10 rfl rfl)
theorem dX7_missed_106 : decode cX7_missed 106 = .ok (.goto 22, 3) := dk_167 0 22 (dk_at dksX7_missed_4 11 rfl rfl)
theorem dX7_missed_109 : decode cX7_missed 109 = .ok (.iconst 0, 1) := dk_3 (dk_at dksX7_missed_4 14 rfl rfl)
theorem dX7_missed_110 : decode cX7_missed 110 = .ok (.goto 18, 3) := dk_167 0 18 (dk_at dksX7_missed_4 15 rfl rfl)
theorem dX7_missed_113 : decode cX7_missed 113 = .ok (.iload 5, 2) := dk_21 5 (dk_at dksX7_missed_4 18 rfl rfl)
theorem dX7_missed_115 : decode cX7_missed 115 = .ok (.ifCond .eq 12, 3) := dk_153 0 12 (dk_at dksX7_missed_4 20 rfl rfl)
theorem dX7_missed_118 : decode cX7_missed 118 = .ok (.iload 4, 2) := dk_21 4 (dk_at dksX7_missed_5 0 rfl rfl)
theorem dX7_missed_120 : decode cX7_missed 120 = .ok (.ifCond .ne 7, 3) := dk_154 0 7 (dk_at dksX7_missed_5 2 rfl rfl)
theorem dX7_missed_123 : decode cX7_missed 123 = .ok (.iconst 1, 1) := dk_4 (dk_at dksX7_missed_5 5 rfl rfl)
theorem dX7_missed_124 : decode cX7_missed 124 = .ok (.goto 4, 3) := dk_167 0 4 (dk_at dksX7_missed_5 6 rfl rfl)
theorem dX7_missed_127 : decode cX7_missed 127 = .ok (.iconst 0, 1) := dk_3 (dk_at dksX7_missed_5 9 rfl rfl)
theorem dX7_missed_128 : decode cX7_missed 128 = .ok (.iadd, 1) := dk_96 (dk_at dksX7_missed_5 10 rfl rfl)
theorem dX7_missed_129 : decode cX7_missed 129 = .ok (.istore_n 2, 1) := dk_61 (dk_at dksX7_missed_5 11 rfl rfl)
theorem dX7_missed_130 : decode cX7_missed 130 = .ok (.iinc 3 1, 3) := dk_132 3 1 (dk_at dksX7_missed_5 12 rfl rfl)
theorem dX7_missed_133 : decode cX7_missed 133 = .ok (.goto (-129), 3) := dk_167 255 127 (dk_at dksX7_missed_5 15 rfl rfl)
theorem dX7_missed_136 : decode cX7_missed 136 = .ok (.iload_n 2, 1) := dk_28 (dk_at dksX7_missed_5 18 rfl rfl)
theorem dX7_missed_137 : decode cX7_missed 137 = .ok (.ireturn, 1) := dk_172 (dk_at dksX7_missed_5 19 rfl rfl)
abbrev cX7_isAhead : ByteArray := prog_21_method_79_code
def yX7_isAhead : MethodName := ⟨RX7, "isAhead", "(II)Z"⟩
def dkwX7_isAhead_7 : List UInt8 := [172]
abbrev dktX7_isAhead_7 : List UInt8 := dkwX7_isAhead_7 ++ []
def dkwX7_isAhead_6 : List UInt8 := [3, 167, 0, 23, 42, 180, 0, 71, 5, 46, 42, 180, 0, 74, 5, 46, 162, 0, 7, 4, 167, 0, 4, 3]
abbrev dktX7_isAhead_6 : List UInt8 := dkwX7_isAhead_6 ++ dktX7_isAhead_7
def dkwX7_isAhead_5 : List UInt8 := [4, 46, 159, 0, 26, 42, 180, 0, 71, 4, 46, 42, 180, 0, 74, 4, 46, 162, 0, 7, 4, 167, 0, 27]
abbrev dktX7_isAhead_5 : List UInt8 := dkwX7_isAhead_5 ++ dktX7_isAhead_6
def dkwX7_isAhead_4 : List UInt8 := [180, 0, 74, 3, 46, 162, 0, 7, 4, 167, 0, 4, 3, 172, 42, 180, 0, 71, 4, 46, 42, 180, 0, 74]
abbrev dktX7_isAhead_4 : List UInt8 := dkwX7_isAhead_4 ++ dktX7_isAhead_5
def dkwX7_isAhead_3 : List UInt8 := [42, 180, 0, 71, 3, 46, 42, 180, 0, 74, 3, 46, 159, 0, 24, 42, 180, 0, 71, 3, 46, 42]
abbrev dktX7_isAhead_3 : List UInt8 := dkwX7_isAhead_3 ++ dktX7_isAhead_4
def dkwX7_isAhead_2 : List UInt8 := [180, 0, 74, 7, 46, 159, 0, 19, 28, 42, 180, 0, 74, 7, 46, 162, 0, 7, 4, 167, 0, 4, 3, 172]
abbrev dktX7_isAhead_2 : List UInt8 := dkwX7_isAhead_2 ++ dktX7_isAhead_3
def dkwX7_isAhead_1 : List UInt8 := [46, 155, 0, 13, 27, 42, 180, 0, 74, 6, 46, 162, 0, 7, 4, 167, 0, 4, 3, 172, 28, 42]
abbrev dktX7_isAhead_1 : List UInt8 := dkwX7_isAhead_1 ++ dktX7_isAhead_2
def dkwX7_isAhead_0 : List UInt8 := [42, 180, 0, 74, 3, 46, 155, 0, 13, 27, 42, 180, 0, 74, 6, 46, 159, 0, 28, 42, 180, 0, 74, 3]
abbrev dktX7_isAhead_0 : List UInt8 := dkwX7_isAhead_0 ++ dktX7_isAhead_1
theorem dksX7_isAhead_0 : cX7_isAhead.data.toList.drop 0 = dktX7_isAhead_0 := by decide +kernel
theorem dksX7_isAhead_1 : cX7_isAhead.data.toList.drop 24 = dktX7_isAhead_1 := dk_seg dksX7_isAhead_0 24 rfl rfl
theorem dksX7_isAhead_2 : cX7_isAhead.data.toList.drop 46 = dktX7_isAhead_2 := dk_seg dksX7_isAhead_1 22 rfl rfl
theorem dksX7_isAhead_3 : cX7_isAhead.data.toList.drop 70 = dktX7_isAhead_3 := dk_seg dksX7_isAhead_2 24 rfl rfl
theorem dksX7_isAhead_4 : cX7_isAhead.data.toList.drop 92 = dktX7_isAhead_4 := dk_seg dksX7_isAhead_3 22 rfl rfl
theorem dksX7_isAhead_5 : cX7_isAhead.data.toList.drop 116 = dktX7_isAhead_5 := dk_seg dksX7_isAhead_4 24 rfl rfl
theorem dksX7_isAhead_6 : cX7_isAhead.data.toList.drop 140 = dktX7_isAhead_6 := dk_seg dksX7_isAhead_5 24 rfl rfl
theorem dksX7_isAhead_7 : cX7_isAhead.data.toList.drop 164 = dktX7_isAhead_7 := dk_seg dksX7_isAhead_6 24 rfl rfl
theorem dX7_isAhead_0 : decode cX7_isAhead 0 = .ok (.aload_n 0, 1) := dk_42 (dk_at dksX7_isAhead_0 0 rfl rfl)
theorem dX7_isAhead_1 : decode cX7_isAhead 1 = .ok (.getfield 74, 3) := dk_180 0 74 (dk_at dksX7_isAhead_0 1 rfl rfl)
theorem dX7_isAhead_4 : decode cX7_isAhead 4 = .ok (.iconst 0, 1) := dk_3 (dk_at dksX7_isAhead_0 4 rfl rfl)
theorem dX7_isAhead_5 : decode cX7_isAhead 5 = .ok (.iaload, 1) := dk_46 (dk_at dksX7_isAhead_0 5 rfl rfl)
theorem dX7_isAhead_6 : decode cX7_isAhead 6 = .ok (.ifCond .lt 13, 3) := dk_155 0 13 (dk_at dksX7_isAhead_0 6 rfl rfl)
theorem dX7_isAhead_9 : decode cX7_isAhead 9 = .ok (.iload_n 1, 1) := dk_27 (dk_at dksX7_isAhead_0 9 rfl rfl)
theorem dX7_isAhead_10 : decode cX7_isAhead 10 = .ok (.aload_n 0, 1) := dk_42 (dk_at dksX7_isAhead_0 10 rfl rfl)
theorem dX7_isAhead_11 : decode cX7_isAhead 11 = .ok (.getfield 74, 3) := dk_180 0 74 (dk_at dksX7_isAhead_0 11 rfl rfl)
theorem dX7_isAhead_14 : decode cX7_isAhead 14 = .ok (.iconst 3, 1) := dk_6 (dk_at dksX7_isAhead_0 14 rfl rfl)
theorem dX7_isAhead_15 : decode cX7_isAhead 15 = .ok (.iaload, 1) := dk_46 (dk_at dksX7_isAhead_0 15 rfl rfl)
theorem dX7_isAhead_16 : decode cX7_isAhead 16 = .ok (.if_icmp .eq 28, 3) := dk_159 0 28 (dk_at dksX7_isAhead_0 16 rfl rfl)
theorem dX7_isAhead_19 : decode cX7_isAhead 19 = .ok (.aload_n 0, 1) := dk_42 (dk_at dksX7_isAhead_0 19 rfl rfl)
theorem dX7_isAhead_20 : decode cX7_isAhead 20 = .ok (.getfield 74, 3) := dk_180 0 74 (dk_at dksX7_isAhead_0 20 rfl rfl)
theorem dX7_isAhead_23 : decode cX7_isAhead 23 = .ok (.iconst 0, 1) := dk_3 (dk_at dksX7_isAhead_0 23 rfl rfl)
theorem dX7_isAhead_24 : decode cX7_isAhead 24 = .ok (.iaload, 1) := dk_46 (dk_at dksX7_isAhead_1 0 rfl rfl)
theorem dX7_isAhead_25 : decode cX7_isAhead 25 = .ok (.ifCond .lt 13, 3) := dk_155 0 13 (dk_at dksX7_isAhead_1 1 rfl rfl)
theorem dX7_isAhead_28 : decode cX7_isAhead 28 = .ok (.iload_n 1, 1) := dk_27 (dk_at dksX7_isAhead_1 4 rfl rfl)
theorem dX7_isAhead_29 : decode cX7_isAhead 29 = .ok (.aload_n 0, 1) := dk_42 (dk_at dksX7_isAhead_1 5 rfl rfl)
theorem dX7_isAhead_30 : decode cX7_isAhead 30 = .ok (.getfield 74, 3) := dk_180 0 74 (dk_at dksX7_isAhead_1 6 rfl rfl)
theorem dX7_isAhead_33 : decode cX7_isAhead 33 = .ok (.iconst 3, 1) := dk_6 (dk_at dksX7_isAhead_1 9 rfl rfl)
theorem dX7_isAhead_34 : decode cX7_isAhead 34 = .ok (.iaload, 1) := dk_46 (dk_at dksX7_isAhead_1 10 rfl rfl)
theorem dX7_isAhead_35 : decode cX7_isAhead 35 = .ok (.if_icmp .ge 7, 3) := dk_162 0 7 (dk_at dksX7_isAhead_1 11 rfl rfl)
theorem dX7_isAhead_38 : decode cX7_isAhead 38 = .ok (.iconst 1, 1) := dk_4 (dk_at dksX7_isAhead_1 14 rfl rfl)
theorem dX7_isAhead_39 : decode cX7_isAhead 39 = .ok (.goto 4, 3) := dk_167 0 4 (dk_at dksX7_isAhead_1 15 rfl rfl)
theorem dX7_isAhead_42 : decode cX7_isAhead 42 = .ok (.iconst 0, 1) := dk_3 (dk_at dksX7_isAhead_1 18 rfl rfl)
theorem dX7_isAhead_43 : decode cX7_isAhead 43 = .ok (.ireturn, 1) := dk_172 (dk_at dksX7_isAhead_1 19 rfl rfl)
theorem dX7_isAhead_44 : decode cX7_isAhead 44 = .ok (.iload_n 2, 1) := dk_28 (dk_at dksX7_isAhead_1 20 rfl rfl)
theorem dX7_isAhead_45 : decode cX7_isAhead 45 = .ok (.aload_n 0, 1) := dk_42 (dk_at dksX7_isAhead_1 21 rfl rfl)
theorem dX7_isAhead_46 : decode cX7_isAhead 46 = .ok (.getfield 74, 3) := dk_180 0 74 (dk_at dksX7_isAhead_2 0 rfl rfl)
theorem dX7_isAhead_49 : decode cX7_isAhead 49 = .ok (.iconst 4, 1) := dk_7 (dk_at dksX7_isAhead_2 3 rfl rfl)
theorem dX7_isAhead_50 : decode cX7_isAhead 50 = .ok (.iaload, 1) := dk_46 (dk_at dksX7_isAhead_2 4 rfl rfl)
theorem dX7_isAhead_51 : decode cX7_isAhead 51 = .ok (.if_icmp .eq 19, 3) := dk_159 0 19 (dk_at dksX7_isAhead_2 5 rfl rfl)
theorem dX7_isAhead_54 : decode cX7_isAhead 54 = .ok (.iload_n 2, 1) := dk_28 (dk_at dksX7_isAhead_2 8 rfl rfl)
theorem dX7_isAhead_55 : decode cX7_isAhead 55 = .ok (.aload_n 0, 1) := dk_42 (dk_at dksX7_isAhead_2 9 rfl rfl)
theorem dX7_isAhead_56 : decode cX7_isAhead 56 = .ok (.getfield 74, 3) := dk_180 0 74 (dk_at dksX7_isAhead_2 10 rfl rfl)
theorem dX7_isAhead_59 : decode cX7_isAhead 59 = .ok (.iconst 4, 1) := dk_7 (dk_at dksX7_isAhead_2 13 rfl rfl)
theorem dX7_isAhead_60 : decode cX7_isAhead 60 = .ok (.iaload, 1) := dk_46 (dk_at dksX7_isAhead_2 14 rfl rfl)
theorem dX7_isAhead_61 : decode cX7_isAhead 61 = .ok (.if_icmp .ge 7, 3) := dk_162 0 7 (dk_at dksX7_isAhead_2 15 rfl rfl)
theorem dX7_isAhead_64 : decode cX7_isAhead 64 = .ok (.iconst 1, 1) := dk_4 (dk_at dksX7_isAhead_2 18 rfl rfl)
theorem dX7_isAhead_65 : decode cX7_isAhead 65 = .ok (.goto 4, 3) := dk_167 0 4 (dk_at dksX7_isAhead_2 19 rfl rfl)
theorem dX7_isAhead_68 : decode cX7_isAhead 68 = .ok (.iconst 0, 1) := dk_3 (dk_at dksX7_isAhead_2 22 rfl rfl)
theorem dX7_isAhead_69 : decode cX7_isAhead 69 = .ok (.ireturn, 1) := dk_172 (dk_at dksX7_isAhead_2 23 rfl rfl)
theorem dX7_isAhead_70 : decode cX7_isAhead 70 = .ok (.aload_n 0, 1) := dk_42 (dk_at dksX7_isAhead_3 0 rfl rfl)
theorem dX7_isAhead_71 : decode cX7_isAhead 71 = .ok (.getfield 71, 3) := dk_180 0 71 (dk_at dksX7_isAhead_3 1 rfl rfl)
theorem dX7_isAhead_74 : decode cX7_isAhead 74 = .ok (.iconst 0, 1) := dk_3 (dk_at dksX7_isAhead_3 4 rfl rfl)
theorem dX7_isAhead_75 : decode cX7_isAhead 75 = .ok (.iaload, 1) := dk_46 (dk_at dksX7_isAhead_3 5 rfl rfl)
theorem dX7_isAhead_76 : decode cX7_isAhead 76 = .ok (.aload_n 0, 1) := dk_42 (dk_at dksX7_isAhead_3 6 rfl rfl)
theorem dX7_isAhead_77 : decode cX7_isAhead 77 = .ok (.getfield 74, 3) := dk_180 0 74 (dk_at dksX7_isAhead_3 7 rfl rfl)
theorem dX7_isAhead_80 : decode cX7_isAhead 80 = .ok (.iconst 0, 1) := dk_3 (dk_at dksX7_isAhead_3 10 rfl rfl)
theorem dX7_isAhead_81 : decode cX7_isAhead 81 = .ok (.iaload, 1) := dk_46 (dk_at dksX7_isAhead_3 11 rfl rfl)
theorem dX7_isAhead_82 : decode cX7_isAhead 82 = .ok (.if_icmp .eq 24, 3) := dk_159 0 24 (dk_at dksX7_isAhead_3 12 rfl rfl)
theorem dX7_isAhead_85 : decode cX7_isAhead 85 = .ok (.aload_n 0, 1) := dk_42 (dk_at dksX7_isAhead_3 15 rfl rfl)
theorem dX7_isAhead_86 : decode cX7_isAhead 86 = .ok (.getfield 71, 3) := dk_180 0 71 (dk_at dksX7_isAhead_3 16 rfl rfl)
theorem dX7_isAhead_89 : decode cX7_isAhead 89 = .ok (.iconst 0, 1) := dk_3 (dk_at dksX7_isAhead_3 19 rfl rfl)
theorem dX7_isAhead_90 : decode cX7_isAhead 90 = .ok (.iaload, 1) := dk_46 (dk_at dksX7_isAhead_3 20 rfl rfl)
theorem dX7_isAhead_91 : decode cX7_isAhead 91 = .ok (.aload_n 0, 1) := dk_42 (dk_at dksX7_isAhead_3 21 rfl rfl)
theorem dX7_isAhead_92 : decode cX7_isAhead 92 = .ok (.getfield 74, 3) := dk_180 0 74 (dk_at dksX7_isAhead_4 0 rfl rfl)
theorem dX7_isAhead_95 : decode cX7_isAhead 95 = .ok (.iconst 0, 1) := dk_3 (dk_at dksX7_isAhead_4 3 rfl rfl)
theorem dX7_isAhead_96 : decode cX7_isAhead 96 = .ok (.iaload, 1) := dk_46 (dk_at dksX7_isAhead_4 4 rfl rfl)
theorem dX7_isAhead_97 : decode cX7_isAhead 97 = .ok (.if_icmp .ge 7, 3) := dk_162 0 7 (dk_at dksX7_isAhead_4 5 rfl rfl)
theorem dX7_isAhead_100 : decode cX7_isAhead 100 = .ok (.iconst 1, 1) := dk_4 (dk_at dksX7_isAhead_4 8 rfl rfl)
theorem dX7_isAhead_101 : decode cX7_isAhead 101 = .ok (.goto 4, 3) := dk_167 0 4 (dk_at dksX7_isAhead_4 9 rfl rfl)
theorem dX7_isAhead_104 : decode cX7_isAhead 104 = .ok (.iconst 0, 1) := dk_3 (dk_at dksX7_isAhead_4 12 rfl rfl)
theorem dX7_isAhead_105 : decode cX7_isAhead 105 = .ok (.ireturn, 1) := dk_172 (dk_at dksX7_isAhead_4 13 rfl rfl)
theorem dX7_isAhead_106 : decode cX7_isAhead 106 = .ok (.aload_n 0, 1) := dk_42 (dk_at dksX7_isAhead_4 14 rfl rfl)
theorem dX7_isAhead_107 : decode cX7_isAhead 107 = .ok (.getfield 71, 3) := dk_180 0 71 (dk_at dksX7_isAhead_4 15 rfl rfl)
theorem dX7_isAhead_110 : decode cX7_isAhead 110 = .ok (.iconst 1, 1) := dk_4 (dk_at dksX7_isAhead_4 18 rfl rfl)
theorem dX7_isAhead_111 : decode cX7_isAhead 111 = .ok (.iaload, 1) := dk_46 (dk_at dksX7_isAhead_4 19 rfl rfl)
theorem dX7_isAhead_112 : decode cX7_isAhead 112 = .ok (.aload_n 0, 1) := dk_42 (dk_at dksX7_isAhead_4 20 rfl rfl)
theorem dX7_isAhead_113 : decode cX7_isAhead 113 = .ok (.getfield 74, 3) := dk_180 0 74 (dk_at dksX7_isAhead_4 21 rfl rfl)
theorem dX7_isAhead_116 : decode cX7_isAhead 116 = .ok (.iconst 1, 1) := dk_4 (dk_at dksX7_isAhead_5 0 rfl rfl)
theorem dX7_isAhead_117 : decode cX7_isAhead 117 = .ok (.iaload, 1) := dk_46 (dk_at dksX7_isAhead_5 1 rfl rfl)
theorem dX7_isAhead_118 : decode cX7_isAhead 118 = .ok (.if_icmp .eq 26, 3) := dk_159 0 26 (dk_at dksX7_isAhead_5 2 rfl rfl)
theorem dX7_isAhead_121 : decode cX7_isAhead 121 = .ok (.aload_n 0, 1) := dk_42 (dk_at dksX7_isAhead_5 5 rfl rfl)
theorem dX7_isAhead_122 : decode cX7_isAhead 122 = .ok (.getfield 71, 3) := dk_180 0 71 (dk_at dksX7_isAhead_5 6 rfl rfl)
theorem dX7_isAhead_125 : decode cX7_isAhead 125 = .ok (.iconst 1, 1) := dk_4 (dk_at dksX7_isAhead_5 9 rfl rfl)
theorem dX7_isAhead_126 : decode cX7_isAhead 126 = .ok (.iaload, 1) := dk_46 (dk_at dksX7_isAhead_5 10 rfl rfl)
theorem dX7_isAhead_127 : decode cX7_isAhead 127 = .ok (.aload_n 0, 1) := dk_42 (dk_at dksX7_isAhead_5 11 rfl rfl)
theorem dX7_isAhead_128 : decode cX7_isAhead 128 = .ok (.getfield 74, 3) := dk_180 0 74 (dk_at dksX7_isAhead_5 12 rfl rfl)
theorem dX7_isAhead_131 : decode cX7_isAhead 131 = .ok (.iconst 1, 1) := dk_4 (dk_at dksX7_isAhead_5 15 rfl rfl)
theorem dX7_isAhead_132 : decode cX7_isAhead 132 = .ok (.iaload, 1) := dk_46 (dk_at dksX7_isAhead_5 16 rfl rfl)
theorem dX7_isAhead_133 : decode cX7_isAhead 133 = .ok (.if_icmp .ge 7, 3) := dk_162 0 7 (dk_at dksX7_isAhead_5 17 rfl rfl)
theorem dX7_isAhead_136 : decode cX7_isAhead 136 = .ok (.iconst 1, 1) := dk_4 (dk_at dksX7_isAhead_5 20 rfl rfl)
theorem dX7_isAhead_137 : decode cX7_isAhead 137 = .ok (.goto 27, 3) := dk_167 0 27 (dk_at dksX7_isAhead_5 21 rfl rfl)
theorem dX7_isAhead_140 : decode cX7_isAhead 140 = .ok (.iconst 0, 1) := dk_3 (dk_at dksX7_isAhead_6 0 rfl rfl)
theorem dX7_isAhead_141 : decode cX7_isAhead 141 = .ok (.goto 23, 3) := dk_167 0 23 (dk_at dksX7_isAhead_6 1 rfl rfl)
theorem dX7_isAhead_144 : decode cX7_isAhead 144 = .ok (.aload_n 0, 1) := dk_42 (dk_at dksX7_isAhead_6 4 rfl rfl)
theorem dX7_isAhead_145 : decode cX7_isAhead 145 = .ok (.getfield 71, 3) := dk_180 0 71 (dk_at dksX7_isAhead_6 5 rfl rfl)
theorem dX7_isAhead_148 : decode cX7_isAhead 148 = .ok (.iconst 2, 1) := dk_5 (dk_at dksX7_isAhead_6 8 rfl rfl)
theorem dX7_isAhead_149 : decode cX7_isAhead 149 = .ok (.iaload, 1) := dk_46 (dk_at dksX7_isAhead_6 9 rfl rfl)
theorem dX7_isAhead_150 : decode cX7_isAhead 150 = .ok (.aload_n 0, 1) := dk_42 (dk_at dksX7_isAhead_6 10 rfl rfl)
theorem dX7_isAhead_151 : decode cX7_isAhead 151 = .ok (.getfield 74, 3) := dk_180 0 74 (dk_at dksX7_isAhead_6 11 rfl rfl)
theorem dX7_isAhead_154 : decode cX7_isAhead 154 = .ok (.iconst 2, 1) := dk_5 (dk_at dksX7_isAhead_6 14 rfl rfl)
theorem dX7_isAhead_155 : decode cX7_isAhead 155 = .ok (.iaload, 1) := dk_46 (dk_at dksX7_isAhead_6 15 rfl rfl)
theorem dX7_isAhead_156 : decode cX7_isAhead 156 = .ok (.if_icmp .ge 7, 3) := dk_162 0 7 (dk_at dksX7_isAhead_6 16 rfl rfl)
theorem dX7_isAhead_159 : decode cX7_isAhead 159 = .ok (.iconst 1, 1) := dk_4 (dk_at dksX7_isAhead_6 19 rfl rfl)
theorem dX7_isAhead_160 : decode cX7_isAhead 160 = .ok (.goto 4, 3) := dk_167 0 4 (dk_at dksX7_isAhead_6 20 rfl rfl)
theorem dX7_isAhead_163 : decode cX7_isAhead 163 = .ok (.iconst 0, 1) := dk_3 (dk_at dksX7_isAhead_6 23 rfl rfl)
theorem dX7_isAhead_164 : decode cX7_isAhead 164 = .ok (.ireturn, 1) := dk_172 (dk_at dksX7_isAhead_7 0 rfl rfl)
abbrev cX7_change : ByteArray := prog_21_method_83_code
def yX7_change : MethodName := ⟨RX7, "change", "(IIIII)I"⟩
def dkwX7_change_9 : List UInt8 := [21, 6, 16, 15, 96, 46, 4, 100, 172]
abbrev dktX7_change_9 : List UInt8 := dkwX7_change_9 ++ []
def dkwX7_change_8 : List UInt8 := [6, 96, 21, 5, 79, 42, 180, 0, 7, 21, 6, 16, 15, 96, 92, 46, 4, 96, 79, 42, 180, 0, 7]
abbrev dktX7_change_8 : List UInt8 := dkwX7_change_8 ++ dktX7_change_9
def dkwX7_change_7 : List UInt8 := [180, 0, 7, 21, 8, 5, 96, 28, 154, 0, 7, 3, 167, 0, 5, 21, 4, 79, 42, 180, 0, 7, 21, 8]
abbrev dktX7_change_7 : List UInt8 := dkwX7_change_7 ++ dktX7_change_8
def dkwX7_change_6 : List UInt8 := [21, 8, 28, 79, 42, 180, 0, 7, 21, 8, 4, 96, 28, 5, 160, 0, 7, 3, 167, 0, 4, 29, 79, 42]
abbrev dktX7_change_6 : List UInt8 := dkwX7_change_6 ++ dktX7_change_7
def dkwX7_change_5 : List UInt8 := [21, 6, 16, 16, 96, 7, 42, 180, 0, 7, 21, 6, 16, 15, 96, 46, 104, 96, 54, 8, 42, 180, 0, 7]
abbrev dktX7_change_5 : List UInt8 := dkwX7_change_5 ++ dktX7_change_6
def dkwX7_change_4 : List UInt8 := [54, 7, 42, 180, 0, 7, 21, 6, 16, 15, 96, 46, 16, 6, 159, 0, 8, 21, 7, 154, 0, 5, 2, 172]
abbrev dktX7_change_4 : List UInt8 := dkwX7_change_4 ++ dktX7_change_5
def dkwX7_change_3 : List UInt8 := [153, 0, 22, 28, 153, 0, 14, 21, 4, 3, 16, 9, 184, 0, 89, 153, 0, 7, 4, 167, 0, 4, 3]
abbrev dktX7_change_3 : List UInt8 := dkwX7_change_3 ++ dktX7_change_4
def dkwX7_change_2 : List UInt8 := [184, 0, 89, 167, 0, 42, 29, 3, 42, 180, 0, 7, 27, 184, 1, 1, 46, 4, 100, 184, 0, 89]
abbrev dktX7_change_2 : List UInt8 := dkwX7_change_2 ++ dktX7_change_3
def dkwX7_change_1 : List UInt8 := [184, 0, 89, 154, 0, 5, 2, 172, 27, 184, 0, 93, 54, 6, 28, 5, 160, 0, 14, 21, 4, 3, 16, 99]
abbrev dktX7_change_1 : List UInt8 := dkwX7_change_1 ++ dktX7_change_2
def dkwX7_change_0 : List UInt8 := [42, 27, 182, 0, 202, 153, 0, 23, 21, 5, 4, 16, 99, 184, 0, 89, 153, 0, 12, 28, 3, 5]
abbrev dktX7_change_0 : List UInt8 := dkwX7_change_0 ++ dktX7_change_1
theorem dksX7_change_0 : cX7_change.data.toList.drop 0 = dktX7_change_0 := by decide +kernel
theorem dksX7_change_1 : cX7_change.data.toList.drop 22 = dktX7_change_1 := dk_seg dksX7_change_0 22 rfl rfl
theorem dksX7_change_2 : cX7_change.data.toList.drop 46 = dktX7_change_2 := dk_seg dksX7_change_1 24 rfl rfl
theorem dksX7_change_3 : cX7_change.data.toList.drop 68 = dktX7_change_3 := dk_seg dksX7_change_2 22 rfl rfl
theorem dksX7_change_4 : cX7_change.data.toList.drop 91 = dktX7_change_4 := dk_seg dksX7_change_3 23 rfl rfl
theorem dksX7_change_5 : cX7_change.data.toList.drop 115 = dktX7_change_5 := dk_seg dksX7_change_4 24 rfl rfl
theorem dksX7_change_6 : cX7_change.data.toList.drop 139 = dktX7_change_6 := dk_seg dksX7_change_5 24 rfl rfl
theorem dksX7_change_7 : cX7_change.data.toList.drop 163 = dktX7_change_7 := dk_seg dksX7_change_6 24 rfl rfl
theorem dksX7_change_8 : cX7_change.data.toList.drop 187 = dktX7_change_8 := dk_seg dksX7_change_7 24 rfl rfl
theorem dksX7_change_9 : cX7_change.data.toList.drop 210 = dktX7_change_9 := dk_seg dksX7_change_8 23 rfl rfl
theorem dX7_change_0 : decode cX7_change 0 = .ok (.aload_n 0, 1) := dk_42 (dk_at dksX7_change_0 0 rfl rfl)
theorem dX7_change_1 : decode cX7_change 1 = .ok (.iload_n 1, 1) := dk_27 (dk_at dksX7_change_0 1 rfl rfl)
theorem dX7_change_2 : decode cX7_change 2 = .ok (.invokevirtual 202, 3) := dk_182 0 202 (dk_at dksX7_change_0 2 rfl rfl)
theorem dX7_change_5 : decode cX7_change 5 = .ok (.ifCond .eq 23, 3) := dk_153 0 23 (dk_at dksX7_change_0 5 rfl rfl)
theorem dX7_change_8 : decode cX7_change 8 = .ok (.iload 5, 2) := dk_21 5 (dk_at dksX7_change_0 8 rfl rfl)
theorem dX7_change_10 : decode cX7_change 10 = .ok (.iconst 1, 1) := dk_4 (dk_at dksX7_change_0 10 rfl rfl)
theorem dX7_change_11 : decode cX7_change 11 = .ok (.bipush 99, 2) := dk_16 99 (dk_at dksX7_change_0 11 rfl rfl)
theorem dX7_change_13 : decode cX7_change 13 = .ok (.invokestatic 89, 3) := dk_184 0 89 (dk_at dksX7_change_0 13 rfl rfl)
theorem dX7_change_16 : decode cX7_change 16 = .ok (.ifCond .eq 12, 3) := dk_153 0 12 (dk_at dksX7_change_0 16 rfl rfl)
theorem dX7_change_19 : decode cX7_change 19 = .ok (.iload_n 2, 1) := dk_28 (dk_at dksX7_change_0 19 rfl rfl)
theorem dX7_change_20 : decode cX7_change 20 = .ok (.iconst 0, 1) := dk_3 (dk_at dksX7_change_0 20 rfl rfl)
theorem dX7_change_21 : decode cX7_change 21 = .ok (.iconst 2, 1) := dk_5 (dk_at dksX7_change_0 21 rfl rfl)
theorem dX7_change_22 : decode cX7_change 22 = .ok (.invokestatic 89, 3) := dk_184 0 89 (dk_at dksX7_change_1 0 rfl rfl)
theorem dX7_change_25 : decode cX7_change 25 = .ok (.ifCond .ne 5, 3) := dk_154 0 5 (dk_at dksX7_change_1 3 rfl rfl)
theorem dX7_change_28 : decode cX7_change 28 = .ok (.iconst (-1), 1) := dk_2 (dk_at dksX7_change_1 6 rfl rfl)
theorem dX7_change_29 : decode cX7_change 29 = .ok (.ireturn, 1) := dk_172 (dk_at dksX7_change_1 7 rfl rfl)
theorem dX7_change_30 : decode cX7_change 30 = .ok (.iload_n 1, 1) := dk_27 (dk_at dksX7_change_1 8 rfl rfl)
theorem dX7_change_31 : decode cX7_change 31 = .ok (.invokestatic 93, 3) := dk_184 0 93 (dk_at dksX7_change_1 9 rfl rfl)
theorem dX7_change_34 : decode cX7_change 34 = .ok (.istore 6, 2) := dk_54 6 (dk_at dksX7_change_1 12 rfl rfl)
theorem dX7_change_36 : decode cX7_change 36 = .ok (.iload_n 2, 1) := dk_28 (dk_at dksX7_change_1 14 rfl rfl)
theorem dX7_change_37 : decode cX7_change 37 = .ok (.iconst 2, 1) := dk_5 (dk_at dksX7_change_1 15 rfl rfl)
theorem dX7_change_38 : decode cX7_change 38 = .ok (.if_icmp .ne 14, 3) := dk_160 0 14 (dk_at dksX7_change_1 16 rfl rfl)
theorem dX7_change_41 : decode cX7_change 41 = .ok (.iload 4, 2) := dk_21 4 (dk_at dksX7_change_1 19 rfl rfl)
theorem dX7_change_43 : decode cX7_change 43 = .ok (.iconst 0, 1) := dk_3 (dk_at dksX7_change_1 21 rfl rfl)
theorem dX7_change_44 : decode cX7_change 44 = .ok (.bipush 99, 2) := dk_16 99 (dk_at dksX7_change_1 22 rfl rfl)
theorem dX7_change_46 : decode cX7_change 46 = .ok (.invokestatic 89, 3) := dk_184 0 89 (dk_at dksX7_change_2 0 rfl rfl)
theorem dX7_change_49 : decode cX7_change 49 = .ok (.goto 42, 3) := dk_167 0 42 (dk_at dksX7_change_2 3 rfl rfl)
theorem dX7_change_52 : decode cX7_change 52 = .ok (.iload_n 3, 1) := dk_29 (dk_at dksX7_change_2 6 rfl rfl)
theorem dX7_change_53 : decode cX7_change 53 = .ok (.iconst 0, 1) := dk_3 (dk_at dksX7_change_2 7 rfl rfl)
theorem dX7_change_54 : decode cX7_change 54 = .ok (.aload_n 0, 1) := dk_42 (dk_at dksX7_change_2 8 rfl rfl)
theorem dX7_change_55 : decode cX7_change 55 = .ok (.getfield 7, 3) := dk_180 0 7 (dk_at dksX7_change_2 9 rfl rfl)
theorem dX7_change_58 : decode cX7_change 58 = .ok (.iload_n 1, 1) := dk_27 (dk_at dksX7_change_2 12 rfl rfl)
theorem dX7_change_59 : decode cX7_change 59 = .ok (.invokestatic 257, 3) := dk_184 1 1 (dk_at dksX7_change_2 13 rfl rfl)
theorem dX7_change_62 : decode cX7_change 62 = .ok (.iaload, 1) := dk_46 (dk_at dksX7_change_2 16 rfl rfl)
theorem dX7_change_63 : decode cX7_change 63 = .ok (.iconst 1, 1) := dk_4 (dk_at dksX7_change_2 17 rfl rfl)
theorem dX7_change_64 : decode cX7_change 64 = .ok (.isub, 1) := dk_100 (dk_at dksX7_change_2 18 rfl rfl)
theorem dX7_change_65 : decode cX7_change 65 = .ok (.invokestatic 89, 3) := dk_184 0 89 (dk_at dksX7_change_2 19 rfl rfl)
theorem dX7_change_68 : decode cX7_change 68 = .ok (.ifCond .eq 22, 3) := dk_153 0 22 (dk_at dksX7_change_3 0 rfl rfl)
theorem dX7_change_71 : decode cX7_change 71 = .ok (.iload_n 2, 1) := dk_28 (dk_at dksX7_change_3 3 rfl rfl)
theorem dX7_change_72 : decode cX7_change 72 = .ok (.ifCond .eq 14, 3) := dk_153 0 14 (dk_at dksX7_change_3 4 rfl rfl)
theorem dX7_change_75 : decode cX7_change 75 = .ok (.iload 4, 2) := dk_21 4 (dk_at dksX7_change_3 7 rfl rfl)
theorem dX7_change_77 : decode cX7_change 77 = .ok (.iconst 0, 1) := dk_3 (dk_at dksX7_change_3 9 rfl rfl)
theorem dX7_change_78 : decode cX7_change 78 = .ok (.bipush 9, 2) := dk_16 9 (dk_at dksX7_change_3 10 rfl rfl)
theorem dX7_change_80 : decode cX7_change 80 = .ok (.invokestatic 89, 3) := dk_184 0 89 (dk_at dksX7_change_3 12 rfl rfl)
theorem dX7_change_83 : decode cX7_change 83 = .ok (.ifCond .eq 7, 3) := dk_153 0 7 (dk_at dksX7_change_3 15 rfl rfl)
theorem dX7_change_86 : decode cX7_change 86 = .ok (.iconst 1, 1) := dk_4 (dk_at dksX7_change_3 18 rfl rfl)
theorem dX7_change_87 : decode cX7_change 87 = .ok (.goto 4, 3) := dk_167 0 4 (dk_at dksX7_change_3 19 rfl rfl)
theorem dX7_change_90 : decode cX7_change 90 = .ok (.iconst 0, 1) := dk_3 (dk_at dksX7_change_3 22 rfl rfl)
theorem dX7_change_91 : decode cX7_change 91 = .ok (.istore 7, 2) := dk_54 7 (dk_at dksX7_change_4 0 rfl rfl)
theorem dX7_change_93 : decode cX7_change 93 = .ok (.aload_n 0, 1) := dk_42 (dk_at dksX7_change_4 2 rfl rfl)
theorem dX7_change_94 : decode cX7_change 94 = .ok (.getfield 7, 3) := dk_180 0 7 (dk_at dksX7_change_4 3 rfl rfl)
theorem dX7_change_97 : decode cX7_change 97 = .ok (.iload 6, 2) := dk_21 6 (dk_at dksX7_change_4 6 rfl rfl)
theorem dX7_change_99 : decode cX7_change 99 = .ok (.bipush 15, 2) := dk_16 15 (dk_at dksX7_change_4 8 rfl rfl)
theorem dX7_change_101 : decode cX7_change 101 = .ok (.iadd, 1) := dk_96 (dk_at dksX7_change_4 10 rfl rfl)
theorem dX7_change_102 : decode cX7_change 102 = .ok (.iaload, 1) := dk_46 (dk_at dksX7_change_4 11 rfl rfl)
theorem dX7_change_103 : decode cX7_change 103 = .ok (.bipush 6, 2) := dk_16 6 (dk_at dksX7_change_4 12 rfl rfl)
theorem dX7_change_105 : decode cX7_change 105 = .ok (.if_icmp .eq 8, 3) := dk_159 0 8 (dk_at dksX7_change_4 14 rfl rfl)
theorem dX7_change_108 : decode cX7_change 108 = .ok (.iload 7, 2) := dk_21 7 (dk_at dksX7_change_4 17 rfl rfl)
theorem dX7_change_110 : decode cX7_change 110 = .ok (.ifCond .ne 5, 3) := dk_154 0 5 (dk_at dksX7_change_4 19 rfl rfl)
theorem dX7_change_113 : decode cX7_change 113 = .ok (.iconst (-1), 1) := dk_2 (dk_at dksX7_change_4 22 rfl rfl)
theorem dX7_change_114 : decode cX7_change 114 = .ok (.ireturn, 1) := dk_172 (dk_at dksX7_change_4 23 rfl rfl)
theorem dX7_change_115 : decode cX7_change 115 = .ok (.iload 6, 2) := dk_21 6 (dk_at dksX7_change_5 0 rfl rfl)
theorem dX7_change_117 : decode cX7_change 117 = .ok (.bipush 16, 2) := dk_16 16 (dk_at dksX7_change_5 2 rfl rfl)
theorem dX7_change_119 : decode cX7_change 119 = .ok (.iadd, 1) := dk_96 (dk_at dksX7_change_5 4 rfl rfl)
theorem dX7_change_120 : decode cX7_change 120 = .ok (.iconst 4, 1) := dk_7 (dk_at dksX7_change_5 5 rfl rfl)
theorem dX7_change_121 : decode cX7_change 121 = .ok (.aload_n 0, 1) := dk_42 (dk_at dksX7_change_5 6 rfl rfl)
theorem dX7_change_122 : decode cX7_change 122 = .ok (.getfield 7, 3) := dk_180 0 7 (dk_at dksX7_change_5 7 rfl rfl)
theorem dX7_change_125 : decode cX7_change 125 = .ok (.iload 6, 2) := dk_21 6 (dk_at dksX7_change_5 10 rfl rfl)
theorem dX7_change_127 : decode cX7_change 127 = .ok (.bipush 15, 2) := dk_16 15 (dk_at dksX7_change_5 12 rfl rfl)
theorem dX7_change_129 : decode cX7_change 129 = .ok (.iadd, 1) := dk_96 (dk_at dksX7_change_5 14 rfl rfl)
theorem dX7_change_130 : decode cX7_change 130 = .ok (.iaload, 1) := dk_46 (dk_at dksX7_change_5 15 rfl rfl)
theorem dX7_change_131 : decode cX7_change 131 = .ok (.imul, 1) := dk_104 (dk_at dksX7_change_5 16 rfl rfl)
theorem dX7_change_132 : decode cX7_change 132 = .ok (.iadd, 1) := dk_96 (dk_at dksX7_change_5 17 rfl rfl)
theorem dX7_change_133 : decode cX7_change 133 = .ok (.istore 8, 2) := dk_54 8 (dk_at dksX7_change_5 18 rfl rfl)
theorem dX7_change_135 : decode cX7_change 135 = .ok (.aload_n 0, 1) := dk_42 (dk_at dksX7_change_5 20 rfl rfl)
theorem dX7_change_136 : decode cX7_change 136 = .ok (.getfield 7, 3) := dk_180 0 7 (dk_at dksX7_change_5 21 rfl rfl)
theorem dX7_change_139 : decode cX7_change 139 = .ok (.iload 8, 2) := dk_21 8 (dk_at dksX7_change_6 0 rfl rfl)
theorem dX7_change_141 : decode cX7_change 141 = .ok (.iload_n 2, 1) := dk_28 (dk_at dksX7_change_6 2 rfl rfl)
theorem dX7_change_142 : decode cX7_change 142 = .ok (.iastore, 1) := dk_79 (dk_at dksX7_change_6 3 rfl rfl)
theorem dX7_change_143 : decode cX7_change 143 = .ok (.aload_n 0, 1) := dk_42 (dk_at dksX7_change_6 4 rfl rfl)
theorem dX7_change_144 : decode cX7_change 144 = .ok (.getfield 7, 3) := dk_180 0 7 (dk_at dksX7_change_6 5 rfl rfl)
theorem dX7_change_147 : decode cX7_change 147 = .ok (.iload 8, 2) := dk_21 8 (dk_at dksX7_change_6 8 rfl rfl)
theorem dX7_change_149 : decode cX7_change 149 = .ok (.iconst 1, 1) := dk_4 (dk_at dksX7_change_6 10 rfl rfl)
theorem dX7_change_150 : decode cX7_change 150 = .ok (.iadd, 1) := dk_96 (dk_at dksX7_change_6 11 rfl rfl)
theorem dX7_change_151 : decode cX7_change 151 = .ok (.iload_n 2, 1) := dk_28 (dk_at dksX7_change_6 12 rfl rfl)
theorem dX7_change_152 : decode cX7_change 152 = .ok (.iconst 2, 1) := dk_5 (dk_at dksX7_change_6 13 rfl rfl)
theorem dX7_change_153 : decode cX7_change 153 = .ok (.if_icmp .ne 7, 3) := dk_160 0 7 (dk_at dksX7_change_6 14 rfl rfl)
theorem dX7_change_156 : decode cX7_change 156 = .ok (.iconst 0, 1) := dk_3 (dk_at dksX7_change_6 17 rfl rfl)
theorem dX7_change_157 : decode cX7_change 157 = .ok (.goto 4, 3) := dk_167 0 4 (dk_at dksX7_change_6 18 rfl rfl)
theorem dX7_change_160 : decode cX7_change 160 = .ok (.iload_n 3, 1) := dk_29 (dk_at dksX7_change_6 21 rfl rfl)
theorem dX7_change_161 : decode cX7_change 161 = .ok (.iastore, 1) := dk_79 (dk_at dksX7_change_6 22 rfl rfl)
theorem dX7_change_162 : decode cX7_change 162 = .ok (.aload_n 0, 1) := dk_42 (dk_at dksX7_change_6 23 rfl rfl)
theorem dX7_change_163 : decode cX7_change 163 = .ok (.getfield 7, 3) := dk_180 0 7 (dk_at dksX7_change_7 0 rfl rfl)
theorem dX7_change_166 : decode cX7_change 166 = .ok (.iload 8, 2) := dk_21 8 (dk_at dksX7_change_7 3 rfl rfl)
theorem dX7_change_168 : decode cX7_change 168 = .ok (.iconst 2, 1) := dk_5 (dk_at dksX7_change_7 5 rfl rfl)
theorem dX7_change_169 : decode cX7_change 169 = .ok (.iadd, 1) := dk_96 (dk_at dksX7_change_7 6 rfl rfl)
theorem dX7_change_170 : decode cX7_change 170 = .ok (.iload_n 2, 1) := dk_28 (dk_at dksX7_change_7 7 rfl rfl)
theorem dX7_change_171 : decode cX7_change 171 = .ok (.ifCond .ne 7, 3) := dk_154 0 7 (dk_at dksX7_change_7 8 rfl rfl)
theorem dX7_change_174 : decode cX7_change 174 = .ok (.iconst 0, 1) := dk_3 (dk_at dksX7_change_7 11 rfl rfl)
theorem dX7_change_175 : decode cX7_change 175 = .ok (.goto 5, 3) := dk_167 0 5 (dk_at dksX7_change_7 12 rfl rfl)
theorem dX7_change_178 : decode cX7_change 178 = .ok (.iload 4, 2) := dk_21 4 (dk_at dksX7_change_7 15 rfl rfl)
theorem dX7_change_180 : decode cX7_change 180 = .ok (.iastore, 1) := dk_79 (dk_at dksX7_change_7 17 rfl rfl)
theorem dX7_change_181 : decode cX7_change 181 = .ok (.aload_n 0, 1) := dk_42 (dk_at dksX7_change_7 18 rfl rfl)
theorem dX7_change_182 : decode cX7_change 182 = .ok (.getfield 7, 3) := dk_180 0 7 (dk_at dksX7_change_7 19 rfl rfl)
theorem dX7_change_185 : decode cX7_change 185 = .ok (.iload 8, 2) := dk_21 8 (dk_at dksX7_change_7 22 rfl rfl)
theorem dX7_change_187 : decode cX7_change 187 = .ok (.iconst 3, 1) := dk_6 (dk_at dksX7_change_8 0 rfl rfl)
theorem dX7_change_188 : decode cX7_change 188 = .ok (.iadd, 1) := dk_96 (dk_at dksX7_change_8 1 rfl rfl)
theorem dX7_change_189 : decode cX7_change 189 = .ok (.iload 5, 2) := dk_21 5 (dk_at dksX7_change_8 2 rfl rfl)
theorem dX7_change_191 : decode cX7_change 191 = .ok (.iastore, 1) := dk_79 (dk_at dksX7_change_8 4 rfl rfl)
theorem dX7_change_192 : decode cX7_change 192 = .ok (.aload_n 0, 1) := dk_42 (dk_at dksX7_change_8 5 rfl rfl)
theorem dX7_change_193 : decode cX7_change 193 = .ok (.getfield 7, 3) := dk_180 0 7 (dk_at dksX7_change_8 6 rfl rfl)
theorem dX7_change_196 : decode cX7_change 196 = .ok (.iload 6, 2) := dk_21 6 (dk_at dksX7_change_8 9 rfl rfl)
theorem dX7_change_198 : decode cX7_change 198 = .ok (.bipush 15, 2) := dk_16 15 (dk_at dksX7_change_8 11 rfl rfl)
theorem dX7_change_200 : decode cX7_change 200 = .ok (.iadd, 1) := dk_96 (dk_at dksX7_change_8 13 rfl rfl)
theorem dX7_change_201 : decode cX7_change 201 = .ok (.dup2, 1) := dk_92 (dk_at dksX7_change_8 14 rfl rfl)
theorem dX7_change_202 : decode cX7_change 202 = .ok (.iaload, 1) := dk_46 (dk_at dksX7_change_8 15 rfl rfl)
theorem dX7_change_203 : decode cX7_change 203 = .ok (.iconst 1, 1) := dk_4 (dk_at dksX7_change_8 16 rfl rfl)
theorem dX7_change_204 : decode cX7_change 204 = .ok (.iadd, 1) := dk_96 (dk_at dksX7_change_8 17 rfl rfl)
theorem dX7_change_205 : decode cX7_change 205 = .ok (.iastore, 1) := dk_79 (dk_at dksX7_change_8 18 rfl rfl)
theorem dX7_change_206 : decode cX7_change 206 = .ok (.aload_n 0, 1) := dk_42 (dk_at dksX7_change_8 19 rfl rfl)
theorem dX7_change_207 : decode cX7_change 207 = .ok (.getfield 7, 3) := dk_180 0 7 (dk_at dksX7_change_8 20 rfl rfl)
theorem dX7_change_210 : decode cX7_change 210 = .ok (.iload 6, 2) := dk_21 6 (dk_at dksX7_change_9 0 rfl rfl)
theorem dX7_change_212 : decode cX7_change 212 = .ok (.bipush 15, 2) := dk_16 15 (dk_at dksX7_change_9 2 rfl rfl)
theorem dX7_change_214 : decode cX7_change 214 = .ok (.iadd, 1) := dk_96 (dk_at dksX7_change_9 4 rfl rfl)
theorem dX7_change_215 : decode cX7_change 215 = .ok (.iaload, 1) := dk_46 (dk_at dksX7_change_9 5 rfl rfl)
theorem dX7_change_216 : decode cX7_change 216 = .ok (.iconst 1, 1) := dk_4 (dk_at dksX7_change_9 6 rfl rfl)
theorem dX7_change_217 : decode cX7_change 217 = .ok (.isub, 1) := dk_100 (dk_at dksX7_change_9 7 rfl rfl)
theorem dX7_change_218 : decode cX7_change 218 = .ok (.ireturn, 1) := dk_172 (dk_at dksX7_change_9 8 rfl rfl)
abbrev cX7_pass : ByteArray := prog_21_method_87_code
def yX7_pass : MethodName := ⟨RX7, "pass", "(IIIII)I"⟩
def dkwX7_pass_8 : List UInt8 := [21, 6, 167, 0, 5, 21, 8, 172]
abbrev dktX7_pass_8 : List UInt8 := dkwX7_pass_8 ++ []
def dkwX7_pass_7 : List UInt8 := [156, 0, 7, 2, 167, 0, 26, 21, 5, 154, 0, 8, 21, 7, 167, 0, 16, 21, 5, 4, 160, 0, 8]
abbrev dktX7_pass_7 : List UInt8 := dkwX7_pass_7 ++ dktX7_pass_8
def dkwX7_pass_6 : List UInt8 := [21, 9, 54, 6, 42, 180, 1, 72, 54, 7, 21, 10, 54, 8, 132, 9, 1, 167, 255, 134, 21, 6]
abbrev dktX7_pass_6 : List UInt8 := dkwX7_pass_6 ++ dktX7_pass_7
def dkwX7_pass_5 : List UInt8 := [180, 1, 72, 21, 7, 160, 0, 19, 21, 9, 184, 1, 35, 21, 6, 184, 1, 35, 161, 0, 6, 167, 0, 17]
abbrev dktX7_pass_5 : List UInt8 := dkwX7_pass_5 ++ dktX7_pass_6
def dkwX7_pass_4 : List UInt8 := [182, 1, 82, 154, 0, 6, 167, 0, 56, 21, 6, 155, 0, 37, 42, 180, 1, 72, 21, 7, 163, 0, 42, 42]
abbrev dktX7_pass_4 : List UInt8 := dkwX7_pass_4 ++ dktX7_pass_5
def dkwX7_pass_3 : List UInt8 := [180, 1, 69, 96, 182, 1, 44, 184, 1, 50, 54, 10, 21, 10, 5, 159, 0, 69, 42, 29, 21, 4]
abbrev dktX7_pass_3 : List UInt8 := dkwX7_pass_3 ++ dktX7_pass_4
def dkwX7_pass_2 : List UInt8 := [16, 15, 96, 46, 120, 162, 0, 109, 42, 27, 28, 21, 9, 182, 1, 79, 42, 42, 27, 28, 182, 1, 41, 42]
abbrev dktX7_pass_2 : List UInt8 := dkwX7_pass_2 ++ dktX7_pass_3
def dkwX7_pass_1 : List UInt8 := [2, 54, 6, 3, 54, 7, 3, 54, 8, 3, 54, 9, 21, 9, 4, 42, 180, 0, 7, 27, 184, 0, 93]
abbrev dktX7_pass_1 : List UInt8 := dkwX7_pass_1 ++ dktX7_pass_2
def dkwX7_pass_0 : List UInt8 := [42, 27, 28, 29, 21, 4, 182, 1, 75, 153, 0, 13, 21, 5, 3, 5, 184, 0, 89, 154, 0, 5, 2, 172]
abbrev dktX7_pass_0 : List UInt8 := dkwX7_pass_0 ++ dktX7_pass_1
theorem dksX7_pass_0 : cX7_pass.data.toList.drop 0 = dktX7_pass_0 := by decide +kernel
theorem dksX7_pass_1 : cX7_pass.data.toList.drop 24 = dktX7_pass_1 := dk_seg dksX7_pass_0 24 rfl rfl
theorem dksX7_pass_2 : cX7_pass.data.toList.drop 47 = dktX7_pass_2 := dk_seg dksX7_pass_1 23 rfl rfl
theorem dksX7_pass_3 : cX7_pass.data.toList.drop 71 = dktX7_pass_3 := dk_seg dksX7_pass_2 24 rfl rfl
theorem dksX7_pass_4 : cX7_pass.data.toList.drop 93 = dktX7_pass_4 := dk_seg dksX7_pass_3 22 rfl rfl
theorem dksX7_pass_5 : cX7_pass.data.toList.drop 117 = dktX7_pass_5 := dk_seg dksX7_pass_4 24 rfl rfl
theorem dksX7_pass_6 : cX7_pass.data.toList.drop 141 = dktX7_pass_6 := dk_seg dksX7_pass_5 24 rfl rfl
theorem dksX7_pass_7 : cX7_pass.data.toList.drop 163 = dktX7_pass_7 := dk_seg dksX7_pass_6 22 rfl rfl
theorem dksX7_pass_8 : cX7_pass.data.toList.drop 186 = dktX7_pass_8 := dk_seg dksX7_pass_7 23 rfl rfl
theorem dX7_pass_0 : decode cX7_pass 0 = .ok (.aload_n 0, 1) := dk_42 (dk_at dksX7_pass_0 0 rfl rfl)
theorem dX7_pass_1 : decode cX7_pass 1 = .ok (.iload_n 1, 1) := dk_27 (dk_at dksX7_pass_0 1 rfl rfl)
theorem dX7_pass_2 : decode cX7_pass 2 = .ok (.iload_n 2, 1) := dk_28 (dk_at dksX7_pass_0 2 rfl rfl)
theorem dX7_pass_3 : decode cX7_pass 3 = .ok (.iload_n 3, 1) := dk_29 (dk_at dksX7_pass_0 3 rfl rfl)
theorem dX7_pass_4 : decode cX7_pass 4 = .ok (.iload 4, 2) := dk_21 4 (dk_at dksX7_pass_0 4 rfl rfl)
theorem dX7_pass_6 : decode cX7_pass 6 = .ok (.invokevirtual 331, 3) := dk_182 1 75 (dk_at dksX7_pass_0 6 rfl rfl)
theorem dX7_pass_9 : decode cX7_pass 9 = .ok (.ifCond .eq 13, 3) := dk_153 0 13 (dk_at dksX7_pass_0 9 rfl rfl)
theorem dX7_pass_12 : decode cX7_pass 12 = .ok (.iload 5, 2) := dk_21 5 (dk_at dksX7_pass_0 12 rfl rfl)
theorem dX7_pass_14 : decode cX7_pass 14 = .ok (.iconst 0, 1) := dk_3 (dk_at dksX7_pass_0 14 rfl rfl)
theorem dX7_pass_15 : decode cX7_pass 15 = .ok (.iconst 2, 1) := dk_5 (dk_at dksX7_pass_0 15 rfl rfl)
theorem dX7_pass_16 : decode cX7_pass 16 = .ok (.invokestatic 89, 3) := dk_184 0 89 (dk_at dksX7_pass_0 16 rfl rfl)
theorem dX7_pass_19 : decode cX7_pass 19 = .ok (.ifCond .ne 5, 3) := dk_154 0 5 (dk_at dksX7_pass_0 19 rfl rfl)
theorem dX7_pass_22 : decode cX7_pass 22 = .ok (.iconst (-1), 1) := dk_2 (dk_at dksX7_pass_0 22 rfl rfl)
theorem dX7_pass_23 : decode cX7_pass 23 = .ok (.ireturn, 1) := dk_172 (dk_at dksX7_pass_0 23 rfl rfl)
theorem dX7_pass_24 : decode cX7_pass 24 = .ok (.iconst (-1), 1) := dk_2 (dk_at dksX7_pass_1 0 rfl rfl)
theorem dX7_pass_25 : decode cX7_pass 25 = .ok (.istore 6, 2) := dk_54 6 (dk_at dksX7_pass_1 1 rfl rfl)
theorem dX7_pass_27 : decode cX7_pass 27 = .ok (.iconst 0, 1) := dk_3 (dk_at dksX7_pass_1 3 rfl rfl)
theorem dX7_pass_28 : decode cX7_pass 28 = .ok (.istore 7, 2) := dk_54 7 (dk_at dksX7_pass_1 4 rfl rfl)
theorem dX7_pass_30 : decode cX7_pass 30 = .ok (.iconst 0, 1) := dk_3 (dk_at dksX7_pass_1 6 rfl rfl)
theorem dX7_pass_31 : decode cX7_pass 31 = .ok (.istore 8, 2) := dk_54 8 (dk_at dksX7_pass_1 7 rfl rfl)
theorem dX7_pass_33 : decode cX7_pass 33 = .ok (.iconst 0, 1) := dk_3 (dk_at dksX7_pass_1 9 rfl rfl)
theorem dX7_pass_34 : decode cX7_pass 34 = .ok (.istore 9, 2) := dk_54 9 (dk_at dksX7_pass_1 10 rfl rfl)
theorem dX7_pass_36 : decode cX7_pass 36 = .ok (.iload 9, 2) := dk_21 9 (dk_at dksX7_pass_1 12 rfl rfl)
theorem dX7_pass_38 : decode cX7_pass 38 = .ok (.iconst 1, 1) := dk_4 (dk_at dksX7_pass_1 14 rfl rfl)
theorem dX7_pass_39 : decode cX7_pass 39 = .ok (.aload_n 0, 1) := dk_42 (dk_at dksX7_pass_1 15 rfl rfl)
theorem dX7_pass_40 : decode cX7_pass 40 = .ok (.getfield 7, 3) := dk_180 0 7 (dk_at dksX7_pass_1 16 rfl rfl)
theorem dX7_pass_43 : decode cX7_pass 43 = .ok (.iload_n 1, 1) := dk_27 (dk_at dksX7_pass_1 19 rfl rfl)
theorem dX7_pass_44 : decode cX7_pass 44 = .ok (.invokestatic 93, 3) := dk_184 0 93 (dk_at dksX7_pass_1 20 rfl rfl)
theorem dX7_pass_47 : decode cX7_pass 47 = .ok (.bipush 15, 2) := dk_16 15 (dk_at dksX7_pass_2 0 rfl rfl)
theorem dX7_pass_49 : decode cX7_pass 49 = .ok (.iadd, 1) := dk_96 (dk_at dksX7_pass_2 2 rfl rfl)
theorem dX7_pass_50 : decode cX7_pass 50 = .ok (.iaload, 1) := dk_46 (dk_at dksX7_pass_2 3 rfl rfl)
theorem dX7_pass_51 : decode cX7_pass 51 = .ok (.ishl, 1) := dk_120 (dk_at dksX7_pass_2 4 rfl rfl)
theorem dX7_pass_52 : decode cX7_pass 52 = .ok (.if_icmp .ge 109, 3) := dk_162 0 109 (dk_at dksX7_pass_2 5 rfl rfl)
theorem dX7_pass_55 : decode cX7_pass 55 = .ok (.aload_n 0, 1) := dk_42 (dk_at dksX7_pass_2 8 rfl rfl)
theorem dX7_pass_56 : decode cX7_pass 56 = .ok (.iload_n 1, 1) := dk_27 (dk_at dksX7_pass_2 9 rfl rfl)
theorem dX7_pass_57 : decode cX7_pass 57 = .ok (.iload_n 2, 1) := dk_28 (dk_at dksX7_pass_2 10 rfl rfl)
theorem dX7_pass_58 : decode cX7_pass 58 = .ok (.iload 9, 2) := dk_21 9 (dk_at dksX7_pass_2 11 rfl rfl)
theorem dX7_pass_60 : decode cX7_pass 60 = .ok (.invokevirtual 335, 3) := dk_182 1 79 (dk_at dksX7_pass_2 13 rfl rfl)
theorem dX7_pass_63 : decode cX7_pass 63 = .ok (.aload_n 0, 1) := dk_42 (dk_at dksX7_pass_2 16 rfl rfl)
theorem dX7_pass_64 : decode cX7_pass 64 = .ok (.aload_n 0, 1) := dk_42 (dk_at dksX7_pass_2 17 rfl rfl)
theorem dX7_pass_65 : decode cX7_pass 65 = .ok (.iload_n 1, 1) := dk_27 (dk_at dksX7_pass_2 18 rfl rfl)
theorem dX7_pass_66 : decode cX7_pass 66 = .ok (.iload_n 2, 1) := dk_28 (dk_at dksX7_pass_2 19 rfl rfl)
theorem dX7_pass_67 : decode cX7_pass 67 = .ok (.invokevirtual 297, 3) := dk_182 1 41 (dk_at dksX7_pass_2 20 rfl rfl)
theorem dX7_pass_70 : decode cX7_pass 70 = .ok (.aload_n 0, 1) := dk_42 (dk_at dksX7_pass_2 23 rfl rfl)
theorem dX7_pass_71 : decode cX7_pass 71 = .ok (.getfield 325, 3) := dk_180 1 69 (dk_at dksX7_pass_3 0 rfl rfl)
theorem dX7_pass_74 : decode cX7_pass 74 = .ok (.iadd, 1) := dk_96 (dk_at dksX7_pass_3 3 rfl rfl)
theorem dX7_pass_75 : decode cX7_pass 75 = .ok (.invokevirtual 300, 3) := dk_182 1 44 (dk_at dksX7_pass_3 4 rfl rfl)
theorem dX7_pass_78 : decode cX7_pass 78 = .ok (.invokestatic 306, 3) := dk_184 1 50 (dk_at dksX7_pass_3 7 rfl rfl)
theorem dX7_pass_81 : decode cX7_pass 81 = .ok (.istore 10, 2) := dk_54 10 (dk_at dksX7_pass_3 10 rfl rfl)
theorem dX7_pass_83 : decode cX7_pass 83 = .ok (.iload 10, 2) := dk_21 10 (dk_at dksX7_pass_3 12 rfl rfl)
theorem dX7_pass_85 : decode cX7_pass 85 = .ok (.iconst 2, 1) := dk_5 (dk_at dksX7_pass_3 14 rfl rfl)
theorem dX7_pass_86 : decode cX7_pass 86 = .ok (.if_icmp .eq 69, 3) := dk_159 0 69 (dk_at dksX7_pass_3 15 rfl rfl)
theorem dX7_pass_89 : decode cX7_pass 89 = .ok (.aload_n 0, 1) := dk_42 (dk_at dksX7_pass_3 18 rfl rfl)
theorem dX7_pass_90 : decode cX7_pass 90 = .ok (.iload_n 3, 1) := dk_29 (dk_at dksX7_pass_3 19 rfl rfl)
theorem dX7_pass_91 : decode cX7_pass 91 = .ok (.iload 4, 2) := dk_21 4 (dk_at dksX7_pass_3 20 rfl rfl)
theorem dX7_pass_93 : decode cX7_pass 93 = .ok (.invokevirtual 338, 3) := dk_182 1 82 (dk_at dksX7_pass_4 0 rfl rfl)
theorem dX7_pass_96 : decode cX7_pass 96 = .ok (.ifCond .ne 6, 3) := dk_154 0 6 (dk_at dksX7_pass_4 3 rfl rfl)
theorem dX7_pass_99 : decode cX7_pass 99 = .ok (.goto 56, 3) := dk_167 0 56 (dk_at dksX7_pass_4 6 rfl rfl)
theorem dX7_pass_102 : decode cX7_pass 102 = .ok (.iload 6, 2) := dk_21 6 (dk_at dksX7_pass_4 9 rfl rfl)
theorem dX7_pass_104 : decode cX7_pass 104 = .ok (.ifCond .lt 37, 3) := dk_155 0 37 (dk_at dksX7_pass_4 11 rfl rfl)
theorem dX7_pass_107 : decode cX7_pass 107 = .ok (.aload_n 0, 1) := dk_42 (dk_at dksX7_pass_4 14 rfl rfl)
theorem dX7_pass_108 : decode cX7_pass 108 = .ok (.getfield 328, 3) := dk_180 1 72 (dk_at dksX7_pass_4 15 rfl rfl)
theorem dX7_pass_111 : decode cX7_pass 111 = .ok (.iload 7, 2) := dk_21 7 (dk_at dksX7_pass_4 18 rfl rfl)
theorem dX7_pass_113 : decode cX7_pass 113 = .ok (.if_icmp .gt 42, 3) := dk_163 0 42 (dk_at dksX7_pass_4 20 rfl rfl)
theorem dX7_pass_116 : decode cX7_pass 116 = .ok (.aload_n 0, 1) := dk_42 (dk_at dksX7_pass_4 23 rfl rfl)
theorem dX7_pass_117 : decode cX7_pass 117 = .ok (.getfield 328, 3) := dk_180 1 72 (dk_at dksX7_pass_5 0 rfl rfl)
theorem dX7_pass_120 : decode cX7_pass 120 = .ok (.iload 7, 2) := dk_21 7 (dk_at dksX7_pass_5 3 rfl rfl)
theorem dX7_pass_122 : decode cX7_pass 122 = .ok (.if_icmp .ne 19, 3) := dk_160 0 19 (dk_at dksX7_pass_5 5 rfl rfl)
theorem dX7_pass_125 : decode cX7_pass 125 = .ok (.iload 9, 2) := dk_21 9 (dk_at dksX7_pass_5 8 rfl rfl)
theorem dX7_pass_127 : decode cX7_pass 127 = .ok (.invokestatic 291, 3) := dk_184 1 35 (dk_at dksX7_pass_5 10 rfl rfl)
theorem dX7_pass_130 : decode cX7_pass 130 = .ok (.iload 6, 2) := dk_21 6 (dk_at dksX7_pass_5 13 rfl rfl)
theorem dX7_pass_132 : decode cX7_pass 132 = .ok (.invokestatic 291, 3) := dk_184 1 35 (dk_at dksX7_pass_5 15 rfl rfl)
theorem dX7_pass_135 : decode cX7_pass 135 = .ok (.if_icmp .lt 6, 3) := dk_161 0 6 (dk_at dksX7_pass_5 18 rfl rfl)
theorem dX7_pass_138 : decode cX7_pass 138 = .ok (.goto 17, 3) := dk_167 0 17 (dk_at dksX7_pass_5 21 rfl rfl)
theorem dX7_pass_141 : decode cX7_pass 141 = .ok (.iload 9, 2) := dk_21 9 (dk_at dksX7_pass_6 0 rfl rfl)
theorem dX7_pass_143 : decode cX7_pass 143 = .ok (.istore 6, 2) := dk_54 6 (dk_at dksX7_pass_6 2 rfl rfl)
theorem dX7_pass_145 : decode cX7_pass 145 = .ok (.aload_n 0, 1) := dk_42 (dk_at dksX7_pass_6 4 rfl rfl)
theorem dX7_pass_146 : decode cX7_pass 146 = .ok (.getfield 328, 3) := dk_180 1 72 (dk_at dksX7_pass_6 5 rfl rfl)
theorem dX7_pass_149 : decode cX7_pass 149 = .ok (.istore 7, 2) := dk_54 7 (dk_at dksX7_pass_6 8 rfl rfl)
theorem dX7_pass_151 : decode cX7_pass 151 = .ok (.iload 10, 2) := dk_21 10 (dk_at dksX7_pass_6 10 rfl rfl)
theorem dX7_pass_153 : decode cX7_pass 153 = .ok (.istore 8, 2) := dk_54 8 (dk_at dksX7_pass_6 12 rfl rfl)
theorem dX7_pass_155 : decode cX7_pass 155 = .ok (.iinc 9 1, 3) := dk_132 9 1 (dk_at dksX7_pass_6 14 rfl rfl)
theorem dX7_pass_158 : decode cX7_pass 158 = .ok (.goto (-122), 3) := dk_167 255 134 (dk_at dksX7_pass_6 17 rfl rfl)
theorem dX7_pass_161 : decode cX7_pass 161 = .ok (.iload 6, 2) := dk_21 6 (dk_at dksX7_pass_6 20 rfl rfl)
theorem dX7_pass_163 : decode cX7_pass 163 = .ok (.ifCond .ge 7, 3) := dk_156 0 7 (dk_at dksX7_pass_7 0 rfl rfl)
theorem dX7_pass_166 : decode cX7_pass 166 = .ok (.iconst (-1), 1) := dk_2 (dk_at dksX7_pass_7 3 rfl rfl)
theorem dX7_pass_167 : decode cX7_pass 167 = .ok (.goto 26, 3) := dk_167 0 26 (dk_at dksX7_pass_7 4 rfl rfl)
theorem dX7_pass_170 : decode cX7_pass 170 = .ok (.iload 5, 2) := dk_21 5 (dk_at dksX7_pass_7 7 rfl rfl)
theorem dX7_pass_172 : decode cX7_pass 172 = .ok (.ifCond .ne 8, 3) := dk_154 0 8 (dk_at dksX7_pass_7 9 rfl rfl)
theorem dX7_pass_175 : decode cX7_pass 175 = .ok (.iload 7, 2) := dk_21 7 (dk_at dksX7_pass_7 12 rfl rfl)
theorem dX7_pass_177 : decode cX7_pass 177 = .ok (.goto 16, 3) := dk_167 0 16 (dk_at dksX7_pass_7 14 rfl rfl)
theorem dX7_pass_180 : decode cX7_pass 180 = .ok (.iload 5, 2) := dk_21 5 (dk_at dksX7_pass_7 17 rfl rfl)
theorem dX7_pass_182 : decode cX7_pass 182 = .ok (.iconst 1, 1) := dk_4 (dk_at dksX7_pass_7 19 rfl rfl)
theorem dX7_pass_183 : decode cX7_pass 183 = .ok (.if_icmp .ne 8, 3) := dk_160 0 8 (dk_at dksX7_pass_7 20 rfl rfl)
theorem dX7_pass_186 : decode cX7_pass 186 = .ok (.iload 6, 2) := dk_21 6 (dk_at dksX7_pass_8 0 rfl rfl)
theorem dX7_pass_188 : decode cX7_pass 188 = .ok (.goto 5, 3) := dk_167 0 5 (dk_at dksX7_pass_8 2 rfl rfl)
theorem dX7_pass_191 : decode cX7_pass 191 = .ok (.iload 8, 2) := dk_21 8 (dk_at dksX7_pass_8 5 rfl rfl)
theorem dX7_pass_193 : decode cX7_pass 193 = .ok (.ireturn, 1) := dk_172 (dk_at dksX7_pass_8 7 rfl rfl)
abbrev cX7_isForger : ByteArray := prog_21_method_86_code
def yX7_isForger : MethodName := ⟨RX7, "isForger", "(IIII)Z"⟩
def dkwX7_isForger_1 : List UInt8 := [184, 0, 89, 153, 0, 19, 21, 4, 3, 17, 3, 231, 184, 0, 89, 153, 0, 7, 4, 167, 0, 4, 3, 172]
abbrev dktX7_isForger_1 : List UInt8 := dkwX7_isForger_1 ++ []
def dkwX7_isForger_0 : List UInt8 := [42, 27, 182, 0, 202, 153, 0, 39, 28, 3, 16, 99, 184, 0, 89, 153, 0, 29, 29, 3, 16, 99]
abbrev dktX7_isForger_0 : List UInt8 := dkwX7_isForger_0 ++ dktX7_isForger_1
theorem dksX7_isForger_0 : cX7_isForger.data.toList.drop 0 = dktX7_isForger_0 := by decide +kernel
theorem dksX7_isForger_1 : cX7_isForger.data.toList.drop 22 = dktX7_isForger_1 := dk_seg dksX7_isForger_0 22 rfl rfl
theorem dX7_isForger_0 : decode cX7_isForger 0 = .ok (.aload_n 0, 1) := dk_42 (dk_at dksX7_isForger_0 0 rfl rfl)
theorem dX7_isForger_1 : decode cX7_isForger 1 = .ok (.iload_n 1, 1) := dk_27 (dk_at dksX7_isForger_0 1 rfl rfl)
theorem dX7_isForger_2 : decode cX7_isForger 2 = .ok (.invokevirtual 202, 3) := dk_182 0 202 (dk_at dksX7_isForger_0 2 rfl rfl)
theorem dX7_isForger_5 : decode cX7_isForger 5 = .ok (.ifCond .eq 39, 3) := dk_153 0 39 (dk_at dksX7_isForger_0 5 rfl rfl)
theorem dX7_isForger_8 : decode cX7_isForger 8 = .ok (.iload_n 2, 1) := dk_28 (dk_at dksX7_isForger_0 8 rfl rfl)
theorem dX7_isForger_9 : decode cX7_isForger 9 = .ok (.iconst 0, 1) := dk_3 (dk_at dksX7_isForger_0 9 rfl rfl)
theorem dX7_isForger_10 : decode cX7_isForger 10 = .ok (.bipush 99, 2) := dk_16 99 (dk_at dksX7_isForger_0 10 rfl rfl)
theorem dX7_isForger_12 : decode cX7_isForger 12 = .ok (.invokestatic 89, 3) := dk_184 0 89 (dk_at dksX7_isForger_0 12 rfl rfl)
theorem dX7_isForger_15 : decode cX7_isForger 15 = .ok (.ifCond .eq 29, 3) := dk_153 0 29 (dk_at dksX7_isForger_0 15 rfl rfl)
theorem dX7_isForger_18 : decode cX7_isForger 18 = .ok (.iload_n 3, 1) := dk_29 (dk_at dksX7_isForger_0 18 rfl rfl)
theorem dX7_isForger_19 : decode cX7_isForger 19 = .ok (.iconst 0, 1) := dk_3 (dk_at dksX7_isForger_0 19 rfl rfl)
theorem dX7_isForger_20 : decode cX7_isForger 20 = .ok (.bipush 99, 2) := dk_16 99 (dk_at dksX7_isForger_0 20 rfl rfl)
theorem dX7_isForger_22 : decode cX7_isForger 22 = .ok (.invokestatic 89, 3) := dk_184 0 89 (dk_at dksX7_isForger_1 0 rfl rfl)
theorem dX7_isForger_25 : decode cX7_isForger 25 = .ok (.ifCond .eq 19, 3) := dk_153 0 19 (dk_at dksX7_isForger_1 3 rfl rfl)
theorem dX7_isForger_28 : decode cX7_isForger 28 = .ok (.iload 4, 2) := dk_21 4 (dk_at dksX7_isForger_1 6 rfl rfl)
theorem dX7_isForger_30 : decode cX7_isForger 30 = .ok (.iconst 0, 1) := dk_3 (dk_at dksX7_isForger_1 8 rfl rfl)
theorem dX7_isForger_31 : decode cX7_isForger 31 = .ok (.sipush 999, 3) := dk_17 3 231 (dk_at dksX7_isForger_1 9 rfl rfl)
theorem dX7_isForger_34 : decode cX7_isForger 34 = .ok (.invokestatic 89, 3) := dk_184 0 89 (dk_at dksX7_isForger_1 12 rfl rfl)
theorem dX7_isForger_37 : decode cX7_isForger 37 = .ok (.ifCond .eq 7, 3) := dk_153 0 7 (dk_at dksX7_isForger_1 15 rfl rfl)
theorem dX7_isForger_40 : decode cX7_isForger 40 = .ok (.iconst 1, 1) := dk_4 (dk_at dksX7_isForger_1 18 rfl rfl)
theorem dX7_isForger_41 : decode cX7_isForger 41 = .ok (.goto 4, 3) := dk_167 0 4 (dk_at dksX7_isForger_1 19 rfl rfl)
theorem dX7_isForger_44 : decode cX7_isForger 44 = .ok (.iconst 0, 1) := dk_3 (dk_at dksX7_isForger_1 22 rfl rfl)
theorem dX7_isForger_45 : decode cX7_isForger 45 = .ok (.ireturn, 1) := dk_172 (dk_at dksX7_isForger_1 23 rfl rfl)
abbrev cX7_forges : ByteArray := prog_21_method_84_code
def yX7_forges : MethodName := ⟨RX7, "forges", "(III)V"⟩
def dkwX7_forges_8 : List UInt8 := [3, 28, 182, 0, 246, 42, 27, 3, 28, 182, 1, 38, 177]
abbrev dktX7_forges_8 : List UInt8 := dkwX7_forges_8 ++ []
def dkwX7_forges_7 : List UInt8 := [180, 1, 69, 42, 180, 0, 7, 21, 5, 5, 96, 46, 96, 181, 1, 69, 132, 4, 1, 167, 255, 96, 42, 3]
abbrev dktX7_forges_7 : List UInt8 := dkwX7_forges_7 ++ dktX7_forges_8
def dkwX7_forges_6 : List UInt8 := [180, 0, 7, 21, 5, 4, 96, 46, 42, 180, 0, 7, 21, 5, 5, 96, 46, 79, 167, 0, 21, 42, 89]
abbrev dktX7_forges_6 : List UInt8 := dkwX7_forges_6 ++ dktX7_forges_7
def dkwX7_forges_5 : List UInt8 := [42, 180, 0, 26, 42, 180, 0, 7, 21, 5, 4, 96, 46, 4, 84, 167, 0, 47, 42, 180, 0, 29, 42]
abbrev dktX7_forges_5 : List UInt8 := dkwX7_forges_5 ++ dktX7_forges_6
def dkwX7_forges_4 : List UInt8 := [171, 0, 0, 0, 0, 0, 71, 0, 0, 0, 2, 0, 0, 0, 0, 0, 0, 0, 27, 0, 0, 0, 1, 0, 0, 0, 45]
abbrev dktX7_forges_4 : List UInt8 := dkwX7_forges_4 ++ dktX7_forges_5
def dkwX7_forges_3 : List UInt8 := [180, 0, 7, 21, 5, 6, 96, 46, 96, 181, 1, 72, 42, 180, 0, 7, 21, 5, 46]
abbrev dktX7_forges_3 : List UInt8 := dkwX7_forges_3 ++ dktX7_forges_4
def dkwX7_forges_2 : List UInt8 := [104, 96, 54, 5, 29, 21, 4, 122, 4, 126, 154, 0, 6, 167, 0, 117, 42, 89, 180, 1, 72, 42]
abbrev dktX7_forges_2 : List UInt8 := dkwX7_forges_2 ++ dktX7_forges_3
def dkwX7_forges_1 : List UInt8 := [180, 0, 7, 27, 184, 0, 93, 16, 15, 96, 46, 162, 0, 149, 27, 184, 0, 93, 16, 16, 96, 7, 21, 4]
abbrev dktX7_forges_1 : List UInt8 := dkwX7_forges_1 ++ dktX7_forges_2
def dkwX7_forges_0 : List UInt8 := [42, 27, 184, 1, 1, 182, 0, 243, 42, 3, 181, 1, 69, 42, 3, 181, 1, 72, 3, 54, 4, 21, 4, 42]
abbrev dktX7_forges_0 : List UInt8 := dkwX7_forges_0 ++ dktX7_forges_1
theorem dksX7_forges_0 : cX7_forges.data.toList.drop 0 = dktX7_forges_0 := by decide +kernel
theorem dksX7_forges_1 : cX7_forges.data.toList.drop 24 = dktX7_forges_1 := dk_seg dksX7_forges_0 24 rfl rfl
theorem dksX7_forges_2 : cX7_forges.data.toList.drop 48 = dktX7_forges_2 := dk_seg dksX7_forges_1 24 rfl rfl
theorem dksX7_forges_3 : cX7_forges.data.toList.drop 70 = dktX7_forges_3 := dk_seg dksX7_forges_2 22 rfl rfl
theorem dksX7_forges_4 : cX7_forges.data.toList.drop 89 = dktX7_forges_4 := dk_seg dksX7_forges_3 19 rfl rfl
theorem dksX7_forges_5 : cX7_forges.data.toList.drop 116 = dktX7_forges_5 := dk_seg dksX7_forges_4 27 rfl rfl
theorem dksX7_forges_6 : cX7_forges.data.toList.drop 139 = dktX7_forges_6 := dk_seg dksX7_forges_5 23 rfl rfl
theorem dksX7_forges_7 : cX7_forges.data.toList.drop 162 = dktX7_forges_7 := dk_seg dksX7_forges_6 23 rfl rfl
theorem dksX7_forges_8 : cX7_forges.data.toList.drop 186 = dktX7_forges_8 := dk_seg dksX7_forges_7 24 rfl rfl
theorem dX7_forges_0 : decode cX7_forges 0 = .ok (.aload_n 0, 1) := dk_42 (dk_at dksX7_forges_0 0 rfl rfl)
theorem dX7_forges_1 : decode cX7_forges 1 = .ok (.iload_n 1, 1) := dk_27 (dk_at dksX7_forges_0 1 rfl rfl)
theorem dX7_forges_2 : decode cX7_forges 2 = .ok (.invokestatic 257, 3) := dk_184 1 1 (dk_at dksX7_forges_0 2 rfl rfl)
theorem dX7_forges_5 : decode cX7_forges 5 = .ok (.invokevirtual 243, 3) := dk_182 0 243 (dk_at dksX7_forges_0 5 rfl rfl)
theorem dX7_forges_8 : decode cX7_forges 8 = .ok (.aload_n 0, 1) := dk_42 (dk_at dksX7_forges_0 8 rfl rfl)
theorem dX7_forges_9 : decode cX7_forges 9 = .ok (.iconst 0, 1) := dk_3 (dk_at dksX7_forges_0 9 rfl rfl)
theorem dX7_forges_10 : decode cX7_forges 10 = .ok (.putfield 325, 3) := dk_181 1 69 (dk_at dksX7_forges_0 10 rfl rfl)
theorem dX7_forges_13 : decode cX7_forges 13 = .ok (.aload_n 0, 1) := dk_42 (dk_at dksX7_forges_0 13 rfl rfl)
theorem dX7_forges_14 : decode cX7_forges 14 = .ok (.iconst 0, 1) := dk_3 (dk_at dksX7_forges_0 14 rfl rfl)
theorem dX7_forges_15 : decode cX7_forges 15 = .ok (.putfield 328, 3) := dk_181 1 72 (dk_at dksX7_forges_0 15 rfl rfl)
theorem dX7_forges_18 : decode cX7_forges 18 = .ok (.iconst 0, 1) := dk_3 (dk_at dksX7_forges_0 18 rfl rfl)
theorem dX7_forges_19 : decode cX7_forges 19 = .ok (.istore 4, 2) := dk_54 4 (dk_at dksX7_forges_0 19 rfl rfl)
theorem dX7_forges_21 : decode cX7_forges 21 = .ok (.iload 4, 2) := dk_21 4 (dk_at dksX7_forges_0 21 rfl rfl)
theorem dX7_forges_23 : decode cX7_forges 23 = .ok (.aload_n 0, 1) := dk_42 (dk_at dksX7_forges_0 23 rfl rfl)
theorem dX7_forges_24 : decode cX7_forges 24 = .ok (.getfield 7, 3) := dk_180 0 7 (dk_at dksX7_forges_1 0 rfl rfl)
theorem dX7_forges_27 : decode cX7_forges 27 = .ok (.iload_n 1, 1) := dk_27 (dk_at dksX7_forges_1 3 rfl rfl)
theorem dX7_forges_28 : decode cX7_forges 28 = .ok (.invokestatic 93, 3) := dk_184 0 93 (dk_at dksX7_forges_1 4 rfl rfl)
theorem dX7_forges_31 : decode cX7_forges 31 = .ok (.bipush 15, 2) := dk_16 15 (dk_at dksX7_forges_1 7 rfl rfl)
theorem dX7_forges_33 : decode cX7_forges 33 = .ok (.iadd, 1) := dk_96 (dk_at dksX7_forges_1 9 rfl rfl)
theorem dX7_forges_34 : decode cX7_forges 34 = .ok (.iaload, 1) := dk_46 (dk_at dksX7_forges_1 10 rfl rfl)
theorem dX7_forges_35 : decode cX7_forges 35 = .ok (.if_icmp .ge 149, 3) := dk_162 0 149 (dk_at dksX7_forges_1 11 rfl rfl)
theorem dX7_forges_38 : decode cX7_forges 38 = .ok (.iload_n 1, 1) := dk_27 (dk_at dksX7_forges_1 14 rfl rfl)
theorem dX7_forges_39 : decode cX7_forges 39 = .ok (.invokestatic 93, 3) := dk_184 0 93 (dk_at dksX7_forges_1 15 rfl rfl)
theorem dX7_forges_42 : decode cX7_forges 42 = .ok (.bipush 16, 2) := dk_16 16 (dk_at dksX7_forges_1 18 rfl rfl)
theorem dX7_forges_44 : decode cX7_forges 44 = .ok (.iadd, 1) := dk_96 (dk_at dksX7_forges_1 20 rfl rfl)
theorem dX7_forges_45 : decode cX7_forges 45 = .ok (.iconst 4, 1) := dk_7 (dk_at dksX7_forges_1 21 rfl rfl)
theorem dX7_forges_46 : decode cX7_forges 46 = .ok (.iload 4, 2) := dk_21 4 (dk_at dksX7_forges_1 22 rfl rfl)
theorem dX7_forges_48 : decode cX7_forges 48 = .ok (.imul, 1) := dk_104 (dk_at dksX7_forges_2 0 rfl rfl)
theorem dX7_forges_49 : decode cX7_forges 49 = .ok (.iadd, 1) := dk_96 (dk_at dksX7_forges_2 1 rfl rfl)
theorem dX7_forges_50 : decode cX7_forges 50 = .ok (.istore 5, 2) := dk_54 5 (dk_at dksX7_forges_2 2 rfl rfl)
theorem dX7_forges_52 : decode cX7_forges 52 = .ok (.iload_n 3, 1) := dk_29 (dk_at dksX7_forges_2 4 rfl rfl)
theorem dX7_forges_53 : decode cX7_forges 53 = .ok (.iload 4, 2) := dk_21 4 (dk_at dksX7_forges_2 5 rfl rfl)
theorem dX7_forges_55 : decode cX7_forges 55 = .ok (.ishr, 1) := dk_122 (dk_at dksX7_forges_2 7 rfl rfl)
theorem dX7_forges_56 : decode cX7_forges 56 = .ok (.iconst 1, 1) := dk_4 (dk_at dksX7_forges_2 8 rfl rfl)
theorem dX7_forges_57 : decode cX7_forges 57 = .ok (.iand, 1) := dk_126 (dk_at dksX7_forges_2 9 rfl rfl)
theorem dX7_forges_58 : decode cX7_forges 58 = .ok (.ifCond .ne 6, 3) := dk_154 0 6 (dk_at dksX7_forges_2 10 rfl rfl)
theorem dX7_forges_61 : decode cX7_forges 61 = .ok (.goto 117, 3) := dk_167 0 117 (dk_at dksX7_forges_2 13 rfl rfl)
theorem dX7_forges_64 : decode cX7_forges 64 = .ok (.aload_n 0, 1) := dk_42 (dk_at dksX7_forges_2 16 rfl rfl)
theorem dX7_forges_65 : decode cX7_forges 65 = .ok (.dup, 1) := dk_89 (dk_at dksX7_forges_2 17 rfl rfl)
theorem dX7_forges_66 : decode cX7_forges 66 = .ok (.getfield 328, 3) := dk_180 1 72 (dk_at dksX7_forges_2 18 rfl rfl)
theorem dX7_forges_69 : decode cX7_forges 69 = .ok (.aload_n 0, 1) := dk_42 (dk_at dksX7_forges_2 21 rfl rfl)
theorem dX7_forges_70 : decode cX7_forges 70 = .ok (.getfield 7, 3) := dk_180 0 7 (dk_at dksX7_forges_3 0 rfl rfl)
theorem dX7_forges_73 : decode cX7_forges 73 = .ok (.iload 5, 2) := dk_21 5 (dk_at dksX7_forges_3 3 rfl rfl)
theorem dX7_forges_75 : decode cX7_forges 75 = .ok (.iconst 3, 1) := dk_6 (dk_at dksX7_forges_3 5 rfl rfl)
theorem dX7_forges_76 : decode cX7_forges 76 = .ok (.iadd, 1) := dk_96 (dk_at dksX7_forges_3 6 rfl rfl)
theorem dX7_forges_77 : decode cX7_forges 77 = .ok (.iaload, 1) := dk_46 (dk_at dksX7_forges_3 7 rfl rfl)
theorem dX7_forges_78 : decode cX7_forges 78 = .ok (.iadd, 1) := dk_96 (dk_at dksX7_forges_3 8 rfl rfl)
theorem dX7_forges_79 : decode cX7_forges 79 = .ok (.putfield 328, 3) := dk_181 1 72 (dk_at dksX7_forges_3 9 rfl rfl)
theorem dX7_forges_82 : decode cX7_forges 82 = .ok (.aload_n 0, 1) := dk_42 (dk_at dksX7_forges_3 12 rfl rfl)
theorem dX7_forges_83 : decode cX7_forges 83 = .ok (.getfield 7, 3) := dk_180 0 7 (dk_at dksX7_forges_3 13 rfl rfl)
theorem dX7_forges_86 : decode cX7_forges 86 = .ok (.iload 5, 2) := dk_21 5 (dk_at dksX7_forges_3 16 rfl rfl)
theorem dX7_forges_88 : decode cX7_forges 88 = .ok (.iaload, 1) := dk_46 (dk_at dksX7_forges_3 18 rfl rfl)
theorem dX7_forges_89 : decode cX7_forges 89 = .ok (.lookupswitch 71 #[(0, 27), (1, 45)], 27) := by decide +kernel
theorem dX7_forges_116 : decode cX7_forges 116 = .ok (.aload_n 0, 1) := dk_42 (dk_at dksX7_forges_5 0 rfl rfl)
theorem dX7_forges_117 : decode cX7_forges 117 = .ok (.getfield 26, 3) := dk_180 0 26 (dk_at dksX7_forges_5 1 rfl rfl)
theorem dX7_forges_120 : decode cX7_forges 120 = .ok (.aload_n 0, 1) := dk_42 (dk_at dksX7_forges_5 4 rfl rfl)
theorem dX7_forges_121 : decode cX7_forges 121 = .ok (.getfield 7, 3) := dk_180 0 7 (dk_at dksX7_forges_5 5 rfl rfl)
theorem dX7_forges_124 : decode cX7_forges 124 = .ok (.iload 5, 2) := dk_21 5 (dk_at dksX7_forges_5 8 rfl rfl)
theorem dX7_forges_126 : decode cX7_forges 126 = .ok (.iconst 1, 1) := dk_4 (dk_at dksX7_forges_5 10 rfl rfl)
theorem dX7_forges_127 : decode cX7_forges 127 = .ok (.iadd, 1) := dk_96 (dk_at dksX7_forges_5 11 rfl rfl)
theorem dX7_forges_128 : decode cX7_forges 128 = .ok (.iaload, 1) := dk_46 (dk_at dksX7_forges_5 12 rfl rfl)
theorem dX7_forges_129 : decode cX7_forges 129 = .ok (.iconst 1, 1) := dk_4 (dk_at dksX7_forges_5 13 rfl rfl)
theorem dX7_forges_130 : decode cX7_forges 130 = .ok (.bastore, 1) := dk_84 (dk_at dksX7_forges_5 14 rfl rfl)
theorem dX7_forges_131 : decode cX7_forges 131 = .ok (.goto 47, 3) := dk_167 0 47 (dk_at dksX7_forges_5 15 rfl rfl)
theorem dX7_forges_134 : decode cX7_forges 134 = .ok (.aload_n 0, 1) := dk_42 (dk_at dksX7_forges_5 18 rfl rfl)
theorem dX7_forges_135 : decode cX7_forges 135 = .ok (.getfield 29, 3) := dk_180 0 29 (dk_at dksX7_forges_5 19 rfl rfl)
theorem dX7_forges_138 : decode cX7_forges 138 = .ok (.aload_n 0, 1) := dk_42 (dk_at dksX7_forges_5 22 rfl rfl)
theorem dX7_forges_139 : decode cX7_forges 139 = .ok (.getfield 7, 3) := dk_180 0 7 (dk_at dksX7_forges_6 0 rfl rfl)
theorem dX7_forges_142 : decode cX7_forges 142 = .ok (.iload 5, 2) := dk_21 5 (dk_at dksX7_forges_6 3 rfl rfl)
theorem dX7_forges_144 : decode cX7_forges 144 = .ok (.iconst 1, 1) := dk_4 (dk_at dksX7_forges_6 5 rfl rfl)
theorem dX7_forges_145 : decode cX7_forges 145 = .ok (.iadd, 1) := dk_96 (dk_at dksX7_forges_6 6 rfl rfl)
theorem dX7_forges_146 : decode cX7_forges 146 = .ok (.iaload, 1) := dk_46 (dk_at dksX7_forges_6 7 rfl rfl)
theorem dX7_forges_147 : decode cX7_forges 147 = .ok (.aload_n 0, 1) := dk_42 (dk_at dksX7_forges_6 8 rfl rfl)
theorem dX7_forges_148 : decode cX7_forges 148 = .ok (.getfield 7, 3) := dk_180 0 7 (dk_at dksX7_forges_6 9 rfl rfl)
theorem dX7_forges_151 : decode cX7_forges 151 = .ok (.iload 5, 2) := dk_21 5 (dk_at dksX7_forges_6 12 rfl rfl)
theorem dX7_forges_153 : decode cX7_forges 153 = .ok (.iconst 2, 1) := dk_5 (dk_at dksX7_forges_6 14 rfl rfl)
theorem dX7_forges_154 : decode cX7_forges 154 = .ok (.iadd, 1) := dk_96 (dk_at dksX7_forges_6 15 rfl rfl)
theorem dX7_forges_155 : decode cX7_forges 155 = .ok (.iaload, 1) := dk_46 (dk_at dksX7_forges_6 16 rfl rfl)
theorem dX7_forges_156 : decode cX7_forges 156 = .ok (.iastore, 1) := dk_79 (dk_at dksX7_forges_6 17 rfl rfl)
theorem dX7_forges_157 : decode cX7_forges 157 = .ok (.goto 21, 3) := dk_167 0 21 (dk_at dksX7_forges_6 18 rfl rfl)
theorem dX7_forges_160 : decode cX7_forges 160 = .ok (.aload_n 0, 1) := dk_42 (dk_at dksX7_forges_6 21 rfl rfl)
theorem dX7_forges_161 : decode cX7_forges 161 = .ok (.dup, 1) := dk_89 (dk_at dksX7_forges_6 22 rfl rfl)
theorem dX7_forges_162 : decode cX7_forges 162 = .ok (.getfield 325, 3) := dk_180 1 69 (dk_at dksX7_forges_7 0 rfl rfl)
theorem dX7_forges_165 : decode cX7_forges 165 = .ok (.aload_n 0, 1) := dk_42 (dk_at dksX7_forges_7 3 rfl rfl)
theorem dX7_forges_166 : decode cX7_forges 166 = .ok (.getfield 7, 3) := dk_180 0 7 (dk_at dksX7_forges_7 4 rfl rfl)
theorem dX7_forges_169 : decode cX7_forges 169 = .ok (.iload 5, 2) := dk_21 5 (dk_at dksX7_forges_7 7 rfl rfl)
theorem dX7_forges_171 : decode cX7_forges 171 = .ok (.iconst 2, 1) := dk_5 (dk_at dksX7_forges_7 9 rfl rfl)
theorem dX7_forges_172 : decode cX7_forges 172 = .ok (.iadd, 1) := dk_96 (dk_at dksX7_forges_7 10 rfl rfl)
theorem dX7_forges_173 : decode cX7_forges 173 = .ok (.iaload, 1) := dk_46 (dk_at dksX7_forges_7 11 rfl rfl)
theorem dX7_forges_174 : decode cX7_forges 174 = .ok (.iadd, 1) := dk_96 (dk_at dksX7_forges_7 12 rfl rfl)
theorem dX7_forges_175 : decode cX7_forges 175 = .ok (.putfield 325, 3) := dk_181 1 69 (dk_at dksX7_forges_7 13 rfl rfl)
theorem dX7_forges_178 : decode cX7_forges 178 = .ok (.iinc 4 1, 3) := dk_132 4 1 (dk_at dksX7_forges_7 16 rfl rfl)
theorem dX7_forges_181 : decode cX7_forges 181 = .ok (.goto (-160), 3) := dk_167 255 96 (dk_at dksX7_forges_7 19 rfl rfl)
theorem dX7_forges_184 : decode cX7_forges 184 = .ok (.aload_n 0, 1) := dk_42 (dk_at dksX7_forges_7 22 rfl rfl)
theorem dX7_forges_185 : decode cX7_forges 185 = .ok (.iconst 0, 1) := dk_3 (dk_at dksX7_forges_7 23 rfl rfl)
theorem dX7_forges_186 : decode cX7_forges 186 = .ok (.iconst 0, 1) := dk_3 (dk_at dksX7_forges_8 0 rfl rfl)
theorem dX7_forges_187 : decode cX7_forges 187 = .ok (.iload_n 2, 1) := dk_28 (dk_at dksX7_forges_8 1 rfl rfl)
theorem dX7_forges_188 : decode cX7_forges 188 = .ok (.invokevirtual 246, 3) := dk_182 0 246 (dk_at dksX7_forges_8 2 rfl rfl)
theorem dX7_forges_191 : decode cX7_forges 191 = .ok (.aload_n 0, 1) := dk_42 (dk_at dksX7_forges_8 5 rfl rfl)
theorem dX7_forges_192 : decode cX7_forges 192 = .ok (.iload_n 1, 1) := dk_27 (dk_at dksX7_forges_8 6 rfl rfl)
theorem dX7_forges_193 : decode cX7_forges 193 = .ok (.iconst 0, 1) := dk_3 (dk_at dksX7_forges_8 7 rfl rfl)
theorem dX7_forges_194 : decode cX7_forges 194 = .ok (.iload_n 2, 1) := dk_28 (dk_at dksX7_forges_8 8 rfl rfl)
theorem dX7_forges_195 : decode cX7_forges 195 = .ok (.invokevirtual 294, 3) := dk_182 1 38 (dk_at dksX7_forges_8 9 rfl rfl)
theorem dX7_forges_198 : decode cX7_forges 198 = .ok (.return_, 1) := dk_177 (dk_at dksX7_forges_8 12 rfl rfl)
abbrev cX7_isForgery : ByteArray := prog_21_method_85_code
def yX7_isForgery : MethodName := ⟨RX7, "isForgery", "(II)Z"⟩
def dkwX7_isForgery_1 : List UInt8 := [167, 0, 4, 3, 172]
abbrev dktX7_isForgery_1 : List UInt8 := dkwX7_isForgery_1 ++ []
def dkwX7_isForgery_0 : List UInt8 := [42, 180, 1, 23, 155, 0, 23, 42, 180, 1, 26, 27, 163, 0, 15, 42, 180, 1, 20, 28, 161, 0, 7, 4]
abbrev dktX7_isForgery_0 : List UInt8 := dkwX7_isForgery_0 ++ dktX7_isForgery_1
theorem dksX7_isForgery_0 : cX7_isForgery.data.toList.drop 0 = dktX7_isForgery_0 := by decide +kernel
theorem dksX7_isForgery_1 : cX7_isForgery.data.toList.drop 24 = dktX7_isForgery_1 := dk_seg dksX7_isForgery_0 24 rfl rfl
theorem dX7_isForgery_0 : decode cX7_isForgery 0 = .ok (.aload_n 0, 1) := dk_42 (dk_at dksX7_isForgery_0 0 rfl rfl)
theorem dX7_isForgery_1 : decode cX7_isForgery 1 = .ok (.getfield 279, 3) := dk_180 1 23 (dk_at dksX7_isForgery_0 1 rfl rfl)
theorem dX7_isForgery_4 : decode cX7_isForgery 4 = .ok (.ifCond .lt 23, 3) := dk_155 0 23 (dk_at dksX7_isForgery_0 4 rfl rfl)
theorem dX7_isForgery_7 : decode cX7_isForgery 7 = .ok (.aload_n 0, 1) := dk_42 (dk_at dksX7_isForgery_0 7 rfl rfl)
theorem dX7_isForgery_8 : decode cX7_isForgery 8 = .ok (.getfield 282, 3) := dk_180 1 26 (dk_at dksX7_isForgery_0 8 rfl rfl)
theorem dX7_isForgery_11 : decode cX7_isForgery 11 = .ok (.iload_n 1, 1) := dk_27 (dk_at dksX7_isForgery_0 11 rfl rfl)
theorem dX7_isForgery_12 : decode cX7_isForgery 12 = .ok (.if_icmp .gt 15, 3) := dk_163 0 15 (dk_at dksX7_isForgery_0 12 rfl rfl)
theorem dX7_isForgery_15 : decode cX7_isForgery 15 = .ok (.aload_n 0, 1) := dk_42 (dk_at dksX7_isForgery_0 15 rfl rfl)
theorem dX7_isForgery_16 : decode cX7_isForgery 16 = .ok (.getfield 276, 3) := dk_180 1 20 (dk_at dksX7_isForgery_0 16 rfl rfl)
theorem dX7_isForgery_19 : decode cX7_isForgery 19 = .ok (.iload_n 2, 1) := dk_28 (dk_at dksX7_isForgery_0 19 rfl rfl)
theorem dX7_isForgery_20 : decode cX7_isForgery 20 = .ok (.if_icmp .lt 7, 3) := dk_161 0 7 (dk_at dksX7_isForgery_0 20 rfl rfl)
theorem dX7_isForgery_23 : decode cX7_isForgery 23 = .ok (.iconst 1, 1) := dk_4 (dk_at dksX7_isForgery_0 23 rfl rfl)
theorem dX7_isForgery_24 : decode cX7_isForgery 24 = .ok (.goto 4, 3) := dk_167 0 4 (dk_at dksX7_isForgery_1 0 rfl rfl)
theorem dX7_isForgery_27 : decode cX7_isForgery 27 = .ok (.iconst 0, 1) := dk_3 (dk_at dksX7_isForgery_1 3 rfl rfl)
theorem dX7_isForgery_28 : decode cX7_isForgery 28 = .ok (.ireturn, 1) := dk_172 (dk_at dksX7_isForgery_1 4 rfl rfl)
abbrev cX7_met : ByteArray := prog_21_method_88_code
def yX7_met : MethodName := ⟨RX7, "met", "(IIII)I"⟩
def dkwX7_met_7 : List UInt8 := [21, 5, 172]
abbrev dktX7_met_7 : List UInt8 := dkwX7_met_7 ++ []
def dkwX7_met_6 : List UInt8 := [54, 5, 132, 7, 1, 167, 255, 134, 21, 6, 154, 0, 10, 21, 5, 16, 60, 164, 0, 7, 2, 167, 0, 5]
abbrev dktX7_met_6 : List UInt8 := dkwX7_met_6 ++ dktX7_met_7
def dkwX7_met_5 : List UInt8 := [154, 0, 7, 4, 167, 0, 4, 3, 54, 6, 42, 180, 1, 26, 21, 5, 164, 0, 9, 42, 180, 1, 26]
abbrev dktX7_met_5 : List UInt8 := dkwX7_met_5 ++ dktX7_met_6
def dkwX7_met_4 : List UInt8 := [180, 0, 7, 8, 46, 163, 0, 7, 4, 167, 0, 4, 3, 54, 8, 21, 6, 154, 0, 8, 21, 8]
abbrev dktX7_met_4 : List UInt8 := dkwX7_met_4 ++ dktX7_met_5
def dkwX7_met_3 : List UInt8 := [7, 46, 161, 0, 34, 42, 180, 1, 32, 153, 0, 27, 42, 27, 28, 182, 1, 41, 42, 180, 1, 69, 96, 42]
abbrev dktX7_met_3 : List UInt8 := dkwX7_met_3 ++ dktX7_met_4
def dkwX7_met_2 : List UInt8 := [182, 1, 79, 42, 29, 21, 4, 182, 1, 82, 154, 0, 6, 167, 0, 82, 42, 180, 1, 20, 42, 180, 0, 7]
abbrev dktX7_met_2 : List UInt8 := dkwX7_met_2 ++ dktX7_met_3
def dkwX7_met_1 : List UInt8 := [21, 7, 4, 42, 180, 0, 7, 27, 184, 0, 93, 16, 15, 96, 46, 120, 162, 0, 109, 42, 27, 28, 21, 7]
abbrev dktX7_met_1 : List UInt8 := dkwX7_met_1 ++ dktX7_met_2
def dkwX7_met_0 : List UInt8 := [42, 27, 28, 29, 21, 4, 182, 1, 75, 154, 0, 5, 2, 172, 3, 54, 5, 3, 54, 6, 3, 54, 7]
abbrev dktX7_met_0 : List UInt8 := dkwX7_met_0 ++ dktX7_met_1
theorem dksX7_met_0 : cX7_met.data.toList.drop 0 = dktX7_met_0 := by decide +kernel
theorem dksX7_met_1 : cX7_met.data.toList.drop 23 = dktX7_met_1 := dk_seg dksX7_met_0 23 rfl rfl
theorem dksX7_met_2 : cX7_met.data.toList.drop 47 = dktX7_met_2 := dk_seg dksX7_met_1 24 rfl rfl
theorem dksX7_met_3 : cX7_met.data.toList.drop 71 = dktX7_met_3 := dk_seg dksX7_met_2 24 rfl rfl
theorem dksX7_met_4 : cX7_met.data.toList.drop 95 = dktX7_met_4 := dk_seg dksX7_met_3 24 rfl rfl
theorem dksX7_met_5 : cX7_met.data.toList.drop 117 = dktX7_met_5 := dk_seg dksX7_met_4 22 rfl rfl
theorem dksX7_met_6 : cX7_met.data.toList.drop 140 = dktX7_met_6 := dk_seg dksX7_met_5 23 rfl rfl
theorem dksX7_met_7 : cX7_met.data.toList.drop 164 = dktX7_met_7 := dk_seg dksX7_met_6 24 rfl rfl
theorem dX7_met_0 : decode cX7_met 0 = .ok (.aload_n 0, 1) := dk_42 (dk_at dksX7_met_0 0 rfl rfl)
theorem dX7_met_1 : decode cX7_met 1 = .ok (.iload_n 1, 1) := dk_27 (dk_at dksX7_met_0 1 rfl rfl)
theorem dX7_met_2 : decode cX7_met 2 = .ok (.iload_n 2, 1) := dk_28 (dk_at dksX7_met_0 2 rfl rfl)
theorem dX7_met_3 : decode cX7_met 3 = .ok (.iload_n 3, 1) := dk_29 (dk_at dksX7_met_0 3 rfl rfl)
theorem dX7_met_4 : decode cX7_met 4 = .ok (.iload 4, 2) := dk_21 4 (dk_at dksX7_met_0 4 rfl rfl)
theorem dX7_met_6 : decode cX7_met 6 = .ok (.invokevirtual 331, 3) := dk_182 1 75 (dk_at dksX7_met_0 6 rfl rfl)
theorem dX7_met_9 : decode cX7_met 9 = .ok (.ifCond .ne 5, 3) := dk_154 0 5 (dk_at dksX7_met_0 9 rfl rfl)
theorem dX7_met_12 : decode cX7_met 12 = .ok (.iconst (-1), 1) := dk_2 (dk_at dksX7_met_0 12 rfl rfl)
theorem dX7_met_13 : decode cX7_met 13 = .ok (.ireturn, 1) := dk_172 (dk_at dksX7_met_0 13 rfl rfl)
theorem dX7_met_14 : decode cX7_met 14 = .ok (.iconst 0, 1) := dk_3 (dk_at dksX7_met_0 14 rfl rfl)
theorem dX7_met_15 : decode cX7_met 15 = .ok (.istore 5, 2) := dk_54 5 (dk_at dksX7_met_0 15 rfl rfl)
theorem dX7_met_17 : decode cX7_met 17 = .ok (.iconst 0, 1) := dk_3 (dk_at dksX7_met_0 17 rfl rfl)
theorem dX7_met_18 : decode cX7_met 18 = .ok (.istore 6, 2) := dk_54 6 (dk_at dksX7_met_0 18 rfl rfl)
theorem dX7_met_20 : decode cX7_met 20 = .ok (.iconst 0, 1) := dk_3 (dk_at dksX7_met_0 20 rfl rfl)
theorem dX7_met_21 : decode cX7_met 21 = .ok (.istore 7, 2) := dk_54 7 (dk_at dksX7_met_0 21 rfl rfl)
theorem dX7_met_23 : decode cX7_met 23 = .ok (.iload 7, 2) := dk_21 7 (dk_at dksX7_met_1 0 rfl rfl)
theorem dX7_met_25 : decode cX7_met 25 = .ok (.iconst 1, 1) := dk_4 (dk_at dksX7_met_1 2 rfl rfl)
theorem dX7_met_26 : decode cX7_met 26 = .ok (.aload_n 0, 1) := dk_42 (dk_at dksX7_met_1 3 rfl rfl)
theorem dX7_met_27 : decode cX7_met 27 = .ok (.getfield 7, 3) := dk_180 0 7 (dk_at dksX7_met_1 4 rfl rfl)
theorem dX7_met_30 : decode cX7_met 30 = .ok (.iload_n 1, 1) := dk_27 (dk_at dksX7_met_1 7 rfl rfl)
theorem dX7_met_31 : decode cX7_met 31 = .ok (.invokestatic 93, 3) := dk_184 0 93 (dk_at dksX7_met_1 8 rfl rfl)
theorem dX7_met_34 : decode cX7_met 34 = .ok (.bipush 15, 2) := dk_16 15 (dk_at dksX7_met_1 11 rfl rfl)
theorem dX7_met_36 : decode cX7_met 36 = .ok (.iadd, 1) := dk_96 (dk_at dksX7_met_1 13 rfl rfl)
theorem dX7_met_37 : decode cX7_met 37 = .ok (.iaload, 1) := dk_46 (dk_at dksX7_met_1 14 rfl rfl)
theorem dX7_met_38 : decode cX7_met 38 = .ok (.ishl, 1) := dk_120 (dk_at dksX7_met_1 15 rfl rfl)
theorem dX7_met_39 : decode cX7_met 39 = .ok (.if_icmp .ge 109, 3) := dk_162 0 109 (dk_at dksX7_met_1 16 rfl rfl)
theorem dX7_met_42 : decode cX7_met 42 = .ok (.aload_n 0, 1) := dk_42 (dk_at dksX7_met_1 19 rfl rfl)
theorem dX7_met_43 : decode cX7_met 43 = .ok (.iload_n 1, 1) := dk_27 (dk_at dksX7_met_1 20 rfl rfl)
theorem dX7_met_44 : decode cX7_met 44 = .ok (.iload_n 2, 1) := dk_28 (dk_at dksX7_met_1 21 rfl rfl)
theorem dX7_met_45 : decode cX7_met 45 = .ok (.iload 7, 2) := dk_21 7 (dk_at dksX7_met_1 22 rfl rfl)
theorem dX7_met_47 : decode cX7_met 47 = .ok (.invokevirtual 335, 3) := dk_182 1 79 (dk_at dksX7_met_2 0 rfl rfl)
theorem dX7_met_50 : decode cX7_met 50 = .ok (.aload_n 0, 1) := dk_42 (dk_at dksX7_met_2 3 rfl rfl)
theorem dX7_met_51 : decode cX7_met 51 = .ok (.iload_n 3, 1) := dk_29 (dk_at dksX7_met_2 4 rfl rfl)
theorem dX7_met_52 : decode cX7_met 52 = .ok (.iload 4, 2) := dk_21 4 (dk_at dksX7_met_2 5 rfl rfl)
theorem dX7_met_54 : decode cX7_met 54 = .ok (.invokevirtual 338, 3) := dk_182 1 82 (dk_at dksX7_met_2 7 rfl rfl)
theorem dX7_met_57 : decode cX7_met 57 = .ok (.ifCond .ne 6, 3) := dk_154 0 6 (dk_at dksX7_met_2 10 rfl rfl)
theorem dX7_met_60 : decode cX7_met 60 = .ok (.goto 82, 3) := dk_167 0 82 (dk_at dksX7_met_2 13 rfl rfl)
theorem dX7_met_63 : decode cX7_met 63 = .ok (.aload_n 0, 1) := dk_42 (dk_at dksX7_met_2 16 rfl rfl)
theorem dX7_met_64 : decode cX7_met 64 = .ok (.getfield 276, 3) := dk_180 1 20 (dk_at dksX7_met_2 17 rfl rfl)
theorem dX7_met_67 : decode cX7_met 67 = .ok (.aload_n 0, 1) := dk_42 (dk_at dksX7_met_2 20 rfl rfl)
theorem dX7_met_68 : decode cX7_met 68 = .ok (.getfield 7, 3) := dk_180 0 7 (dk_at dksX7_met_2 21 rfl rfl)
theorem dX7_met_71 : decode cX7_met 71 = .ok (.iconst 4, 1) := dk_7 (dk_at dksX7_met_3 0 rfl rfl)
theorem dX7_met_72 : decode cX7_met 72 = .ok (.iaload, 1) := dk_46 (dk_at dksX7_met_3 1 rfl rfl)
theorem dX7_met_73 : decode cX7_met 73 = .ok (.if_icmp .lt 34, 3) := dk_161 0 34 (dk_at dksX7_met_3 2 rfl rfl)
theorem dX7_met_76 : decode cX7_met 76 = .ok (.aload_n 0, 1) := dk_42 (dk_at dksX7_met_3 5 rfl rfl)
theorem dX7_met_77 : decode cX7_met 77 = .ok (.getfield 288, 3) := dk_180 1 32 (dk_at dksX7_met_3 6 rfl rfl)
theorem dX7_met_80 : decode cX7_met 80 = .ok (.ifCond .eq 27, 3) := dk_153 0 27 (dk_at dksX7_met_3 9 rfl rfl)
theorem dX7_met_83 : decode cX7_met 83 = .ok (.aload_n 0, 1) := dk_42 (dk_at dksX7_met_3 12 rfl rfl)
theorem dX7_met_84 : decode cX7_met 84 = .ok (.iload_n 1, 1) := dk_27 (dk_at dksX7_met_3 13 rfl rfl)
theorem dX7_met_85 : decode cX7_met 85 = .ok (.iload_n 2, 1) := dk_28 (dk_at dksX7_met_3 14 rfl rfl)
theorem dX7_met_86 : decode cX7_met 86 = .ok (.invokevirtual 297, 3) := dk_182 1 41 (dk_at dksX7_met_3 15 rfl rfl)
theorem dX7_met_89 : decode cX7_met 89 = .ok (.aload_n 0, 1) := dk_42 (dk_at dksX7_met_3 18 rfl rfl)
theorem dX7_met_90 : decode cX7_met 90 = .ok (.getfield 325, 3) := dk_180 1 69 (dk_at dksX7_met_3 19 rfl rfl)
theorem dX7_met_93 : decode cX7_met 93 = .ok (.iadd, 1) := dk_96 (dk_at dksX7_met_3 22 rfl rfl)
theorem dX7_met_94 : decode cX7_met 94 = .ok (.aload_n 0, 1) := dk_42 (dk_at dksX7_met_3 23 rfl rfl)
theorem dX7_met_95 : decode cX7_met 95 = .ok (.getfield 7, 3) := dk_180 0 7 (dk_at dksX7_met_4 0 rfl rfl)
theorem dX7_met_98 : decode cX7_met 98 = .ok (.iconst 5, 1) := dk_8 (dk_at dksX7_met_4 3 rfl rfl)
theorem dX7_met_99 : decode cX7_met 99 = .ok (.iaload, 1) := dk_46 (dk_at dksX7_met_4 4 rfl rfl)
theorem dX7_met_100 : decode cX7_met 100 = .ok (.if_icmp .gt 7, 3) := dk_163 0 7 (dk_at dksX7_met_4 5 rfl rfl)
theorem dX7_met_103 : decode cX7_met 103 = .ok (.iconst 1, 1) := dk_4 (dk_at dksX7_met_4 8 rfl rfl)
theorem dX7_met_104 : decode cX7_met 104 = .ok (.goto 4, 3) := dk_167 0 4 (dk_at dksX7_met_4 9 rfl rfl)
theorem dX7_met_107 : decode cX7_met 107 = .ok (.iconst 0, 1) := dk_3 (dk_at dksX7_met_4 12 rfl rfl)
theorem dX7_met_108 : decode cX7_met 108 = .ok (.istore 8, 2) := dk_54 8 (dk_at dksX7_met_4 13 rfl rfl)
theorem dX7_met_110 : decode cX7_met 110 = .ok (.iload 6, 2) := dk_21 6 (dk_at dksX7_met_4 15 rfl rfl)
theorem dX7_met_112 : decode cX7_met 112 = .ok (.ifCond .ne 8, 3) := dk_154 0 8 (dk_at dksX7_met_4 17 rfl rfl)
theorem dX7_met_115 : decode cX7_met 115 = .ok (.iload 8, 2) := dk_21 8 (dk_at dksX7_met_4 20 rfl rfl)
theorem dX7_met_117 : decode cX7_met 117 = .ok (.ifCond .ne 7, 3) := dk_154 0 7 (dk_at dksX7_met_5 0 rfl rfl)
theorem dX7_met_120 : decode cX7_met 120 = .ok (.iconst 1, 1) := dk_4 (dk_at dksX7_met_5 3 rfl rfl)
theorem dX7_met_121 : decode cX7_met 121 = .ok (.goto 4, 3) := dk_167 0 4 (dk_at dksX7_met_5 4 rfl rfl)
theorem dX7_met_124 : decode cX7_met 124 = .ok (.iconst 0, 1) := dk_3 (dk_at dksX7_met_5 7 rfl rfl)
theorem dX7_met_125 : decode cX7_met 125 = .ok (.istore 6, 2) := dk_54 6 (dk_at dksX7_met_5 8 rfl rfl)
theorem dX7_met_127 : decode cX7_met 127 = .ok (.aload_n 0, 1) := dk_42 (dk_at dksX7_met_5 10 rfl rfl)
theorem dX7_met_128 : decode cX7_met 128 = .ok (.getfield 282, 3) := dk_180 1 26 (dk_at dksX7_met_5 11 rfl rfl)
theorem dX7_met_131 : decode cX7_met 131 = .ok (.iload 5, 2) := dk_21 5 (dk_at dksX7_met_5 14 rfl rfl)
theorem dX7_met_133 : decode cX7_met 133 = .ok (.if_icmp .le 9, 3) := dk_164 0 9 (dk_at dksX7_met_5 16 rfl rfl)
theorem dX7_met_136 : decode cX7_met 136 = .ok (.aload_n 0, 1) := dk_42 (dk_at dksX7_met_5 19 rfl rfl)
theorem dX7_met_137 : decode cX7_met 137 = .ok (.getfield 282, 3) := dk_180 1 26 (dk_at dksX7_met_5 20 rfl rfl)
theorem dX7_met_140 : decode cX7_met 140 = .ok (.istore 5, 2) := dk_54 5 (dk_at dksX7_met_6 0 rfl rfl)
theorem dX7_met_142 : decode cX7_met 142 = .ok (.iinc 7 1, 3) := dk_132 7 1 (dk_at dksX7_met_6 2 rfl rfl)
theorem dX7_met_145 : decode cX7_met 145 = .ok (.goto (-122), 3) := dk_167 255 134 (dk_at dksX7_met_6 5 rfl rfl)
theorem dX7_met_148 : decode cX7_met 148 = .ok (.iload 6, 2) := dk_21 6 (dk_at dksX7_met_6 8 rfl rfl)
theorem dX7_met_150 : decode cX7_met 150 = .ok (.ifCond .ne 10, 3) := dk_154 0 10 (dk_at dksX7_met_6 10 rfl rfl)
theorem dX7_met_153 : decode cX7_met 153 = .ok (.iload 5, 2) := dk_21 5 (dk_at dksX7_met_6 13 rfl rfl)
theorem dX7_met_155 : decode cX7_met 155 = .ok (.bipush 60, 2) := dk_16 60 (dk_at dksX7_met_6 15 rfl rfl)
theorem dX7_met_157 : decode cX7_met 157 = .ok (.if_icmp .le 7, 3) := dk_164 0 7 (dk_at dksX7_met_6 17 rfl rfl)
theorem dX7_met_160 : decode cX7_met 160 = .ok (.iconst (-1), 1) := dk_2 (dk_at dksX7_met_6 20 rfl rfl)
theorem dX7_met_161 : decode cX7_met 161 = .ok (.goto 5, 3) := dk_167 0 5 (dk_at dksX7_met_6 21 rfl rfl)
theorem dX7_met_164 : decode cX7_met 164 = .ok (.iload 5, 2) := dk_21 5 (dk_at dksX7_met_7 0 rfl rfl)
theorem dX7_met_166 : decode cX7_met 166 = .ok (.ireturn, 1) := dk_172 (dk_at dksX7_met_7 2 rfl rfl)
abbrev cX7_odds : ByteArray := prog_21_method_92_code
def yX7_odds : MethodName := ⟨RX7, "odds", "(III)I"⟩
def dkwX7_odds_2 : List UInt8 := [28, 182, 1, 85, 184, 1, 35, 184, 1, 88, 172]
abbrev dktX7_odds_2 : List UInt8 := dkwX7_odds_2 ++ []
def dkwX7_odds_1 : List UInt8 := [184, 0, 89, 154, 0, 5, 2, 172, 29, 154, 0, 12, 42, 27, 28, 182, 1, 91, 167, 0, 16, 16, 20, 42]
abbrev dktX7_odds_1 : List UInt8 := dkwX7_odds_1 ++ dktX7_odds_2
def dkwX7_odds_0 : List UInt8 := [42, 27, 182, 0, 202, 153, 0, 25, 42, 28, 182, 0, 202, 153, 0, 17, 27, 28, 159, 0, 12, 29, 3, 4]
abbrev dktX7_odds_0 : List UInt8 := dkwX7_odds_0 ++ dktX7_odds_1
theorem dksX7_odds_0 : cX7_odds.data.toList.drop 0 = dktX7_odds_0 := by decide +kernel
theorem dksX7_odds_1 : cX7_odds.data.toList.drop 24 = dktX7_odds_1 := dk_seg dksX7_odds_0 24 rfl rfl
theorem dksX7_odds_2 : cX7_odds.data.toList.drop 48 = dktX7_odds_2 := dk_seg dksX7_odds_1 24 rfl rfl
theorem dX7_odds_0 : decode cX7_odds 0 = .ok (.aload_n 0, 1) := dk_42 (dk_at dksX7_odds_0 0 rfl rfl)
theorem dX7_odds_1 : decode cX7_odds 1 = .ok (.iload_n 1, 1) := dk_27 (dk_at dksX7_odds_0 1 rfl rfl)
theorem dX7_odds_2 : decode cX7_odds 2 = .ok (.invokevirtual 202, 3) := dk_182 0 202 (dk_at dksX7_odds_0 2 rfl rfl)
theorem dX7_odds_5 : decode cX7_odds 5 = .ok (.ifCond .eq 25, 3) := dk_153 0 25 (dk_at dksX7_odds_0 5 rfl rfl)
theorem dX7_odds_8 : decode cX7_odds 8 = .ok (.aload_n 0, 1) := dk_42 (dk_at dksX7_odds_0 8 rfl rfl)
theorem dX7_odds_9 : decode cX7_odds 9 = .ok (.iload_n 2, 1) := dk_28 (dk_at dksX7_odds_0 9 rfl rfl)
theorem dX7_odds_10 : decode cX7_odds 10 = .ok (.invokevirtual 202, 3) := dk_182 0 202 (dk_at dksX7_odds_0 10 rfl rfl)
theorem dX7_odds_13 : decode cX7_odds 13 = .ok (.ifCond .eq 17, 3) := dk_153 0 17 (dk_at dksX7_odds_0 13 rfl rfl)
theorem dX7_odds_16 : decode cX7_odds 16 = .ok (.iload_n 1, 1) := dk_27 (dk_at dksX7_odds_0 16 rfl rfl)
theorem dX7_odds_17 : decode cX7_odds 17 = .ok (.iload_n 2, 1) := dk_28 (dk_at dksX7_odds_0 17 rfl rfl)
theorem dX7_odds_18 : decode cX7_odds 18 = .ok (.if_icmp .eq 12, 3) := dk_159 0 12 (dk_at dksX7_odds_0 18 rfl rfl)
theorem dX7_odds_21 : decode cX7_odds 21 = .ok (.iload_n 3, 1) := dk_29 (dk_at dksX7_odds_0 21 rfl rfl)
theorem dX7_odds_22 : decode cX7_odds 22 = .ok (.iconst 0, 1) := dk_3 (dk_at dksX7_odds_0 22 rfl rfl)
theorem dX7_odds_23 : decode cX7_odds 23 = .ok (.iconst 1, 1) := dk_4 (dk_at dksX7_odds_0 23 rfl rfl)
theorem dX7_odds_24 : decode cX7_odds 24 = .ok (.invokestatic 89, 3) := dk_184 0 89 (dk_at dksX7_odds_1 0 rfl rfl)
theorem dX7_odds_27 : decode cX7_odds 27 = .ok (.ifCond .ne 5, 3) := dk_154 0 5 (dk_at dksX7_odds_1 3 rfl rfl)
theorem dX7_odds_30 : decode cX7_odds 30 = .ok (.iconst (-1), 1) := dk_2 (dk_at dksX7_odds_1 6 rfl rfl)
theorem dX7_odds_31 : decode cX7_odds 31 = .ok (.ireturn, 1) := dk_172 (dk_at dksX7_odds_1 7 rfl rfl)
theorem dX7_odds_32 : decode cX7_odds 32 = .ok (.iload_n 3, 1) := dk_29 (dk_at dksX7_odds_1 8 rfl rfl)
theorem dX7_odds_33 : decode cX7_odds 33 = .ok (.ifCond .ne 12, 3) := dk_154 0 12 (dk_at dksX7_odds_1 9 rfl rfl)
theorem dX7_odds_36 : decode cX7_odds 36 = .ok (.aload_n 0, 1) := dk_42 (dk_at dksX7_odds_1 12 rfl rfl)
theorem dX7_odds_37 : decode cX7_odds 37 = .ok (.iload_n 1, 1) := dk_27 (dk_at dksX7_odds_1 13 rfl rfl)
theorem dX7_odds_38 : decode cX7_odds 38 = .ok (.iload_n 2, 1) := dk_28 (dk_at dksX7_odds_1 14 rfl rfl)
theorem dX7_odds_39 : decode cX7_odds 39 = .ok (.invokevirtual 347, 3) := dk_182 1 91 (dk_at dksX7_odds_1 15 rfl rfl)
theorem dX7_odds_42 : decode cX7_odds 42 = .ok (.goto 16, 3) := dk_167 0 16 (dk_at dksX7_odds_1 18 rfl rfl)
theorem dX7_odds_45 : decode cX7_odds 45 = .ok (.bipush 20, 2) := dk_16 20 (dk_at dksX7_odds_1 21 rfl rfl)
theorem dX7_odds_47 : decode cX7_odds 47 = .ok (.aload_n 0, 1) := dk_42 (dk_at dksX7_odds_1 23 rfl rfl)
theorem dX7_odds_48 : decode cX7_odds 48 = .ok (.iload_n 2, 1) := dk_28 (dk_at dksX7_odds_2 0 rfl rfl)
theorem dX7_odds_49 : decode cX7_odds 49 = .ok (.invokevirtual 341, 3) := dk_182 1 85 (dk_at dksX7_odds_2 1 rfl rfl)
theorem dX7_odds_52 : decode cX7_odds 52 = .ok (.invokestatic 291, 3) := dk_184 1 35 (dk_at dksX7_odds_2 4 rfl rfl)
theorem dX7_odds_55 : decode cX7_odds 55 = .ok (.invokestatic 344, 3) := dk_184 1 88 (dk_at dksX7_odds_2 7 rfl rfl)
theorem dX7_odds_58 : decode cX7_odds 58 = .ok (.ireturn, 1) := dk_172 (dk_at dksX7_odds_2 10 rfl rfl)
abbrev cX7_oddsOf : ByteArray := prog_21_method_91_code
def yX7_oddsOf : MethodName := ⟨RX7, "oddsOf", "(II)I"⟩
def dkwX7_oddsOf_3 : List UInt8 := [167, 255, 222, 21, 5, 172]
abbrev dktX7_oddsOf_3 : List UInt8 := dkwX7_oddsOf_3 ++ []
def dkwX7_oddsOf_2 : List UInt8 := [21, 6, 184, 1, 88, 16, 20, 29, 100, 21, 4, 21, 6, 100, 184, 1, 88, 104, 96, 54, 5, 132, 6, 1]
abbrev dktX7_oddsOf_2 : List UInt8 := dkwX7_oddsOf_2 ++ dktX7_oddsOf_3
def dkwX7_oddsOf_1 : List UInt8 := [182, 1, 85, 42, 28, 182, 1, 85, 126, 184, 1, 35, 54, 6, 21, 6, 21, 4, 163, 0, 33, 21, 5, 29]
abbrev dktX7_oddsOf_1 : List UInt8 := dkwX7_oddsOf_1 ++ dktX7_oddsOf_2
def dkwX7_oddsOf_0 : List UInt8 := [42, 27, 182, 1, 85, 184, 1, 35, 62, 42, 28, 182, 1, 85, 184, 1, 35, 54, 4, 3, 54, 5, 42, 27]
abbrev dktX7_oddsOf_0 : List UInt8 := dkwX7_oddsOf_0 ++ dktX7_oddsOf_1
theorem dksX7_oddsOf_0 : cX7_oddsOf.data.toList.drop 0 = dktX7_oddsOf_0 := by decide +kernel
theorem dksX7_oddsOf_1 : cX7_oddsOf.data.toList.drop 24 = dktX7_oddsOf_1 := dk_seg dksX7_oddsOf_0 24 rfl rfl
theorem dksX7_oddsOf_2 : cX7_oddsOf.data.toList.drop 48 = dktX7_oddsOf_2 := dk_seg dksX7_oddsOf_1 24 rfl rfl
theorem dksX7_oddsOf_3 : cX7_oddsOf.data.toList.drop 72 = dktX7_oddsOf_3 := dk_seg dksX7_oddsOf_2 24 rfl rfl
theorem dX7_oddsOf_0 : decode cX7_oddsOf 0 = .ok (.aload_n 0, 1) := dk_42 (dk_at dksX7_oddsOf_0 0 rfl rfl)
theorem dX7_oddsOf_1 : decode cX7_oddsOf 1 = .ok (.iload_n 1, 1) := dk_27 (dk_at dksX7_oddsOf_0 1 rfl rfl)
theorem dX7_oddsOf_2 : decode cX7_oddsOf 2 = .ok (.invokevirtual 341, 3) := dk_182 1 85 (dk_at dksX7_oddsOf_0 2 rfl rfl)
theorem dX7_oddsOf_5 : decode cX7_oddsOf 5 = .ok (.invokestatic 291, 3) := dk_184 1 35 (dk_at dksX7_oddsOf_0 5 rfl rfl)
theorem dX7_oddsOf_8 : decode cX7_oddsOf 8 = .ok (.istore_n 3, 1) := dk_62 (dk_at dksX7_oddsOf_0 8 rfl rfl)
theorem dX7_oddsOf_9 : decode cX7_oddsOf 9 = .ok (.aload_n 0, 1) := dk_42 (dk_at dksX7_oddsOf_0 9 rfl rfl)
theorem dX7_oddsOf_10 : decode cX7_oddsOf 10 = .ok (.iload_n 2, 1) := dk_28 (dk_at dksX7_oddsOf_0 10 rfl rfl)
theorem dX7_oddsOf_11 : decode cX7_oddsOf 11 = .ok (.invokevirtual 341, 3) := dk_182 1 85 (dk_at dksX7_oddsOf_0 11 rfl rfl)
theorem dX7_oddsOf_14 : decode cX7_oddsOf 14 = .ok (.invokestatic 291, 3) := dk_184 1 35 (dk_at dksX7_oddsOf_0 14 rfl rfl)
theorem dX7_oddsOf_17 : decode cX7_oddsOf 17 = .ok (.istore 4, 2) := dk_54 4 (dk_at dksX7_oddsOf_0 17 rfl rfl)
theorem dX7_oddsOf_19 : decode cX7_oddsOf 19 = .ok (.iconst 0, 1) := dk_3 (dk_at dksX7_oddsOf_0 19 rfl rfl)
theorem dX7_oddsOf_20 : decode cX7_oddsOf 20 = .ok (.istore 5, 2) := dk_54 5 (dk_at dksX7_oddsOf_0 20 rfl rfl)
theorem dX7_oddsOf_22 : decode cX7_oddsOf 22 = .ok (.aload_n 0, 1) := dk_42 (dk_at dksX7_oddsOf_0 22 rfl rfl)
theorem dX7_oddsOf_23 : decode cX7_oddsOf 23 = .ok (.iload_n 1, 1) := dk_27 (dk_at dksX7_oddsOf_0 23 rfl rfl)
theorem dX7_oddsOf_24 : decode cX7_oddsOf 24 = .ok (.invokevirtual 341, 3) := dk_182 1 85 (dk_at dksX7_oddsOf_1 0 rfl rfl)
theorem dX7_oddsOf_27 : decode cX7_oddsOf 27 = .ok (.aload_n 0, 1) := dk_42 (dk_at dksX7_oddsOf_1 3 rfl rfl)
theorem dX7_oddsOf_28 : decode cX7_oddsOf 28 = .ok (.iload_n 2, 1) := dk_28 (dk_at dksX7_oddsOf_1 4 rfl rfl)
theorem dX7_oddsOf_29 : decode cX7_oddsOf 29 = .ok (.invokevirtual 341, 3) := dk_182 1 85 (dk_at dksX7_oddsOf_1 5 rfl rfl)
theorem dX7_oddsOf_32 : decode cX7_oddsOf 32 = .ok (.iand, 1) := dk_126 (dk_at dksX7_oddsOf_1 8 rfl rfl)
theorem dX7_oddsOf_33 : decode cX7_oddsOf 33 = .ok (.invokestatic 291, 3) := dk_184 1 35 (dk_at dksX7_oddsOf_1 9 rfl rfl)
theorem dX7_oddsOf_36 : decode cX7_oddsOf 36 = .ok (.istore 6, 2) := dk_54 6 (dk_at dksX7_oddsOf_1 12 rfl rfl)
theorem dX7_oddsOf_38 : decode cX7_oddsOf 38 = .ok (.iload 6, 2) := dk_21 6 (dk_at dksX7_oddsOf_1 14 rfl rfl)
theorem dX7_oddsOf_40 : decode cX7_oddsOf 40 = .ok (.iload 4, 2) := dk_21 4 (dk_at dksX7_oddsOf_1 16 rfl rfl)
theorem dX7_oddsOf_42 : decode cX7_oddsOf 42 = .ok (.if_icmp .gt 33, 3) := dk_163 0 33 (dk_at dksX7_oddsOf_1 18 rfl rfl)
theorem dX7_oddsOf_45 : decode cX7_oddsOf 45 = .ok (.iload 5, 2) := dk_21 5 (dk_at dksX7_oddsOf_1 21 rfl rfl)
theorem dX7_oddsOf_47 : decode cX7_oddsOf 47 = .ok (.iload_n 3, 1) := dk_29 (dk_at dksX7_oddsOf_1 23 rfl rfl)
theorem dX7_oddsOf_48 : decode cX7_oddsOf 48 = .ok (.iload 6, 2) := dk_21 6 (dk_at dksX7_oddsOf_2 0 rfl rfl)
theorem dX7_oddsOf_50 : decode cX7_oddsOf 50 = .ok (.invokestatic 344, 3) := dk_184 1 88 (dk_at dksX7_oddsOf_2 2 rfl rfl)
theorem dX7_oddsOf_53 : decode cX7_oddsOf 53 = .ok (.bipush 20, 2) := dk_16 20 (dk_at dksX7_oddsOf_2 5 rfl rfl)
theorem dX7_oddsOf_55 : decode cX7_oddsOf 55 = .ok (.iload_n 3, 1) := dk_29 (dk_at dksX7_oddsOf_2 7 rfl rfl)
theorem dX7_oddsOf_56 : decode cX7_oddsOf 56 = .ok (.isub, 1) := dk_100 (dk_at dksX7_oddsOf_2 8 rfl rfl)
theorem dX7_oddsOf_57 : decode cX7_oddsOf 57 = .ok (.iload 4, 2) := dk_21 4 (dk_at dksX7_oddsOf_2 9 rfl rfl)
theorem dX7_oddsOf_59 : decode cX7_oddsOf 59 = .ok (.iload 6, 2) := dk_21 6 (dk_at dksX7_oddsOf_2 11 rfl rfl)
theorem dX7_oddsOf_61 : decode cX7_oddsOf 61 = .ok (.isub, 1) := dk_100 (dk_at dksX7_oddsOf_2 13 rfl rfl)
theorem dX7_oddsOf_62 : decode cX7_oddsOf 62 = .ok (.invokestatic 344, 3) := dk_184 1 88 (dk_at dksX7_oddsOf_2 14 rfl rfl)
theorem dX7_oddsOf_65 : decode cX7_oddsOf 65 = .ok (.imul, 1) := dk_104 (dk_at dksX7_oddsOf_2 17 rfl rfl)
theorem dX7_oddsOf_66 : decode cX7_oddsOf 66 = .ok (.iadd, 1) := dk_96 (dk_at dksX7_oddsOf_2 18 rfl rfl)
theorem dX7_oddsOf_67 : decode cX7_oddsOf 67 = .ok (.istore 5, 2) := dk_54 5 (dk_at dksX7_oddsOf_2 19 rfl rfl)
theorem dX7_oddsOf_69 : decode cX7_oddsOf 69 = .ok (.iinc 6 1, 3) := dk_132 6 1 (dk_at dksX7_oddsOf_2 21 rfl rfl)
theorem dX7_oddsOf_72 : decode cX7_oddsOf 72 = .ok (.goto (-34), 3) := dk_167 255 222 (dk_at dksX7_oddsOf_3 0 rfl rfl)
theorem dX7_oddsOf_75 : decode cX7_oddsOf 75 = .ok (.iload 5, 2) := dk_21 5 (dk_at dksX7_oddsOf_3 3 rfl rfl)
theorem dX7_oddsOf_77 : decode cX7_oddsOf 77 = .ok (.ireturn, 1) := dk_172 (dk_at dksX7_oddsOf_3 5 rfl rfl)
abbrev cX7_pieces : ByteArray := prog_21_method_90_code
def yX7_pieces : MethodName := ⟨RX7, "pieces", "(I)I"⟩
def dkwX7_pieces_0 : List UInt8 := [42, 180, 0, 7, 27, 184, 0, 93, 16, 14, 96, 46, 172]
abbrev dktX7_pieces_0 : List UInt8 := dkwX7_pieces_0 ++ []
theorem dksX7_pieces_0 : cX7_pieces.data.toList.drop 0 = dktX7_pieces_0 := by decide +kernel
theorem dX7_pieces_0 : decode cX7_pieces 0 = .ok (.aload_n 0, 1) := dk_42 (dk_at dksX7_pieces_0 0 rfl rfl)
theorem dX7_pieces_1 : decode cX7_pieces 1 = .ok (.getfield 7, 3) := dk_180 0 7 (dk_at dksX7_pieces_0 1 rfl rfl)
theorem dX7_pieces_4 : decode cX7_pieces 4 = .ok (.iload_n 1, 1) := dk_27 (dk_at dksX7_pieces_0 4 rfl rfl)
theorem dX7_pieces_5 : decode cX7_pieces 5 = .ok (.invokestatic 93, 3) := dk_184 0 93 (dk_at dksX7_pieces_0 5 rfl rfl)
theorem dX7_pieces_8 : decode cX7_pieces 8 = .ok (.bipush 14, 2) := dk_16 14 (dk_at dksX7_pieces_0 8 rfl rfl)
theorem dX7_pieces_10 : decode cX7_pieces 10 = .ok (.iadd, 1) := dk_96 (dk_at dksX7_pieces_0 10 rfl rfl)
theorem dX7_pieces_11 : decode cX7_pieces 11 = .ok (.iaload, 1) := dk_46 (dk_at dksX7_pieces_0 11 rfl rfl)
theorem dX7_pieces_12 : decode cX7_pieces 12 = .ok (.ireturn, 1) := dk_172 (dk_at dksX7_pieces_0 12 rfl rfl)
abbrev cX7_choose : ByteArray := prog_21_method_89_code
def yX7_choose : MethodName := ⟨RX7, "choose", "(II)I"⟩
def dkwX7_choose_1 : List UInt8 := [27, 100, 21, 4, 96, 133, 105, 21, 4, 133, 109, 65, 132, 4, 1, 167, 255, 233, 32, 136, 172]
abbrev dktX7_choose_1 : List UInt8 := dkwX7_choose_1 ++ []
def dkwX7_choose_0 : List UInt8 := [27, 155, 0, 8, 27, 26, 164, 0, 5, 3, 172, 10, 65, 4, 54, 4, 21, 4, 27, 163, 0, 23, 32, 26]
abbrev dktX7_choose_0 : List UInt8 := dkwX7_choose_0 ++ dktX7_choose_1
theorem dksX7_choose_0 : cX7_choose.data.toList.drop 0 = dktX7_choose_0 := by decide +kernel
theorem dksX7_choose_1 : cX7_choose.data.toList.drop 24 = dktX7_choose_1 := dk_seg dksX7_choose_0 24 rfl rfl
theorem dX7_choose_0 : decode cX7_choose 0 = .ok (.iload_n 1, 1) := dk_27 (dk_at dksX7_choose_0 0 rfl rfl)
theorem dX7_choose_1 : decode cX7_choose 1 = .ok (.ifCond .lt 8, 3) := dk_155 0 8 (dk_at dksX7_choose_0 1 rfl rfl)
theorem dX7_choose_4 : decode cX7_choose 4 = .ok (.iload_n 1, 1) := dk_27 (dk_at dksX7_choose_0 4 rfl rfl)
theorem dX7_choose_5 : decode cX7_choose 5 = .ok (.iload_n 0, 1) := dk_26 (dk_at dksX7_choose_0 5 rfl rfl)
theorem dX7_choose_6 : decode cX7_choose 6 = .ok (.if_icmp .le 5, 3) := dk_164 0 5 (dk_at dksX7_choose_0 6 rfl rfl)
theorem dX7_choose_9 : decode cX7_choose 9 = .ok (.iconst 0, 1) := dk_3 (dk_at dksX7_choose_0 9 rfl rfl)
theorem dX7_choose_10 : decode cX7_choose 10 = .ok (.ireturn, 1) := dk_172 (dk_at dksX7_choose_0 10 rfl rfl)
theorem dX7_choose_11 : decode cX7_choose 11 = .ok (.lconst 1, 1) := dk_10 (dk_at dksX7_choose_0 11 rfl rfl)
theorem dX7_choose_12 : decode cX7_choose 12 = .ok (.lstore_n 2, 1) := dk_65 (dk_at dksX7_choose_0 12 rfl rfl)
theorem dX7_choose_13 : decode cX7_choose 13 = .ok (.iconst 1, 1) := dk_4 (dk_at dksX7_choose_0 13 rfl rfl)
theorem dX7_choose_14 : decode cX7_choose 14 = .ok (.istore 4, 2) := dk_54 4 (dk_at dksX7_choose_0 14 rfl rfl)
theorem dX7_choose_16 : decode cX7_choose 16 = .ok (.iload 4, 2) := dk_21 4 (dk_at dksX7_choose_0 16 rfl rfl)
theorem dX7_choose_18 : decode cX7_choose 18 = .ok (.iload_n 1, 1) := dk_27 (dk_at dksX7_choose_0 18 rfl rfl)
theorem dX7_choose_19 : decode cX7_choose 19 = .ok (.if_icmp .gt 23, 3) := dk_163 0 23 (dk_at dksX7_choose_0 19 rfl rfl)
theorem dX7_choose_22 : decode cX7_choose 22 = .ok (.lload_n 2, 1) := dk_32 (dk_at dksX7_choose_0 22 rfl rfl)
theorem dX7_choose_23 : decode cX7_choose 23 = .ok (.iload_n 0, 1) := dk_26 (dk_at dksX7_choose_0 23 rfl rfl)
theorem dX7_choose_24 : decode cX7_choose 24 = .ok (.iload_n 1, 1) := dk_27 (dk_at dksX7_choose_1 0 rfl rfl)
theorem dX7_choose_25 : decode cX7_choose 25 = .ok (.isub, 1) := dk_100 (dk_at dksX7_choose_1 1 rfl rfl)
theorem dX7_choose_26 : decode cX7_choose 26 = .ok (.iload 4, 2) := dk_21 4 (dk_at dksX7_choose_1 2 rfl rfl)
theorem dX7_choose_28 : decode cX7_choose 28 = .ok (.iadd, 1) := dk_96 (dk_at dksX7_choose_1 4 rfl rfl)
theorem dX7_choose_29 : decode cX7_choose 29 = .ok (.i2l, 1) := dk_133 (dk_at dksX7_choose_1 5 rfl rfl)
theorem dX7_choose_30 : decode cX7_choose 30 = .ok (.lmul, 1) := dk_105 (dk_at dksX7_choose_1 6 rfl rfl)
theorem dX7_choose_31 : decode cX7_choose 31 = .ok (.iload 4, 2) := dk_21 4 (dk_at dksX7_choose_1 7 rfl rfl)
theorem dX7_choose_33 : decode cX7_choose 33 = .ok (.i2l, 1) := dk_133 (dk_at dksX7_choose_1 9 rfl rfl)
theorem dX7_choose_34 : decode cX7_choose 34 = .ok (.ldiv, 1) := dk_109 (dk_at dksX7_choose_1 10 rfl rfl)
theorem dX7_choose_35 : decode cX7_choose 35 = .ok (.lstore_n 2, 1) := dk_65 (dk_at dksX7_choose_1 11 rfl rfl)
theorem dX7_choose_36 : decode cX7_choose 36 = .ok (.iinc 4 1, 3) := dk_132 4 1 (dk_at dksX7_choose_1 12 rfl rfl)
theorem dX7_choose_39 : decode cX7_choose 39 = .ok (.goto (-23), 3) := dk_167 255 233 (dk_at dksX7_choose_1 15 rfl rfl)
theorem dX7_choose_42 : decode cX7_choose 42 = .ok (.lload_n 2, 1) := dk_32 (dk_at dksX7_choose_1 18 rfl rfl)
theorem dX7_choose_43 : decode cX7_choose 43 = .ok (.l2i, 1) := dk_136 (dk_at dksX7_choose_1 19 rfl rfl)
theorem dX7_choose_44 : decode cX7_choose 44 = .ok (.ireturn, 1) := dk_172 (dk_at dksX7_choose_1 20 rfl rfl)
abbrev cX7_ring : ByteArray := prog_21_method_94_code
def yX7_ring : MethodName := ⟨RX7, "ring", "(II)I"⟩
def dkwX7_ring_4 : List UInt8 := [4, 21, 6, 120, 128, 62, 132, 6, 1, 167, 255, 205, 132, 5, 1, 167, 255, 185, 167, 255, 170, 29, 172]
abbrev dktX7_ring_4 : List UInt8 := dkwX7_ring_4 ++ []
def dkwX7_ring_3 : List UInt8 := [4, 160, 0, 29, 21, 5, 21, 6, 159, 0, 22, 42, 21, 5, 21, 6, 28, 182, 1, 94, 153, 0, 10, 29]
abbrev dktX7_ring_3 : List UInt8 := dkwX7_ring_3 ++ dktX7_ring_4
def dkwX7_ring_2 : List UInt8 := [162, 0, 66, 3, 54, 6, 21, 6, 42, 180, 0, 7, 4, 46, 162, 0, 46, 21, 4, 21, 5, 122, 4, 126]
abbrev dktX7_ring_2 : List UInt8 := dkwX7_ring_2 ++ dktX7_ring_3
def dkwX7_ring_1 : List UInt8 := [62, 3, 54, 4, 29, 21, 4, 159, 0, 86, 29, 54, 4, 3, 54, 5, 21, 5, 42, 180, 0, 7, 4, 46]
abbrev dktX7_ring_1 : List UInt8 := dkwX7_ring_1 ++ dktX7_ring_2
def dkwX7_ring_0 : List UInt8 := [42, 27, 182, 0, 202, 153, 0, 14, 28, 4, 17, 39, 15, 184, 0, 89, 154, 0, 5, 2, 172, 4, 27, 120]
abbrev dktX7_ring_0 : List UInt8 := dkwX7_ring_0 ++ dktX7_ring_1
theorem dksX7_ring_0 : cX7_ring.data.toList.drop 0 = dktX7_ring_0 := by decide +kernel
theorem dksX7_ring_1 : cX7_ring.data.toList.drop 24 = dktX7_ring_1 := dk_seg dksX7_ring_0 24 rfl rfl
theorem dksX7_ring_2 : cX7_ring.data.toList.drop 48 = dktX7_ring_2 := dk_seg dksX7_ring_1 24 rfl rfl
theorem dksX7_ring_3 : cX7_ring.data.toList.drop 72 = dktX7_ring_3 := dk_seg dksX7_ring_2 24 rfl rfl
theorem dksX7_ring_4 : cX7_ring.data.toList.drop 96 = dktX7_ring_4 := dk_seg dksX7_ring_3 24 rfl rfl
theorem dX7_ring_0 : decode cX7_ring 0 = .ok (.aload_n 0, 1) := dk_42 (dk_at dksX7_ring_0 0 rfl rfl)
theorem dX7_ring_1 : decode cX7_ring 1 = .ok (.iload_n 1, 1) := dk_27 (dk_at dksX7_ring_0 1 rfl rfl)
theorem dX7_ring_2 : decode cX7_ring 2 = .ok (.invokevirtual 202, 3) := dk_182 0 202 (dk_at dksX7_ring_0 2 rfl rfl)
theorem dX7_ring_5 : decode cX7_ring 5 = .ok (.ifCond .eq 14, 3) := dk_153 0 14 (dk_at dksX7_ring_0 5 rfl rfl)
theorem dX7_ring_8 : decode cX7_ring 8 = .ok (.iload_n 2, 1) := dk_28 (dk_at dksX7_ring_0 8 rfl rfl)
theorem dX7_ring_9 : decode cX7_ring 9 = .ok (.iconst 1, 1) := dk_4 (dk_at dksX7_ring_0 9 rfl rfl)
theorem dX7_ring_10 : decode cX7_ring 10 = .ok (.sipush 9999, 3) := dk_17 39 15 (dk_at dksX7_ring_0 10 rfl rfl)
theorem dX7_ring_13 : decode cX7_ring 13 = .ok (.invokestatic 89, 3) := dk_184 0 89 (dk_at dksX7_ring_0 13 rfl rfl)
theorem dX7_ring_16 : decode cX7_ring 16 = .ok (.ifCond .ne 5, 3) := dk_154 0 5 (dk_at dksX7_ring_0 16 rfl rfl)
theorem dX7_ring_19 : decode cX7_ring 19 = .ok (.iconst (-1), 1) := dk_2 (dk_at dksX7_ring_0 19 rfl rfl)
theorem dX7_ring_20 : decode cX7_ring 20 = .ok (.ireturn, 1) := dk_172 (dk_at dksX7_ring_0 20 rfl rfl)
theorem dX7_ring_21 : decode cX7_ring 21 = .ok (.iconst 1, 1) := dk_4 (dk_at dksX7_ring_0 21 rfl rfl)
theorem dX7_ring_22 : decode cX7_ring 22 = .ok (.iload_n 1, 1) := dk_27 (dk_at dksX7_ring_0 22 rfl rfl)
theorem dX7_ring_23 : decode cX7_ring 23 = .ok (.ishl, 1) := dk_120 (dk_at dksX7_ring_0 23 rfl rfl)
theorem dX7_ring_24 : decode cX7_ring 24 = .ok (.istore_n 3, 1) := dk_62 (dk_at dksX7_ring_1 0 rfl rfl)
theorem dX7_ring_25 : decode cX7_ring 25 = .ok (.iconst 0, 1) := dk_3 (dk_at dksX7_ring_1 1 rfl rfl)
theorem dX7_ring_26 : decode cX7_ring 26 = .ok (.istore 4, 2) := dk_54 4 (dk_at dksX7_ring_1 2 rfl rfl)
theorem dX7_ring_28 : decode cX7_ring 28 = .ok (.iload_n 3, 1) := dk_29 (dk_at dksX7_ring_1 4 rfl rfl)
theorem dX7_ring_29 : decode cX7_ring 29 = .ok (.iload 4, 2) := dk_21 4 (dk_at dksX7_ring_1 5 rfl rfl)
theorem dX7_ring_31 : decode cX7_ring 31 = .ok (.if_icmp .eq 86, 3) := dk_159 0 86 (dk_at dksX7_ring_1 7 rfl rfl)
theorem dX7_ring_34 : decode cX7_ring 34 = .ok (.iload_n 3, 1) := dk_29 (dk_at dksX7_ring_1 10 rfl rfl)
theorem dX7_ring_35 : decode cX7_ring 35 = .ok (.istore 4, 2) := dk_54 4 (dk_at dksX7_ring_1 11 rfl rfl)
theorem dX7_ring_37 : decode cX7_ring 37 = .ok (.iconst 0, 1) := dk_3 (dk_at dksX7_ring_1 13 rfl rfl)
theorem dX7_ring_38 : decode cX7_ring 38 = .ok (.istore 5, 2) := dk_54 5 (dk_at dksX7_ring_1 14 rfl rfl)
theorem dX7_ring_40 : decode cX7_ring 40 = .ok (.iload 5, 2) := dk_21 5 (dk_at dksX7_ring_1 16 rfl rfl)
theorem dX7_ring_42 : decode cX7_ring 42 = .ok (.aload_n 0, 1) := dk_42 (dk_at dksX7_ring_1 18 rfl rfl)
theorem dX7_ring_43 : decode cX7_ring 43 = .ok (.getfield 7, 3) := dk_180 0 7 (dk_at dksX7_ring_1 19 rfl rfl)
theorem dX7_ring_46 : decode cX7_ring 46 = .ok (.iconst 1, 1) := dk_4 (dk_at dksX7_ring_1 22 rfl rfl)
theorem dX7_ring_47 : decode cX7_ring 47 = .ok (.iaload, 1) := dk_46 (dk_at dksX7_ring_1 23 rfl rfl)
theorem dX7_ring_48 : decode cX7_ring 48 = .ok (.if_icmp .ge 66, 3) := dk_162 0 66 (dk_at dksX7_ring_2 0 rfl rfl)
theorem dX7_ring_51 : decode cX7_ring 51 = .ok (.iconst 0, 1) := dk_3 (dk_at dksX7_ring_2 3 rfl rfl)
theorem dX7_ring_52 : decode cX7_ring 52 = .ok (.istore 6, 2) := dk_54 6 (dk_at dksX7_ring_2 4 rfl rfl)
theorem dX7_ring_54 : decode cX7_ring 54 = .ok (.iload 6, 2) := dk_21 6 (dk_at dksX7_ring_2 6 rfl rfl)
theorem dX7_ring_56 : decode cX7_ring 56 = .ok (.aload_n 0, 1) := dk_42 (dk_at dksX7_ring_2 8 rfl rfl)
theorem dX7_ring_57 : decode cX7_ring 57 = .ok (.getfield 7, 3) := dk_180 0 7 (dk_at dksX7_ring_2 9 rfl rfl)
theorem dX7_ring_60 : decode cX7_ring 60 = .ok (.iconst 1, 1) := dk_4 (dk_at dksX7_ring_2 12 rfl rfl)
theorem dX7_ring_61 : decode cX7_ring 61 = .ok (.iaload, 1) := dk_46 (dk_at dksX7_ring_2 13 rfl rfl)
theorem dX7_ring_62 : decode cX7_ring 62 = .ok (.if_icmp .ge 46, 3) := dk_162 0 46 (dk_at dksX7_ring_2 14 rfl rfl)
theorem dX7_ring_65 : decode cX7_ring 65 = .ok (.iload 4, 2) := dk_21 4 (dk_at dksX7_ring_2 17 rfl rfl)
theorem dX7_ring_67 : decode cX7_ring 67 = .ok (.iload 5, 2) := dk_21 5 (dk_at dksX7_ring_2 19 rfl rfl)
theorem dX7_ring_69 : decode cX7_ring 69 = .ok (.ishr, 1) := dk_122 (dk_at dksX7_ring_2 21 rfl rfl)
theorem dX7_ring_70 : decode cX7_ring 70 = .ok (.iconst 1, 1) := dk_4 (dk_at dksX7_ring_2 22 rfl rfl)
theorem dX7_ring_71 : decode cX7_ring 71 = .ok (.iand, 1) := dk_126 (dk_at dksX7_ring_2 23 rfl rfl)
theorem dX7_ring_72 : decode cX7_ring 72 = .ok (.iconst 1, 1) := dk_4 (dk_at dksX7_ring_3 0 rfl rfl)
theorem dX7_ring_73 : decode cX7_ring 73 = .ok (.if_icmp .ne 29, 3) := dk_160 0 29 (dk_at dksX7_ring_3 1 rfl rfl)
theorem dX7_ring_76 : decode cX7_ring 76 = .ok (.iload 5, 2) := dk_21 5 (dk_at dksX7_ring_3 4 rfl rfl)
theorem dX7_ring_78 : decode cX7_ring 78 = .ok (.iload 6, 2) := dk_21 6 (dk_at dksX7_ring_3 6 rfl rfl)
theorem dX7_ring_80 : decode cX7_ring 80 = .ok (.if_icmp .eq 22, 3) := dk_159 0 22 (dk_at dksX7_ring_3 8 rfl rfl)
theorem dX7_ring_83 : decode cX7_ring 83 = .ok (.aload_n 0, 1) := dk_42 (dk_at dksX7_ring_3 11 rfl rfl)
theorem dX7_ring_84 : decode cX7_ring 84 = .ok (.iload 5, 2) := dk_21 5 (dk_at dksX7_ring_3 12 rfl rfl)
theorem dX7_ring_86 : decode cX7_ring 86 = .ok (.iload 6, 2) := dk_21 6 (dk_at dksX7_ring_3 14 rfl rfl)
theorem dX7_ring_88 : decode cX7_ring 88 = .ok (.iload_n 2, 1) := dk_28 (dk_at dksX7_ring_3 16 rfl rfl)
theorem dX7_ring_89 : decode cX7_ring 89 = .ok (.invokevirtual 350, 3) := dk_182 1 94 (dk_at dksX7_ring_3 17 rfl rfl)
theorem dX7_ring_92 : decode cX7_ring 92 = .ok (.ifCond .eq 10, 3) := dk_153 0 10 (dk_at dksX7_ring_3 20 rfl rfl)
theorem dX7_ring_95 : decode cX7_ring 95 = .ok (.iload_n 3, 1) := dk_29 (dk_at dksX7_ring_3 23 rfl rfl)
theorem dX7_ring_96 : decode cX7_ring 96 = .ok (.iconst 1, 1) := dk_4 (dk_at dksX7_ring_4 0 rfl rfl)
theorem dX7_ring_97 : decode cX7_ring 97 = .ok (.iload 6, 2) := dk_21 6 (dk_at dksX7_ring_4 1 rfl rfl)
theorem dX7_ring_99 : decode cX7_ring 99 = .ok (.ishl, 1) := dk_120 (dk_at dksX7_ring_4 3 rfl rfl)
theorem dX7_ring_100 : decode cX7_ring 100 = .ok (.ior, 1) := dk_128 (dk_at dksX7_ring_4 4 rfl rfl)
theorem dX7_ring_101 : decode cX7_ring 101 = .ok (.istore_n 3, 1) := dk_62 (dk_at dksX7_ring_4 5 rfl rfl)
theorem dX7_ring_102 : decode cX7_ring 102 = .ok (.iinc 6 1, 3) := dk_132 6 1 (dk_at dksX7_ring_4 6 rfl rfl)
theorem dX7_ring_105 : decode cX7_ring 105 = .ok (.goto (-51), 3) := dk_167 255 205 (dk_at dksX7_ring_4 9 rfl rfl)
theorem dX7_ring_108 : decode cX7_ring 108 = .ok (.iinc 5 1, 3) := dk_132 5 1 (dk_at dksX7_ring_4 12 rfl rfl)
theorem dX7_ring_111 : decode cX7_ring 111 = .ok (.goto (-71), 3) := dk_167 255 185 (dk_at dksX7_ring_4 15 rfl rfl)
theorem dX7_ring_114 : decode cX7_ring 114 = .ok (.goto (-86), 3) := dk_167 255 170 (dk_at dksX7_ring_4 18 rfl rfl)
theorem dX7_ring_117 : decode cX7_ring 117 = .ok (.iload_n 3, 1) := dk_29 (dk_at dksX7_ring_4 21 rfl rfl)
theorem dX7_ring_118 : decode cX7_ring 118 = .ok (.ireturn, 1) := dk_172 (dk_at dksX7_ring_4 22 rfl rfl)
abbrev cX7_isOneHand : ByteArray := prog_21_method_93_code
def yX7_isOneHand : MethodName := ⟨RX7, "isOneHand", "(III)Z"⟩
def dkwX7_isOneHand_3 : List UInt8 := [153, 0, 7, 4, 167, 0, 4, 3, 172]
abbrev dktX7_isOneHand_3 : List UInt8 := dkwX7_isOneHand_3 ++ []
def dkwX7_isOneHand_2 : List UInt8 := [4, 167, 0, 4, 3, 54, 4, 21, 4, 153, 0, 21, 42, 27, 182, 1, 85, 42, 28, 182, 1, 85, 126]
abbrev dktX7_isOneHand_2 : List UInt8 := dkwX7_isOneHand_2 ++ dktX7_isOneHand_3
def dkwX7_isOneHand_1 : List UInt8 := [42, 28, 27, 182, 1, 91, 29, 104, 16, 20, 42, 27, 182, 1, 85, 184, 1, 35, 184, 1, 88, 163, 0, 7]
abbrev dktX7_isOneHand_1 : List UInt8 := dkwX7_isOneHand_1 ++ dktX7_isOneHand_2
def dkwX7_isOneHand_0 : List UInt8 := [42, 27, 28, 182, 1, 91, 29, 104, 16, 20, 42, 28, 182, 1, 85, 184, 1, 35, 184, 1, 88, 163, 0, 31]
abbrev dktX7_isOneHand_0 : List UInt8 := dkwX7_isOneHand_0 ++ dktX7_isOneHand_1
theorem dksX7_isOneHand_0 : cX7_isOneHand.data.toList.drop 0 = dktX7_isOneHand_0 := by decide +kernel
theorem dksX7_isOneHand_1 : cX7_isOneHand.data.toList.drop 24 = dktX7_isOneHand_1 := dk_seg dksX7_isOneHand_0 24 rfl rfl
theorem dksX7_isOneHand_2 : cX7_isOneHand.data.toList.drop 48 = dktX7_isOneHand_2 := dk_seg dksX7_isOneHand_1 24 rfl rfl
theorem dksX7_isOneHand_3 : cX7_isOneHand.data.toList.drop 71 = dktX7_isOneHand_3 := dk_seg dksX7_isOneHand_2 23 rfl rfl
theorem dX7_isOneHand_0 : decode cX7_isOneHand 0 = .ok (.aload_n 0, 1) := dk_42 (dk_at dksX7_isOneHand_0 0 rfl rfl)
theorem dX7_isOneHand_1 : decode cX7_isOneHand 1 = .ok (.iload_n 1, 1) := dk_27 (dk_at dksX7_isOneHand_0 1 rfl rfl)
theorem dX7_isOneHand_2 : decode cX7_isOneHand 2 = .ok (.iload_n 2, 1) := dk_28 (dk_at dksX7_isOneHand_0 2 rfl rfl)
theorem dX7_isOneHand_3 : decode cX7_isOneHand 3 = .ok (.invokevirtual 347, 3) := dk_182 1 91 (dk_at dksX7_isOneHand_0 3 rfl rfl)
theorem dX7_isOneHand_6 : decode cX7_isOneHand 6 = .ok (.iload_n 3, 1) := dk_29 (dk_at dksX7_isOneHand_0 6 rfl rfl)
theorem dX7_isOneHand_7 : decode cX7_isOneHand 7 = .ok (.imul, 1) := dk_104 (dk_at dksX7_isOneHand_0 7 rfl rfl)
theorem dX7_isOneHand_8 : decode cX7_isOneHand 8 = .ok (.bipush 20, 2) := dk_16 20 (dk_at dksX7_isOneHand_0 8 rfl rfl)
theorem dX7_isOneHand_10 : decode cX7_isOneHand 10 = .ok (.aload_n 0, 1) := dk_42 (dk_at dksX7_isOneHand_0 10 rfl rfl)
theorem dX7_isOneHand_11 : decode cX7_isOneHand 11 = .ok (.iload_n 2, 1) := dk_28 (dk_at dksX7_isOneHand_0 11 rfl rfl)
theorem dX7_isOneHand_12 : decode cX7_isOneHand 12 = .ok (.invokevirtual 341, 3) := dk_182 1 85 (dk_at dksX7_isOneHand_0 12 rfl rfl)
theorem dX7_isOneHand_15 : decode cX7_isOneHand 15 = .ok (.invokestatic 291, 3) := dk_184 1 35 (dk_at dksX7_isOneHand_0 15 rfl rfl)
theorem dX7_isOneHand_18 : decode cX7_isOneHand 18 = .ok (.invokestatic 344, 3) := dk_184 1 88 (dk_at dksX7_isOneHand_0 18 rfl rfl)
theorem dX7_isOneHand_21 : decode cX7_isOneHand 21 = .ok (.if_icmp .gt 31, 3) := dk_163 0 31 (dk_at dksX7_isOneHand_0 21 rfl rfl)
theorem dX7_isOneHand_24 : decode cX7_isOneHand 24 = .ok (.aload_n 0, 1) := dk_42 (dk_at dksX7_isOneHand_1 0 rfl rfl)
theorem dX7_isOneHand_25 : decode cX7_isOneHand 25 = .ok (.iload_n 2, 1) := dk_28 (dk_at dksX7_isOneHand_1 1 rfl rfl)
theorem dX7_isOneHand_26 : decode cX7_isOneHand 26 = .ok (.iload_n 1, 1) := dk_27 (dk_at dksX7_isOneHand_1 2 rfl rfl)
theorem dX7_isOneHand_27 : decode cX7_isOneHand 27 = .ok (.invokevirtual 347, 3) := dk_182 1 91 (dk_at dksX7_isOneHand_1 3 rfl rfl)
theorem dX7_isOneHand_30 : decode cX7_isOneHand 30 = .ok (.iload_n 3, 1) := dk_29 (dk_at dksX7_isOneHand_1 6 rfl rfl)
theorem dX7_isOneHand_31 : decode cX7_isOneHand 31 = .ok (.imul, 1) := dk_104 (dk_at dksX7_isOneHand_1 7 rfl rfl)
theorem dX7_isOneHand_32 : decode cX7_isOneHand 32 = .ok (.bipush 20, 2) := dk_16 20 (dk_at dksX7_isOneHand_1 8 rfl rfl)
theorem dX7_isOneHand_34 : decode cX7_isOneHand 34 = .ok (.aload_n 0, 1) := dk_42 (dk_at dksX7_isOneHand_1 10 rfl rfl)
theorem dX7_isOneHand_35 : decode cX7_isOneHand 35 = .ok (.iload_n 1, 1) := dk_27 (dk_at dksX7_isOneHand_1 11 rfl rfl)
theorem dX7_isOneHand_36 : decode cX7_isOneHand 36 = .ok (.invokevirtual 341, 3) := dk_182 1 85 (dk_at dksX7_isOneHand_1 12 rfl rfl)
theorem dX7_isOneHand_39 : decode cX7_isOneHand 39 = .ok (.invokestatic 291, 3) := dk_184 1 35 (dk_at dksX7_isOneHand_1 15 rfl rfl)
theorem dX7_isOneHand_42 : decode cX7_isOneHand 42 = .ok (.invokestatic 344, 3) := dk_184 1 88 (dk_at dksX7_isOneHand_1 18 rfl rfl)
theorem dX7_isOneHand_45 : decode cX7_isOneHand 45 = .ok (.if_icmp .gt 7, 3) := dk_163 0 7 (dk_at dksX7_isOneHand_1 21 rfl rfl)
theorem dX7_isOneHand_48 : decode cX7_isOneHand 48 = .ok (.iconst 1, 1) := dk_4 (dk_at dksX7_isOneHand_2 0 rfl rfl)
theorem dX7_isOneHand_49 : decode cX7_isOneHand 49 = .ok (.goto 4, 3) := dk_167 0 4 (dk_at dksX7_isOneHand_2 1 rfl rfl)
theorem dX7_isOneHand_52 : decode cX7_isOneHand 52 = .ok (.iconst 0, 1) := dk_3 (dk_at dksX7_isOneHand_2 4 rfl rfl)
theorem dX7_isOneHand_53 : decode cX7_isOneHand 53 = .ok (.istore 4, 2) := dk_54 4 (dk_at dksX7_isOneHand_2 5 rfl rfl)
theorem dX7_isOneHand_55 : decode cX7_isOneHand 55 = .ok (.iload 4, 2) := dk_21 4 (dk_at dksX7_isOneHand_2 7 rfl rfl)
theorem dX7_isOneHand_57 : decode cX7_isOneHand 57 = .ok (.ifCond .eq 21, 3) := dk_153 0 21 (dk_at dksX7_isOneHand_2 9 rfl rfl)
theorem dX7_isOneHand_60 : decode cX7_isOneHand 60 = .ok (.aload_n 0, 1) := dk_42 (dk_at dksX7_isOneHand_2 12 rfl rfl)
theorem dX7_isOneHand_61 : decode cX7_isOneHand 61 = .ok (.iload_n 1, 1) := dk_27 (dk_at dksX7_isOneHand_2 13 rfl rfl)
theorem dX7_isOneHand_62 : decode cX7_isOneHand 62 = .ok (.invokevirtual 341, 3) := dk_182 1 85 (dk_at dksX7_isOneHand_2 14 rfl rfl)
theorem dX7_isOneHand_65 : decode cX7_isOneHand 65 = .ok (.aload_n 0, 1) := dk_42 (dk_at dksX7_isOneHand_2 17 rfl rfl)
theorem dX7_isOneHand_66 : decode cX7_isOneHand 66 = .ok (.iload_n 2, 1) := dk_28 (dk_at dksX7_isOneHand_2 18 rfl rfl)
theorem dX7_isOneHand_67 : decode cX7_isOneHand 67 = .ok (.invokevirtual 341, 3) := dk_182 1 85 (dk_at dksX7_isOneHand_2 19 rfl rfl)
theorem dX7_isOneHand_70 : decode cX7_isOneHand 70 = .ok (.iand, 1) := dk_126 (dk_at dksX7_isOneHand_2 22 rfl rfl)
theorem dX7_isOneHand_71 : decode cX7_isOneHand 71 = .ok (.ifCond .eq 7, 3) := dk_153 0 7 (dk_at dksX7_isOneHand_3 0 rfl rfl)
theorem dX7_isOneHand_74 : decode cX7_isOneHand 74 = .ok (.iconst 1, 1) := dk_4 (dk_at dksX7_isOneHand_3 3 rfl rfl)
theorem dX7_isOneHand_75 : decode cX7_isOneHand 75 = .ok (.goto 4, 3) := dk_167 0 4 (dk_at dksX7_isOneHand_3 4 rfl rfl)
theorem dX7_isOneHand_78 : decode cX7_isOneHand 78 = .ok (.iconst 0, 1) := dk_3 (dk_at dksX7_isOneHand_3 7 rfl rfl)
theorem dX7_isOneHand_79 : decode cX7_isOneHand 79 = .ok (.ireturn, 1) := dk_172 (dk_at dksX7_isOneHand_3 8 rfl rfl)
abbrev cX7_sketch : ByteArray := prog_21_method_96_code
def yX7_sketch : MethodName := ⟨RX7, "sketch", "(II)I"⟩
def dkwX7_sketch_1 : List UInt8 := [167, 0, 4, 2, 172]
abbrev dktX7_sketch_1 : List UInt8 := dkwX7_sketch_1 ++ []
def dkwX7_sketch_0 : List UInt8 := [42, 27, 182, 0, 202, 153, 0, 22, 28, 3, 16, 16, 184, 0, 89, 153, 0, 12, 42, 27, 28, 182, 1, 98]
abbrev dktX7_sketch_0 : List UInt8 := dkwX7_sketch_0 ++ dktX7_sketch_1
theorem dksX7_sketch_0 : cX7_sketch.data.toList.drop 0 = dktX7_sketch_0 := by decide +kernel
theorem dksX7_sketch_1 : cX7_sketch.data.toList.drop 24 = dktX7_sketch_1 := dk_seg dksX7_sketch_0 24 rfl rfl
theorem dX7_sketch_0 : decode cX7_sketch 0 = .ok (.aload_n 0, 1) := dk_42 (dk_at dksX7_sketch_0 0 rfl rfl)
theorem dX7_sketch_1 : decode cX7_sketch 1 = .ok (.iload_n 1, 1) := dk_27 (dk_at dksX7_sketch_0 1 rfl rfl)
theorem dX7_sketch_2 : decode cX7_sketch 2 = .ok (.invokevirtual 202, 3) := dk_182 0 202 (dk_at dksX7_sketch_0 2 rfl rfl)
theorem dX7_sketch_5 : decode cX7_sketch 5 = .ok (.ifCond .eq 22, 3) := dk_153 0 22 (dk_at dksX7_sketch_0 5 rfl rfl)
theorem dX7_sketch_8 : decode cX7_sketch 8 = .ok (.iload_n 2, 1) := dk_28 (dk_at dksX7_sketch_0 8 rfl rfl)
theorem dX7_sketch_9 : decode cX7_sketch 9 = .ok (.iconst 0, 1) := dk_3 (dk_at dksX7_sketch_0 9 rfl rfl)
theorem dX7_sketch_10 : decode cX7_sketch 10 = .ok (.bipush 16, 2) := dk_16 16 (dk_at dksX7_sketch_0 10 rfl rfl)
theorem dX7_sketch_12 : decode cX7_sketch 12 = .ok (.invokestatic 89, 3) := dk_184 0 89 (dk_at dksX7_sketch_0 12 rfl rfl)
theorem dX7_sketch_15 : decode cX7_sketch 15 = .ok (.ifCond .eq 12, 3) := dk_153 0 12 (dk_at dksX7_sketch_0 15 rfl rfl)
theorem dX7_sketch_18 : decode cX7_sketch 18 = .ok (.aload_n 0, 1) := dk_42 (dk_at dksX7_sketch_0 18 rfl rfl)
theorem dX7_sketch_19 : decode cX7_sketch 19 = .ok (.iload_n 1, 1) := dk_27 (dk_at dksX7_sketch_0 19 rfl rfl)
theorem dX7_sketch_20 : decode cX7_sketch 20 = .ok (.iload_n 2, 1) := dk_28 (dk_at dksX7_sketch_0 20 rfl rfl)
theorem dX7_sketch_21 : decode cX7_sketch 21 = .ok (.invokevirtual 354, 3) := dk_182 1 98 (dk_at dksX7_sketch_0 21 rfl rfl)
theorem dX7_sketch_24 : decode cX7_sketch 24 = .ok (.goto 4, 3) := dk_167 0 4 (dk_at dksX7_sketch_1 0 rfl rfl)
theorem dX7_sketch_27 : decode cX7_sketch 27 = .ok (.iconst (-1), 1) := dk_2 (dk_at dksX7_sketch_1 3 rfl rfl)
theorem dX7_sketch_28 : decode cX7_sketch 28 = .ok (.ireturn, 1) := dk_172 (dk_at dksX7_sketch_1 4 rfl rfl)
abbrev cX7_sketchOf : ByteArray := prog_21_method_95_code
def yX7_sketchOf : MethodName := ⟨RX7, "sketchOf", "(II)I"⟩
def dkwX7_sketchOf_3 : List UInt8 := [167, 255, 199, 29, 4, 28, 120, 4, 100, 126, 172]
abbrev dktX7_sketchOf_3 : List UInt8 := dkwX7_sketchOf_3 ++ []
def dkwX7_sketchOf_2 : List UInt8 := [180, 0, 7, 21, 4, 5, 96, 8, 21, 5, 104, 96, 46, 96, 19, 1, 97, 126, 62, 132, 5, 1]
abbrev dktX7_sketchOf_2 : List UInt8 := dkwX7_sketchOf_2 ++ dktX7_sketchOf_3
def dkwX7_sketchOf_1 : List UInt8 := [29, 16, 31, 104, 16, 10, 42, 180, 0, 7, 21, 4, 4, 96, 8, 21, 5, 104, 96, 46, 104, 96, 42]
abbrev dktX7_sketchOf_1 : List UInt8 := dkwX7_sketchOf_1 ++ dktX7_sketchOf_2
def dkwX7_sketchOf_0 : List UInt8 := [16, 7, 62, 27, 184, 1, 1, 54, 4, 3, 54, 5, 21, 5, 42, 180, 0, 7, 21, 4, 46, 162, 0, 51]
abbrev dktX7_sketchOf_0 : List UInt8 := dkwX7_sketchOf_0 ++ dktX7_sketchOf_1
theorem dksX7_sketchOf_0 : cX7_sketchOf.data.toList.drop 0 = dktX7_sketchOf_0 := by decide +kernel
theorem dksX7_sketchOf_1 : cX7_sketchOf.data.toList.drop 24 = dktX7_sketchOf_1 := dk_seg dksX7_sketchOf_0 24 rfl rfl
theorem dksX7_sketchOf_2 : cX7_sketchOf.data.toList.drop 47 = dktX7_sketchOf_2 := dk_seg dksX7_sketchOf_1 23 rfl rfl
theorem dksX7_sketchOf_3 : cX7_sketchOf.data.toList.drop 69 = dktX7_sketchOf_3 := dk_seg dksX7_sketchOf_2 22 rfl rfl
theorem dX7_sketchOf_0 : decode cX7_sketchOf 0 = .ok (.bipush 7, 2) := dk_16 7 (dk_at dksX7_sketchOf_0 0 rfl rfl)
theorem dX7_sketchOf_2 : decode cX7_sketchOf 2 = .ok (.istore_n 3, 1) := dk_62 (dk_at dksX7_sketchOf_0 2 rfl rfl)
theorem dX7_sketchOf_3 : decode cX7_sketchOf 3 = .ok (.iload_n 1, 1) := dk_27 (dk_at dksX7_sketchOf_0 3 rfl rfl)
theorem dX7_sketchOf_4 : decode cX7_sketchOf 4 = .ok (.invokestatic 257, 3) := dk_184 1 1 (dk_at dksX7_sketchOf_0 4 rfl rfl)
theorem dX7_sketchOf_7 : decode cX7_sketchOf 7 = .ok (.istore 4, 2) := dk_54 4 (dk_at dksX7_sketchOf_0 7 rfl rfl)
theorem dX7_sketchOf_9 : decode cX7_sketchOf 9 = .ok (.iconst 0, 1) := dk_3 (dk_at dksX7_sketchOf_0 9 rfl rfl)
theorem dX7_sketchOf_10 : decode cX7_sketchOf 10 = .ok (.istore 5, 2) := dk_54 5 (dk_at dksX7_sketchOf_0 10 rfl rfl)
theorem dX7_sketchOf_12 : decode cX7_sketchOf 12 = .ok (.iload 5, 2) := dk_21 5 (dk_at dksX7_sketchOf_0 12 rfl rfl)
theorem dX7_sketchOf_14 : decode cX7_sketchOf 14 = .ok (.aload_n 0, 1) := dk_42 (dk_at dksX7_sketchOf_0 14 rfl rfl)
theorem dX7_sketchOf_15 : decode cX7_sketchOf 15 = .ok (.getfield 7, 3) := dk_180 0 7 (dk_at dksX7_sketchOf_0 15 rfl rfl)
theorem dX7_sketchOf_18 : decode cX7_sketchOf 18 = .ok (.iload 4, 2) := dk_21 4 (dk_at dksX7_sketchOf_0 18 rfl rfl)
theorem dX7_sketchOf_20 : decode cX7_sketchOf 20 = .ok (.iaload, 1) := dk_46 (dk_at dksX7_sketchOf_0 20 rfl rfl)
theorem dX7_sketchOf_21 : decode cX7_sketchOf 21 = .ok (.if_icmp .ge 51, 3) := dk_162 0 51 (dk_at dksX7_sketchOf_0 21 rfl rfl)
theorem dX7_sketchOf_24 : decode cX7_sketchOf 24 = .ok (.iload_n 3, 1) := dk_29 (dk_at dksX7_sketchOf_1 0 rfl rfl)
theorem dX7_sketchOf_25 : decode cX7_sketchOf 25 = .ok (.bipush 31, 2) := dk_16 31 (dk_at dksX7_sketchOf_1 1 rfl rfl)
theorem dX7_sketchOf_27 : decode cX7_sketchOf 27 = .ok (.imul, 1) := dk_104 (dk_at dksX7_sketchOf_1 3 rfl rfl)
theorem dX7_sketchOf_28 : decode cX7_sketchOf 28 = .ok (.bipush 10, 2) := dk_16 10 (dk_at dksX7_sketchOf_1 4 rfl rfl)
theorem dX7_sketchOf_30 : decode cX7_sketchOf 30 = .ok (.aload_n 0, 1) := dk_42 (dk_at dksX7_sketchOf_1 6 rfl rfl)
theorem dX7_sketchOf_31 : decode cX7_sketchOf 31 = .ok (.getfield 7, 3) := dk_180 0 7 (dk_at dksX7_sketchOf_1 7 rfl rfl)
theorem dX7_sketchOf_34 : decode cX7_sketchOf 34 = .ok (.iload 4, 2) := dk_21 4 (dk_at dksX7_sketchOf_1 10 rfl rfl)
theorem dX7_sketchOf_36 : decode cX7_sketchOf 36 = .ok (.iconst 1, 1) := dk_4 (dk_at dksX7_sketchOf_1 12 rfl rfl)
theorem dX7_sketchOf_37 : decode cX7_sketchOf 37 = .ok (.iadd, 1) := dk_96 (dk_at dksX7_sketchOf_1 13 rfl rfl)
theorem dX7_sketchOf_38 : decode cX7_sketchOf 38 = .ok (.iconst 5, 1) := dk_8 (dk_at dksX7_sketchOf_1 14 rfl rfl)
theorem dX7_sketchOf_39 : decode cX7_sketchOf 39 = .ok (.iload 5, 2) := dk_21 5 (dk_at dksX7_sketchOf_1 15 rfl rfl)
theorem dX7_sketchOf_41 : decode cX7_sketchOf 41 = .ok (.imul, 1) := dk_104 (dk_at dksX7_sketchOf_1 17 rfl rfl)
theorem dX7_sketchOf_42 : decode cX7_sketchOf 42 = .ok (.iadd, 1) := dk_96 (dk_at dksX7_sketchOf_1 18 rfl rfl)
theorem dX7_sketchOf_43 : decode cX7_sketchOf 43 = .ok (.iaload, 1) := dk_46 (dk_at dksX7_sketchOf_1 19 rfl rfl)
theorem dX7_sketchOf_44 : decode cX7_sketchOf 44 = .ok (.imul, 1) := dk_104 (dk_at dksX7_sketchOf_1 20 rfl rfl)
theorem dX7_sketchOf_45 : decode cX7_sketchOf 45 = .ok (.iadd, 1) := dk_96 (dk_at dksX7_sketchOf_1 21 rfl rfl)
theorem dX7_sketchOf_46 : decode cX7_sketchOf 46 = .ok (.aload_n 0, 1) := dk_42 (dk_at dksX7_sketchOf_1 22 rfl rfl)
theorem dX7_sketchOf_47 : decode cX7_sketchOf 47 = .ok (.getfield 7, 3) := dk_180 0 7 (dk_at dksX7_sketchOf_2 0 rfl rfl)
theorem dX7_sketchOf_50 : decode cX7_sketchOf 50 = .ok (.iload 4, 2) := dk_21 4 (dk_at dksX7_sketchOf_2 3 rfl rfl)
theorem dX7_sketchOf_52 : decode cX7_sketchOf 52 = .ok (.iconst 2, 1) := dk_5 (dk_at dksX7_sketchOf_2 5 rfl rfl)
theorem dX7_sketchOf_53 : decode cX7_sketchOf 53 = .ok (.iadd, 1) := dk_96 (dk_at dksX7_sketchOf_2 6 rfl rfl)
theorem dX7_sketchOf_54 : decode cX7_sketchOf 54 = .ok (.iconst 5, 1) := dk_8 (dk_at dksX7_sketchOf_2 7 rfl rfl)
theorem dX7_sketchOf_55 : decode cX7_sketchOf 55 = .ok (.iload 5, 2) := dk_21 5 (dk_at dksX7_sketchOf_2 8 rfl rfl)
theorem dX7_sketchOf_57 : decode cX7_sketchOf 57 = .ok (.imul, 1) := dk_104 (dk_at dksX7_sketchOf_2 10 rfl rfl)
theorem dX7_sketchOf_58 : decode cX7_sketchOf 58 = .ok (.iadd, 1) := dk_96 (dk_at dksX7_sketchOf_2 11 rfl rfl)
theorem dX7_sketchOf_59 : decode cX7_sketchOf 59 = .ok (.iaload, 1) := dk_46 (dk_at dksX7_sketchOf_2 12 rfl rfl)
theorem dX7_sketchOf_60 : decode cX7_sketchOf 60 = .ok (.iadd, 1) := dk_96 (dk_at dksX7_sketchOf_2 13 rfl rfl)
theorem dX7_sketchOf_61 : decode cX7_sketchOf 61 = .ok (.ldc_w 353, 3) := dk_19 1 97 (dk_at dksX7_sketchOf_2 14 rfl rfl)
theorem dX7_sketchOf_64 : decode cX7_sketchOf 64 = .ok (.iand, 1) := dk_126 (dk_at dksX7_sketchOf_2 17 rfl rfl)
theorem dX7_sketchOf_65 : decode cX7_sketchOf 65 = .ok (.istore_n 3, 1) := dk_62 (dk_at dksX7_sketchOf_2 18 rfl rfl)
theorem dX7_sketchOf_66 : decode cX7_sketchOf 66 = .ok (.iinc 5 1, 3) := dk_132 5 1 (dk_at dksX7_sketchOf_2 19 rfl rfl)
theorem dX7_sketchOf_69 : decode cX7_sketchOf 69 = .ok (.goto (-57), 3) := dk_167 255 199 (dk_at dksX7_sketchOf_3 0 rfl rfl)
theorem dX7_sketchOf_72 : decode cX7_sketchOf 72 = .ok (.iload_n 3, 1) := dk_29 (dk_at dksX7_sketchOf_3 3 rfl rfl)
theorem dX7_sketchOf_73 : decode cX7_sketchOf 73 = .ok (.iconst 1, 1) := dk_4 (dk_at dksX7_sketchOf_3 4 rfl rfl)
theorem dX7_sketchOf_74 : decode cX7_sketchOf 74 = .ok (.iload_n 2, 1) := dk_28 (dk_at dksX7_sketchOf_3 5 rfl rfl)
theorem dX7_sketchOf_75 : decode cX7_sketchOf 75 = .ok (.ishl, 1) := dk_120 (dk_at dksX7_sketchOf_3 6 rfl rfl)
theorem dX7_sketchOf_76 : decode cX7_sketchOf 76 = .ok (.iconst 1, 1) := dk_4 (dk_at dksX7_sketchOf_3 7 rfl rfl)
theorem dX7_sketchOf_77 : decode cX7_sketchOf 77 = .ok (.isub, 1) := dk_100 (dk_at dksX7_sketchOf_3 8 rfl rfl)
theorem dX7_sketchOf_78 : decode cX7_sketchOf 78 = .ok (.iand, 1) := dk_126 (dk_at dksX7_sketchOf_3 9 rfl rfl)
theorem dX7_sketchOf_79 : decode cX7_sketchOf 79 = .ok (.ireturn, 1) := dk_172 (dk_at dksX7_sketchOf_3 10 rfl rfl)
abbrev cX7_leaves : ByteArray := prog_21_method_97_code
def yX7_leaves : MethodName := ⟨RX7, "leaves", "(II)I"⟩
def dkwX7_leaves_3 : List UInt8 := [132, 5, 1, 167, 255, 216, 21, 4, 28, 161, 0, 5, 29, 172, 132, 3, 255, 167, 255, 192, 2, 172]
abbrev dktX7_leaves_3 : List UInt8 := dkwX7_leaves_3 ++ []
def dkwX7_leaves_2 : List UInt8 := [21, 5, 29, 182, 1, 98, 42, 27, 29, 182, 1, 98, 160, 0, 7, 4, 167, 0, 4, 3, 96, 54, 4]
abbrev dktX7_leaves_2 : List UInt8 := dkwX7_leaves_2 ++ dktX7_leaves_3
def dkwX7_leaves_1 : List UInt8 := [155, 0, 66, 3, 54, 4, 3, 54, 5, 21, 5, 42, 180, 0, 7, 4, 46, 162, 0, 35, 21, 4, 42]
abbrev dktX7_leaves_1 : List UInt8 := dkwX7_leaves_1 ++ dktX7_leaves_2
def dkwX7_leaves_0 : List UInt8 := [42, 27, 182, 0, 202, 153, 0, 13, 28, 4, 16, 10, 184, 0, 89, 154, 0, 5, 2, 172, 16, 16, 62, 29]
abbrev dktX7_leaves_0 : List UInt8 := dkwX7_leaves_0 ++ dktX7_leaves_1
theorem dksX7_leaves_0 : cX7_leaves.data.toList.drop 0 = dktX7_leaves_0 := by decide +kernel
theorem dksX7_leaves_1 : cX7_leaves.data.toList.drop 24 = dktX7_leaves_1 := dk_seg dksX7_leaves_0 24 rfl rfl
theorem dksX7_leaves_2 : cX7_leaves.data.toList.drop 47 = dktX7_leaves_2 := dk_seg dksX7_leaves_1 23 rfl rfl
theorem dksX7_leaves_3 : cX7_leaves.data.toList.drop 70 = dktX7_leaves_3 := dk_seg dksX7_leaves_2 23 rfl rfl
theorem dX7_leaves_0 : decode cX7_leaves 0 = .ok (.aload_n 0, 1) := dk_42 (dk_at dksX7_leaves_0 0 rfl rfl)
theorem dX7_leaves_1 : decode cX7_leaves 1 = .ok (.iload_n 1, 1) := dk_27 (dk_at dksX7_leaves_0 1 rfl rfl)
theorem dX7_leaves_2 : decode cX7_leaves 2 = .ok (.invokevirtual 202, 3) := dk_182 0 202 (dk_at dksX7_leaves_0 2 rfl rfl)
theorem dX7_leaves_5 : decode cX7_leaves 5 = .ok (.ifCond .eq 13, 3) := dk_153 0 13 (dk_at dksX7_leaves_0 5 rfl rfl)
theorem dX7_leaves_8 : decode cX7_leaves 8 = .ok (.iload_n 2, 1) := dk_28 (dk_at dksX7_leaves_0 8 rfl rfl)
theorem dX7_leaves_9 : decode cX7_leaves 9 = .ok (.iconst 1, 1) := dk_4 (dk_at dksX7_leaves_0 9 rfl rfl)
theorem dX7_leaves_10 : decode cX7_leaves 10 = .ok (.bipush 10, 2) := dk_16 10 (dk_at dksX7_leaves_0 10 rfl rfl)
theorem dX7_leaves_12 : decode cX7_leaves 12 = .ok (.invokestatic 89, 3) := dk_184 0 89 (dk_at dksX7_leaves_0 12 rfl rfl)
theorem dX7_leaves_15 : decode cX7_leaves 15 = .ok (.ifCond .ne 5, 3) := dk_154 0 5 (dk_at dksX7_leaves_0 15 rfl rfl)
theorem dX7_leaves_18 : decode cX7_leaves 18 = .ok (.iconst (-1), 1) := dk_2 (dk_at dksX7_leaves_0 18 rfl rfl)
theorem dX7_leaves_19 : decode cX7_leaves 19 = .ok (.ireturn, 1) := dk_172 (dk_at dksX7_leaves_0 19 rfl rfl)
theorem dX7_leaves_20 : decode cX7_leaves 20 = .ok (.bipush 16, 2) := dk_16 16 (dk_at dksX7_leaves_0 20 rfl rfl)
theorem dX7_leaves_22 : decode cX7_leaves 22 = .ok (.istore_n 3, 1) := dk_62 (dk_at dksX7_leaves_0 22 rfl rfl)
theorem dX7_leaves_23 : decode cX7_leaves 23 = .ok (.iload_n 3, 1) := dk_29 (dk_at dksX7_leaves_0 23 rfl rfl)
theorem dX7_leaves_24 : decode cX7_leaves 24 = .ok (.ifCond .lt 66, 3) := dk_155 0 66 (dk_at dksX7_leaves_1 0 rfl rfl)
theorem dX7_leaves_27 : decode cX7_leaves 27 = .ok (.iconst 0, 1) := dk_3 (dk_at dksX7_leaves_1 3 rfl rfl)
theorem dX7_leaves_28 : decode cX7_leaves 28 = .ok (.istore 4, 2) := dk_54 4 (dk_at dksX7_leaves_1 4 rfl rfl)
theorem dX7_leaves_30 : decode cX7_leaves 30 = .ok (.iconst 0, 1) := dk_3 (dk_at dksX7_leaves_1 6 rfl rfl)
theorem dX7_leaves_31 : decode cX7_leaves 31 = .ok (.istore 5, 2) := dk_54 5 (dk_at dksX7_leaves_1 7 rfl rfl)
theorem dX7_leaves_33 : decode cX7_leaves 33 = .ok (.iload 5, 2) := dk_21 5 (dk_at dksX7_leaves_1 9 rfl rfl)
theorem dX7_leaves_35 : decode cX7_leaves 35 = .ok (.aload_n 0, 1) := dk_42 (dk_at dksX7_leaves_1 11 rfl rfl)
theorem dX7_leaves_36 : decode cX7_leaves 36 = .ok (.getfield 7, 3) := dk_180 0 7 (dk_at dksX7_leaves_1 12 rfl rfl)
theorem dX7_leaves_39 : decode cX7_leaves 39 = .ok (.iconst 1, 1) := dk_4 (dk_at dksX7_leaves_1 15 rfl rfl)
theorem dX7_leaves_40 : decode cX7_leaves 40 = .ok (.iaload, 1) := dk_46 (dk_at dksX7_leaves_1 16 rfl rfl)
theorem dX7_leaves_41 : decode cX7_leaves 41 = .ok (.if_icmp .ge 35, 3) := dk_162 0 35 (dk_at dksX7_leaves_1 17 rfl rfl)
theorem dX7_leaves_44 : decode cX7_leaves 44 = .ok (.iload 4, 2) := dk_21 4 (dk_at dksX7_leaves_1 20 rfl rfl)
theorem dX7_leaves_46 : decode cX7_leaves 46 = .ok (.aload_n 0, 1) := dk_42 (dk_at dksX7_leaves_1 22 rfl rfl)
theorem dX7_leaves_47 : decode cX7_leaves 47 = .ok (.iload 5, 2) := dk_21 5 (dk_at dksX7_leaves_2 0 rfl rfl)
theorem dX7_leaves_49 : decode cX7_leaves 49 = .ok (.iload_n 3, 1) := dk_29 (dk_at dksX7_leaves_2 2 rfl rfl)
theorem dX7_leaves_50 : decode cX7_leaves 50 = .ok (.invokevirtual 354, 3) := dk_182 1 98 (dk_at dksX7_leaves_2 3 rfl rfl)
theorem dX7_leaves_53 : decode cX7_leaves 53 = .ok (.aload_n 0, 1) := dk_42 (dk_at dksX7_leaves_2 6 rfl rfl)
theorem dX7_leaves_54 : decode cX7_leaves 54 = .ok (.iload_n 1, 1) := dk_27 (dk_at dksX7_leaves_2 7 rfl rfl)
theorem dX7_leaves_55 : decode cX7_leaves 55 = .ok (.iload_n 3, 1) := dk_29 (dk_at dksX7_leaves_2 8 rfl rfl)
theorem dX7_leaves_56 : decode cX7_leaves 56 = .ok (.invokevirtual 354, 3) := dk_182 1 98 (dk_at dksX7_leaves_2 9 rfl rfl)
theorem dX7_leaves_59 : decode cX7_leaves 59 = .ok (.if_icmp .ne 7, 3) := dk_160 0 7 (dk_at dksX7_leaves_2 12 rfl rfl)
theorem dX7_leaves_62 : decode cX7_leaves 62 = .ok (.iconst 1, 1) := dk_4 (dk_at dksX7_leaves_2 15 rfl rfl)
theorem dX7_leaves_63 : decode cX7_leaves 63 = .ok (.goto 4, 3) := dk_167 0 4 (dk_at dksX7_leaves_2 16 rfl rfl)
theorem dX7_leaves_66 : decode cX7_leaves 66 = .ok (.iconst 0, 1) := dk_3 (dk_at dksX7_leaves_2 19 rfl rfl)
theorem dX7_leaves_67 : decode cX7_leaves 67 = .ok (.iadd, 1) := dk_96 (dk_at dksX7_leaves_2 20 rfl rfl)
theorem dX7_leaves_68 : decode cX7_leaves 68 = .ok (.istore 4, 2) := dk_54 4 (dk_at dksX7_leaves_2 21 rfl rfl)
theorem dX7_leaves_70 : decode cX7_leaves 70 = .ok (.iinc 5 1, 3) := dk_132 5 1 (dk_at dksX7_leaves_3 0 rfl rfl)
theorem dX7_leaves_73 : decode cX7_leaves 73 = .ok (.goto (-40), 3) := dk_167 255 216 (dk_at dksX7_leaves_3 3 rfl rfl)
theorem dX7_leaves_76 : decode cX7_leaves 76 = .ok (.iload 4, 2) := dk_21 4 (dk_at dksX7_leaves_3 6 rfl rfl)
theorem dX7_leaves_78 : decode cX7_leaves 78 = .ok (.iload_n 2, 1) := dk_28 (dk_at dksX7_leaves_3 8 rfl rfl)
theorem dX7_leaves_79 : decode cX7_leaves 79 = .ok (.if_icmp .lt 5, 3) := dk_161 0 5 (dk_at dksX7_leaves_3 9 rfl rfl)
theorem dX7_leaves_82 : decode cX7_leaves 82 = .ok (.iload_n 3, 1) := dk_29 (dk_at dksX7_leaves_3 12 rfl rfl)
theorem dX7_leaves_83 : decode cX7_leaves 83 = .ok (.ireturn, 1) := dk_172 (dk_at dksX7_leaves_3 13 rfl rfl)
theorem dX7_leaves_84 : decode cX7_leaves 84 = .ok (.iinc 3 (-1), 3) := dk_132 3 255 (dk_at dksX7_leaves_3 14 rfl rfl)
theorem dX7_leaves_87 : decode cX7_leaves 87 = .ok (.goto (-64), 3) := dk_167 255 192 (dk_at dksX7_leaves_3 17 rfl rfl)
theorem dX7_leaves_90 : decode cX7_leaves 90 = .ok (.iconst (-1), 1) := dk_2 (dk_at dksX7_leaves_3 20 rfl rfl)
theorem dX7_leaves_91 : decode cX7_leaves 91 = .ok (.ireturn, 1) := dk_172 (dk_at dksX7_leaves_3 21 rfl rfl)
abbrev cX7_warn : ByteArray := prog_21_method_98_code
def yX7_warn : MethodName := ⟨RX7, "warn", "(III)I"⟩
def dkwX7_warn_3 : List UInt8 := [21, 4, 4, 21, 5, 120, 128, 54, 4, 132, 5, 1, 167, 255, 198, 21, 4, 172]
abbrev dktX7_warn_3 : List UInt8 := dkwX7_warn_3 ++ []
def dkwX7_warn_2 : List UInt8 := [160, 0, 7, 4, 167, 0, 4, 3, 54, 6, 21, 6, 153, 0, 20, 42, 180, 1, 23, 27, 160, 0, 12]
abbrev dktX7_warn_2 : List UInt8 := dkwX7_warn_2 ++ dktX7_warn_3
def dkwX7_warn_1 : List UInt8 := [21, 5, 42, 180, 0, 7, 4, 46, 162, 0, 53, 42, 21, 5, 28, 29, 182, 1, 47, 184, 1, 50, 5]
abbrev dktX7_warn_1 : List UInt8 := dkwX7_warn_1 ++ dktX7_warn_2
def dkwX7_warn_0 : List UInt8 := [42, 27, 182, 0, 182, 153, 0, 11, 28, 29, 184, 0, 254, 154, 0, 5, 2, 172, 3, 54, 4, 3, 54, 5]
abbrev dktX7_warn_0 : List UInt8 := dkwX7_warn_0 ++ dktX7_warn_1
theorem dksX7_warn_0 : cX7_warn.data.toList.drop 0 = dktX7_warn_0 := by decide +kernel
theorem dksX7_warn_1 : cX7_warn.data.toList.drop 24 = dktX7_warn_1 := dk_seg dksX7_warn_0 24 rfl rfl
theorem dksX7_warn_2 : cX7_warn.data.toList.drop 47 = dktX7_warn_2 := dk_seg dksX7_warn_1 23 rfl rfl
theorem dksX7_warn_3 : cX7_warn.data.toList.drop 70 = dktX7_warn_3 := dk_seg dksX7_warn_2 23 rfl rfl
theorem dX7_warn_0 : decode cX7_warn 0 = .ok (.aload_n 0, 1) := dk_42 (dk_at dksX7_warn_0 0 rfl rfl)
theorem dX7_warn_1 : decode cX7_warn 1 = .ok (.iload_n 1, 1) := dk_27 (dk_at dksX7_warn_0 1 rfl rfl)
theorem dX7_warn_2 : decode cX7_warn 2 = .ok (.invokevirtual 182, 3) := dk_182 0 182 (dk_at dksX7_warn_0 2 rfl rfl)
theorem dX7_warn_5 : decode cX7_warn 5 = .ok (.ifCond .eq 11, 3) := dk_153 0 11 (dk_at dksX7_warn_0 5 rfl rfl)
theorem dX7_warn_8 : decode cX7_warn 8 = .ok (.iload_n 2, 1) := dk_28 (dk_at dksX7_warn_0 8 rfl rfl)
theorem dX7_warn_9 : decode cX7_warn 9 = .ok (.iload_n 3, 1) := dk_29 (dk_at dksX7_warn_0 9 rfl rfl)
theorem dX7_warn_10 : decode cX7_warn 10 = .ok (.invokestatic 254, 3) := dk_184 0 254 (dk_at dksX7_warn_0 10 rfl rfl)
theorem dX7_warn_13 : decode cX7_warn 13 = .ok (.ifCond .ne 5, 3) := dk_154 0 5 (dk_at dksX7_warn_0 13 rfl rfl)
theorem dX7_warn_16 : decode cX7_warn 16 = .ok (.iconst (-1), 1) := dk_2 (dk_at dksX7_warn_0 16 rfl rfl)
theorem dX7_warn_17 : decode cX7_warn 17 = .ok (.ireturn, 1) := dk_172 (dk_at dksX7_warn_0 17 rfl rfl)
theorem dX7_warn_18 : decode cX7_warn 18 = .ok (.iconst 0, 1) := dk_3 (dk_at dksX7_warn_0 18 rfl rfl)
theorem dX7_warn_19 : decode cX7_warn 19 = .ok (.istore 4, 2) := dk_54 4 (dk_at dksX7_warn_0 19 rfl rfl)
theorem dX7_warn_21 : decode cX7_warn 21 = .ok (.iconst 0, 1) := dk_3 (dk_at dksX7_warn_0 21 rfl rfl)
theorem dX7_warn_22 : decode cX7_warn 22 = .ok (.istore 5, 2) := dk_54 5 (dk_at dksX7_warn_0 22 rfl rfl)
theorem dX7_warn_24 : decode cX7_warn 24 = .ok (.iload 5, 2) := dk_21 5 (dk_at dksX7_warn_1 0 rfl rfl)
theorem dX7_warn_26 : decode cX7_warn 26 = .ok (.aload_n 0, 1) := dk_42 (dk_at dksX7_warn_1 2 rfl rfl)
theorem dX7_warn_27 : decode cX7_warn 27 = .ok (.getfield 7, 3) := dk_180 0 7 (dk_at dksX7_warn_1 3 rfl rfl)
theorem dX7_warn_30 : decode cX7_warn 30 = .ok (.iconst 1, 1) := dk_4 (dk_at dksX7_warn_1 6 rfl rfl)
theorem dX7_warn_31 : decode cX7_warn 31 = .ok (.iaload, 1) := dk_46 (dk_at dksX7_warn_1 7 rfl rfl)
theorem dX7_warn_32 : decode cX7_warn 32 = .ok (.if_icmp .ge 53, 3) := dk_162 0 53 (dk_at dksX7_warn_1 8 rfl rfl)
theorem dX7_warn_35 : decode cX7_warn 35 = .ok (.aload_n 0, 1) := dk_42 (dk_at dksX7_warn_1 11 rfl rfl)
theorem dX7_warn_36 : decode cX7_warn 36 = .ok (.iload 5, 2) := dk_21 5 (dk_at dksX7_warn_1 12 rfl rfl)
theorem dX7_warn_38 : decode cX7_warn 38 = .ok (.iload_n 2, 1) := dk_28 (dk_at dksX7_warn_1 14 rfl rfl)
theorem dX7_warn_39 : decode cX7_warn 39 = .ok (.iload_n 3, 1) := dk_29 (dk_at dksX7_warn_1 15 rfl rfl)
theorem dX7_warn_40 : decode cX7_warn 40 = .ok (.invokevirtual 303, 3) := dk_182 1 47 (dk_at dksX7_warn_1 16 rfl rfl)
theorem dX7_warn_43 : decode cX7_warn 43 = .ok (.invokestatic 306, 3) := dk_184 1 50 (dk_at dksX7_warn_1 19 rfl rfl)
theorem dX7_warn_46 : decode cX7_warn 46 = .ok (.iconst 2, 1) := dk_5 (dk_at dksX7_warn_1 22 rfl rfl)
theorem dX7_warn_47 : decode cX7_warn 47 = .ok (.if_icmp .ne 7, 3) := dk_160 0 7 (dk_at dksX7_warn_2 0 rfl rfl)
theorem dX7_warn_50 : decode cX7_warn 50 = .ok (.iconst 1, 1) := dk_4 (dk_at dksX7_warn_2 3 rfl rfl)
theorem dX7_warn_51 : decode cX7_warn 51 = .ok (.goto 4, 3) := dk_167 0 4 (dk_at dksX7_warn_2 4 rfl rfl)
theorem dX7_warn_54 : decode cX7_warn 54 = .ok (.iconst 0, 1) := dk_3 (dk_at dksX7_warn_2 7 rfl rfl)
theorem dX7_warn_55 : decode cX7_warn 55 = .ok (.istore 6, 2) := dk_54 6 (dk_at dksX7_warn_2 8 rfl rfl)
theorem dX7_warn_57 : decode cX7_warn 57 = .ok (.iload 6, 2) := dk_21 6 (dk_at dksX7_warn_2 10 rfl rfl)
theorem dX7_warn_59 : decode cX7_warn 59 = .ok (.ifCond .eq 20, 3) := dk_153 0 20 (dk_at dksX7_warn_2 12 rfl rfl)
theorem dX7_warn_62 : decode cX7_warn 62 = .ok (.aload_n 0, 1) := dk_42 (dk_at dksX7_warn_2 15 rfl rfl)
theorem dX7_warn_63 : decode cX7_warn 63 = .ok (.getfield 279, 3) := dk_180 1 23 (dk_at dksX7_warn_2 16 rfl rfl)
theorem dX7_warn_66 : decode cX7_warn 66 = .ok (.iload_n 1, 1) := dk_27 (dk_at dksX7_warn_2 19 rfl rfl)
theorem dX7_warn_67 : decode cX7_warn 67 = .ok (.if_icmp .ne 12, 3) := dk_160 0 12 (dk_at dksX7_warn_2 20 rfl rfl)
theorem dX7_warn_70 : decode cX7_warn 70 = .ok (.iload 4, 2) := dk_21 4 (dk_at dksX7_warn_3 0 rfl rfl)
theorem dX7_warn_72 : decode cX7_warn 72 = .ok (.iconst 1, 1) := dk_4 (dk_at dksX7_warn_3 2 rfl rfl)
theorem dX7_warn_73 : decode cX7_warn 73 = .ok (.iload 5, 2) := dk_21 5 (dk_at dksX7_warn_3 3 rfl rfl)
theorem dX7_warn_75 : decode cX7_warn 75 = .ok (.ishl, 1) := dk_120 (dk_at dksX7_warn_3 5 rfl rfl)
theorem dX7_warn_76 : decode cX7_warn 76 = .ok (.ior, 1) := dk_128 (dk_at dksX7_warn_3 6 rfl rfl)
theorem dX7_warn_77 : decode cX7_warn 77 = .ok (.istore 4, 2) := dk_54 4 (dk_at dksX7_warn_3 7 rfl rfl)
theorem dX7_warn_79 : decode cX7_warn 79 = .ok (.iinc 5 1, 3) := dk_132 5 1 (dk_at dksX7_warn_3 9 rfl rfl)
theorem dX7_warn_82 : decode cX7_warn 82 = .ok (.goto (-58), 3) := dk_167 255 198 (dk_at dksX7_warn_3 12 rfl rfl)
theorem dX7_warn_85 : decode cX7_warn 85 = .ok (.iload 4, 2) := dk_21 4 (dk_at dksX7_warn_3 15 rfl rfl)
theorem dX7_warn_87 : decode cX7_warn 87 = .ok (.ireturn, 1) := dk_172 (dk_at dksX7_warn_3 17 rfl rfl)
abbrev cX7_program : ByteArray := prog_21_method_103_code
def yX7_program : MethodName := ⟨RX7, "program", "(I)I"⟩
def dkwX7_program_4 : List UInt8 := [96, 42, 180, 0, 77, 28, 46, 79, 132, 2, 1, 167, 255, 227, 42, 180, 1, 101, 172]
abbrev dktX7_program_4 : List UInt8 := dkwX7_program_4 ++ []
def dkwX7_program_3 : List UInt8 := [180, 1, 101, 79, 3, 61, 28, 16, 80, 162, 0, 29, 42, 180, 0, 7, 27, 184, 0, 93, 16, 121, 96, 28]
abbrev dktX7_program_3 : List UInt8 := dkwX7_program_3 ++ dktX7_program_4
def dkwX7_program_2 : List UInt8 := [180, 0, 7, 16, 7, 46, 153, 0, 5, 2, 172, 42, 180, 0, 7, 27, 184, 0, 93, 16, 120, 96, 42]
abbrev dktX7_program_2 : List UInt8 := dkwX7_program_2 ++ dktX7_program_3
def dkwX7_program_1 : List UInt8 := [42, 180, 0, 147, 154, 0, 17, 42, 180, 0, 125, 153, 0, 10, 42, 182, 1, 113, 167, 255, 238, 42]
abbrev dktX7_program_1 : List UInt8 := dkwX7_program_1 ++ dktX7_program_2
def dkwX7_program_0 : List UInt8 := [42, 182, 0, 179, 42, 27, 182, 0, 202, 154, 0, 6, 16, 254, 172, 42, 3, 181, 1, 101, 42, 182, 0, 164]
abbrev dktX7_program_0 : List UInt8 := dkwX7_program_0 ++ dktX7_program_1
theorem dksX7_program_0 : cX7_program.data.toList.drop 0 = dktX7_program_0 := by decide +kernel
theorem dksX7_program_1 : cX7_program.data.toList.drop 24 = dktX7_program_1 := dk_seg dksX7_program_0 24 rfl rfl
theorem dksX7_program_2 : cX7_program.data.toList.drop 46 = dktX7_program_2 := dk_seg dksX7_program_1 22 rfl rfl
theorem dksX7_program_3 : cX7_program.data.toList.drop 69 = dktX7_program_3 := dk_seg dksX7_program_2 23 rfl rfl
theorem dksX7_program_4 : cX7_program.data.toList.drop 93 = dktX7_program_4 := dk_seg dksX7_program_3 24 rfl rfl
theorem dX7_program_0 : decode cX7_program 0 = .ok (.aload_n 0, 1) := dk_42 (dk_at dksX7_program_0 0 rfl rfl)
theorem dX7_program_1 : decode cX7_program 1 = .ok (.invokevirtual 179, 3) := dk_182 0 179 (dk_at dksX7_program_0 1 rfl rfl)
theorem dX7_program_4 : decode cX7_program 4 = .ok (.aload_n 0, 1) := dk_42 (dk_at dksX7_program_0 4 rfl rfl)
theorem dX7_program_5 : decode cX7_program 5 = .ok (.iload_n 1, 1) := dk_27 (dk_at dksX7_program_0 5 rfl rfl)
theorem dX7_program_6 : decode cX7_program 6 = .ok (.invokevirtual 202, 3) := dk_182 0 202 (dk_at dksX7_program_0 6 rfl rfl)
theorem dX7_program_9 : decode cX7_program 9 = .ok (.ifCond .ne 6, 3) := dk_154 0 6 (dk_at dksX7_program_0 9 rfl rfl)
theorem dX7_program_12 : decode cX7_program 12 = .ok (.bipush (-2), 2) := dk_16 254 (dk_at dksX7_program_0 12 rfl rfl)
theorem dX7_program_14 : decode cX7_program 14 = .ok (.ireturn, 1) := dk_172 (dk_at dksX7_program_0 14 rfl rfl)
theorem dX7_program_15 : decode cX7_program 15 = .ok (.aload_n 0, 1) := dk_42 (dk_at dksX7_program_0 15 rfl rfl)
theorem dX7_program_16 : decode cX7_program 16 = .ok (.iconst 0, 1) := dk_3 (dk_at dksX7_program_0 16 rfl rfl)
theorem dX7_program_17 : decode cX7_program 17 = .ok (.putfield 357, 3) := dk_181 1 101 (dk_at dksX7_program_0 17 rfl rfl)
theorem dX7_program_20 : decode cX7_program 20 = .ok (.aload_n 0, 1) := dk_42 (dk_at dksX7_program_0 20 rfl rfl)
theorem dX7_program_21 : decode cX7_program 21 = .ok (.invokevirtual 164, 3) := dk_182 0 164 (dk_at dksX7_program_0 21 rfl rfl)
theorem dX7_program_24 : decode cX7_program 24 = .ok (.aload_n 0, 1) := dk_42 (dk_at dksX7_program_1 0 rfl rfl)
theorem dX7_program_25 : decode cX7_program 25 = .ok (.getfield 147, 3) := dk_180 0 147 (dk_at dksX7_program_1 1 rfl rfl)
theorem dX7_program_28 : decode cX7_program 28 = .ok (.ifCond .ne 17, 3) := dk_154 0 17 (dk_at dksX7_program_1 4 rfl rfl)
theorem dX7_program_31 : decode cX7_program 31 = .ok (.aload_n 0, 1) := dk_42 (dk_at dksX7_program_1 7 rfl rfl)
theorem dX7_program_32 : decode cX7_program 32 = .ok (.getfield 125, 3) := dk_180 0 125 (dk_at dksX7_program_1 8 rfl rfl)
theorem dX7_program_35 : decode cX7_program 35 = .ok (.ifCond .eq 10, 3) := dk_153 0 10 (dk_at dksX7_program_1 11 rfl rfl)
theorem dX7_program_38 : decode cX7_program 38 = .ok (.aload_n 0, 1) := dk_42 (dk_at dksX7_program_1 14 rfl rfl)
theorem dX7_program_39 : decode cX7_program 39 = .ok (.invokevirtual 369, 3) := dk_182 1 113 (dk_at dksX7_program_1 15 rfl rfl)
theorem dX7_program_42 : decode cX7_program 42 = .ok (.goto (-18), 3) := dk_167 255 238 (dk_at dksX7_program_1 18 rfl rfl)
theorem dX7_program_45 : decode cX7_program 45 = .ok (.aload_n 0, 1) := dk_42 (dk_at dksX7_program_1 21 rfl rfl)
theorem dX7_program_46 : decode cX7_program 46 = .ok (.getfield 7, 3) := dk_180 0 7 (dk_at dksX7_program_2 0 rfl rfl)
theorem dX7_program_49 : decode cX7_program 49 = .ok (.bipush 7, 2) := dk_16 7 (dk_at dksX7_program_2 3 rfl rfl)
theorem dX7_program_51 : decode cX7_program 51 = .ok (.iaload, 1) := dk_46 (dk_at dksX7_program_2 5 rfl rfl)
theorem dX7_program_52 : decode cX7_program 52 = .ok (.ifCond .eq 5, 3) := dk_153 0 5 (dk_at dksX7_program_2 6 rfl rfl)
theorem dX7_program_55 : decode cX7_program 55 = .ok (.iconst (-1), 1) := dk_2 (dk_at dksX7_program_2 9 rfl rfl)
theorem dX7_program_56 : decode cX7_program 56 = .ok (.ireturn, 1) := dk_172 (dk_at dksX7_program_2 10 rfl rfl)
theorem dX7_program_57 : decode cX7_program 57 = .ok (.aload_n 0, 1) := dk_42 (dk_at dksX7_program_2 11 rfl rfl)
theorem dX7_program_58 : decode cX7_program 58 = .ok (.getfield 7, 3) := dk_180 0 7 (dk_at dksX7_program_2 12 rfl rfl)
theorem dX7_program_61 : decode cX7_program 61 = .ok (.iload_n 1, 1) := dk_27 (dk_at dksX7_program_2 15 rfl rfl)
theorem dX7_program_62 : decode cX7_program 62 = .ok (.invokestatic 93, 3) := dk_184 0 93 (dk_at dksX7_program_2 16 rfl rfl)
theorem dX7_program_65 : decode cX7_program 65 = .ok (.bipush 120, 2) := dk_16 120 (dk_at dksX7_program_2 19 rfl rfl)
theorem dX7_program_67 : decode cX7_program 67 = .ok (.iadd, 1) := dk_96 (dk_at dksX7_program_2 21 rfl rfl)
theorem dX7_program_68 : decode cX7_program 68 = .ok (.aload_n 0, 1) := dk_42 (dk_at dksX7_program_2 22 rfl rfl)
theorem dX7_program_69 : decode cX7_program 69 = .ok (.getfield 357, 3) := dk_180 1 101 (dk_at dksX7_program_3 0 rfl rfl)
theorem dX7_program_72 : decode cX7_program 72 = .ok (.iastore, 1) := dk_79 (dk_at dksX7_program_3 3 rfl rfl)
theorem dX7_program_73 : decode cX7_program 73 = .ok (.iconst 0, 1) := dk_3 (dk_at dksX7_program_3 4 rfl rfl)
theorem dX7_program_74 : decode cX7_program 74 = .ok (.istore_n 2, 1) := dk_61 (dk_at dksX7_program_3 5 rfl rfl)
theorem dX7_program_75 : decode cX7_program 75 = .ok (.iload_n 2, 1) := dk_28 (dk_at dksX7_program_3 6 rfl rfl)
theorem dX7_program_76 : decode cX7_program 76 = .ok (.bipush 80, 2) := dk_16 80 (dk_at dksX7_program_3 7 rfl rfl)
theorem dX7_program_78 : decode cX7_program 78 = .ok (.if_icmp .ge 29, 3) := dk_162 0 29 (dk_at dksX7_program_3 9 rfl rfl)
theorem dX7_program_81 : decode cX7_program 81 = .ok (.aload_n 0, 1) := dk_42 (dk_at dksX7_program_3 12 rfl rfl)
theorem dX7_program_82 : decode cX7_program 82 = .ok (.getfield 7, 3) := dk_180 0 7 (dk_at dksX7_program_3 13 rfl rfl)
theorem dX7_program_85 : decode cX7_program 85 = .ok (.iload_n 1, 1) := dk_27 (dk_at dksX7_program_3 16 rfl rfl)
theorem dX7_program_86 : decode cX7_program 86 = .ok (.invokestatic 93, 3) := dk_184 0 93 (dk_at dksX7_program_3 17 rfl rfl)
theorem dX7_program_89 : decode cX7_program 89 = .ok (.bipush 121, 2) := dk_16 121 (dk_at dksX7_program_3 20 rfl rfl)
theorem dX7_program_91 : decode cX7_program 91 = .ok (.iadd, 1) := dk_96 (dk_at dksX7_program_3 22 rfl rfl)
theorem dX7_program_92 : decode cX7_program 92 = .ok (.iload_n 2, 1) := dk_28 (dk_at dksX7_program_3 23 rfl rfl)
theorem dX7_program_93 : decode cX7_program 93 = .ok (.iadd, 1) := dk_96 (dk_at dksX7_program_4 0 rfl rfl)
theorem dX7_program_94 : decode cX7_program 94 = .ok (.aload_n 0, 1) := dk_42 (dk_at dksX7_program_4 1 rfl rfl)
theorem dX7_program_95 : decode cX7_program 95 = .ok (.getfield 77, 3) := dk_180 0 77 (dk_at dksX7_program_4 2 rfl rfl)
theorem dX7_program_98 : decode cX7_program 98 = .ok (.iload_n 2, 1) := dk_28 (dk_at dksX7_program_4 5 rfl rfl)
theorem dX7_program_99 : decode cX7_program 99 = .ok (.iaload, 1) := dk_46 (dk_at dksX7_program_4 6 rfl rfl)
theorem dX7_program_100 : decode cX7_program 100 = .ok (.iastore, 1) := dk_79 (dk_at dksX7_program_4 7 rfl rfl)
theorem dX7_program_101 : decode cX7_program 101 = .ok (.iinc 2 1, 3) := dk_132 2 1 (dk_at dksX7_program_4 8 rfl rfl)
theorem dX7_program_104 : decode cX7_program 104 = .ok (.goto (-29), 3) := dk_167 255 227 (dk_at dksX7_program_4 11 rfl rfl)
theorem dX7_program_107 : decode cX7_program 107 = .ok (.aload_n 0, 1) := dk_42 (dk_at dksX7_program_4 14 rfl rfl)
theorem dX7_program_108 : decode cX7_program 108 = .ok (.getfield 357, 3) := dk_180 1 101 (dk_at dksX7_program_4 15 rfl rfl)
theorem dX7_program_111 : decode cX7_program 111 = .ok (.ireturn, 1) := dk_172 (dk_at dksX7_program_4 18 rfl rfl)
abbrev cX7_aLine : ByteArray := prog_21_method_102_code
def yX7_aLine : MethodName := ⟨RX7, "aLine", "()V"⟩
def dkwX7_aLine_13 : List UInt8 := [89, 180, 1, 101, 4, 96, 181, 1, 101, 177]
abbrev dktX7_aLine_13 : List UInt8 := dkwX7_aLine_13 ++ []
def dkwX7_aLine_12 : List UInt8 := [167, 0, 3, 42, 16, 59, 182, 0, 173, 153, 0, 10, 42, 182, 0, 164, 167, 0, 7, 42, 182, 0, 157, 42]
abbrev dktX7_aLine_12 : List UInt8 := dkwX7_aLine_12 ++ dktX7_aLine_13
def dkwX7_aLine_11 : List UInt8 := [16, 20, 182, 0, 167, 182, 1, 104, 167, 0, 17, 42, 6, 42, 16, 20, 182, 0, 167, 182, 1, 104]
abbrev dktX7_aLine_11 : List UInt8 := dkwX7_aLine_11 ++ dktX7_aLine_12
def dkwX7_aLine_10 : List UInt8 := [182, 0, 157, 42, 5, 42, 16, 99, 182, 0, 167, 182, 1, 104, 42, 16, 16, 182, 1, 107, 42, 6, 42]
abbrev dktX7_aLine_10 : List UInt8 := dkwX7_aLine_10 ++ dktX7_aLine_11
def dkwX7_aLine_9 : List UInt8 := [182, 0, 167, 182, 1, 104, 42, 16, 60, 182, 0, 173, 153, 0, 10, 42, 182, 0, 164, 167, 0, 7, 42]
abbrev dktX7_aLine_9 : List UInt8 := dkwX7_aLine_9 ++ dktX7_aLine_10
def dkwX7_aLine_8 : List UInt8 := [16, 99, 8, 182, 1, 110, 167, 0, 88, 42, 8, 16, 9, 182, 1, 110, 167, 0, 78, 42, 4, 42, 8]
abbrev dktX7_aLine_8 : List UInt8 := dkwX7_aLine_8 ++ dktX7_aLine_9
def dkwX7_aLine_7 : List UInt8 := [42, 5, 42, 8, 182, 0, 167, 182, 1, 104, 167, 0, 107, 42, 8, 8, 182, 1, 110, 167, 0, 98, 42]
abbrev dktX7_aLine_7 : List UInt8 := dkwX7_aLine_7 ++ dktX7_aLine_8
def dkwX7_aLine_6 : List UInt8 := [42, 182, 0, 157, 177, 42, 4, 42, 180, 0, 135, 182, 1, 104, 42, 182, 0, 164, 42, 16, 11, 182, 1, 107]
abbrev dktX7_aLine_6 : List UInt8 := dkwX7_aLine_6 ++ dktX7_aLine_7
def dkwX7_aLine_5 : List UInt8 := [42, 180, 0, 147, 154, 0, 20, 42, 180, 0, 125, 6, 160, 0, 12, 42, 180, 0, 135, 16, 7, 164, 0, 8]
abbrev dktX7_aLine_5 : List UInt8 := dkwX7_aLine_5 ++ dktX7_aLine_6
def dkwX7_aLine_4 : List UInt8 := [170, 0, 0, 0, 0, 0, 208, 0, 0, 0, 10, 0, 0, 0, 16, 0, 0, 0, 43, 0, 0, 0, 208, 0, 0, 0, 104, 0, 0, 0, 113, 0, 0, 0, 123, 0, 0, 0, 133, 0, 0, 0, 194]
abbrev dktX7_aLine_4 : List UInt8 := dkwX7_aLine_4 ++ dktX7_aLine_5
def dkwX7_aLine_3 : List UInt8 := [27, 182, 1, 104, 27]
abbrev dktX7_aLine_3 : List UInt8 := dkwX7_aLine_3 ++ dktX7_aLine_4
def dkwX7_aLine_2 : List UInt8 := [42, 180, 1, 101, 16, 20, 160, 0, 12, 42, 6, 42, 180, 0, 122, 182, 0, 160, 42, 182, 0, 164, 42, 3]
abbrev dktX7_aLine_2 : List UInt8 := dkwX7_aLine_2 ++ dktX7_aLine_3
def dkwX7_aLine_1 : List UInt8 := [16, 10, 16, 17, 184, 0, 89, 153, 0, 12, 42, 180, 0, 135, 16, 11, 160, 0, 8, 42, 182, 0, 157, 177]
abbrev dktX7_aLine_1 : List UInt8 := dkwX7_aLine_1 ++ dktX7_aLine_2
def dkwX7_aLine_0 : List UInt8 := [42, 180, 0, 135, 60, 42, 180, 0, 147, 154, 0, 34, 42, 180, 0, 125, 6, 160, 0, 26, 42, 180, 0, 135]
abbrev dktX7_aLine_0 : List UInt8 := dkwX7_aLine_0 ++ dktX7_aLine_1
theorem dksX7_aLine_0 : cX7_aLine.data.toList.drop 0 = dktX7_aLine_0 := by decide +kernel
theorem dksX7_aLine_1 : cX7_aLine.data.toList.drop 24 = dktX7_aLine_1 := dk_seg dksX7_aLine_0 24 rfl rfl
theorem dksX7_aLine_2 : cX7_aLine.data.toList.drop 48 = dktX7_aLine_2 := dk_seg dksX7_aLine_1 24 rfl rfl
theorem dksX7_aLine_3 : cX7_aLine.data.toList.drop 72 = dktX7_aLine_3 := dk_seg dksX7_aLine_2 24 rfl rfl
theorem dksX7_aLine_4 : cX7_aLine.data.toList.drop 77 = dktX7_aLine_4 := dk_seg dksX7_aLine_3 5 rfl rfl
theorem dksX7_aLine_5 : cX7_aLine.data.toList.drop 120 = dktX7_aLine_5 := dk_seg dksX7_aLine_4 43 rfl rfl
theorem dksX7_aLine_6 : cX7_aLine.data.toList.drop 144 = dktX7_aLine_6 := dk_seg dksX7_aLine_5 24 rfl rfl
theorem dksX7_aLine_7 : cX7_aLine.data.toList.drop 168 = dktX7_aLine_7 := dk_seg dksX7_aLine_6 24 rfl rfl
theorem dksX7_aLine_8 : cX7_aLine.data.toList.drop 191 = dktX7_aLine_8 := dk_seg dksX7_aLine_7 23 rfl rfl
theorem dksX7_aLine_9 : cX7_aLine.data.toList.drop 214 = dktX7_aLine_9 := dk_seg dksX7_aLine_8 23 rfl rfl
theorem dksX7_aLine_10 : cX7_aLine.data.toList.drop 237 = dktX7_aLine_10 := dk_seg dksX7_aLine_9 23 rfl rfl
theorem dksX7_aLine_11 : cX7_aLine.data.toList.drop 260 = dktX7_aLine_11 := dk_seg dksX7_aLine_10 23 rfl rfl
theorem dksX7_aLine_12 : cX7_aLine.data.toList.drop 282 = dktX7_aLine_12 := dk_seg dksX7_aLine_11 22 rfl rfl
theorem dksX7_aLine_13 : cX7_aLine.data.toList.drop 306 = dktX7_aLine_13 := dk_seg dksX7_aLine_12 24 rfl rfl
theorem dX7_aLine_0 : decode cX7_aLine 0 = .ok (.aload_n 0, 1) := dk_42 (dk_at dksX7_aLine_0 0 rfl rfl)
theorem dX7_aLine_1 : decode cX7_aLine 1 = .ok (.getfield 135, 3) := dk_180 0 135 (dk_at dksX7_aLine_0 1 rfl rfl)
theorem dX7_aLine_4 : decode cX7_aLine 4 = .ok (.istore_n 1, 1) := dk_60 (dk_at dksX7_aLine_0 4 rfl rfl)
theorem dX7_aLine_5 : decode cX7_aLine 5 = .ok (.aload_n 0, 1) := dk_42 (dk_at dksX7_aLine_0 5 rfl rfl)
theorem dX7_aLine_6 : decode cX7_aLine 6 = .ok (.getfield 147, 3) := dk_180 0 147 (dk_at dksX7_aLine_0 6 rfl rfl)
theorem dX7_aLine_9 : decode cX7_aLine 9 = .ok (.ifCond .ne 34, 3) := dk_154 0 34 (dk_at dksX7_aLine_0 9 rfl rfl)
theorem dX7_aLine_12 : decode cX7_aLine 12 = .ok (.aload_n 0, 1) := dk_42 (dk_at dksX7_aLine_0 12 rfl rfl)
theorem dX7_aLine_13 : decode cX7_aLine 13 = .ok (.getfield 125, 3) := dk_180 0 125 (dk_at dksX7_aLine_0 13 rfl rfl)
theorem dX7_aLine_16 : decode cX7_aLine 16 = .ok (.iconst 3, 1) := dk_6 (dk_at dksX7_aLine_0 16 rfl rfl)
theorem dX7_aLine_17 : decode cX7_aLine 17 = .ok (.if_icmp .ne 26, 3) := dk_160 0 26 (dk_at dksX7_aLine_0 17 rfl rfl)
theorem dX7_aLine_20 : decode cX7_aLine 20 = .ok (.aload_n 0, 1) := dk_42 (dk_at dksX7_aLine_0 20 rfl rfl)
theorem dX7_aLine_21 : decode cX7_aLine 21 = .ok (.getfield 135, 3) := dk_180 0 135 (dk_at dksX7_aLine_0 21 rfl rfl)
theorem dX7_aLine_24 : decode cX7_aLine 24 = .ok (.bipush 10, 2) := dk_16 10 (dk_at dksX7_aLine_1 0 rfl rfl)
theorem dX7_aLine_26 : decode cX7_aLine 26 = .ok (.bipush 17, 2) := dk_16 17 (dk_at dksX7_aLine_1 2 rfl rfl)
theorem dX7_aLine_28 : decode cX7_aLine 28 = .ok (.invokestatic 89, 3) := dk_184 0 89 (dk_at dksX7_aLine_1 4 rfl rfl)
theorem dX7_aLine_31 : decode cX7_aLine 31 = .ok (.ifCond .eq 12, 3) := dk_153 0 12 (dk_at dksX7_aLine_1 7 rfl rfl)
theorem dX7_aLine_34 : decode cX7_aLine 34 = .ok (.aload_n 0, 1) := dk_42 (dk_at dksX7_aLine_1 10 rfl rfl)
theorem dX7_aLine_35 : decode cX7_aLine 35 = .ok (.getfield 135, 3) := dk_180 0 135 (dk_at dksX7_aLine_1 11 rfl rfl)
theorem dX7_aLine_38 : decode cX7_aLine 38 = .ok (.bipush 11, 2) := dk_16 11 (dk_at dksX7_aLine_1 14 rfl rfl)
theorem dX7_aLine_40 : decode cX7_aLine 40 = .ok (.if_icmp .ne 8, 3) := dk_160 0 8 (dk_at dksX7_aLine_1 16 rfl rfl)
theorem dX7_aLine_43 : decode cX7_aLine 43 = .ok (.aload_n 0, 1) := dk_42 (dk_at dksX7_aLine_1 19 rfl rfl)
theorem dX7_aLine_44 : decode cX7_aLine 44 = .ok (.invokevirtual 157, 3) := dk_182 0 157 (dk_at dksX7_aLine_1 20 rfl rfl)
theorem dX7_aLine_47 : decode cX7_aLine 47 = .ok (.return_, 1) := dk_177 (dk_at dksX7_aLine_1 23 rfl rfl)
theorem dX7_aLine_48 : decode cX7_aLine 48 = .ok (.aload_n 0, 1) := dk_42 (dk_at dksX7_aLine_2 0 rfl rfl)
theorem dX7_aLine_49 : decode cX7_aLine 49 = .ok (.getfield 357, 3) := dk_180 1 101 (dk_at dksX7_aLine_2 1 rfl rfl)
theorem dX7_aLine_52 : decode cX7_aLine 52 = .ok (.bipush 20, 2) := dk_16 20 (dk_at dksX7_aLine_2 4 rfl rfl)
theorem dX7_aLine_54 : decode cX7_aLine 54 = .ok (.if_icmp .ne 12, 3) := dk_160 0 12 (dk_at dksX7_aLine_2 6 rfl rfl)
theorem dX7_aLine_57 : decode cX7_aLine 57 = .ok (.aload_n 0, 1) := dk_42 (dk_at dksX7_aLine_2 9 rfl rfl)
theorem dX7_aLine_58 : decode cX7_aLine 58 = .ok (.iconst 3, 1) := dk_6 (dk_at dksX7_aLine_2 10 rfl rfl)
theorem dX7_aLine_59 : decode cX7_aLine 59 = .ok (.aload_n 0, 1) := dk_42 (dk_at dksX7_aLine_2 11 rfl rfl)
theorem dX7_aLine_60 : decode cX7_aLine 60 = .ok (.getfield 122, 3) := dk_180 0 122 (dk_at dksX7_aLine_2 12 rfl rfl)
theorem dX7_aLine_63 : decode cX7_aLine 63 = .ok (.invokevirtual 160, 3) := dk_182 0 160 (dk_at dksX7_aLine_2 15 rfl rfl)
theorem dX7_aLine_66 : decode cX7_aLine 66 = .ok (.aload_n 0, 1) := dk_42 (dk_at dksX7_aLine_2 18 rfl rfl)
theorem dX7_aLine_67 : decode cX7_aLine 67 = .ok (.invokevirtual 164, 3) := dk_182 0 164 (dk_at dksX7_aLine_2 19 rfl rfl)
theorem dX7_aLine_70 : decode cX7_aLine 70 = .ok (.aload_n 0, 1) := dk_42 (dk_at dksX7_aLine_2 22 rfl rfl)
theorem dX7_aLine_71 : decode cX7_aLine 71 = .ok (.iconst 0, 1) := dk_3 (dk_at dksX7_aLine_2 23 rfl rfl)
theorem dX7_aLine_72 : decode cX7_aLine 72 = .ok (.iload_n 1, 1) := dk_27 (dk_at dksX7_aLine_3 0 rfl rfl)
theorem dX7_aLine_73 : decode cX7_aLine 73 = .ok (.invokevirtual 360, 3) := dk_182 1 104 (dk_at dksX7_aLine_3 1 rfl rfl)
theorem dX7_aLine_76 : decode cX7_aLine 76 = .ok (.iload_n 1, 1) := dk_27 (dk_at dksX7_aLine_3 4 rfl rfl)
theorem dX7_aLine_77 : decode cX7_aLine 77 = .ok (.tableswitch 208 10 16 #[43, 208, 104, 113, 123, 133, 194], 43) := by decide +kernel
theorem dX7_aLine_120 : decode cX7_aLine 120 = .ok (.aload_n 0, 1) := dk_42 (dk_at dksX7_aLine_5 0 rfl rfl)
theorem dX7_aLine_121 : decode cX7_aLine 121 = .ok (.getfield 147, 3) := dk_180 0 147 (dk_at dksX7_aLine_5 1 rfl rfl)
theorem dX7_aLine_124 : decode cX7_aLine 124 = .ok (.ifCond .ne 20, 3) := dk_154 0 20 (dk_at dksX7_aLine_5 4 rfl rfl)
theorem dX7_aLine_127 : decode cX7_aLine 127 = .ok (.aload_n 0, 1) := dk_42 (dk_at dksX7_aLine_5 7 rfl rfl)
theorem dX7_aLine_128 : decode cX7_aLine 128 = .ok (.getfield 125, 3) := dk_180 0 125 (dk_at dksX7_aLine_5 8 rfl rfl)
theorem dX7_aLine_131 : decode cX7_aLine 131 = .ok (.iconst 3, 1) := dk_6 (dk_at dksX7_aLine_5 11 rfl rfl)
theorem dX7_aLine_132 : decode cX7_aLine 132 = .ok (.if_icmp .ne 12, 3) := dk_160 0 12 (dk_at dksX7_aLine_5 12 rfl rfl)
theorem dX7_aLine_135 : decode cX7_aLine 135 = .ok (.aload_n 0, 1) := dk_42 (dk_at dksX7_aLine_5 15 rfl rfl)
theorem dX7_aLine_136 : decode cX7_aLine 136 = .ok (.getfield 135, 3) := dk_180 0 135 (dk_at dksX7_aLine_5 16 rfl rfl)
theorem dX7_aLine_139 : decode cX7_aLine 139 = .ok (.bipush 7, 2) := dk_16 7 (dk_at dksX7_aLine_5 19 rfl rfl)
theorem dX7_aLine_141 : decode cX7_aLine 141 = .ok (.if_icmp .le 8, 3) := dk_164 0 8 (dk_at dksX7_aLine_5 21 rfl rfl)
theorem dX7_aLine_144 : decode cX7_aLine 144 = .ok (.aload_n 0, 1) := dk_42 (dk_at dksX7_aLine_6 0 rfl rfl)
theorem dX7_aLine_145 : decode cX7_aLine 145 = .ok (.invokevirtual 157, 3) := dk_182 0 157 (dk_at dksX7_aLine_6 1 rfl rfl)
theorem dX7_aLine_148 : decode cX7_aLine 148 = .ok (.return_, 1) := dk_177 (dk_at dksX7_aLine_6 4 rfl rfl)
theorem dX7_aLine_149 : decode cX7_aLine 149 = .ok (.aload_n 0, 1) := dk_42 (dk_at dksX7_aLine_6 5 rfl rfl)
theorem dX7_aLine_150 : decode cX7_aLine 150 = .ok (.iconst 1, 1) := dk_4 (dk_at dksX7_aLine_6 6 rfl rfl)
theorem dX7_aLine_151 : decode cX7_aLine 151 = .ok (.aload_n 0, 1) := dk_42 (dk_at dksX7_aLine_6 7 rfl rfl)
theorem dX7_aLine_152 : decode cX7_aLine 152 = .ok (.getfield 135, 3) := dk_180 0 135 (dk_at dksX7_aLine_6 8 rfl rfl)
theorem dX7_aLine_155 : decode cX7_aLine 155 = .ok (.invokevirtual 360, 3) := dk_182 1 104 (dk_at dksX7_aLine_6 11 rfl rfl)
theorem dX7_aLine_158 : decode cX7_aLine 158 = .ok (.aload_n 0, 1) := dk_42 (dk_at dksX7_aLine_6 14 rfl rfl)
theorem dX7_aLine_159 : decode cX7_aLine 159 = .ok (.invokevirtual 164, 3) := dk_182 0 164 (dk_at dksX7_aLine_6 15 rfl rfl)
theorem dX7_aLine_162 : decode cX7_aLine 162 = .ok (.aload_n 0, 1) := dk_42 (dk_at dksX7_aLine_6 18 rfl rfl)
theorem dX7_aLine_163 : decode cX7_aLine 163 = .ok (.bipush 11, 2) := dk_16 11 (dk_at dksX7_aLine_6 19 rfl rfl)
theorem dX7_aLine_165 : decode cX7_aLine 165 = .ok (.invokevirtual 363, 3) := dk_182 1 107 (dk_at dksX7_aLine_6 21 rfl rfl)
theorem dX7_aLine_168 : decode cX7_aLine 168 = .ok (.aload_n 0, 1) := dk_42 (dk_at dksX7_aLine_7 0 rfl rfl)
theorem dX7_aLine_169 : decode cX7_aLine 169 = .ok (.iconst 2, 1) := dk_5 (dk_at dksX7_aLine_7 1 rfl rfl)
theorem dX7_aLine_170 : decode cX7_aLine 170 = .ok (.aload_n 0, 1) := dk_42 (dk_at dksX7_aLine_7 2 rfl rfl)
theorem dX7_aLine_171 : decode cX7_aLine 171 = .ok (.iconst 5, 1) := dk_8 (dk_at dksX7_aLine_7 3 rfl rfl)
theorem dX7_aLine_172 : decode cX7_aLine 172 = .ok (.invokevirtual 167, 3) := dk_182 0 167 (dk_at dksX7_aLine_7 4 rfl rfl)
theorem dX7_aLine_175 : decode cX7_aLine 175 = .ok (.invokevirtual 360, 3) := dk_182 1 104 (dk_at dksX7_aLine_7 7 rfl rfl)
theorem dX7_aLine_178 : decode cX7_aLine 178 = .ok (.goto 107, 3) := dk_167 0 107 (dk_at dksX7_aLine_7 10 rfl rfl)
theorem dX7_aLine_181 : decode cX7_aLine 181 = .ok (.aload_n 0, 1) := dk_42 (dk_at dksX7_aLine_7 13 rfl rfl)
theorem dX7_aLine_182 : decode cX7_aLine 182 = .ok (.iconst 5, 1) := dk_8 (dk_at dksX7_aLine_7 14 rfl rfl)
theorem dX7_aLine_183 : decode cX7_aLine 183 = .ok (.iconst 5, 1) := dk_8 (dk_at dksX7_aLine_7 15 rfl rfl)
theorem dX7_aLine_184 : decode cX7_aLine 184 = .ok (.invokevirtual 366, 3) := dk_182 1 110 (dk_at dksX7_aLine_7 16 rfl rfl)
theorem dX7_aLine_187 : decode cX7_aLine 187 = .ok (.goto 98, 3) := dk_167 0 98 (dk_at dksX7_aLine_7 19 rfl rfl)
theorem dX7_aLine_190 : decode cX7_aLine 190 = .ok (.aload_n 0, 1) := dk_42 (dk_at dksX7_aLine_7 22 rfl rfl)
theorem dX7_aLine_191 : decode cX7_aLine 191 = .ok (.bipush 99, 2) := dk_16 99 (dk_at dksX7_aLine_8 0 rfl rfl)
theorem dX7_aLine_193 : decode cX7_aLine 193 = .ok (.iconst 5, 1) := dk_8 (dk_at dksX7_aLine_8 2 rfl rfl)
theorem dX7_aLine_194 : decode cX7_aLine 194 = .ok (.invokevirtual 366, 3) := dk_182 1 110 (dk_at dksX7_aLine_8 3 rfl rfl)
theorem dX7_aLine_197 : decode cX7_aLine 197 = .ok (.goto 88, 3) := dk_167 0 88 (dk_at dksX7_aLine_8 6 rfl rfl)
theorem dX7_aLine_200 : decode cX7_aLine 200 = .ok (.aload_n 0, 1) := dk_42 (dk_at dksX7_aLine_8 9 rfl rfl)
theorem dX7_aLine_201 : decode cX7_aLine 201 = .ok (.iconst 5, 1) := dk_8 (dk_at dksX7_aLine_8 10 rfl rfl)
theorem dX7_aLine_202 : decode cX7_aLine 202 = .ok (.bipush 9, 2) := dk_16 9 (dk_at dksX7_aLine_8 11 rfl rfl)
theorem dX7_aLine_204 : decode cX7_aLine 204 = .ok (.invokevirtual 366, 3) := dk_182 1 110 (dk_at dksX7_aLine_8 13 rfl rfl)
theorem dX7_aLine_207 : decode cX7_aLine 207 = .ok (.goto 78, 3) := dk_167 0 78 (dk_at dksX7_aLine_8 16 rfl rfl)
theorem dX7_aLine_210 : decode cX7_aLine 210 = .ok (.aload_n 0, 1) := dk_42 (dk_at dksX7_aLine_8 19 rfl rfl)
theorem dX7_aLine_211 : decode cX7_aLine 211 = .ok (.iconst 1, 1) := dk_4 (dk_at dksX7_aLine_8 20 rfl rfl)
theorem dX7_aLine_212 : decode cX7_aLine 212 = .ok (.aload_n 0, 1) := dk_42 (dk_at dksX7_aLine_8 21 rfl rfl)
theorem dX7_aLine_213 : decode cX7_aLine 213 = .ok (.iconst 5, 1) := dk_8 (dk_at dksX7_aLine_8 22 rfl rfl)
theorem dX7_aLine_214 : decode cX7_aLine 214 = .ok (.invokevirtual 167, 3) := dk_182 0 167 (dk_at dksX7_aLine_9 0 rfl rfl)
theorem dX7_aLine_217 : decode cX7_aLine 217 = .ok (.invokevirtual 360, 3) := dk_182 1 104 (dk_at dksX7_aLine_9 3 rfl rfl)
theorem dX7_aLine_220 : decode cX7_aLine 220 = .ok (.aload_n 0, 1) := dk_42 (dk_at dksX7_aLine_9 6 rfl rfl)
theorem dX7_aLine_221 : decode cX7_aLine 221 = .ok (.bipush 60, 2) := dk_16 60 (dk_at dksX7_aLine_9 7 rfl rfl)
theorem dX7_aLine_223 : decode cX7_aLine 223 = .ok (.invokevirtual 173, 3) := dk_182 0 173 (dk_at dksX7_aLine_9 9 rfl rfl)
theorem dX7_aLine_226 : decode cX7_aLine 226 = .ok (.ifCond .eq 10, 3) := dk_153 0 10 (dk_at dksX7_aLine_9 12 rfl rfl)
theorem dX7_aLine_229 : decode cX7_aLine 229 = .ok (.aload_n 0, 1) := dk_42 (dk_at dksX7_aLine_9 15 rfl rfl)
theorem dX7_aLine_230 : decode cX7_aLine 230 = .ok (.invokevirtual 164, 3) := dk_182 0 164 (dk_at dksX7_aLine_9 16 rfl rfl)
theorem dX7_aLine_233 : decode cX7_aLine 233 = .ok (.goto 7, 3) := dk_167 0 7 (dk_at dksX7_aLine_9 19 rfl rfl)
theorem dX7_aLine_236 : decode cX7_aLine 236 = .ok (.aload_n 0, 1) := dk_42 (dk_at dksX7_aLine_9 22 rfl rfl)
theorem dX7_aLine_237 : decode cX7_aLine 237 = .ok (.invokevirtual 157, 3) := dk_182 0 157 (dk_at dksX7_aLine_10 0 rfl rfl)
theorem dX7_aLine_240 : decode cX7_aLine 240 = .ok (.aload_n 0, 1) := dk_42 (dk_at dksX7_aLine_10 3 rfl rfl)
theorem dX7_aLine_241 : decode cX7_aLine 241 = .ok (.iconst 2, 1) := dk_5 (dk_at dksX7_aLine_10 4 rfl rfl)
theorem dX7_aLine_242 : decode cX7_aLine 242 = .ok (.aload_n 0, 1) := dk_42 (dk_at dksX7_aLine_10 5 rfl rfl)
theorem dX7_aLine_243 : decode cX7_aLine 243 = .ok (.bipush 99, 2) := dk_16 99 (dk_at dksX7_aLine_10 6 rfl rfl)
theorem dX7_aLine_245 : decode cX7_aLine 245 = .ok (.invokevirtual 167, 3) := dk_182 0 167 (dk_at dksX7_aLine_10 8 rfl rfl)
theorem dX7_aLine_248 : decode cX7_aLine 248 = .ok (.invokevirtual 360, 3) := dk_182 1 104 (dk_at dksX7_aLine_10 11 rfl rfl)
theorem dX7_aLine_251 : decode cX7_aLine 251 = .ok (.aload_n 0, 1) := dk_42 (dk_at dksX7_aLine_10 14 rfl rfl)
theorem dX7_aLine_252 : decode cX7_aLine 252 = .ok (.bipush 16, 2) := dk_16 16 (dk_at dksX7_aLine_10 15 rfl rfl)
theorem dX7_aLine_254 : decode cX7_aLine 254 = .ok (.invokevirtual 363, 3) := dk_182 1 107 (dk_at dksX7_aLine_10 17 rfl rfl)
theorem dX7_aLine_257 : decode cX7_aLine 257 = .ok (.aload_n 0, 1) := dk_42 (dk_at dksX7_aLine_10 20 rfl rfl)
theorem dX7_aLine_258 : decode cX7_aLine 258 = .ok (.iconst 3, 1) := dk_6 (dk_at dksX7_aLine_10 21 rfl rfl)
theorem dX7_aLine_259 : decode cX7_aLine 259 = .ok (.aload_n 0, 1) := dk_42 (dk_at dksX7_aLine_10 22 rfl rfl)
theorem dX7_aLine_260 : decode cX7_aLine 260 = .ok (.bipush 20, 2) := dk_16 20 (dk_at dksX7_aLine_11 0 rfl rfl)
theorem dX7_aLine_262 : decode cX7_aLine 262 = .ok (.invokevirtual 167, 3) := dk_182 0 167 (dk_at dksX7_aLine_11 2 rfl rfl)
theorem dX7_aLine_265 : decode cX7_aLine 265 = .ok (.invokevirtual 360, 3) := dk_182 1 104 (dk_at dksX7_aLine_11 5 rfl rfl)
theorem dX7_aLine_268 : decode cX7_aLine 268 = .ok (.goto 17, 3) := dk_167 0 17 (dk_at dksX7_aLine_11 8 rfl rfl)
theorem dX7_aLine_271 : decode cX7_aLine 271 = .ok (.aload_n 0, 1) := dk_42 (dk_at dksX7_aLine_11 11 rfl rfl)
theorem dX7_aLine_272 : decode cX7_aLine 272 = .ok (.iconst 3, 1) := dk_6 (dk_at dksX7_aLine_11 12 rfl rfl)
theorem dX7_aLine_273 : decode cX7_aLine 273 = .ok (.aload_n 0, 1) := dk_42 (dk_at dksX7_aLine_11 13 rfl rfl)
theorem dX7_aLine_274 : decode cX7_aLine 274 = .ok (.bipush 20, 2) := dk_16 20 (dk_at dksX7_aLine_11 14 rfl rfl)
theorem dX7_aLine_276 : decode cX7_aLine 276 = .ok (.invokevirtual 167, 3) := dk_182 0 167 (dk_at dksX7_aLine_11 16 rfl rfl)
theorem dX7_aLine_279 : decode cX7_aLine 279 = .ok (.invokevirtual 360, 3) := dk_182 1 104 (dk_at dksX7_aLine_11 19 rfl rfl)
theorem dX7_aLine_282 : decode cX7_aLine 282 = .ok (.goto 3, 3) := dk_167 0 3 (dk_at dksX7_aLine_12 0 rfl rfl)
theorem dX7_aLine_285 : decode cX7_aLine 285 = .ok (.aload_n 0, 1) := dk_42 (dk_at dksX7_aLine_12 3 rfl rfl)
theorem dX7_aLine_286 : decode cX7_aLine 286 = .ok (.bipush 59, 2) := dk_16 59 (dk_at dksX7_aLine_12 4 rfl rfl)
theorem dX7_aLine_288 : decode cX7_aLine 288 = .ok (.invokevirtual 173, 3) := dk_182 0 173 (dk_at dksX7_aLine_12 6 rfl rfl)
theorem dX7_aLine_291 : decode cX7_aLine 291 = .ok (.ifCond .eq 10, 3) := dk_153 0 10 (dk_at dksX7_aLine_12 9 rfl rfl)
theorem dX7_aLine_294 : decode cX7_aLine 294 = .ok (.aload_n 0, 1) := dk_42 (dk_at dksX7_aLine_12 12 rfl rfl)
theorem dX7_aLine_295 : decode cX7_aLine 295 = .ok (.invokevirtual 164, 3) := dk_182 0 164 (dk_at dksX7_aLine_12 13 rfl rfl)
theorem dX7_aLine_298 : decode cX7_aLine 298 = .ok (.goto 7, 3) := dk_167 0 7 (dk_at dksX7_aLine_12 16 rfl rfl)
theorem dX7_aLine_301 : decode cX7_aLine 301 = .ok (.aload_n 0, 1) := dk_42 (dk_at dksX7_aLine_12 19 rfl rfl)
theorem dX7_aLine_302 : decode cX7_aLine 302 = .ok (.invokevirtual 157, 3) := dk_182 0 157 (dk_at dksX7_aLine_12 20 rfl rfl)
theorem dX7_aLine_305 : decode cX7_aLine 305 = .ok (.aload_n 0, 1) := dk_42 (dk_at dksX7_aLine_12 23 rfl rfl)
theorem dX7_aLine_306 : decode cX7_aLine 306 = .ok (.dup, 1) := dk_89 (dk_at dksX7_aLine_13 0 rfl rfl)
theorem dX7_aLine_307 : decode cX7_aLine 307 = .ok (.getfield 357, 3) := dk_180 1 101 (dk_at dksX7_aLine_13 1 rfl rfl)
theorem dX7_aLine_310 : decode cX7_aLine 310 = .ok (.iconst 1, 1) := dk_4 (dk_at dksX7_aLine_13 4 rfl rfl)
theorem dX7_aLine_311 : decode cX7_aLine 311 = .ok (.iadd, 1) := dk_96 (dk_at dksX7_aLine_13 5 rfl rfl)
theorem dX7_aLine_312 : decode cX7_aLine 312 = .ok (.putfield 357, 3) := dk_181 1 101 (dk_at dksX7_aLine_13 6 rfl rfl)
theorem dX7_aLine_315 : decode cX7_aLine 315 = .ok (.return_, 1) := dk_177 (dk_at dksX7_aLine_13 9 rfl rfl)
abbrev cX7_puts : ByteArray := prog_21_method_100_code
def yX7_puts : MethodName := ⟨RX7, "puts", "(II)V"⟩
def dkwX7_puts_0 : List UInt8 := [42, 180, 1, 101, 16, 20, 162, 0, 17, 42, 180, 0, 77, 7, 42, 180, 1, 101, 104, 27, 96, 28, 79, 177]
abbrev dktX7_puts_0 : List UInt8 := dkwX7_puts_0 ++ []
theorem dksX7_puts_0 : cX7_puts.data.toList.drop 0 = dktX7_puts_0 := by decide +kernel
theorem dX7_puts_0 : decode cX7_puts 0 = .ok (.aload_n 0, 1) := dk_42 (dk_at dksX7_puts_0 0 rfl rfl)
theorem dX7_puts_1 : decode cX7_puts 1 = .ok (.getfield 357, 3) := dk_180 1 101 (dk_at dksX7_puts_0 1 rfl rfl)
theorem dX7_puts_4 : decode cX7_puts 4 = .ok (.bipush 20, 2) := dk_16 20 (dk_at dksX7_puts_0 4 rfl rfl)
theorem dX7_puts_6 : decode cX7_puts 6 = .ok (.if_icmp .ge 17, 3) := dk_162 0 17 (dk_at dksX7_puts_0 6 rfl rfl)
theorem dX7_puts_9 : decode cX7_puts 9 = .ok (.aload_n 0, 1) := dk_42 (dk_at dksX7_puts_0 9 rfl rfl)
theorem dX7_puts_10 : decode cX7_puts 10 = .ok (.getfield 77, 3) := dk_180 0 77 (dk_at dksX7_puts_0 10 rfl rfl)
theorem dX7_puts_13 : decode cX7_puts 13 = .ok (.iconst 4, 1) := dk_7 (dk_at dksX7_puts_0 13 rfl rfl)
theorem dX7_puts_14 : decode cX7_puts 14 = .ok (.aload_n 0, 1) := dk_42 (dk_at dksX7_puts_0 14 rfl rfl)
theorem dX7_puts_15 : decode cX7_puts 15 = .ok (.getfield 357, 3) := dk_180 1 101 (dk_at dksX7_puts_0 15 rfl rfl)
theorem dX7_puts_18 : decode cX7_puts 18 = .ok (.imul, 1) := dk_104 (dk_at dksX7_puts_0 18 rfl rfl)
theorem dX7_puts_19 : decode cX7_puts 19 = .ok (.iload_n 1, 1) := dk_27 (dk_at dksX7_puts_0 19 rfl rfl)
theorem dX7_puts_20 : decode cX7_puts 20 = .ok (.iadd, 1) := dk_96 (dk_at dksX7_puts_0 20 rfl rfl)
theorem dX7_puts_21 : decode cX7_puts 21 = .ok (.iload_n 2, 1) := dk_28 (dk_at dksX7_puts_0 21 rfl rfl)
theorem dX7_puts_22 : decode cX7_puts 22 = .ok (.iastore, 1) := dk_79 (dk_at dksX7_puts_0 22 rfl rfl)
theorem dX7_puts_23 : decode cX7_puts 23 = .ok (.return_, 1) := dk_177 (dk_at dksX7_puts_0 23 rfl rfl)
abbrev cX7_must : ByteArray := prog_21_method_99_code
def yX7_must : MethodName := ⟨RX7, "must", "(I)V"⟩
def dkwX7_must_0 : List UInt8 := [42, 27, 182, 0, 170, 153, 0, 10, 42, 182, 0, 164, 167, 0, 7, 42, 182, 0, 157, 177]
abbrev dktX7_must_0 : List UInt8 := dkwX7_must_0 ++ []
theorem dksX7_must_0 : cX7_must.data.toList.drop 0 = dktX7_must_0 := by decide +kernel
theorem dX7_must_0 : decode cX7_must 0 = .ok (.aload_n 0, 1) := dk_42 (dk_at dksX7_must_0 0 rfl rfl)
theorem dX7_must_1 : decode cX7_must 1 = .ok (.iload_n 1, 1) := dk_27 (dk_at dksX7_must_0 1 rfl rfl)
theorem dX7_must_2 : decode cX7_must 2 = .ok (.invokevirtual 170, 3) := dk_182 0 170 (dk_at dksX7_must_0 2 rfl rfl)
theorem dX7_must_5 : decode cX7_must 5 = .ok (.ifCond .eq 10, 3) := dk_153 0 10 (dk_at dksX7_must_0 5 rfl rfl)
theorem dX7_must_8 : decode cX7_must 8 = .ok (.aload_n 0, 1) := dk_42 (dk_at dksX7_must_0 8 rfl rfl)
theorem dX7_must_9 : decode cX7_must 9 = .ok (.invokevirtual 164, 3) := dk_182 0 164 (dk_at dksX7_must_0 9 rfl rfl)
theorem dX7_must_12 : decode cX7_must 12 = .ok (.goto 7, 3) := dk_167 0 7 (dk_at dksX7_must_0 12 rfl rfl)
theorem dX7_must_15 : decode cX7_must 15 = .ok (.aload_n 0, 1) := dk_42 (dk_at dksX7_must_0 15 rfl rfl)
theorem dX7_must_16 : decode cX7_must 16 = .ok (.invokevirtual 157, 3) := dk_182 0 157 (dk_at dksX7_must_0 16 rfl rfl)
theorem dX7_must_19 : decode cX7_must 19 = .ok (.return_, 1) := dk_177 (dk_at dksX7_must_0 19 rfl rfl)
abbrev cX7_oneTo : ByteArray := prog_21_method_101_code
def yX7_oneTo : MethodName := ⟨RX7, "oneTo", "(II)V"⟩
def dkwX7_oneTo_1 : List UInt8 := [182, 1, 104, 177]
abbrev dktX7_oneTo_1 : List UInt8 := dkwX7_oneTo_1 ++ []
def dkwX7_oneTo_0 : List UInt8 := [42, 4, 42, 27, 182, 0, 167, 182, 1, 104, 42, 16, 11, 182, 1, 107, 42, 5, 42, 28, 182, 0, 167]
abbrev dktX7_oneTo_0 : List UInt8 := dkwX7_oneTo_0 ++ dktX7_oneTo_1
theorem dksX7_oneTo_0 : cX7_oneTo.data.toList.drop 0 = dktX7_oneTo_0 := by decide +kernel
theorem dksX7_oneTo_1 : cX7_oneTo.data.toList.drop 23 = dktX7_oneTo_1 := dk_seg dksX7_oneTo_0 23 rfl rfl
theorem dX7_oneTo_0 : decode cX7_oneTo 0 = .ok (.aload_n 0, 1) := dk_42 (dk_at dksX7_oneTo_0 0 rfl rfl)
theorem dX7_oneTo_1 : decode cX7_oneTo 1 = .ok (.iconst 1, 1) := dk_4 (dk_at dksX7_oneTo_0 1 rfl rfl)
theorem dX7_oneTo_2 : decode cX7_oneTo 2 = .ok (.aload_n 0, 1) := dk_42 (dk_at dksX7_oneTo_0 2 rfl rfl)
theorem dX7_oneTo_3 : decode cX7_oneTo 3 = .ok (.iload_n 1, 1) := dk_27 (dk_at dksX7_oneTo_0 3 rfl rfl)
theorem dX7_oneTo_4 : decode cX7_oneTo 4 = .ok (.invokevirtual 167, 3) := dk_182 0 167 (dk_at dksX7_oneTo_0 4 rfl rfl)
theorem dX7_oneTo_7 : decode cX7_oneTo 7 = .ok (.invokevirtual 360, 3) := dk_182 1 104 (dk_at dksX7_oneTo_0 7 rfl rfl)
theorem dX7_oneTo_10 : decode cX7_oneTo 10 = .ok (.aload_n 0, 1) := dk_42 (dk_at dksX7_oneTo_0 10 rfl rfl)
theorem dX7_oneTo_11 : decode cX7_oneTo 11 = .ok (.bipush 11, 2) := dk_16 11 (dk_at dksX7_oneTo_0 11 rfl rfl)
theorem dX7_oneTo_13 : decode cX7_oneTo 13 = .ok (.invokevirtual 363, 3) := dk_182 1 107 (dk_at dksX7_oneTo_0 13 rfl rfl)
theorem dX7_oneTo_16 : decode cX7_oneTo 16 = .ok (.aload_n 0, 1) := dk_42 (dk_at dksX7_oneTo_0 16 rfl rfl)
theorem dX7_oneTo_17 : decode cX7_oneTo 17 = .ok (.iconst 2, 1) := dk_5 (dk_at dksX7_oneTo_0 17 rfl rfl)
theorem dX7_oneTo_18 : decode cX7_oneTo 18 = .ok (.aload_n 0, 1) := dk_42 (dk_at dksX7_oneTo_0 18 rfl rfl)
theorem dX7_oneTo_19 : decode cX7_oneTo 19 = .ok (.iload_n 2, 1) := dk_28 (dk_at dksX7_oneTo_0 19 rfl rfl)
theorem dX7_oneTo_20 : decode cX7_oneTo 20 = .ok (.invokevirtual 167, 3) := dk_182 0 167 (dk_at dksX7_oneTo_0 20 rfl rfl)
theorem dX7_oneTo_23 : decode cX7_oneTo 23 = .ok (.invokevirtual 360, 3) := dk_182 1 104 (dk_at dksX7_oneTo_1 0 rfl rfl)
theorem dX7_oneTo_26 : decode cX7_oneTo 26 = .ok (.return_, 1) := dk_177 (dk_at dksX7_oneTo_1 3 rfl rfl)
abbrev cX7_relay : ByteArray := prog_21_method_106_code
def yX7_relay : MethodName := ⟨RX7, "relay", "(II)Z"⟩
def dkwX7_relay_1 : List UInt8 := [3, 172, 42, 180, 0, 7, 17, 18, 162, 27, 96, 28, 4, 96, 79, 4, 172]
abbrev dktX7_relay_1 : List UInt8 := dkwX7_relay_1 ++ []
def dkwX7_relay_0 : List UInt8 := [27, 184, 1, 116, 153, 0, 20, 28, 2, 159, 0, 10, 28, 184, 1, 116, 153, 0, 8, 27, 28, 160, 0, 5]
abbrev dktX7_relay_0 : List UInt8 := dkwX7_relay_0 ++ dktX7_relay_1
theorem dksX7_relay_0 : cX7_relay.data.toList.drop 0 = dktX7_relay_0 := by decide +kernel
theorem dksX7_relay_1 : cX7_relay.data.toList.drop 24 = dktX7_relay_1 := dk_seg dksX7_relay_0 24 rfl rfl
theorem dX7_relay_0 : decode cX7_relay 0 = .ok (.iload_n 1, 1) := dk_27 (dk_at dksX7_relay_0 0 rfl rfl)
theorem dX7_relay_1 : decode cX7_relay 1 = .ok (.invokestatic 372, 3) := dk_184 1 116 (dk_at dksX7_relay_0 1 rfl rfl)
theorem dX7_relay_4 : decode cX7_relay 4 = .ok (.ifCond .eq 20, 3) := dk_153 0 20 (dk_at dksX7_relay_0 4 rfl rfl)
theorem dX7_relay_7 : decode cX7_relay 7 = .ok (.iload_n 2, 1) := dk_28 (dk_at dksX7_relay_0 7 rfl rfl)
theorem dX7_relay_8 : decode cX7_relay 8 = .ok (.iconst (-1), 1) := dk_2 (dk_at dksX7_relay_0 8 rfl rfl)
theorem dX7_relay_9 : decode cX7_relay 9 = .ok (.if_icmp .eq 10, 3) := dk_159 0 10 (dk_at dksX7_relay_0 9 rfl rfl)
theorem dX7_relay_12 : decode cX7_relay 12 = .ok (.iload_n 2, 1) := dk_28 (dk_at dksX7_relay_0 12 rfl rfl)
theorem dX7_relay_13 : decode cX7_relay 13 = .ok (.invokestatic 372, 3) := dk_184 1 116 (dk_at dksX7_relay_0 13 rfl rfl)
theorem dX7_relay_16 : decode cX7_relay 16 = .ok (.ifCond .eq 8, 3) := dk_153 0 8 (dk_at dksX7_relay_0 16 rfl rfl)
theorem dX7_relay_19 : decode cX7_relay 19 = .ok (.iload_n 1, 1) := dk_27 (dk_at dksX7_relay_0 19 rfl rfl)
theorem dX7_relay_20 : decode cX7_relay 20 = .ok (.iload_n 2, 1) := dk_28 (dk_at dksX7_relay_0 20 rfl rfl)
theorem dX7_relay_21 : decode cX7_relay 21 = .ok (.if_icmp .ne 5, 3) := dk_160 0 5 (dk_at dksX7_relay_0 21 rfl rfl)
theorem dX7_relay_24 : decode cX7_relay 24 = .ok (.iconst 0, 1) := dk_3 (dk_at dksX7_relay_1 0 rfl rfl)
theorem dX7_relay_25 : decode cX7_relay 25 = .ok (.ireturn, 1) := dk_172 (dk_at dksX7_relay_1 1 rfl rfl)
theorem dX7_relay_26 : decode cX7_relay 26 = .ok (.aload_n 0, 1) := dk_42 (dk_at dksX7_relay_1 2 rfl rfl)
theorem dX7_relay_27 : decode cX7_relay 27 = .ok (.getfield 7, 3) := dk_180 0 7 (dk_at dksX7_relay_1 3 rfl rfl)
theorem dX7_relay_30 : decode cX7_relay 30 = .ok (.sipush 4770, 3) := dk_17 18 162 (dk_at dksX7_relay_1 6 rfl rfl)
theorem dX7_relay_33 : decode cX7_relay 33 = .ok (.iload_n 1, 1) := dk_27 (dk_at dksX7_relay_1 9 rfl rfl)
theorem dX7_relay_34 : decode cX7_relay 34 = .ok (.iadd, 1) := dk_96 (dk_at dksX7_relay_1 10 rfl rfl)
theorem dX7_relay_35 : decode cX7_relay 35 = .ok (.iload_n 2, 1) := dk_28 (dk_at dksX7_relay_1 11 rfl rfl)
theorem dX7_relay_36 : decode cX7_relay 36 = .ok (.iconst 1, 1) := dk_4 (dk_at dksX7_relay_1 12 rfl rfl)
theorem dX7_relay_37 : decode cX7_relay 37 = .ok (.iadd, 1) := dk_96 (dk_at dksX7_relay_1 13 rfl rfl)
theorem dX7_relay_38 : decode cX7_relay 38 = .ok (.iastore, 1) := dk_79 (dk_at dksX7_relay_1 14 rfl rfl)
theorem dX7_relay_39 : decode cX7_relay 39 = .ok (.iconst 1, 1) := dk_4 (dk_at dksX7_relay_1 15 rfl rfl)
theorem dX7_relay_40 : decode cX7_relay 40 = .ok (.ireturn, 1) := dk_172 (dk_at dksX7_relay_1 16 rfl rfl)
abbrev cX7_isAddress : ByteArray := prog_21_method_105_code
def yX7_isAddress : MethodName := ⟨RX7, "isAddress", "(I)Z"⟩
def dkwX7_isAddress_0 : List UInt8 := [26, 3, 16, 9, 184, 0, 89, 172]
abbrev dktX7_isAddress_0 : List UInt8 := dkwX7_isAddress_0 ++ []
theorem dksX7_isAddress_0 : cX7_isAddress.data.toList.drop 0 = dktX7_isAddress_0 := by decide +kernel
theorem dX7_isAddress_0 : decode cX7_isAddress 0 = .ok (.iload_n 0, 1) := dk_26 (dk_at dksX7_isAddress_0 0 rfl rfl)
theorem dX7_isAddress_1 : decode cX7_isAddress 1 = .ok (.iconst 0, 1) := dk_3 (dk_at dksX7_isAddress_0 1 rfl rfl)
theorem dX7_isAddress_2 : decode cX7_isAddress 2 = .ok (.bipush 9, 2) := dk_16 9 (dk_at dksX7_isAddress_0 2 rfl rfl)
theorem dX7_isAddress_4 : decode cX7_isAddress 4 = .ok (.invokestatic 89, 3) := dk_184 0 89 (dk_at dksX7_isAddress_0 4 rfl rfl)
theorem dX7_isAddress_7 : decode cX7_isAddress 7 = .ok (.ireturn, 1) := dk_172 (dk_at dksX7_isAddress_0 7 rfl rfl)
abbrev cX7_owner : ByteArray := prog_21_method_107_code
def yX7_owner : MethodName := ⟨RX7, "owner", "(II)Z"⟩
def dkwX7_owner_1 : List UInt8 := [180, 0, 7, 17, 18, 172, 27, 96, 28, 4, 96, 79, 4, 172]
abbrev dktX7_owner_1 : List UInt8 := dkwX7_owner_1 ++ []
def dkwX7_owner_0 : List UInt8 := [27, 184, 1, 116, 153, 0, 16, 28, 2, 159, 0, 13, 42, 28, 182, 0, 182, 154, 0, 5, 3, 172, 42]
abbrev dktX7_owner_0 : List UInt8 := dkwX7_owner_0 ++ dktX7_owner_1
theorem dksX7_owner_0 : cX7_owner.data.toList.drop 0 = dktX7_owner_0 := by decide +kernel
theorem dksX7_owner_1 : cX7_owner.data.toList.drop 23 = dktX7_owner_1 := dk_seg dksX7_owner_0 23 rfl rfl
theorem dX7_owner_0 : decode cX7_owner 0 = .ok (.iload_n 1, 1) := dk_27 (dk_at dksX7_owner_0 0 rfl rfl)
theorem dX7_owner_1 : decode cX7_owner 1 = .ok (.invokestatic 372, 3) := dk_184 1 116 (dk_at dksX7_owner_0 1 rfl rfl)
theorem dX7_owner_4 : decode cX7_owner 4 = .ok (.ifCond .eq 16, 3) := dk_153 0 16 (dk_at dksX7_owner_0 4 rfl rfl)
theorem dX7_owner_7 : decode cX7_owner 7 = .ok (.iload_n 2, 1) := dk_28 (dk_at dksX7_owner_0 7 rfl rfl)
theorem dX7_owner_8 : decode cX7_owner 8 = .ok (.iconst (-1), 1) := dk_2 (dk_at dksX7_owner_0 8 rfl rfl)
theorem dX7_owner_9 : decode cX7_owner 9 = .ok (.if_icmp .eq 13, 3) := dk_159 0 13 (dk_at dksX7_owner_0 9 rfl rfl)
theorem dX7_owner_12 : decode cX7_owner 12 = .ok (.aload_n 0, 1) := dk_42 (dk_at dksX7_owner_0 12 rfl rfl)
theorem dX7_owner_13 : decode cX7_owner 13 = .ok (.iload_n 2, 1) := dk_28 (dk_at dksX7_owner_0 13 rfl rfl)
theorem dX7_owner_14 : decode cX7_owner 14 = .ok (.invokevirtual 182, 3) := dk_182 0 182 (dk_at dksX7_owner_0 14 rfl rfl)
theorem dX7_owner_17 : decode cX7_owner 17 = .ok (.ifCond .ne 5, 3) := dk_154 0 5 (dk_at dksX7_owner_0 17 rfl rfl)
theorem dX7_owner_20 : decode cX7_owner 20 = .ok (.iconst 0, 1) := dk_3 (dk_at dksX7_owner_0 20 rfl rfl)
theorem dX7_owner_21 : decode cX7_owner 21 = .ok (.ireturn, 1) := dk_172 (dk_at dksX7_owner_0 21 rfl rfl)
theorem dX7_owner_22 : decode cX7_owner 22 = .ok (.aload_n 0, 1) := dk_42 (dk_at dksX7_owner_0 22 rfl rfl)
theorem dX7_owner_23 : decode cX7_owner 23 = .ok (.getfield 7, 3) := dk_180 0 7 (dk_at dksX7_owner_1 0 rfl rfl)
theorem dX7_owner_26 : decode cX7_owner 26 = .ok (.sipush 4780, 3) := dk_17 18 172 (dk_at dksX7_owner_1 3 rfl rfl)
theorem dX7_owner_29 : decode cX7_owner 29 = .ok (.iload_n 1, 1) := dk_27 (dk_at dksX7_owner_1 6 rfl rfl)
theorem dX7_owner_30 : decode cX7_owner 30 = .ok (.iadd, 1) := dk_96 (dk_at dksX7_owner_1 7 rfl rfl)
theorem dX7_owner_31 : decode cX7_owner 31 = .ok (.iload_n 2, 1) := dk_28 (dk_at dksX7_owner_1 8 rfl rfl)
theorem dX7_owner_32 : decode cX7_owner 32 = .ok (.iconst 1, 1) := dk_4 (dk_at dksX7_owner_1 9 rfl rfl)
theorem dX7_owner_33 : decode cX7_owner 33 = .ok (.iadd, 1) := dk_96 (dk_at dksX7_owner_1 10 rfl rfl)
theorem dX7_owner_34 : decode cX7_owner 34 = .ok (.iastore, 1) := dk_79 (dk_at dksX7_owner_1 11 rfl rfl)
theorem dX7_owner_35 : decode cX7_owner 35 = .ok (.iconst 1, 1) := dk_4 (dk_at dksX7_owner_1 12 rfl rfl)
theorem dX7_owner_36 : decode cX7_owner 36 = .ok (.ireturn, 1) := dk_172 (dk_at dksX7_owner_1 13 rfl rfl)
abbrev cX7_goes : ByteArray := prog_21_method_109_code
def yX7_goes : MethodName := ⟨RX7, "goes", "(IZ)I"⟩
def dkwX7_goes_1 : List UInt8 := [153, 0, 10, 42, 180, 1, 119, 167, 0, 4, 29, 172]
abbrev dktX7_goes_1 : List UInt8 := dkwX7_goes_1 ++ []
def dkwX7_goes_0 : List UInt8 := [27, 184, 1, 116, 154, 0, 5, 2, 172, 42, 27, 182, 1, 122, 62, 29, 156, 0, 7, 2, 167, 0, 15, 28]
abbrev dktX7_goes_0 : List UInt8 := dkwX7_goes_0 ++ dktX7_goes_1
theorem dksX7_goes_0 : cX7_goes.data.toList.drop 0 = dktX7_goes_0 := by decide +kernel
theorem dksX7_goes_1 : cX7_goes.data.toList.drop 24 = dktX7_goes_1 := dk_seg dksX7_goes_0 24 rfl rfl
theorem dX7_goes_0 : decode cX7_goes 0 = .ok (.iload_n 1, 1) := dk_27 (dk_at dksX7_goes_0 0 rfl rfl)
theorem dX7_goes_1 : decode cX7_goes 1 = .ok (.invokestatic 372, 3) := dk_184 1 116 (dk_at dksX7_goes_0 1 rfl rfl)
theorem dX7_goes_4 : decode cX7_goes 4 = .ok (.ifCond .ne 5, 3) := dk_154 0 5 (dk_at dksX7_goes_0 4 rfl rfl)
theorem dX7_goes_7 : decode cX7_goes 7 = .ok (.iconst (-1), 1) := dk_2 (dk_at dksX7_goes_0 7 rfl rfl)
theorem dX7_goes_8 : decode cX7_goes 8 = .ok (.ireturn, 1) := dk_172 (dk_at dksX7_goes_0 8 rfl rfl)
theorem dX7_goes_9 : decode cX7_goes 9 = .ok (.aload_n 0, 1) := dk_42 (dk_at dksX7_goes_0 9 rfl rfl)
theorem dX7_goes_10 : decode cX7_goes 10 = .ok (.iload_n 1, 1) := dk_27 (dk_at dksX7_goes_0 10 rfl rfl)
theorem dX7_goes_11 : decode cX7_goes 11 = .ok (.invokevirtual 378, 3) := dk_182 1 122 (dk_at dksX7_goes_0 11 rfl rfl)
theorem dX7_goes_14 : decode cX7_goes 14 = .ok (.istore_n 3, 1) := dk_62 (dk_at dksX7_goes_0 14 rfl rfl)
theorem dX7_goes_15 : decode cX7_goes 15 = .ok (.iload_n 3, 1) := dk_29 (dk_at dksX7_goes_0 15 rfl rfl)
theorem dX7_goes_16 : decode cX7_goes 16 = .ok (.ifCond .ge 7, 3) := dk_156 0 7 (dk_at dksX7_goes_0 16 rfl rfl)
theorem dX7_goes_19 : decode cX7_goes 19 = .ok (.iconst (-1), 1) := dk_2 (dk_at dksX7_goes_0 19 rfl rfl)
theorem dX7_goes_20 : decode cX7_goes 20 = .ok (.goto 15, 3) := dk_167 0 15 (dk_at dksX7_goes_0 20 rfl rfl)
theorem dX7_goes_23 : decode cX7_goes 23 = .ok (.iload_n 2, 1) := dk_28 (dk_at dksX7_goes_0 23 rfl rfl)
theorem dX7_goes_24 : decode cX7_goes 24 = .ok (.ifCond .eq 10, 3) := dk_153 0 10 (dk_at dksX7_goes_1 0 rfl rfl)
theorem dX7_goes_27 : decode cX7_goes 27 = .ok (.aload_n 0, 1) := dk_42 (dk_at dksX7_goes_1 3 rfl rfl)
theorem dX7_goes_28 : decode cX7_goes 28 = .ok (.getfield 375, 3) := dk_180 1 119 (dk_at dksX7_goes_1 4 rfl rfl)
theorem dX7_goes_31 : decode cX7_goes 31 = .ok (.goto 4, 3) := dk_167 0 4 (dk_at dksX7_goes_1 7 rfl rfl)
theorem dX7_goes_34 : decode cX7_goes 34 = .ok (.iload_n 3, 1) := dk_29 (dk_at dksX7_goes_1 10 rfl rfl)
theorem dX7_goes_35 : decode cX7_goes 35 = .ok (.ireturn, 1) := dk_172 (dk_at dksX7_goes_1 11 rfl rfl)
abbrev cX7_endOf : ByteArray := prog_21_method_108_code
def yX7_endOf : MethodName := ⟨RX7, "endOf", "(I)I"⟩
def dkwX7_endOf_2 : List UInt8 := [16, 10, 164, 255, 214, 2, 172, 28, 172]
abbrev dktX7_endOf_2 : List UInt8 := dkwX7_endOf_2 ++ []
def dkwX7_endOf_1 : List UInt8 := [17, 18, 162, 28, 96, 46, 4, 100, 61, 42, 89, 180, 1, 119, 4, 96, 181, 1, 119, 42, 180, 1, 119]
abbrev dktX7_endOf_1 : List UInt8 := dkwX7_endOf_1 ++ dktX7_endOf_2
def dkwX7_endOf_0 : List UInt8 := [27, 61, 42, 3, 181, 1, 119, 42, 180, 0, 7, 17, 18, 162, 28, 96, 46, 158, 0, 37, 42, 180, 0, 7]
abbrev dktX7_endOf_0 : List UInt8 := dkwX7_endOf_0 ++ dktX7_endOf_1
theorem dksX7_endOf_0 : cX7_endOf.data.toList.drop 0 = dktX7_endOf_0 := by decide +kernel
theorem dksX7_endOf_1 : cX7_endOf.data.toList.drop 24 = dktX7_endOf_1 := dk_seg dksX7_endOf_0 24 rfl rfl
theorem dksX7_endOf_2 : cX7_endOf.data.toList.drop 47 = dktX7_endOf_2 := dk_seg dksX7_endOf_1 23 rfl rfl
theorem dX7_endOf_0 : decode cX7_endOf 0 = .ok (.iload_n 1, 1) := dk_27 (dk_at dksX7_endOf_0 0 rfl rfl)
theorem dX7_endOf_1 : decode cX7_endOf 1 = .ok (.istore_n 2, 1) := dk_61 (dk_at dksX7_endOf_0 1 rfl rfl)
theorem dX7_endOf_2 : decode cX7_endOf 2 = .ok (.aload_n 0, 1) := dk_42 (dk_at dksX7_endOf_0 2 rfl rfl)
theorem dX7_endOf_3 : decode cX7_endOf 3 = .ok (.iconst 0, 1) := dk_3 (dk_at dksX7_endOf_0 3 rfl rfl)
theorem dX7_endOf_4 : decode cX7_endOf 4 = .ok (.putfield 375, 3) := dk_181 1 119 (dk_at dksX7_endOf_0 4 rfl rfl)
theorem dX7_endOf_7 : decode cX7_endOf 7 = .ok (.aload_n 0, 1) := dk_42 (dk_at dksX7_endOf_0 7 rfl rfl)
theorem dX7_endOf_8 : decode cX7_endOf 8 = .ok (.getfield 7, 3) := dk_180 0 7 (dk_at dksX7_endOf_0 8 rfl rfl)
theorem dX7_endOf_11 : decode cX7_endOf 11 = .ok (.sipush 4770, 3) := dk_17 18 162 (dk_at dksX7_endOf_0 11 rfl rfl)
theorem dX7_endOf_14 : decode cX7_endOf 14 = .ok (.iload_n 2, 1) := dk_28 (dk_at dksX7_endOf_0 14 rfl rfl)
theorem dX7_endOf_15 : decode cX7_endOf 15 = .ok (.iadd, 1) := dk_96 (dk_at dksX7_endOf_0 15 rfl rfl)
theorem dX7_endOf_16 : decode cX7_endOf 16 = .ok (.iaload, 1) := dk_46 (dk_at dksX7_endOf_0 16 rfl rfl)
theorem dX7_endOf_17 : decode cX7_endOf 17 = .ok (.ifCond .le 37, 3) := dk_158 0 37 (dk_at dksX7_endOf_0 17 rfl rfl)
theorem dX7_endOf_20 : decode cX7_endOf 20 = .ok (.aload_n 0, 1) := dk_42 (dk_at dksX7_endOf_0 20 rfl rfl)
theorem dX7_endOf_21 : decode cX7_endOf 21 = .ok (.getfield 7, 3) := dk_180 0 7 (dk_at dksX7_endOf_0 21 rfl rfl)
theorem dX7_endOf_24 : decode cX7_endOf 24 = .ok (.sipush 4770, 3) := dk_17 18 162 (dk_at dksX7_endOf_1 0 rfl rfl)
theorem dX7_endOf_27 : decode cX7_endOf 27 = .ok (.iload_n 2, 1) := dk_28 (dk_at dksX7_endOf_1 3 rfl rfl)
theorem dX7_endOf_28 : decode cX7_endOf 28 = .ok (.iadd, 1) := dk_96 (dk_at dksX7_endOf_1 4 rfl rfl)
theorem dX7_endOf_29 : decode cX7_endOf 29 = .ok (.iaload, 1) := dk_46 (dk_at dksX7_endOf_1 5 rfl rfl)
theorem dX7_endOf_30 : decode cX7_endOf 30 = .ok (.iconst 1, 1) := dk_4 (dk_at dksX7_endOf_1 6 rfl rfl)
theorem dX7_endOf_31 : decode cX7_endOf 31 = .ok (.isub, 1) := dk_100 (dk_at dksX7_endOf_1 7 rfl rfl)
theorem dX7_endOf_32 : decode cX7_endOf 32 = .ok (.istore_n 2, 1) := dk_61 (dk_at dksX7_endOf_1 8 rfl rfl)
theorem dX7_endOf_33 : decode cX7_endOf 33 = .ok (.aload_n 0, 1) := dk_42 (dk_at dksX7_endOf_1 9 rfl rfl)
theorem dX7_endOf_34 : decode cX7_endOf 34 = .ok (.dup, 1) := dk_89 (dk_at dksX7_endOf_1 10 rfl rfl)
theorem dX7_endOf_35 : decode cX7_endOf 35 = .ok (.getfield 375, 3) := dk_180 1 119 (dk_at dksX7_endOf_1 11 rfl rfl)
theorem dX7_endOf_38 : decode cX7_endOf 38 = .ok (.iconst 1, 1) := dk_4 (dk_at dksX7_endOf_1 14 rfl rfl)
theorem dX7_endOf_39 : decode cX7_endOf 39 = .ok (.iadd, 1) := dk_96 (dk_at dksX7_endOf_1 15 rfl rfl)
theorem dX7_endOf_40 : decode cX7_endOf 40 = .ok (.putfield 375, 3) := dk_181 1 119 (dk_at dksX7_endOf_1 16 rfl rfl)
theorem dX7_endOf_43 : decode cX7_endOf 43 = .ok (.aload_n 0, 1) := dk_42 (dk_at dksX7_endOf_1 19 rfl rfl)
theorem dX7_endOf_44 : decode cX7_endOf 44 = .ok (.getfield 375, 3) := dk_180 1 119 (dk_at dksX7_endOf_1 20 rfl rfl)
theorem dX7_endOf_47 : decode cX7_endOf 47 = .ok (.bipush 10, 2) := dk_16 10 (dk_at dksX7_endOf_2 0 rfl rfl)
theorem dX7_endOf_49 : decode cX7_endOf 49 = .ok (.if_icmp .le (-42), 3) := dk_164 255 214 (dk_at dksX7_endOf_2 2 rfl rfl)
theorem dX7_endOf_52 : decode cX7_endOf 52 = .ok (.iconst (-1), 1) := dk_2 (dk_at dksX7_endOf_2 5 rfl rfl)
theorem dX7_endOf_53 : decode cX7_endOf 53 = .ok (.ireturn, 1) := dk_172 (dk_at dksX7_endOf_2 6 rfl rfl)
theorem dX7_endOf_54 : decode cX7_endOf 54 = .ok (.iload_n 2, 1) := dk_28 (dk_at dksX7_endOf_2 7 rfl rfl)
theorem dX7_endOf_55 : decode cX7_endOf 55 = .ok (.ireturn, 1) := dk_172 (dk_at dksX7_endOf_2 8 rfl rfl)
abbrev cX7_sent : ByteArray := prog_21_method_111_code
def yX7_sent : MethodName := ⟨RX7, "sent", "(III)I"⟩
def dkwX7_sent_1 : List UInt8 := [42, 27, 28, 182, 1, 128, 54, 4, 42, 180, 0, 86, 29, 46, 172]
abbrev dktX7_sent_1 : List UInt8 := dkwX7_sent_1 ++ []
def dkwX7_sent_0 : List UInt8 := [42, 27, 182, 0, 202, 153, 0, 17, 28, 184, 1, 125, 153, 0, 10, 29, 184, 1, 116, 154, 0, 5, 2, 172]
abbrev dktX7_sent_0 : List UInt8 := dkwX7_sent_0 ++ dktX7_sent_1
theorem dksX7_sent_0 : cX7_sent.data.toList.drop 0 = dktX7_sent_0 := by decide +kernel
theorem dksX7_sent_1 : cX7_sent.data.toList.drop 24 = dktX7_sent_1 := dk_seg dksX7_sent_0 24 rfl rfl
theorem dX7_sent_0 : decode cX7_sent 0 = .ok (.aload_n 0, 1) := dk_42 (dk_at dksX7_sent_0 0 rfl rfl)
theorem dX7_sent_1 : decode cX7_sent 1 = .ok (.iload_n 1, 1) := dk_27 (dk_at dksX7_sent_0 1 rfl rfl)
theorem dX7_sent_2 : decode cX7_sent 2 = .ok (.invokevirtual 202, 3) := dk_182 0 202 (dk_at dksX7_sent_0 2 rfl rfl)
theorem dX7_sent_5 : decode cX7_sent 5 = .ok (.ifCond .eq 17, 3) := dk_153 0 17 (dk_at dksX7_sent_0 5 rfl rfl)
theorem dX7_sent_8 : decode cX7_sent 8 = .ok (.iload_n 2, 1) := dk_28 (dk_at dksX7_sent_0 8 rfl rfl)
theorem dX7_sent_9 : decode cX7_sent 9 = .ok (.invokestatic 381, 3) := dk_184 1 125 (dk_at dksX7_sent_0 9 rfl rfl)
theorem dX7_sent_12 : decode cX7_sent 12 = .ok (.ifCond .eq 10, 3) := dk_153 0 10 (dk_at dksX7_sent_0 12 rfl rfl)
theorem dX7_sent_15 : decode cX7_sent 15 = .ok (.iload_n 3, 1) := dk_29 (dk_at dksX7_sent_0 15 rfl rfl)
theorem dX7_sent_16 : decode cX7_sent 16 = .ok (.invokestatic 372, 3) := dk_184 1 116 (dk_at dksX7_sent_0 16 rfl rfl)
theorem dX7_sent_19 : decode cX7_sent 19 = .ok (.ifCond .ne 5, 3) := dk_154 0 5 (dk_at dksX7_sent_0 19 rfl rfl)
theorem dX7_sent_22 : decode cX7_sent 22 = .ok (.iconst (-1), 1) := dk_2 (dk_at dksX7_sent_0 22 rfl rfl)
theorem dX7_sent_23 : decode cX7_sent 23 = .ok (.ireturn, 1) := dk_172 (dk_at dksX7_sent_0 23 rfl rfl)
theorem dX7_sent_24 : decode cX7_sent 24 = .ok (.aload_n 0, 1) := dk_42 (dk_at dksX7_sent_1 0 rfl rfl)
theorem dX7_sent_25 : decode cX7_sent 25 = .ok (.iload_n 1, 1) := dk_27 (dk_at dksX7_sent_1 1 rfl rfl)
theorem dX7_sent_26 : decode cX7_sent 26 = .ok (.iload_n 2, 1) := dk_28 (dk_at dksX7_sent_1 2 rfl rfl)
theorem dX7_sent_27 : decode cX7_sent 27 = .ok (.invokevirtual 384, 3) := dk_182 1 128 (dk_at dksX7_sent_1 3 rfl rfl)
theorem dX7_sent_30 : decode cX7_sent 30 = .ok (.istore 4, 2) := dk_54 4 (dk_at dksX7_sent_1 6 rfl rfl)
theorem dX7_sent_32 : decode cX7_sent 32 = .ok (.aload_n 0, 1) := dk_42 (dk_at dksX7_sent_1 8 rfl rfl)
theorem dX7_sent_33 : decode cX7_sent 33 = .ok (.getfield 86, 3) := dk_180 0 86 (dk_at dksX7_sent_1 9 rfl rfl)
theorem dX7_sent_36 : decode cX7_sent 36 = .ok (.iload_n 3, 1) := dk_29 (dk_at dksX7_sent_1 12 rfl rfl)
theorem dX7_sent_37 : decode cX7_sent 37 = .ok (.iaload, 1) := dk_46 (dk_at dksX7_sent_1 13 rfl rfl)
theorem dX7_sent_38 : decode cX7_sent 38 = .ok (.ireturn, 1) := dk_172 (dk_at dksX7_sent_1 14 rfl rfl)
abbrev cX7_isMade : ByteArray := prog_21_method_110_code
def yX7_isMade : MethodName := ⟨RX7, "isMade", "(I)Z"⟩
def dkwX7_isMade_0 : List UInt8 := [26, 3, 17, 3, 231, 184, 0, 89, 172]
abbrev dktX7_isMade_0 : List UInt8 := dkwX7_isMade_0 ++ []
theorem dksX7_isMade_0 : cX7_isMade.data.toList.drop 0 = dktX7_isMade_0 := by decide +kernel
theorem dX7_isMade_0 : decode cX7_isMade 0 = .ok (.iload_n 0, 1) := dk_26 (dk_at dksX7_isMade_0 0 rfl rfl)
theorem dX7_isMade_1 : decode cX7_isMade 1 = .ok (.iconst 0, 1) := dk_3 (dk_at dksX7_isMade_0 1 rfl rfl)
theorem dX7_isMade_2 : decode cX7_isMade 2 = .ok (.sipush 999, 3) := dk_17 3 231 (dk_at dksX7_isMade_0 2 rfl rfl)
theorem dX7_isMade_5 : decode cX7_isMade 5 = .ok (.invokestatic 89, 3) := dk_184 0 89 (dk_at dksX7_isMade_0 5 rfl rfl)
theorem dX7_isMade_8 : decode cX7_isMade 8 = .ok (.ireturn, 1) := dk_172 (dk_at dksX7_isMade_0 8 rfl rfl)
abbrev cX7_does : ByteArray := prog_21_method_104_code
def yX7_does : MethodName := ⟨RX7, "does", "(II)I"⟩
def dkwX7_does_14 : List UInt8 := [172]
abbrev dktX7_does_14 : List UInt8 := dkwX7_does_14 ++ []
def dkwX7_does_13 : List UInt8 := [167, 0, 19, 42, 180, 0, 7, 21, 5, 6, 96, 46, 62, 167, 0, 6, 21, 4, 172, 167, 254, 239, 21, 4]
abbrev dktX7_does_13 : List UInt8 := dkwX7_does_13 ++ dktX7_does_14
def dkwX7_does_12 : List UInt8 := [42, 180, 0, 80, 21, 6, 46, 21, 7, 162, 0, 32, 42, 180, 0, 7, 21, 5, 6, 96, 46, 62]
abbrev dktX7_does_12 : List UInt8 := dkwX7_does_12 ++ dktX7_does_13
def dkwX7_does_11 : List UInt8 := [79, 167, 0, 64, 42, 180, 0, 86, 21, 7, 92, 46, 42, 180, 0, 83, 21, 6, 46, 128, 79, 167, 0, 44]
abbrev dktX7_does_11 : List UInt8 := dkwX7_does_11 ++ dktX7_does_12
def dkwX7_does_10 : List UInt8 := [21, 6, 46, 128, 79, 167, 0, 84, 42, 180, 0, 80, 21, 7, 21, 6, 79, 42, 180, 0, 83, 21, 7, 3]
abbrev dktX7_does_10 : List UInt8 := dkwX7_does_10 ++ dktX7_does_11
def dkwX7_does_9 : List UInt8 := [180, 0, 80, 21, 7, 46, 96, 16, 100, 112, 79, 42, 180, 0, 83, 21, 7, 92, 46, 42, 180, 0, 83]
abbrev dktX7_does_9 : List UInt8 := dkwX7_does_9 ++ dktX7_does_10
def dkwX7_does_8 : List UInt8 := [21, 7, 4, 21, 6, 120, 79, 167, 0, 129, 42, 180, 0, 80, 21, 7, 42, 180, 0, 80, 21, 6, 46, 42]
abbrev dktX7_does_8 : List UInt8 := dkwX7_does_8 ++ dktX7_does_9
def dkwX7_does_7 : List UInt8 := [42, 180, 0, 80, 21, 7, 28, 21, 6, 4, 96, 104, 16, 7, 96, 16, 100, 112, 79, 42, 180, 0, 83]
abbrev dktX7_does_7 : List UInt8 := dkwX7_does_7 ++ dktX7_does_8
def dkwX7_does_6 : List UInt8 := [170, 0, 0, 0, 0, 198, 0, 0, 0, 10, 0, 0, 0, 16, 0, 0, 0, 42, 0, 0, 0, 198, 0, 0, 0, 75, 0, 0, 0, 120, 0, 0, 0, 140, 0, 0, 0, 160, 0, 0, 0, 185]
abbrev dktX7_does_6 : List UInt8 := dkwX7_does_6 ++ dktX7_does_7
def dkwX7_does_5 : List UInt8 := [132, 3, 1, 42, 180, 0, 7, 21, 5, 46]
abbrev dktX7_does_5 : List UInt8 := dkwX7_does_5 ++ dktX7_does_6
def dkwX7_does_4 : List UInt8 := [180, 0, 7, 21, 5, 4, 96, 46, 54, 6, 42, 180, 0, 7, 21, 5, 5, 96, 46, 54, 7, 132, 4, 1]
abbrev dktX7_does_4 : List UInt8 := dkwX7_does_4 ++ dktX7_does_5
def dkwX7_does_3 : List UInt8 := [21, 4, 17, 0, 200, 162, 0, 255, 27, 184, 0, 93, 16, 121, 96, 7, 29, 104, 96, 54, 5, 42]
abbrev dktX7_does_3 : List UInt8 := dkwX7_does_3 ++ dktX7_does_4
def dkwX7_does_2 : List UInt8 := [167, 255, 240, 3, 62, 3, 54, 4, 29, 42, 180, 0, 7, 27, 184, 0, 93, 16, 120, 96, 46, 162, 1, 7]
abbrev dktX7_does_2 : List UInt8 := dkwX7_does_2 ++ dktX7_does_3
def dkwX7_does_1 : List UInt8 := [132, 3, 1, 167, 255, 233, 3, 62, 29, 16, 10, 162, 0, 16, 42, 180, 0, 86, 29, 3, 79, 132, 3, 1]
abbrev dktX7_does_1 : List UInt8 := dkwX7_does_1 ++ dktX7_does_2
def dkwX7_does_0 : List UInt8 := [3, 62, 29, 16, 6, 162, 0, 23, 42, 180, 0, 80, 29, 3, 79, 42, 180, 0, 83, 29, 3, 79]
abbrev dktX7_does_0 : List UInt8 := dkwX7_does_0 ++ dktX7_does_1
theorem dksX7_does_0 : cX7_does.data.toList.drop 0 = dktX7_does_0 := by decide +kernel
theorem dksX7_does_1 : cX7_does.data.toList.drop 22 = dktX7_does_1 := dk_seg dksX7_does_0 22 rfl rfl
theorem dksX7_does_2 : cX7_does.data.toList.drop 46 = dktX7_does_2 := dk_seg dksX7_does_1 24 rfl rfl
theorem dksX7_does_3 : cX7_does.data.toList.drop 70 = dktX7_does_3 := dk_seg dksX7_does_2 24 rfl rfl
theorem dksX7_does_4 : cX7_does.data.toList.drop 92 = dktX7_does_4 := dk_seg dksX7_does_3 22 rfl rfl
theorem dksX7_does_5 : cX7_does.data.toList.drop 116 = dktX7_does_5 := dk_seg dksX7_does_4 24 rfl rfl
theorem dksX7_does_6 : cX7_does.data.toList.drop 126 = dktX7_does_6 := dk_seg dksX7_does_5 10 rfl rfl
theorem dksX7_does_7 : cX7_does.data.toList.drop 168 = dktX7_does_7 := dk_seg dksX7_does_6 42 rfl rfl
theorem dksX7_does_8 : cX7_does.data.toList.drop 191 = dktX7_does_8 := dk_seg dksX7_does_7 23 rfl rfl
theorem dksX7_does_9 : cX7_does.data.toList.drop 215 = dktX7_does_9 := dk_seg dksX7_does_8 24 rfl rfl
theorem dksX7_does_10 : cX7_does.data.toList.drop 238 = dktX7_does_10 := dk_seg dksX7_does_9 23 rfl rfl
theorem dksX7_does_11 : cX7_does.data.toList.drop 262 = dktX7_does_11 := dk_seg dksX7_does_10 24 rfl rfl
theorem dksX7_does_12 : cX7_does.data.toList.drop 286 = dktX7_does_12 := dk_seg dksX7_does_11 24 rfl rfl
theorem dksX7_does_13 : cX7_does.data.toList.drop 308 = dktX7_does_13 := dk_seg dksX7_does_12 22 rfl rfl
theorem dksX7_does_14 : cX7_does.data.toList.drop 332 = dktX7_does_14 := dk_seg dksX7_does_13 24 rfl rfl
theorem dX7_does_0 : decode cX7_does 0 = .ok (.iconst 0, 1) := dk_3 (dk_at dksX7_does_0 0 rfl rfl)
theorem dX7_does_1 : decode cX7_does 1 = .ok (.istore_n 3, 1) := dk_62 (dk_at dksX7_does_0 1 rfl rfl)
theorem dX7_does_2 : decode cX7_does 2 = .ok (.iload_n 3, 1) := dk_29 (dk_at dksX7_does_0 2 rfl rfl)
theorem dX7_does_3 : decode cX7_does 3 = .ok (.bipush 6, 2) := dk_16 6 (dk_at dksX7_does_0 3 rfl rfl)
theorem dX7_does_5 : decode cX7_does 5 = .ok (.if_icmp .ge 23, 3) := dk_162 0 23 (dk_at dksX7_does_0 5 rfl rfl)
theorem dX7_does_8 : decode cX7_does 8 = .ok (.aload_n 0, 1) := dk_42 (dk_at dksX7_does_0 8 rfl rfl)
theorem dX7_does_9 : decode cX7_does 9 = .ok (.getfield 80, 3) := dk_180 0 80 (dk_at dksX7_does_0 9 rfl rfl)
theorem dX7_does_12 : decode cX7_does 12 = .ok (.iload_n 3, 1) := dk_29 (dk_at dksX7_does_0 12 rfl rfl)
theorem dX7_does_13 : decode cX7_does 13 = .ok (.iconst 0, 1) := dk_3 (dk_at dksX7_does_0 13 rfl rfl)
theorem dX7_does_14 : decode cX7_does 14 = .ok (.iastore, 1) := dk_79 (dk_at dksX7_does_0 14 rfl rfl)
theorem dX7_does_15 : decode cX7_does 15 = .ok (.aload_n 0, 1) := dk_42 (dk_at dksX7_does_0 15 rfl rfl)
theorem dX7_does_16 : decode cX7_does 16 = .ok (.getfield 83, 3) := dk_180 0 83 (dk_at dksX7_does_0 16 rfl rfl)
theorem dX7_does_19 : decode cX7_does 19 = .ok (.iload_n 3, 1) := dk_29 (dk_at dksX7_does_0 19 rfl rfl)
theorem dX7_does_20 : decode cX7_does 20 = .ok (.iconst 0, 1) := dk_3 (dk_at dksX7_does_0 20 rfl rfl)
theorem dX7_does_21 : decode cX7_does 21 = .ok (.iastore, 1) := dk_79 (dk_at dksX7_does_0 21 rfl rfl)
theorem dX7_does_22 : decode cX7_does 22 = .ok (.iinc 3 1, 3) := dk_132 3 1 (dk_at dksX7_does_1 0 rfl rfl)
theorem dX7_does_25 : decode cX7_does 25 = .ok (.goto (-23), 3) := dk_167 255 233 (dk_at dksX7_does_1 3 rfl rfl)
theorem dX7_does_28 : decode cX7_does 28 = .ok (.iconst 0, 1) := dk_3 (dk_at dksX7_does_1 6 rfl rfl)
theorem dX7_does_29 : decode cX7_does 29 = .ok (.istore_n 3, 1) := dk_62 (dk_at dksX7_does_1 7 rfl rfl)
theorem dX7_does_30 : decode cX7_does 30 = .ok (.iload_n 3, 1) := dk_29 (dk_at dksX7_does_1 8 rfl rfl)
theorem dX7_does_31 : decode cX7_does 31 = .ok (.bipush 10, 2) := dk_16 10 (dk_at dksX7_does_1 9 rfl rfl)
theorem dX7_does_33 : decode cX7_does 33 = .ok (.if_icmp .ge 16, 3) := dk_162 0 16 (dk_at dksX7_does_1 11 rfl rfl)
theorem dX7_does_36 : decode cX7_does 36 = .ok (.aload_n 0, 1) := dk_42 (dk_at dksX7_does_1 14 rfl rfl)
theorem dX7_does_37 : decode cX7_does 37 = .ok (.getfield 86, 3) := dk_180 0 86 (dk_at dksX7_does_1 15 rfl rfl)
theorem dX7_does_40 : decode cX7_does 40 = .ok (.iload_n 3, 1) := dk_29 (dk_at dksX7_does_1 18 rfl rfl)
theorem dX7_does_41 : decode cX7_does 41 = .ok (.iconst 0, 1) := dk_3 (dk_at dksX7_does_1 19 rfl rfl)
theorem dX7_does_42 : decode cX7_does 42 = .ok (.iastore, 1) := dk_79 (dk_at dksX7_does_1 20 rfl rfl)
theorem dX7_does_43 : decode cX7_does 43 = .ok (.iinc 3 1, 3) := dk_132 3 1 (dk_at dksX7_does_1 21 rfl rfl)
theorem dX7_does_46 : decode cX7_does 46 = .ok (.goto (-16), 3) := dk_167 255 240 (dk_at dksX7_does_2 0 rfl rfl)
theorem dX7_does_49 : decode cX7_does 49 = .ok (.iconst 0, 1) := dk_3 (dk_at dksX7_does_2 3 rfl rfl)
theorem dX7_does_50 : decode cX7_does 50 = .ok (.istore_n 3, 1) := dk_62 (dk_at dksX7_does_2 4 rfl rfl)
theorem dX7_does_51 : decode cX7_does 51 = .ok (.iconst 0, 1) := dk_3 (dk_at dksX7_does_2 5 rfl rfl)
theorem dX7_does_52 : decode cX7_does 52 = .ok (.istore 4, 2) := dk_54 4 (dk_at dksX7_does_2 6 rfl rfl)
theorem dX7_does_54 : decode cX7_does 54 = .ok (.iload_n 3, 1) := dk_29 (dk_at dksX7_does_2 8 rfl rfl)
theorem dX7_does_55 : decode cX7_does 55 = .ok (.aload_n 0, 1) := dk_42 (dk_at dksX7_does_2 9 rfl rfl)
theorem dX7_does_56 : decode cX7_does 56 = .ok (.getfield 7, 3) := dk_180 0 7 (dk_at dksX7_does_2 10 rfl rfl)
theorem dX7_does_59 : decode cX7_does 59 = .ok (.iload_n 1, 1) := dk_27 (dk_at dksX7_does_2 13 rfl rfl)
theorem dX7_does_60 : decode cX7_does 60 = .ok (.invokestatic 93, 3) := dk_184 0 93 (dk_at dksX7_does_2 14 rfl rfl)
theorem dX7_does_63 : decode cX7_does 63 = .ok (.bipush 120, 2) := dk_16 120 (dk_at dksX7_does_2 17 rfl rfl)
theorem dX7_does_65 : decode cX7_does 65 = .ok (.iadd, 1) := dk_96 (dk_at dksX7_does_2 19 rfl rfl)
theorem dX7_does_66 : decode cX7_does 66 = .ok (.iaload, 1) := dk_46 (dk_at dksX7_does_2 20 rfl rfl)
theorem dX7_does_67 : decode cX7_does 67 = .ok (.if_icmp .ge 263, 3) := dk_162 1 7 (dk_at dksX7_does_2 21 rfl rfl)
theorem dX7_does_70 : decode cX7_does 70 = .ok (.iload 4, 2) := dk_21 4 (dk_at dksX7_does_3 0 rfl rfl)
theorem dX7_does_72 : decode cX7_does 72 = .ok (.sipush 200, 3) := dk_17 0 200 (dk_at dksX7_does_3 2 rfl rfl)
theorem dX7_does_75 : decode cX7_does 75 = .ok (.if_icmp .ge 255, 3) := dk_162 0 255 (dk_at dksX7_does_3 5 rfl rfl)
theorem dX7_does_78 : decode cX7_does 78 = .ok (.iload_n 1, 1) := dk_27 (dk_at dksX7_does_3 8 rfl rfl)
theorem dX7_does_79 : decode cX7_does 79 = .ok (.invokestatic 93, 3) := dk_184 0 93 (dk_at dksX7_does_3 9 rfl rfl)
theorem dX7_does_82 : decode cX7_does 82 = .ok (.bipush 121, 2) := dk_16 121 (dk_at dksX7_does_3 12 rfl rfl)
theorem dX7_does_84 : decode cX7_does 84 = .ok (.iadd, 1) := dk_96 (dk_at dksX7_does_3 14 rfl rfl)
theorem dX7_does_85 : decode cX7_does 85 = .ok (.iconst 4, 1) := dk_7 (dk_at dksX7_does_3 15 rfl rfl)
theorem dX7_does_86 : decode cX7_does 86 = .ok (.iload_n 3, 1) := dk_29 (dk_at dksX7_does_3 16 rfl rfl)
theorem dX7_does_87 : decode cX7_does 87 = .ok (.imul, 1) := dk_104 (dk_at dksX7_does_3 17 rfl rfl)
theorem dX7_does_88 : decode cX7_does 88 = .ok (.iadd, 1) := dk_96 (dk_at dksX7_does_3 18 rfl rfl)
theorem dX7_does_89 : decode cX7_does 89 = .ok (.istore 5, 2) := dk_54 5 (dk_at dksX7_does_3 19 rfl rfl)
theorem dX7_does_91 : decode cX7_does 91 = .ok (.aload_n 0, 1) := dk_42 (dk_at dksX7_does_3 21 rfl rfl)
theorem dX7_does_92 : decode cX7_does 92 = .ok (.getfield 7, 3) := dk_180 0 7 (dk_at dksX7_does_4 0 rfl rfl)
theorem dX7_does_95 : decode cX7_does 95 = .ok (.iload 5, 2) := dk_21 5 (dk_at dksX7_does_4 3 rfl rfl)
theorem dX7_does_97 : decode cX7_does 97 = .ok (.iconst 1, 1) := dk_4 (dk_at dksX7_does_4 5 rfl rfl)
theorem dX7_does_98 : decode cX7_does 98 = .ok (.iadd, 1) := dk_96 (dk_at dksX7_does_4 6 rfl rfl)
theorem dX7_does_99 : decode cX7_does 99 = .ok (.iaload, 1) := dk_46 (dk_at dksX7_does_4 7 rfl rfl)
theorem dX7_does_100 : decode cX7_does 100 = .ok (.istore 6, 2) := dk_54 6 (dk_at dksX7_does_4 8 rfl rfl)
theorem dX7_does_102 : decode cX7_does 102 = .ok (.aload_n 0, 1) := dk_42 (dk_at dksX7_does_4 10 rfl rfl)
theorem dX7_does_103 : decode cX7_does 103 = .ok (.getfield 7, 3) := dk_180 0 7 (dk_at dksX7_does_4 11 rfl rfl)
theorem dX7_does_106 : decode cX7_does 106 = .ok (.iload 5, 2) := dk_21 5 (dk_at dksX7_does_4 14 rfl rfl)
theorem dX7_does_108 : decode cX7_does 108 = .ok (.iconst 2, 1) := dk_5 (dk_at dksX7_does_4 16 rfl rfl)
theorem dX7_does_109 : decode cX7_does 109 = .ok (.iadd, 1) := dk_96 (dk_at dksX7_does_4 17 rfl rfl)
theorem dX7_does_110 : decode cX7_does 110 = .ok (.iaload, 1) := dk_46 (dk_at dksX7_does_4 18 rfl rfl)
theorem dX7_does_111 : decode cX7_does 111 = .ok (.istore 7, 2) := dk_54 7 (dk_at dksX7_does_4 19 rfl rfl)
theorem dX7_does_113 : decode cX7_does 113 = .ok (.iinc 4 1, 3) := dk_132 4 1 (dk_at dksX7_does_4 21 rfl rfl)
theorem dX7_does_116 : decode cX7_does 116 = .ok (.iinc 3 1, 3) := dk_132 3 1 (dk_at dksX7_does_5 0 rfl rfl)
theorem dX7_does_119 : decode cX7_does 119 = .ok (.aload_n 0, 1) := dk_42 (dk_at dksX7_does_5 3 rfl rfl)
theorem dX7_does_120 : decode cX7_does 120 = .ok (.getfield 7, 3) := dk_180 0 7 (dk_at dksX7_does_5 4 rfl rfl)
theorem dX7_does_123 : decode cX7_does 123 = .ok (.iload 5, 2) := dk_21 5 (dk_at dksX7_does_5 7 rfl rfl)
theorem dX7_does_125 : decode cX7_does 125 = .ok (.iaload, 1) := dk_46 (dk_at dksX7_does_5 9 rfl rfl)
theorem dX7_does_126 : decode cX7_does 126 = .ok (.tableswitch 198 10 16 #[42, 198, 75, 120, 140, 160, 185], 42) := by decide +kernel
theorem dX7_does_168 : decode cX7_does 168 = .ok (.aload_n 0, 1) := dk_42 (dk_at dksX7_does_7 0 rfl rfl)
theorem dX7_does_169 : decode cX7_does 169 = .ok (.getfield 80, 3) := dk_180 0 80 (dk_at dksX7_does_7 1 rfl rfl)
theorem dX7_does_172 : decode cX7_does 172 = .ok (.iload 7, 2) := dk_21 7 (dk_at dksX7_does_7 4 rfl rfl)
theorem dX7_does_174 : decode cX7_does 174 = .ok (.iload_n 2, 1) := dk_28 (dk_at dksX7_does_7 6 rfl rfl)
theorem dX7_does_175 : decode cX7_does 175 = .ok (.iload 6, 2) := dk_21 6 (dk_at dksX7_does_7 7 rfl rfl)
theorem dX7_does_177 : decode cX7_does 177 = .ok (.iconst 1, 1) := dk_4 (dk_at dksX7_does_7 9 rfl rfl)
theorem dX7_does_178 : decode cX7_does 178 = .ok (.iadd, 1) := dk_96 (dk_at dksX7_does_7 10 rfl rfl)
theorem dX7_does_179 : decode cX7_does 179 = .ok (.imul, 1) := dk_104 (dk_at dksX7_does_7 11 rfl rfl)
theorem dX7_does_180 : decode cX7_does 180 = .ok (.bipush 7, 2) := dk_16 7 (dk_at dksX7_does_7 12 rfl rfl)
theorem dX7_does_182 : decode cX7_does 182 = .ok (.iadd, 1) := dk_96 (dk_at dksX7_does_7 14 rfl rfl)
theorem dX7_does_183 : decode cX7_does 183 = .ok (.bipush 100, 2) := dk_16 100 (dk_at dksX7_does_7 15 rfl rfl)
theorem dX7_does_185 : decode cX7_does 185 = .ok (.irem, 1) := dk_112 (dk_at dksX7_does_7 17 rfl rfl)
theorem dX7_does_186 : decode cX7_does 186 = .ok (.iastore, 1) := dk_79 (dk_at dksX7_does_7 18 rfl rfl)
theorem dX7_does_187 : decode cX7_does 187 = .ok (.aload_n 0, 1) := dk_42 (dk_at dksX7_does_7 19 rfl rfl)
theorem dX7_does_188 : decode cX7_does 188 = .ok (.getfield 83, 3) := dk_180 0 83 (dk_at dksX7_does_7 20 rfl rfl)
theorem dX7_does_191 : decode cX7_does 191 = .ok (.iload 7, 2) := dk_21 7 (dk_at dksX7_does_8 0 rfl rfl)
theorem dX7_does_193 : decode cX7_does 193 = .ok (.iconst 1, 1) := dk_4 (dk_at dksX7_does_8 2 rfl rfl)
theorem dX7_does_194 : decode cX7_does 194 = .ok (.iload 6, 2) := dk_21 6 (dk_at dksX7_does_8 3 rfl rfl)
theorem dX7_does_196 : decode cX7_does 196 = .ok (.ishl, 1) := dk_120 (dk_at dksX7_does_8 5 rfl rfl)
theorem dX7_does_197 : decode cX7_does 197 = .ok (.iastore, 1) := dk_79 (dk_at dksX7_does_8 6 rfl rfl)
theorem dX7_does_198 : decode cX7_does 198 = .ok (.goto 129, 3) := dk_167 0 129 (dk_at dksX7_does_8 7 rfl rfl)
theorem dX7_does_201 : decode cX7_does 201 = .ok (.aload_n 0, 1) := dk_42 (dk_at dksX7_does_8 10 rfl rfl)
theorem dX7_does_202 : decode cX7_does 202 = .ok (.getfield 80, 3) := dk_180 0 80 (dk_at dksX7_does_8 11 rfl rfl)
theorem dX7_does_205 : decode cX7_does 205 = .ok (.iload 7, 2) := dk_21 7 (dk_at dksX7_does_8 14 rfl rfl)
theorem dX7_does_207 : decode cX7_does 207 = .ok (.aload_n 0, 1) := dk_42 (dk_at dksX7_does_8 16 rfl rfl)
theorem dX7_does_208 : decode cX7_does 208 = .ok (.getfield 80, 3) := dk_180 0 80 (dk_at dksX7_does_8 17 rfl rfl)
theorem dX7_does_211 : decode cX7_does 211 = .ok (.iload 6, 2) := dk_21 6 (dk_at dksX7_does_8 20 rfl rfl)
theorem dX7_does_213 : decode cX7_does 213 = .ok (.iaload, 1) := dk_46 (dk_at dksX7_does_8 22 rfl rfl)
theorem dX7_does_214 : decode cX7_does 214 = .ok (.aload_n 0, 1) := dk_42 (dk_at dksX7_does_8 23 rfl rfl)
theorem dX7_does_215 : decode cX7_does 215 = .ok (.getfield 80, 3) := dk_180 0 80 (dk_at dksX7_does_9 0 rfl rfl)
theorem dX7_does_218 : decode cX7_does 218 = .ok (.iload 7, 2) := dk_21 7 (dk_at dksX7_does_9 3 rfl rfl)
theorem dX7_does_220 : decode cX7_does 220 = .ok (.iaload, 1) := dk_46 (dk_at dksX7_does_9 5 rfl rfl)
theorem dX7_does_221 : decode cX7_does 221 = .ok (.iadd, 1) := dk_96 (dk_at dksX7_does_9 6 rfl rfl)
theorem dX7_does_222 : decode cX7_does 222 = .ok (.bipush 100, 2) := dk_16 100 (dk_at dksX7_does_9 7 rfl rfl)
theorem dX7_does_224 : decode cX7_does 224 = .ok (.irem, 1) := dk_112 (dk_at dksX7_does_9 9 rfl rfl)
theorem dX7_does_225 : decode cX7_does 225 = .ok (.iastore, 1) := dk_79 (dk_at dksX7_does_9 10 rfl rfl)
theorem dX7_does_226 : decode cX7_does 226 = .ok (.aload_n 0, 1) := dk_42 (dk_at dksX7_does_9 11 rfl rfl)
theorem dX7_does_227 : decode cX7_does 227 = .ok (.getfield 83, 3) := dk_180 0 83 (dk_at dksX7_does_9 12 rfl rfl)
theorem dX7_does_230 : decode cX7_does 230 = .ok (.iload 7, 2) := dk_21 7 (dk_at dksX7_does_9 15 rfl rfl)
theorem dX7_does_232 : decode cX7_does 232 = .ok (.dup2, 1) := dk_92 (dk_at dksX7_does_9 17 rfl rfl)
theorem dX7_does_233 : decode cX7_does 233 = .ok (.iaload, 1) := dk_46 (dk_at dksX7_does_9 18 rfl rfl)
theorem dX7_does_234 : decode cX7_does 234 = .ok (.aload_n 0, 1) := dk_42 (dk_at dksX7_does_9 19 rfl rfl)
theorem dX7_does_235 : decode cX7_does 235 = .ok (.getfield 83, 3) := dk_180 0 83 (dk_at dksX7_does_9 20 rfl rfl)
theorem dX7_does_238 : decode cX7_does 238 = .ok (.iload 6, 2) := dk_21 6 (dk_at dksX7_does_10 0 rfl rfl)
theorem dX7_does_240 : decode cX7_does 240 = .ok (.iaload, 1) := dk_46 (dk_at dksX7_does_10 2 rfl rfl)
theorem dX7_does_241 : decode cX7_does 241 = .ok (.ior, 1) := dk_128 (dk_at dksX7_does_10 3 rfl rfl)
theorem dX7_does_242 : decode cX7_does 242 = .ok (.iastore, 1) := dk_79 (dk_at dksX7_does_10 4 rfl rfl)
theorem dX7_does_243 : decode cX7_does 243 = .ok (.goto 84, 3) := dk_167 0 84 (dk_at dksX7_does_10 5 rfl rfl)
theorem dX7_does_246 : decode cX7_does 246 = .ok (.aload_n 0, 1) := dk_42 (dk_at dksX7_does_10 8 rfl rfl)
theorem dX7_does_247 : decode cX7_does 247 = .ok (.getfield 80, 3) := dk_180 0 80 (dk_at dksX7_does_10 9 rfl rfl)
theorem dX7_does_250 : decode cX7_does 250 = .ok (.iload 7, 2) := dk_21 7 (dk_at dksX7_does_10 12 rfl rfl)
theorem dX7_does_252 : decode cX7_does 252 = .ok (.iload 6, 2) := dk_21 6 (dk_at dksX7_does_10 14 rfl rfl)
theorem dX7_does_254 : decode cX7_does 254 = .ok (.iastore, 1) := dk_79 (dk_at dksX7_does_10 16 rfl rfl)
theorem dX7_does_255 : decode cX7_does 255 = .ok (.aload_n 0, 1) := dk_42 (dk_at dksX7_does_10 17 rfl rfl)
theorem dX7_does_256 : decode cX7_does 256 = .ok (.getfield 83, 3) := dk_180 0 83 (dk_at dksX7_does_10 18 rfl rfl)
theorem dX7_does_259 : decode cX7_does 259 = .ok (.iload 7, 2) := dk_21 7 (dk_at dksX7_does_10 21 rfl rfl)
theorem dX7_does_261 : decode cX7_does 261 = .ok (.iconst 0, 1) := dk_3 (dk_at dksX7_does_10 23 rfl rfl)
theorem dX7_does_262 : decode cX7_does 262 = .ok (.iastore, 1) := dk_79 (dk_at dksX7_does_11 0 rfl rfl)
theorem dX7_does_263 : decode cX7_does 263 = .ok (.goto 64, 3) := dk_167 0 64 (dk_at dksX7_does_11 1 rfl rfl)
theorem dX7_does_266 : decode cX7_does 266 = .ok (.aload_n 0, 1) := dk_42 (dk_at dksX7_does_11 4 rfl rfl)
theorem dX7_does_267 : decode cX7_does 267 = .ok (.getfield 86, 3) := dk_180 0 86 (dk_at dksX7_does_11 5 rfl rfl)
theorem dX7_does_270 : decode cX7_does 270 = .ok (.iload 7, 2) := dk_21 7 (dk_at dksX7_does_11 8 rfl rfl)
theorem dX7_does_272 : decode cX7_does 272 = .ok (.dup2, 1) := dk_92 (dk_at dksX7_does_11 10 rfl rfl)
theorem dX7_does_273 : decode cX7_does 273 = .ok (.iaload, 1) := dk_46 (dk_at dksX7_does_11 11 rfl rfl)
theorem dX7_does_274 : decode cX7_does 274 = .ok (.aload_n 0, 1) := dk_42 (dk_at dksX7_does_11 12 rfl rfl)
theorem dX7_does_275 : decode cX7_does 275 = .ok (.getfield 83, 3) := dk_180 0 83 (dk_at dksX7_does_11 13 rfl rfl)
theorem dX7_does_278 : decode cX7_does 278 = .ok (.iload 6, 2) := dk_21 6 (dk_at dksX7_does_11 16 rfl rfl)
theorem dX7_does_280 : decode cX7_does 280 = .ok (.iaload, 1) := dk_46 (dk_at dksX7_does_11 18 rfl rfl)
theorem dX7_does_281 : decode cX7_does 281 = .ok (.ior, 1) := dk_128 (dk_at dksX7_does_11 19 rfl rfl)
theorem dX7_does_282 : decode cX7_does 282 = .ok (.iastore, 1) := dk_79 (dk_at dksX7_does_11 20 rfl rfl)
theorem dX7_does_283 : decode cX7_does 283 = .ok (.goto 44, 3) := dk_167 0 44 (dk_at dksX7_does_11 21 rfl rfl)
theorem dX7_does_286 : decode cX7_does 286 = .ok (.aload_n 0, 1) := dk_42 (dk_at dksX7_does_12 0 rfl rfl)
theorem dX7_does_287 : decode cX7_does 287 = .ok (.getfield 80, 3) := dk_180 0 80 (dk_at dksX7_does_12 1 rfl rfl)
theorem dX7_does_290 : decode cX7_does 290 = .ok (.iload 6, 2) := dk_21 6 (dk_at dksX7_does_12 4 rfl rfl)
theorem dX7_does_292 : decode cX7_does 292 = .ok (.iaload, 1) := dk_46 (dk_at dksX7_does_12 6 rfl rfl)
theorem dX7_does_293 : decode cX7_does 293 = .ok (.iload 7, 2) := dk_21 7 (dk_at dksX7_does_12 7 rfl rfl)
theorem dX7_does_295 : decode cX7_does 295 = .ok (.if_icmp .ge 32, 3) := dk_162 0 32 (dk_at dksX7_does_12 9 rfl rfl)
theorem dX7_does_298 : decode cX7_does 298 = .ok (.aload_n 0, 1) := dk_42 (dk_at dksX7_does_12 12 rfl rfl)
theorem dX7_does_299 : decode cX7_does 299 = .ok (.getfield 7, 3) := dk_180 0 7 (dk_at dksX7_does_12 13 rfl rfl)
theorem dX7_does_302 : decode cX7_does 302 = .ok (.iload 5, 2) := dk_21 5 (dk_at dksX7_does_12 16 rfl rfl)
theorem dX7_does_304 : decode cX7_does 304 = .ok (.iconst 3, 1) := dk_6 (dk_at dksX7_does_12 18 rfl rfl)
theorem dX7_does_305 : decode cX7_does 305 = .ok (.iadd, 1) := dk_96 (dk_at dksX7_does_12 19 rfl rfl)
theorem dX7_does_306 : decode cX7_does 306 = .ok (.iaload, 1) := dk_46 (dk_at dksX7_does_12 20 rfl rfl)
theorem dX7_does_307 : decode cX7_does 307 = .ok (.istore_n 3, 1) := dk_62 (dk_at dksX7_does_12 21 rfl rfl)
theorem dX7_does_308 : decode cX7_does 308 = .ok (.goto 19, 3) := dk_167 0 19 (dk_at dksX7_does_13 0 rfl rfl)
theorem dX7_does_311 : decode cX7_does 311 = .ok (.aload_n 0, 1) := dk_42 (dk_at dksX7_does_13 3 rfl rfl)
theorem dX7_does_312 : decode cX7_does 312 = .ok (.getfield 7, 3) := dk_180 0 7 (dk_at dksX7_does_13 4 rfl rfl)
theorem dX7_does_315 : decode cX7_does 315 = .ok (.iload 5, 2) := dk_21 5 (dk_at dksX7_does_13 7 rfl rfl)
theorem dX7_does_317 : decode cX7_does 317 = .ok (.iconst 3, 1) := dk_6 (dk_at dksX7_does_13 9 rfl rfl)
theorem dX7_does_318 : decode cX7_does 318 = .ok (.iadd, 1) := dk_96 (dk_at dksX7_does_13 10 rfl rfl)
theorem dX7_does_319 : decode cX7_does 319 = .ok (.iaload, 1) := dk_46 (dk_at dksX7_does_13 11 rfl rfl)
theorem dX7_does_320 : decode cX7_does 320 = .ok (.istore_n 3, 1) := dk_62 (dk_at dksX7_does_13 12 rfl rfl)
theorem dX7_does_321 : decode cX7_does 321 = .ok (.goto 6, 3) := dk_167 0 6 (dk_at dksX7_does_13 13 rfl rfl)
theorem dX7_does_324 : decode cX7_does 324 = .ok (.iload 4, 2) := dk_21 4 (dk_at dksX7_does_13 16 rfl rfl)
theorem dX7_does_326 : decode cX7_does 326 = .ok (.ireturn, 1) := dk_172 (dk_at dksX7_does_13 18 rfl rfl)
theorem dX7_does_327 : decode cX7_does 327 = .ok (.goto (-273), 3) := dk_167 254 239 (dk_at dksX7_does_13 19 rfl rfl)
theorem dX7_does_330 : decode cX7_does 330 = .ok (.iload 4, 2) := dk_21 4 (dk_at dksX7_does_13 22 rfl rfl)
theorem dX7_does_332 : decode cX7_does 332 = .ok (.ireturn, 1) := dk_172 (dk_at dksX7_does_14 0 rfl rfl)
abbrev cX7_steps : ByteArray := prog_21_method_112_code
def yX7_steps : MethodName := ⟨RX7, "steps", "(II)I"⟩
def dkwX7_steps_1 : List UInt8 := [2, 172]
abbrev dktX7_steps_1 : List UInt8 := dkwX7_steps_1 ++ []
def dkwX7_steps_0 : List UInt8 := [42, 27, 182, 0, 202, 153, 0, 19, 28, 184, 1, 125, 153, 0, 12, 42, 27, 28, 182, 1, 128, 167, 0, 4]
abbrev dktX7_steps_0 : List UInt8 := dkwX7_steps_0 ++ dktX7_steps_1
theorem dksX7_steps_0 : cX7_steps.data.toList.drop 0 = dktX7_steps_0 := by decide +kernel
theorem dksX7_steps_1 : cX7_steps.data.toList.drop 24 = dktX7_steps_1 := dk_seg dksX7_steps_0 24 rfl rfl
theorem dX7_steps_0 : decode cX7_steps 0 = .ok (.aload_n 0, 1) := dk_42 (dk_at dksX7_steps_0 0 rfl rfl)
theorem dX7_steps_1 : decode cX7_steps 1 = .ok (.iload_n 1, 1) := dk_27 (dk_at dksX7_steps_0 1 rfl rfl)
theorem dX7_steps_2 : decode cX7_steps 2 = .ok (.invokevirtual 202, 3) := dk_182 0 202 (dk_at dksX7_steps_0 2 rfl rfl)
theorem dX7_steps_5 : decode cX7_steps 5 = .ok (.ifCond .eq 19, 3) := dk_153 0 19 (dk_at dksX7_steps_0 5 rfl rfl)
theorem dX7_steps_8 : decode cX7_steps 8 = .ok (.iload_n 2, 1) := dk_28 (dk_at dksX7_steps_0 8 rfl rfl)
theorem dX7_steps_9 : decode cX7_steps 9 = .ok (.invokestatic 381, 3) := dk_184 1 125 (dk_at dksX7_steps_0 9 rfl rfl)
theorem dX7_steps_12 : decode cX7_steps 12 = .ok (.ifCond .eq 12, 3) := dk_153 0 12 (dk_at dksX7_steps_0 12 rfl rfl)
theorem dX7_steps_15 : decode cX7_steps 15 = .ok (.aload_n 0, 1) := dk_42 (dk_at dksX7_steps_0 15 rfl rfl)
theorem dX7_steps_16 : decode cX7_steps 16 = .ok (.iload_n 1, 1) := dk_27 (dk_at dksX7_steps_0 16 rfl rfl)
theorem dX7_steps_17 : decode cX7_steps 17 = .ok (.iload_n 2, 1) := dk_28 (dk_at dksX7_steps_0 17 rfl rfl)
theorem dX7_steps_18 : decode cX7_steps 18 = .ok (.invokevirtual 384, 3) := dk_182 1 128 (dk_at dksX7_steps_0 18 rfl rfl)
theorem dX7_steps_21 : decode cX7_steps 21 = .ok (.goto 4, 3) := dk_167 0 4 (dk_at dksX7_steps_0 21 rfl rfl)
theorem dX7_steps_24 : decode cX7_steps 24 = .ok (.iconst (-1), 1) := dk_2 (dk_at dksX7_steps_1 0 rfl rfl)
theorem dX7_steps_25 : decode cX7_steps 25 = .ok (.ireturn, 1) := dk_172 (dk_at dksX7_steps_1 1 rfl rfl)
abbrev cX7_taken : ByteArray := prog_21_method_114_code
def yX7_taken : MethodName := ⟨RX7, "taken", "(II)I"⟩
def dkwX7_taken_3 : List UInt8 := [128, 54, 4, 132, 5, 1, 167, 255, 233, 21, 4, 172]
abbrev dktX7_taken_3 : List UInt8 := dkwX7_taken_3 ++ []
def dkwX7_taken_2 : List UInt8 := [172, 3, 54, 4, 3, 54, 5, 21, 5, 16, 100, 162, 0, 22, 21, 4, 42, 27, 21, 5, 29, 182, 1, 131]
abbrev dktX7_taken_2 : List UInt8 := dkwX7_taken_2 ++ dktX7_taken_3
def dkwX7_taken_1 : List UInt8 := [3, 3, 182, 1, 8, 42, 3, 3, 182, 1, 17, 62, 28, 2, 159, 0, 11, 42, 27, 28, 29, 182, 1, 131]
abbrev dktX7_taken_1 : List UInt8 := dkwX7_taken_1 ++ dktX7_taken_2
def dkwX7_taken_0 : List UInt8 := [42, 27, 182, 0, 202, 153, 0, 15, 28, 2, 159, 0, 12, 28, 184, 1, 125, 154, 0, 5, 2, 172, 42, 27]
abbrev dktX7_taken_0 : List UInt8 := dkwX7_taken_0 ++ dktX7_taken_1
theorem dksX7_taken_0 : cX7_taken.data.toList.drop 0 = dktX7_taken_0 := by decide +kernel
theorem dksX7_taken_1 : cX7_taken.data.toList.drop 24 = dktX7_taken_1 := dk_seg dksX7_taken_0 24 rfl rfl
theorem dksX7_taken_2 : cX7_taken.data.toList.drop 48 = dktX7_taken_2 := dk_seg dksX7_taken_1 24 rfl rfl
theorem dksX7_taken_3 : cX7_taken.data.toList.drop 72 = dktX7_taken_3 := dk_seg dksX7_taken_2 24 rfl rfl
theorem dX7_taken_0 : decode cX7_taken 0 = .ok (.aload_n 0, 1) := dk_42 (dk_at dksX7_taken_0 0 rfl rfl)
theorem dX7_taken_1 : decode cX7_taken 1 = .ok (.iload_n 1, 1) := dk_27 (dk_at dksX7_taken_0 1 rfl rfl)
theorem dX7_taken_2 : decode cX7_taken 2 = .ok (.invokevirtual 202, 3) := dk_182 0 202 (dk_at dksX7_taken_0 2 rfl rfl)
theorem dX7_taken_5 : decode cX7_taken 5 = .ok (.ifCond .eq 15, 3) := dk_153 0 15 (dk_at dksX7_taken_0 5 rfl rfl)
theorem dX7_taken_8 : decode cX7_taken 8 = .ok (.iload_n 2, 1) := dk_28 (dk_at dksX7_taken_0 8 rfl rfl)
theorem dX7_taken_9 : decode cX7_taken 9 = .ok (.iconst (-1), 1) := dk_2 (dk_at dksX7_taken_0 9 rfl rfl)
theorem dX7_taken_10 : decode cX7_taken 10 = .ok (.if_icmp .eq 12, 3) := dk_159 0 12 (dk_at dksX7_taken_0 10 rfl rfl)
theorem dX7_taken_13 : decode cX7_taken 13 = .ok (.iload_n 2, 1) := dk_28 (dk_at dksX7_taken_0 13 rfl rfl)
theorem dX7_taken_14 : decode cX7_taken 14 = .ok (.invokestatic 381, 3) := dk_184 1 125 (dk_at dksX7_taken_0 14 rfl rfl)
theorem dX7_taken_17 : decode cX7_taken 17 = .ok (.ifCond .ne 5, 3) := dk_154 0 5 (dk_at dksX7_taken_0 17 rfl rfl)
theorem dX7_taken_20 : decode cX7_taken 20 = .ok (.iconst (-1), 1) := dk_2 (dk_at dksX7_taken_0 20 rfl rfl)
theorem dX7_taken_21 : decode cX7_taken 21 = .ok (.ireturn, 1) := dk_172 (dk_at dksX7_taken_0 21 rfl rfl)
theorem dX7_taken_22 : decode cX7_taken 22 = .ok (.aload_n 0, 1) := dk_42 (dk_at dksX7_taken_0 22 rfl rfl)
theorem dX7_taken_23 : decode cX7_taken 23 = .ok (.iload_n 1, 1) := dk_27 (dk_at dksX7_taken_0 23 rfl rfl)
theorem dX7_taken_24 : decode cX7_taken 24 = .ok (.iconst 0, 1) := dk_3 (dk_at dksX7_taken_1 0 rfl rfl)
theorem dX7_taken_25 : decode cX7_taken 25 = .ok (.iconst 0, 1) := dk_3 (dk_at dksX7_taken_1 1 rfl rfl)
theorem dX7_taken_26 : decode cX7_taken 26 = .ok (.invokevirtual 264, 3) := dk_182 1 8 (dk_at dksX7_taken_1 2 rfl rfl)
theorem dX7_taken_29 : decode cX7_taken 29 = .ok (.aload_n 0, 1) := dk_42 (dk_at dksX7_taken_1 5 rfl rfl)
theorem dX7_taken_30 : decode cX7_taken 30 = .ok (.iconst 0, 1) := dk_3 (dk_at dksX7_taken_1 6 rfl rfl)
theorem dX7_taken_31 : decode cX7_taken 31 = .ok (.iconst 0, 1) := dk_3 (dk_at dksX7_taken_1 7 rfl rfl)
theorem dX7_taken_32 : decode cX7_taken 32 = .ok (.invokevirtual 273, 3) := dk_182 1 17 (dk_at dksX7_taken_1 8 rfl rfl)
theorem dX7_taken_35 : decode cX7_taken 35 = .ok (.istore_n 3, 1) := dk_62 (dk_at dksX7_taken_1 11 rfl rfl)
theorem dX7_taken_36 : decode cX7_taken 36 = .ok (.iload_n 2, 1) := dk_28 (dk_at dksX7_taken_1 12 rfl rfl)
theorem dX7_taken_37 : decode cX7_taken 37 = .ok (.iconst (-1), 1) := dk_2 (dk_at dksX7_taken_1 13 rfl rfl)
theorem dX7_taken_38 : decode cX7_taken 38 = .ok (.if_icmp .eq 11, 3) := dk_159 0 11 (dk_at dksX7_taken_1 14 rfl rfl)
theorem dX7_taken_41 : decode cX7_taken 41 = .ok (.aload_n 0, 1) := dk_42 (dk_at dksX7_taken_1 17 rfl rfl)
theorem dX7_taken_42 : decode cX7_taken 42 = .ok (.iload_n 1, 1) := dk_27 (dk_at dksX7_taken_1 18 rfl rfl)
theorem dX7_taken_43 : decode cX7_taken 43 = .ok (.iload_n 2, 1) := dk_28 (dk_at dksX7_taken_1 19 rfl rfl)
theorem dX7_taken_44 : decode cX7_taken 44 = .ok (.iload_n 3, 1) := dk_29 (dk_at dksX7_taken_1 20 rfl rfl)
theorem dX7_taken_45 : decode cX7_taken 45 = .ok (.invokevirtual 387, 3) := dk_182 1 131 (dk_at dksX7_taken_1 21 rfl rfl)
theorem dX7_taken_48 : decode cX7_taken 48 = .ok (.ireturn, 1) := dk_172 (dk_at dksX7_taken_2 0 rfl rfl)
theorem dX7_taken_49 : decode cX7_taken 49 = .ok (.iconst 0, 1) := dk_3 (dk_at dksX7_taken_2 1 rfl rfl)
theorem dX7_taken_50 : decode cX7_taken 50 = .ok (.istore 4, 2) := dk_54 4 (dk_at dksX7_taken_2 2 rfl rfl)
theorem dX7_taken_52 : decode cX7_taken 52 = .ok (.iconst 0, 1) := dk_3 (dk_at dksX7_taken_2 4 rfl rfl)
theorem dX7_taken_53 : decode cX7_taken 53 = .ok (.istore 5, 2) := dk_54 5 (dk_at dksX7_taken_2 5 rfl rfl)
theorem dX7_taken_55 : decode cX7_taken 55 = .ok (.iload 5, 2) := dk_21 5 (dk_at dksX7_taken_2 7 rfl rfl)
theorem dX7_taken_57 : decode cX7_taken 57 = .ok (.bipush 100, 2) := dk_16 100 (dk_at dksX7_taken_2 9 rfl rfl)
theorem dX7_taken_59 : decode cX7_taken 59 = .ok (.if_icmp .ge 22, 3) := dk_162 0 22 (dk_at dksX7_taken_2 11 rfl rfl)
theorem dX7_taken_62 : decode cX7_taken 62 = .ok (.iload 4, 2) := dk_21 4 (dk_at dksX7_taken_2 14 rfl rfl)
theorem dX7_taken_64 : decode cX7_taken 64 = .ok (.aload_n 0, 1) := dk_42 (dk_at dksX7_taken_2 16 rfl rfl)
theorem dX7_taken_65 : decode cX7_taken 65 = .ok (.iload_n 1, 1) := dk_27 (dk_at dksX7_taken_2 17 rfl rfl)
theorem dX7_taken_66 : decode cX7_taken 66 = .ok (.iload 5, 2) := dk_21 5 (dk_at dksX7_taken_2 18 rfl rfl)
theorem dX7_taken_68 : decode cX7_taken 68 = .ok (.iload_n 3, 1) := dk_29 (dk_at dksX7_taken_2 20 rfl rfl)
theorem dX7_taken_69 : decode cX7_taken 69 = .ok (.invokevirtual 387, 3) := dk_182 1 131 (dk_at dksX7_taken_2 21 rfl rfl)
theorem dX7_taken_72 : decode cX7_taken 72 = .ok (.ior, 1) := dk_128 (dk_at dksX7_taken_3 0 rfl rfl)
theorem dX7_taken_73 : decode cX7_taken 73 = .ok (.istore 4, 2) := dk_54 4 (dk_at dksX7_taken_3 1 rfl rfl)
theorem dX7_taken_75 : decode cX7_taken 75 = .ok (.iinc 5 1, 3) := dk_132 5 1 (dk_at dksX7_taken_3 3 rfl rfl)
theorem dX7_taken_78 : decode cX7_taken 78 = .ok (.goto (-23), 3) := dk_167 255 233 (dk_at dksX7_taken_3 6 rfl rfl)
theorem dX7_taken_81 : decode cX7_taken 81 = .ok (.iload 4, 2) := dk_21 4 (dk_at dksX7_taken_3 9 rfl rfl)
theorem dX7_taken_83 : decode cX7_taken 83 = .ok (.ireturn, 1) := dk_172 (dk_at dksX7_taken_3 11 rfl rfl)
abbrev cX7_takenWith : ByteArray := prog_21_method_113_code
def yX7_takenWith : MethodName := ⟨RX7, "takenWith", "(III)I"⟩
def dkwX7_takenWith_3 : List UInt8 := [180, 0, 86, 21, 6, 46, 128, 54, 5, 132, 6, 1, 167, 255, 188, 21, 5, 172]
abbrev dktX7_takenWith_3 : List UInt8 := dkwX7_takenWith_3 ++ []
def dkwX7_takenWith_2 : List UInt8 := [46, 29, 4, 96, 160, 0, 7, 4, 167, 0, 4, 3, 54, 8, 21, 8, 154, 0, 15, 21, 5, 42]
abbrev dktX7_takenWith_2 : List UInt8 := dkwX7_takenWith_2 ++ dktX7_takenWith_3
def dkwX7_takenWith_1 : List UInt8 := [182, 1, 122, 54, 7, 21, 7, 155, 0, 28, 29, 155, 0, 24, 42, 180, 0, 7, 17, 18, 172, 21, 7, 96]
abbrev dktX7_takenWith_1 : List UInt8 := dkwX7_takenWith_1 ++ dktX7_takenWith_2
def dkwX7_takenWith_0 : List UInt8 := [42, 27, 28, 182, 1, 128, 54, 4, 3, 54, 5, 3, 54, 6, 21, 6, 16, 10, 162, 0, 67, 42, 21, 6]
abbrev dktX7_takenWith_0 : List UInt8 := dkwX7_takenWith_0 ++ dktX7_takenWith_1
theorem dksX7_takenWith_0 : cX7_takenWith.data.toList.drop 0 = dktX7_takenWith_0 := by decide +kernel
theorem dksX7_takenWith_1 : cX7_takenWith.data.toList.drop 24 = dktX7_takenWith_1 := dk_seg dksX7_takenWith_0 24 rfl rfl
theorem dksX7_takenWith_2 : cX7_takenWith.data.toList.drop 48 = dktX7_takenWith_2 := dk_seg dksX7_takenWith_1 24 rfl rfl
theorem dksX7_takenWith_3 : cX7_takenWith.data.toList.drop 70 = dktX7_takenWith_3 := dk_seg dksX7_takenWith_2 22 rfl rfl
theorem dX7_takenWith_0 : decode cX7_takenWith 0 = .ok (.aload_n 0, 1) := dk_42 (dk_at dksX7_takenWith_0 0 rfl rfl)
theorem dX7_takenWith_1 : decode cX7_takenWith 1 = .ok (.iload_n 1, 1) := dk_27 (dk_at dksX7_takenWith_0 1 rfl rfl)
theorem dX7_takenWith_2 : decode cX7_takenWith 2 = .ok (.iload_n 2, 1) := dk_28 (dk_at dksX7_takenWith_0 2 rfl rfl)
theorem dX7_takenWith_3 : decode cX7_takenWith 3 = .ok (.invokevirtual 384, 3) := dk_182 1 128 (dk_at dksX7_takenWith_0 3 rfl rfl)
theorem dX7_takenWith_6 : decode cX7_takenWith 6 = .ok (.istore 4, 2) := dk_54 4 (dk_at dksX7_takenWith_0 6 rfl rfl)
theorem dX7_takenWith_8 : decode cX7_takenWith 8 = .ok (.iconst 0, 1) := dk_3 (dk_at dksX7_takenWith_0 8 rfl rfl)
theorem dX7_takenWith_9 : decode cX7_takenWith 9 = .ok (.istore 5, 2) := dk_54 5 (dk_at dksX7_takenWith_0 9 rfl rfl)
theorem dX7_takenWith_11 : decode cX7_takenWith 11 = .ok (.iconst 0, 1) := dk_3 (dk_at dksX7_takenWith_0 11 rfl rfl)
theorem dX7_takenWith_12 : decode cX7_takenWith 12 = .ok (.istore 6, 2) := dk_54 6 (dk_at dksX7_takenWith_0 12 rfl rfl)
theorem dX7_takenWith_14 : decode cX7_takenWith 14 = .ok (.iload 6, 2) := dk_21 6 (dk_at dksX7_takenWith_0 14 rfl rfl)
theorem dX7_takenWith_16 : decode cX7_takenWith 16 = .ok (.bipush 10, 2) := dk_16 10 (dk_at dksX7_takenWith_0 16 rfl rfl)
theorem dX7_takenWith_18 : decode cX7_takenWith 18 = .ok (.if_icmp .ge 67, 3) := dk_162 0 67 (dk_at dksX7_takenWith_0 18 rfl rfl)
theorem dX7_takenWith_21 : decode cX7_takenWith 21 = .ok (.aload_n 0, 1) := dk_42 (dk_at dksX7_takenWith_0 21 rfl rfl)
theorem dX7_takenWith_22 : decode cX7_takenWith 22 = .ok (.iload 6, 2) := dk_21 6 (dk_at dksX7_takenWith_0 22 rfl rfl)
theorem dX7_takenWith_24 : decode cX7_takenWith 24 = .ok (.invokevirtual 378, 3) := dk_182 1 122 (dk_at dksX7_takenWith_1 0 rfl rfl)
theorem dX7_takenWith_27 : decode cX7_takenWith 27 = .ok (.istore 7, 2) := dk_54 7 (dk_at dksX7_takenWith_1 3 rfl rfl)
theorem dX7_takenWith_29 : decode cX7_takenWith 29 = .ok (.iload 7, 2) := dk_21 7 (dk_at dksX7_takenWith_1 5 rfl rfl)
theorem dX7_takenWith_31 : decode cX7_takenWith 31 = .ok (.ifCond .lt 28, 3) := dk_155 0 28 (dk_at dksX7_takenWith_1 7 rfl rfl)
theorem dX7_takenWith_34 : decode cX7_takenWith 34 = .ok (.iload_n 3, 1) := dk_29 (dk_at dksX7_takenWith_1 10 rfl rfl)
theorem dX7_takenWith_35 : decode cX7_takenWith 35 = .ok (.ifCond .lt 24, 3) := dk_155 0 24 (dk_at dksX7_takenWith_1 11 rfl rfl)
theorem dX7_takenWith_38 : decode cX7_takenWith 38 = .ok (.aload_n 0, 1) := dk_42 (dk_at dksX7_takenWith_1 14 rfl rfl)
theorem dX7_takenWith_39 : decode cX7_takenWith 39 = .ok (.getfield 7, 3) := dk_180 0 7 (dk_at dksX7_takenWith_1 15 rfl rfl)
theorem dX7_takenWith_42 : decode cX7_takenWith 42 = .ok (.sipush 4780, 3) := dk_17 18 172 (dk_at dksX7_takenWith_1 18 rfl rfl)
theorem dX7_takenWith_45 : decode cX7_takenWith 45 = .ok (.iload 7, 2) := dk_21 7 (dk_at dksX7_takenWith_1 21 rfl rfl)
theorem dX7_takenWith_47 : decode cX7_takenWith 47 = .ok (.iadd, 1) := dk_96 (dk_at dksX7_takenWith_1 23 rfl rfl)
theorem dX7_takenWith_48 : decode cX7_takenWith 48 = .ok (.iaload, 1) := dk_46 (dk_at dksX7_takenWith_2 0 rfl rfl)
theorem dX7_takenWith_49 : decode cX7_takenWith 49 = .ok (.iload_n 3, 1) := dk_29 (dk_at dksX7_takenWith_2 1 rfl rfl)
theorem dX7_takenWith_50 : decode cX7_takenWith 50 = .ok (.iconst 1, 1) := dk_4 (dk_at dksX7_takenWith_2 2 rfl rfl)
theorem dX7_takenWith_51 : decode cX7_takenWith 51 = .ok (.iadd, 1) := dk_96 (dk_at dksX7_takenWith_2 3 rfl rfl)
theorem dX7_takenWith_52 : decode cX7_takenWith 52 = .ok (.if_icmp .ne 7, 3) := dk_160 0 7 (dk_at dksX7_takenWith_2 4 rfl rfl)
theorem dX7_takenWith_55 : decode cX7_takenWith 55 = .ok (.iconst 1, 1) := dk_4 (dk_at dksX7_takenWith_2 7 rfl rfl)
theorem dX7_takenWith_56 : decode cX7_takenWith 56 = .ok (.goto 4, 3) := dk_167 0 4 (dk_at dksX7_takenWith_2 8 rfl rfl)
theorem dX7_takenWith_59 : decode cX7_takenWith 59 = .ok (.iconst 0, 1) := dk_3 (dk_at dksX7_takenWith_2 11 rfl rfl)
theorem dX7_takenWith_60 : decode cX7_takenWith 60 = .ok (.istore 8, 2) := dk_54 8 (dk_at dksX7_takenWith_2 12 rfl rfl)
theorem dX7_takenWith_62 : decode cX7_takenWith 62 = .ok (.iload 8, 2) := dk_21 8 (dk_at dksX7_takenWith_2 14 rfl rfl)
theorem dX7_takenWith_64 : decode cX7_takenWith 64 = .ok (.ifCond .ne 15, 3) := dk_154 0 15 (dk_at dksX7_takenWith_2 16 rfl rfl)
theorem dX7_takenWith_67 : decode cX7_takenWith 67 = .ok (.iload 5, 2) := dk_21 5 (dk_at dksX7_takenWith_2 19 rfl rfl)
theorem dX7_takenWith_69 : decode cX7_takenWith 69 = .ok (.aload_n 0, 1) := dk_42 (dk_at dksX7_takenWith_2 21 rfl rfl)
theorem dX7_takenWith_70 : decode cX7_takenWith 70 = .ok (.getfield 86, 3) := dk_180 0 86 (dk_at dksX7_takenWith_3 0 rfl rfl)
theorem dX7_takenWith_73 : decode cX7_takenWith 73 = .ok (.iload 6, 2) := dk_21 6 (dk_at dksX7_takenWith_3 3 rfl rfl)
theorem dX7_takenWith_75 : decode cX7_takenWith 75 = .ok (.iaload, 1) := dk_46 (dk_at dksX7_takenWith_3 5 rfl rfl)
theorem dX7_takenWith_76 : decode cX7_takenWith 76 = .ok (.ior, 1) := dk_128 (dk_at dksX7_takenWith_3 6 rfl rfl)
theorem dX7_takenWith_77 : decode cX7_takenWith 77 = .ok (.istore 5, 2) := dk_54 5 (dk_at dksX7_takenWith_3 7 rfl rfl)
theorem dX7_takenWith_79 : decode cX7_takenWith 79 = .ok (.iinc 6 1, 3) := dk_132 6 1 (dk_at dksX7_takenWith_3 9 rfl rfl)
theorem dX7_takenWith_82 : decode cX7_takenWith 82 = .ok (.goto (-68), 3) := dk_167 255 188 (dk_at dksX7_takenWith_3 12 rfl rfl)
theorem dX7_takenWith_85 : decode cX7_takenWith 85 = .ok (.iload 5, 2) := dk_21 5 (dk_at dksX7_takenWith_3 15 rfl rfl)
theorem dX7_takenWith_87 : decode cX7_takenWith 87 = .ok (.ireturn, 1) := dk_172 (dk_at dksX7_takenWith_3 17 rfl rfl)
abbrev cX7_word : ByteArray := prog_21_method_117_code
def yX7_word : MethodName := ⟨RX7, "word", "(I)I"⟩
def dkwX7_word_10 : List UInt8 := [180, 0, 7, 17, 18, 182, 16, 10, 29, 104, 96, 16, 9, 96, 27, 79, 29, 172]
abbrev dktX7_word_10 : List UInt8 := dkwX7_word_10 ++ []
def dkwX7_word_9 : List UInt8 := [16, 10, 29, 104, 96, 4, 96, 21, 4, 96, 42, 21, 4, 182, 0, 119, 79, 132, 4, 1, 167, 255, 220, 42]
abbrev dktX7_word_9 : List UInt8 := dkwX7_word_9 ++ dktX7_word_10
def dkwX7_word_8 : List UInt8 := [180, 0, 100, 79, 3, 54, 4, 21, 4, 42, 180, 0, 100, 162, 0, 33, 42, 180, 0, 7, 17, 18, 182]
abbrev dktX7_word_8 : List UInt8 := dkwX7_word_8 ++ dktX7_word_9
def dkwX7_word_7 : List UInt8 := [180, 0, 7, 17, 19, 142, 92, 46, 4, 96, 79, 42, 180, 0, 7, 17, 18, 182, 16, 10, 29, 104, 96, 42]
abbrev dktX7_word_7 : List UInt8 := dkwX7_word_7 ++ dktX7_word_8
def dkwX7_word_6 : List UInt8 := [16, 20, 160, 0, 6, 16, 254, 172, 29, 156, 0, 83, 42, 180, 0, 7, 17, 19, 142, 46, 62, 42]
abbrev dktX7_word_6 : List UInt8 := dkwX7_word_6 ++ dktX7_word_7
def dkwX7_word_5 : List UInt8 := [42, 16, 70, 42, 180, 0, 100, 182, 1, 137, 62, 29, 156, 0, 19, 42, 180, 0, 7, 17, 19, 142, 46]
abbrev dktX7_word_5 : List UInt8 := dkwX7_word_5 ++ dktX7_word_6
def dkwX7_word_4 : List UInt8 := [16, 8, 164, 0, 22, 42, 180, 0, 7, 16, 7, 5, 79, 42, 180, 0, 7, 16, 8, 16, 8, 79, 2, 172]
abbrev dktX7_word_4 : List UInt8 := dkwX7_word_4 ++ dktX7_word_5
def dkwX7_word_3 : List UInt8 := [79, 42, 180, 0, 7, 16, 8, 28, 156, 0, 7, 3, 167, 0, 4, 28, 79, 2, 172, 42, 180, 0, 100]
abbrev dktX7_word_3 : List UInt8 := dkwX7_word_3 ++ dktX7_word_4
def dkwX7_word_2 : List UInt8 := [132, 3, 1, 167, 255, 228, 28, 156, 0, 10, 42, 180, 0, 100, 154, 0, 29, 42, 180, 0, 7, 16, 7, 4]
abbrev dktX7_word_2 : List UInt8 := dkwX7_word_2 ++ dktX7_word_3
def dkwX7_word_1 : List UInt8 := [180, 0, 100, 162, 0, 26, 28, 156, 0, 22, 42, 29, 182, 0, 119, 184, 0, 128, 154, 0, 5, 29, 61]
abbrev dktX7_word_1 : List UInt8 := dkwX7_word_1 ++ dktX7_word_2
def dkwX7_word_0 : List UInt8 := [42, 182, 0, 179, 27, 3, 16, 7, 184, 0, 89, 154, 0, 6, 16, 254, 172, 2, 61, 3, 62, 29, 42]
abbrev dktX7_word_0 : List UInt8 := dkwX7_word_0 ++ dktX7_word_1
theorem dksX7_word_0 : cX7_word.data.toList.drop 0 = dktX7_word_0 := by decide +kernel
theorem dksX7_word_1 : cX7_word.data.toList.drop 23 = dktX7_word_1 := dk_seg dksX7_word_0 23 rfl rfl
theorem dksX7_word_2 : cX7_word.data.toList.drop 46 = dktX7_word_2 := dk_seg dksX7_word_1 23 rfl rfl
theorem dksX7_word_3 : cX7_word.data.toList.drop 70 = dktX7_word_3 := dk_seg dksX7_word_2 24 rfl rfl
theorem dksX7_word_4 : cX7_word.data.toList.drop 93 = dktX7_word_4 := dk_seg dksX7_word_3 23 rfl rfl
theorem dksX7_word_5 : cX7_word.data.toList.drop 117 = dktX7_word_5 := dk_seg dksX7_word_4 24 rfl rfl
theorem dksX7_word_6 : cX7_word.data.toList.drop 140 = dktX7_word_6 := dk_seg dksX7_word_5 23 rfl rfl
theorem dksX7_word_7 : cX7_word.data.toList.drop 162 = dktX7_word_7 := dk_seg dksX7_word_6 22 rfl rfl
theorem dksX7_word_8 : cX7_word.data.toList.drop 186 = dktX7_word_8 := dk_seg dksX7_word_7 24 rfl rfl
theorem dksX7_word_9 : cX7_word.data.toList.drop 209 = dktX7_word_9 := dk_seg dksX7_word_8 23 rfl rfl
theorem dksX7_word_10 : cX7_word.data.toList.drop 233 = dktX7_word_10 := dk_seg dksX7_word_9 24 rfl rfl
theorem dX7_word_0 : decode cX7_word 0 = .ok (.aload_n 0, 1) := dk_42 (dk_at dksX7_word_0 0 rfl rfl)
theorem dX7_word_1 : decode cX7_word 1 = .ok (.invokevirtual 179, 3) := dk_182 0 179 (dk_at dksX7_word_0 1 rfl rfl)
theorem dX7_word_4 : decode cX7_word 4 = .ok (.iload_n 1, 1) := dk_27 (dk_at dksX7_word_0 4 rfl rfl)
theorem dX7_word_5 : decode cX7_word 5 = .ok (.iconst 0, 1) := dk_3 (dk_at dksX7_word_0 5 rfl rfl)
theorem dX7_word_6 : decode cX7_word 6 = .ok (.bipush 7, 2) := dk_16 7 (dk_at dksX7_word_0 6 rfl rfl)
theorem dX7_word_8 : decode cX7_word 8 = .ok (.invokestatic 89, 3) := dk_184 0 89 (dk_at dksX7_word_0 8 rfl rfl)
theorem dX7_word_11 : decode cX7_word 11 = .ok (.ifCond .ne 6, 3) := dk_154 0 6 (dk_at dksX7_word_0 11 rfl rfl)
theorem dX7_word_14 : decode cX7_word 14 = .ok (.bipush (-2), 2) := dk_16 254 (dk_at dksX7_word_0 14 rfl rfl)
theorem dX7_word_16 : decode cX7_word 16 = .ok (.ireturn, 1) := dk_172 (dk_at dksX7_word_0 16 rfl rfl)
theorem dX7_word_17 : decode cX7_word 17 = .ok (.iconst (-1), 1) := dk_2 (dk_at dksX7_word_0 17 rfl rfl)
theorem dX7_word_18 : decode cX7_word 18 = .ok (.istore_n 2, 1) := dk_61 (dk_at dksX7_word_0 18 rfl rfl)
theorem dX7_word_19 : decode cX7_word 19 = .ok (.iconst 0, 1) := dk_3 (dk_at dksX7_word_0 19 rfl rfl)
theorem dX7_word_20 : decode cX7_word 20 = .ok (.istore_n 3, 1) := dk_62 (dk_at dksX7_word_0 20 rfl rfl)
theorem dX7_word_21 : decode cX7_word 21 = .ok (.iload_n 3, 1) := dk_29 (dk_at dksX7_word_0 21 rfl rfl)
theorem dX7_word_22 : decode cX7_word 22 = .ok (.aload_n 0, 1) := dk_42 (dk_at dksX7_word_0 22 rfl rfl)
theorem dX7_word_23 : decode cX7_word 23 = .ok (.getfield 100, 3) := dk_180 0 100 (dk_at dksX7_word_1 0 rfl rfl)
theorem dX7_word_26 : decode cX7_word 26 = .ok (.if_icmp .ge 26, 3) := dk_162 0 26 (dk_at dksX7_word_1 3 rfl rfl)
theorem dX7_word_29 : decode cX7_word 29 = .ok (.iload_n 2, 1) := dk_28 (dk_at dksX7_word_1 6 rfl rfl)
theorem dX7_word_30 : decode cX7_word 30 = .ok (.ifCond .ge 22, 3) := dk_156 0 22 (dk_at dksX7_word_1 7 rfl rfl)
theorem dX7_word_33 : decode cX7_word 33 = .ok (.aload_n 0, 1) := dk_42 (dk_at dksX7_word_1 10 rfl rfl)
theorem dX7_word_34 : decode cX7_word 34 = .ok (.iload_n 3, 1) := dk_29 (dk_at dksX7_word_1 11 rfl rfl)
theorem dX7_word_35 : decode cX7_word 35 = .ok (.invokevirtual 119, 3) := dk_182 0 119 (dk_at dksX7_word_1 12 rfl rfl)
theorem dX7_word_38 : decode cX7_word 38 = .ok (.invokestatic 128, 3) := dk_184 0 128 (dk_at dksX7_word_1 15 rfl rfl)
theorem dX7_word_41 : decode cX7_word 41 = .ok (.ifCond .ne 5, 3) := dk_154 0 5 (dk_at dksX7_word_1 18 rfl rfl)
theorem dX7_word_44 : decode cX7_word 44 = .ok (.iload_n 3, 1) := dk_29 (dk_at dksX7_word_1 21 rfl rfl)
theorem dX7_word_45 : decode cX7_word 45 = .ok (.istore_n 2, 1) := dk_61 (dk_at dksX7_word_1 22 rfl rfl)
theorem dX7_word_46 : decode cX7_word 46 = .ok (.iinc 3 1, 3) := dk_132 3 1 (dk_at dksX7_word_2 0 rfl rfl)
theorem dX7_word_49 : decode cX7_word 49 = .ok (.goto (-28), 3) := dk_167 255 228 (dk_at dksX7_word_2 3 rfl rfl)
theorem dX7_word_52 : decode cX7_word 52 = .ok (.iload_n 2, 1) := dk_28 (dk_at dksX7_word_2 6 rfl rfl)
theorem dX7_word_53 : decode cX7_word 53 = .ok (.ifCond .ge 10, 3) := dk_156 0 10 (dk_at dksX7_word_2 7 rfl rfl)
theorem dX7_word_56 : decode cX7_word 56 = .ok (.aload_n 0, 1) := dk_42 (dk_at dksX7_word_2 10 rfl rfl)
theorem dX7_word_57 : decode cX7_word 57 = .ok (.getfield 100, 3) := dk_180 0 100 (dk_at dksX7_word_2 11 rfl rfl)
theorem dX7_word_60 : decode cX7_word 60 = .ok (.ifCond .ne 29, 3) := dk_154 0 29 (dk_at dksX7_word_2 14 rfl rfl)
theorem dX7_word_63 : decode cX7_word 63 = .ok (.aload_n 0, 1) := dk_42 (dk_at dksX7_word_2 17 rfl rfl)
theorem dX7_word_64 : decode cX7_word 64 = .ok (.getfield 7, 3) := dk_180 0 7 (dk_at dksX7_word_2 18 rfl rfl)
theorem dX7_word_67 : decode cX7_word 67 = .ok (.bipush 7, 2) := dk_16 7 (dk_at dksX7_word_2 21 rfl rfl)
theorem dX7_word_69 : decode cX7_word 69 = .ok (.iconst 1, 1) := dk_4 (dk_at dksX7_word_2 23 rfl rfl)
theorem dX7_word_70 : decode cX7_word 70 = .ok (.iastore, 1) := dk_79 (dk_at dksX7_word_3 0 rfl rfl)
theorem dX7_word_71 : decode cX7_word 71 = .ok (.aload_n 0, 1) := dk_42 (dk_at dksX7_word_3 1 rfl rfl)
theorem dX7_word_72 : decode cX7_word 72 = .ok (.getfield 7, 3) := dk_180 0 7 (dk_at dksX7_word_3 2 rfl rfl)
theorem dX7_word_75 : decode cX7_word 75 = .ok (.bipush 8, 2) := dk_16 8 (dk_at dksX7_word_3 5 rfl rfl)
theorem dX7_word_77 : decode cX7_word 77 = .ok (.iload_n 2, 1) := dk_28 (dk_at dksX7_word_3 7 rfl rfl)
theorem dX7_word_78 : decode cX7_word 78 = .ok (.ifCond .ge 7, 3) := dk_156 0 7 (dk_at dksX7_word_3 8 rfl rfl)
theorem dX7_word_81 : decode cX7_word 81 = .ok (.iconst 0, 1) := dk_3 (dk_at dksX7_word_3 11 rfl rfl)
theorem dX7_word_82 : decode cX7_word 82 = .ok (.goto 4, 3) := dk_167 0 4 (dk_at dksX7_word_3 12 rfl rfl)
theorem dX7_word_85 : decode cX7_word 85 = .ok (.iload_n 2, 1) := dk_28 (dk_at dksX7_word_3 15 rfl rfl)
theorem dX7_word_86 : decode cX7_word 86 = .ok (.iastore, 1) := dk_79 (dk_at dksX7_word_3 16 rfl rfl)
theorem dX7_word_87 : decode cX7_word 87 = .ok (.iconst (-1), 1) := dk_2 (dk_at dksX7_word_3 17 rfl rfl)
theorem dX7_word_88 : decode cX7_word 88 = .ok (.ireturn, 1) := dk_172 (dk_at dksX7_word_3 18 rfl rfl)
theorem dX7_word_89 : decode cX7_word 89 = .ok (.aload_n 0, 1) := dk_42 (dk_at dksX7_word_3 19 rfl rfl)
theorem dX7_word_90 : decode cX7_word 90 = .ok (.getfield 100, 3) := dk_180 0 100 (dk_at dksX7_word_3 20 rfl rfl)
theorem dX7_word_93 : decode cX7_word 93 = .ok (.bipush 8, 2) := dk_16 8 (dk_at dksX7_word_4 0 rfl rfl)
theorem dX7_word_95 : decode cX7_word 95 = .ok (.if_icmp .le 22, 3) := dk_164 0 22 (dk_at dksX7_word_4 2 rfl rfl)
theorem dX7_word_98 : decode cX7_word 98 = .ok (.aload_n 0, 1) := dk_42 (dk_at dksX7_word_4 5 rfl rfl)
theorem dX7_word_99 : decode cX7_word 99 = .ok (.getfield 7, 3) := dk_180 0 7 (dk_at dksX7_word_4 6 rfl rfl)
theorem dX7_word_102 : decode cX7_word 102 = .ok (.bipush 7, 2) := dk_16 7 (dk_at dksX7_word_4 9 rfl rfl)
theorem dX7_word_104 : decode cX7_word 104 = .ok (.iconst 2, 1) := dk_5 (dk_at dksX7_word_4 11 rfl rfl)
theorem dX7_word_105 : decode cX7_word 105 = .ok (.iastore, 1) := dk_79 (dk_at dksX7_word_4 12 rfl rfl)
theorem dX7_word_106 : decode cX7_word 106 = .ok (.aload_n 0, 1) := dk_42 (dk_at dksX7_word_4 13 rfl rfl)
theorem dX7_word_107 : decode cX7_word 107 = .ok (.getfield 7, 3) := dk_180 0 7 (dk_at dksX7_word_4 14 rfl rfl)
theorem dX7_word_110 : decode cX7_word 110 = .ok (.bipush 8, 2) := dk_16 8 (dk_at dksX7_word_4 17 rfl rfl)
theorem dX7_word_112 : decode cX7_word 112 = .ok (.bipush 8, 2) := dk_16 8 (dk_at dksX7_word_4 19 rfl rfl)
theorem dX7_word_114 : decode cX7_word 114 = .ok (.iastore, 1) := dk_79 (dk_at dksX7_word_4 21 rfl rfl)
theorem dX7_word_115 : decode cX7_word 115 = .ok (.iconst (-1), 1) := dk_2 (dk_at dksX7_word_4 22 rfl rfl)
theorem dX7_word_116 : decode cX7_word 116 = .ok (.ireturn, 1) := dk_172 (dk_at dksX7_word_4 23 rfl rfl)
theorem dX7_word_117 : decode cX7_word 117 = .ok (.aload_n 0, 1) := dk_42 (dk_at dksX7_word_5 0 rfl rfl)
theorem dX7_word_118 : decode cX7_word 118 = .ok (.bipush 70, 2) := dk_16 70 (dk_at dksX7_word_5 1 rfl rfl)
theorem dX7_word_120 : decode cX7_word 120 = .ok (.aload_n 0, 1) := dk_42 (dk_at dksX7_word_5 3 rfl rfl)
theorem dX7_word_121 : decode cX7_word 121 = .ok (.getfield 100, 3) := dk_180 0 100 (dk_at dksX7_word_5 4 rfl rfl)
theorem dX7_word_124 : decode cX7_word 124 = .ok (.invokevirtual 393, 3) := dk_182 1 137 (dk_at dksX7_word_5 7 rfl rfl)
theorem dX7_word_127 : decode cX7_word 127 = .ok (.istore_n 3, 1) := dk_62 (dk_at dksX7_word_5 10 rfl rfl)
theorem dX7_word_128 : decode cX7_word 128 = .ok (.iload_n 3, 1) := dk_29 (dk_at dksX7_word_5 11 rfl rfl)
theorem dX7_word_129 : decode cX7_word 129 = .ok (.ifCond .ge 19, 3) := dk_156 0 19 (dk_at dksX7_word_5 12 rfl rfl)
theorem dX7_word_132 : decode cX7_word 132 = .ok (.aload_n 0, 1) := dk_42 (dk_at dksX7_word_5 15 rfl rfl)
theorem dX7_word_133 : decode cX7_word 133 = .ok (.getfield 7, 3) := dk_180 0 7 (dk_at dksX7_word_5 16 rfl rfl)
theorem dX7_word_136 : decode cX7_word 136 = .ok (.sipush 5006, 3) := dk_17 19 142 (dk_at dksX7_word_5 19 rfl rfl)
theorem dX7_word_139 : decode cX7_word 139 = .ok (.iaload, 1) := dk_46 (dk_at dksX7_word_5 22 rfl rfl)
theorem dX7_word_140 : decode cX7_word 140 = .ok (.bipush 20, 2) := dk_16 20 (dk_at dksX7_word_6 0 rfl rfl)
theorem dX7_word_142 : decode cX7_word 142 = .ok (.if_icmp .ne 6, 3) := dk_160 0 6 (dk_at dksX7_word_6 2 rfl rfl)
theorem dX7_word_145 : decode cX7_word 145 = .ok (.bipush (-2), 2) := dk_16 254 (dk_at dksX7_word_6 5 rfl rfl)
theorem dX7_word_147 : decode cX7_word 147 = .ok (.ireturn, 1) := dk_172 (dk_at dksX7_word_6 7 rfl rfl)
theorem dX7_word_148 : decode cX7_word 148 = .ok (.iload_n 3, 1) := dk_29 (dk_at dksX7_word_6 8 rfl rfl)
theorem dX7_word_149 : decode cX7_word 149 = .ok (.ifCond .ge 83, 3) := dk_156 0 83 (dk_at dksX7_word_6 9 rfl rfl)
theorem dX7_word_152 : decode cX7_word 152 = .ok (.aload_n 0, 1) := dk_42 (dk_at dksX7_word_6 12 rfl rfl)
theorem dX7_word_153 : decode cX7_word 153 = .ok (.getfield 7, 3) := dk_180 0 7 (dk_at dksX7_word_6 13 rfl rfl)
theorem dX7_word_156 : decode cX7_word 156 = .ok (.sipush 5006, 3) := dk_17 19 142 (dk_at dksX7_word_6 16 rfl rfl)
theorem dX7_word_159 : decode cX7_word 159 = .ok (.iaload, 1) := dk_46 (dk_at dksX7_word_6 19 rfl rfl)
theorem dX7_word_160 : decode cX7_word 160 = .ok (.istore_n 3, 1) := dk_62 (dk_at dksX7_word_6 20 rfl rfl)
theorem dX7_word_161 : decode cX7_word 161 = .ok (.aload_n 0, 1) := dk_42 (dk_at dksX7_word_6 21 rfl rfl)
theorem dX7_word_162 : decode cX7_word 162 = .ok (.getfield 7, 3) := dk_180 0 7 (dk_at dksX7_word_7 0 rfl rfl)
theorem dX7_word_165 : decode cX7_word 165 = .ok (.sipush 5006, 3) := dk_17 19 142 (dk_at dksX7_word_7 3 rfl rfl)
theorem dX7_word_168 : decode cX7_word 168 = .ok (.dup2, 1) := dk_92 (dk_at dksX7_word_7 6 rfl rfl)
theorem dX7_word_169 : decode cX7_word 169 = .ok (.iaload, 1) := dk_46 (dk_at dksX7_word_7 7 rfl rfl)
theorem dX7_word_170 : decode cX7_word 170 = .ok (.iconst 1, 1) := dk_4 (dk_at dksX7_word_7 8 rfl rfl)
theorem dX7_word_171 : decode cX7_word 171 = .ok (.iadd, 1) := dk_96 (dk_at dksX7_word_7 9 rfl rfl)
theorem dX7_word_172 : decode cX7_word 172 = .ok (.iastore, 1) := dk_79 (dk_at dksX7_word_7 10 rfl rfl)
theorem dX7_word_173 : decode cX7_word 173 = .ok (.aload_n 0, 1) := dk_42 (dk_at dksX7_word_7 11 rfl rfl)
theorem dX7_word_174 : decode cX7_word 174 = .ok (.getfield 7, 3) := dk_180 0 7 (dk_at dksX7_word_7 12 rfl rfl)
theorem dX7_word_177 : decode cX7_word 177 = .ok (.sipush 4790, 3) := dk_17 18 182 (dk_at dksX7_word_7 15 rfl rfl)
theorem dX7_word_180 : decode cX7_word 180 = .ok (.bipush 10, 2) := dk_16 10 (dk_at dksX7_word_7 18 rfl rfl)
theorem dX7_word_182 : decode cX7_word 182 = .ok (.iload_n 3, 1) := dk_29 (dk_at dksX7_word_7 20 rfl rfl)
theorem dX7_word_183 : decode cX7_word 183 = .ok (.imul, 1) := dk_104 (dk_at dksX7_word_7 21 rfl rfl)
theorem dX7_word_184 : decode cX7_word 184 = .ok (.iadd, 1) := dk_96 (dk_at dksX7_word_7 22 rfl rfl)
theorem dX7_word_185 : decode cX7_word 185 = .ok (.aload_n 0, 1) := dk_42 (dk_at dksX7_word_7 23 rfl rfl)
theorem dX7_word_186 : decode cX7_word 186 = .ok (.getfield 100, 3) := dk_180 0 100 (dk_at dksX7_word_8 0 rfl rfl)
theorem dX7_word_189 : decode cX7_word 189 = .ok (.iastore, 1) := dk_79 (dk_at dksX7_word_8 3 rfl rfl)
theorem dX7_word_190 : decode cX7_word 190 = .ok (.iconst 0, 1) := dk_3 (dk_at dksX7_word_8 4 rfl rfl)
theorem dX7_word_191 : decode cX7_word 191 = .ok (.istore 4, 2) := dk_54 4 (dk_at dksX7_word_8 5 rfl rfl)
theorem dX7_word_193 : decode cX7_word 193 = .ok (.iload 4, 2) := dk_21 4 (dk_at dksX7_word_8 7 rfl rfl)
theorem dX7_word_195 : decode cX7_word 195 = .ok (.aload_n 0, 1) := dk_42 (dk_at dksX7_word_8 9 rfl rfl)
theorem dX7_word_196 : decode cX7_word 196 = .ok (.getfield 100, 3) := dk_180 0 100 (dk_at dksX7_word_8 10 rfl rfl)
theorem dX7_word_199 : decode cX7_word 199 = .ok (.if_icmp .ge 33, 3) := dk_162 0 33 (dk_at dksX7_word_8 13 rfl rfl)
theorem dX7_word_202 : decode cX7_word 202 = .ok (.aload_n 0, 1) := dk_42 (dk_at dksX7_word_8 16 rfl rfl)
theorem dX7_word_203 : decode cX7_word 203 = .ok (.getfield 7, 3) := dk_180 0 7 (dk_at dksX7_word_8 17 rfl rfl)
theorem dX7_word_206 : decode cX7_word 206 = .ok (.sipush 4790, 3) := dk_17 18 182 (dk_at dksX7_word_8 20 rfl rfl)
theorem dX7_word_209 : decode cX7_word 209 = .ok (.bipush 10, 2) := dk_16 10 (dk_at dksX7_word_9 0 rfl rfl)
theorem dX7_word_211 : decode cX7_word 211 = .ok (.iload_n 3, 1) := dk_29 (dk_at dksX7_word_9 2 rfl rfl)
theorem dX7_word_212 : decode cX7_word 212 = .ok (.imul, 1) := dk_104 (dk_at dksX7_word_9 3 rfl rfl)
theorem dX7_word_213 : decode cX7_word 213 = .ok (.iadd, 1) := dk_96 (dk_at dksX7_word_9 4 rfl rfl)
theorem dX7_word_214 : decode cX7_word 214 = .ok (.iconst 1, 1) := dk_4 (dk_at dksX7_word_9 5 rfl rfl)
theorem dX7_word_215 : decode cX7_word 215 = .ok (.iadd, 1) := dk_96 (dk_at dksX7_word_9 6 rfl rfl)
theorem dX7_word_216 : decode cX7_word 216 = .ok (.iload 4, 2) := dk_21 4 (dk_at dksX7_word_9 7 rfl rfl)
theorem dX7_word_218 : decode cX7_word 218 = .ok (.iadd, 1) := dk_96 (dk_at dksX7_word_9 9 rfl rfl)
theorem dX7_word_219 : decode cX7_word 219 = .ok (.aload_n 0, 1) := dk_42 (dk_at dksX7_word_9 10 rfl rfl)
theorem dX7_word_220 : decode cX7_word 220 = .ok (.iload 4, 2) := dk_21 4 (dk_at dksX7_word_9 11 rfl rfl)
theorem dX7_word_222 : decode cX7_word 222 = .ok (.invokevirtual 119, 3) := dk_182 0 119 (dk_at dksX7_word_9 13 rfl rfl)
theorem dX7_word_225 : decode cX7_word 225 = .ok (.iastore, 1) := dk_79 (dk_at dksX7_word_9 16 rfl rfl)
theorem dX7_word_226 : decode cX7_word 226 = .ok (.iinc 4 1, 3) := dk_132 4 1 (dk_at dksX7_word_9 17 rfl rfl)
theorem dX7_word_229 : decode cX7_word 229 = .ok (.goto (-36), 3) := dk_167 255 220 (dk_at dksX7_word_9 20 rfl rfl)
theorem dX7_word_232 : decode cX7_word 232 = .ok (.aload_n 0, 1) := dk_42 (dk_at dksX7_word_9 23 rfl rfl)
theorem dX7_word_233 : decode cX7_word 233 = .ok (.getfield 7, 3) := dk_180 0 7 (dk_at dksX7_word_10 0 rfl rfl)
theorem dX7_word_236 : decode cX7_word 236 = .ok (.sipush 4790, 3) := dk_17 18 182 (dk_at dksX7_word_10 3 rfl rfl)
theorem dX7_word_239 : decode cX7_word 239 = .ok (.bipush 10, 2) := dk_16 10 (dk_at dksX7_word_10 6 rfl rfl)
theorem dX7_word_241 : decode cX7_word 241 = .ok (.iload_n 3, 1) := dk_29 (dk_at dksX7_word_10 8 rfl rfl)
theorem dX7_word_242 : decode cX7_word 242 = .ok (.imul, 1) := dk_104 (dk_at dksX7_word_10 9 rfl rfl)
theorem dX7_word_243 : decode cX7_word 243 = .ok (.iadd, 1) := dk_96 (dk_at dksX7_word_10 10 rfl rfl)
theorem dX7_word_244 : decode cX7_word 244 = .ok (.bipush 9, 2) := dk_16 9 (dk_at dksX7_word_10 11 rfl rfl)
theorem dX7_word_246 : decode cX7_word 246 = .ok (.iadd, 1) := dk_96 (dk_at dksX7_word_10 13 rfl rfl)
theorem dX7_word_247 : decode cX7_word 247 = .ok (.iload_n 1, 1) := dk_27 (dk_at dksX7_word_10 14 rfl rfl)
theorem dX7_word_248 : decode cX7_word 248 = .ok (.iastore, 1) := dk_79 (dk_at dksX7_word_10 15 rfl rfl)
theorem dX7_word_249 : decode cX7_word 249 = .ok (.iload_n 3, 1) := dk_29 (dk_at dksX7_word_10 16 rfl rfl)
theorem dX7_word_250 : decode cX7_word 250 = .ok (.ireturn, 1) := dk_172 (dk_at dksX7_word_10 17 rfl rfl)
abbrev cX7_wordAt : ByteArray := prog_21_method_116_code
def yX7_wordAt : MethodName := ⟨RX7, "wordAt", "(II)I"⟩
def dkwX7_wordAt_1 : List UInt8 := [28, 182, 1, 134, 153, 0, 5, 29, 172, 132, 3, 1, 167, 255, 222, 2, 172]
abbrev dktX7_wordAt_1 : List UInt8 := dkwX7_wordAt_1 ++ []
def dkwX7_wordAt_0 : List UInt8 := [3, 62, 29, 42, 180, 0, 7, 17, 19, 142, 46, 162, 0, 28, 42, 17, 18, 182, 16, 10, 29, 104, 96, 27]
abbrev dktX7_wordAt_0 : List UInt8 := dkwX7_wordAt_0 ++ dktX7_wordAt_1
theorem dksX7_wordAt_0 : cX7_wordAt.data.toList.drop 0 = dktX7_wordAt_0 := by decide +kernel
theorem dksX7_wordAt_1 : cX7_wordAt.data.toList.drop 24 = dktX7_wordAt_1 := dk_seg dksX7_wordAt_0 24 rfl rfl
theorem dX7_wordAt_0 : decode cX7_wordAt 0 = .ok (.iconst 0, 1) := dk_3 (dk_at dksX7_wordAt_0 0 rfl rfl)
theorem dX7_wordAt_1 : decode cX7_wordAt 1 = .ok (.istore_n 3, 1) := dk_62 (dk_at dksX7_wordAt_0 1 rfl rfl)
theorem dX7_wordAt_2 : decode cX7_wordAt 2 = .ok (.iload_n 3, 1) := dk_29 (dk_at dksX7_wordAt_0 2 rfl rfl)
theorem dX7_wordAt_3 : decode cX7_wordAt 3 = .ok (.aload_n 0, 1) := dk_42 (dk_at dksX7_wordAt_0 3 rfl rfl)
theorem dX7_wordAt_4 : decode cX7_wordAt 4 = .ok (.getfield 7, 3) := dk_180 0 7 (dk_at dksX7_wordAt_0 4 rfl rfl)
theorem dX7_wordAt_7 : decode cX7_wordAt 7 = .ok (.sipush 5006, 3) := dk_17 19 142 (dk_at dksX7_wordAt_0 7 rfl rfl)
theorem dX7_wordAt_10 : decode cX7_wordAt 10 = .ok (.iaload, 1) := dk_46 (dk_at dksX7_wordAt_0 10 rfl rfl)
theorem dX7_wordAt_11 : decode cX7_wordAt 11 = .ok (.if_icmp .ge 28, 3) := dk_162 0 28 (dk_at dksX7_wordAt_0 11 rfl rfl)
theorem dX7_wordAt_14 : decode cX7_wordAt 14 = .ok (.aload_n 0, 1) := dk_42 (dk_at dksX7_wordAt_0 14 rfl rfl)
theorem dX7_wordAt_15 : decode cX7_wordAt 15 = .ok (.sipush 4790, 3) := dk_17 18 182 (dk_at dksX7_wordAt_0 15 rfl rfl)
theorem dX7_wordAt_18 : decode cX7_wordAt 18 = .ok (.bipush 10, 2) := dk_16 10 (dk_at dksX7_wordAt_0 18 rfl rfl)
theorem dX7_wordAt_20 : decode cX7_wordAt 20 = .ok (.iload_n 3, 1) := dk_29 (dk_at dksX7_wordAt_0 20 rfl rfl)
theorem dX7_wordAt_21 : decode cX7_wordAt 21 = .ok (.imul, 1) := dk_104 (dk_at dksX7_wordAt_0 21 rfl rfl)
theorem dX7_wordAt_22 : decode cX7_wordAt 22 = .ok (.iadd, 1) := dk_96 (dk_at dksX7_wordAt_0 22 rfl rfl)
theorem dX7_wordAt_23 : decode cX7_wordAt 23 = .ok (.iload_n 1, 1) := dk_27 (dk_at dksX7_wordAt_0 23 rfl rfl)
theorem dX7_wordAt_24 : decode cX7_wordAt 24 = .ok (.iload_n 2, 1) := dk_28 (dk_at dksX7_wordAt_1 0 rfl rfl)
theorem dX7_wordAt_25 : decode cX7_wordAt 25 = .ok (.invokevirtual 390, 3) := dk_182 1 134 (dk_at dksX7_wordAt_1 1 rfl rfl)
theorem dX7_wordAt_28 : decode cX7_wordAt 28 = .ok (.ifCond .eq 5, 3) := dk_153 0 5 (dk_at dksX7_wordAt_1 4 rfl rfl)
theorem dX7_wordAt_31 : decode cX7_wordAt 31 = .ok (.iload_n 3, 1) := dk_29 (dk_at dksX7_wordAt_1 7 rfl rfl)
theorem dX7_wordAt_32 : decode cX7_wordAt 32 = .ok (.ireturn, 1) := dk_172 (dk_at dksX7_wordAt_1 8 rfl rfl)
theorem dX7_wordAt_33 : decode cX7_wordAt 33 = .ok (.iinc 3 1, 3) := dk_132 3 1 (dk_at dksX7_wordAt_1 9 rfl rfl)
theorem dX7_wordAt_36 : decode cX7_wordAt 36 = .ok (.goto (-34), 3) := dk_167 255 222 (dk_at dksX7_wordAt_1 12 rfl rfl)
theorem dX7_wordAt_39 : decode cX7_wordAt 39 = .ok (.iconst (-1), 1) := dk_2 (dk_at dksX7_wordAt_1 15 rfl rfl)
theorem dX7_wordAt_40 : decode cX7_wordAt 40 = .ok (.ireturn, 1) := dk_172 (dk_at dksX7_wordAt_1 16 rfl rfl)
abbrev cX7_isSaid : ByteArray := prog_21_method_115_code
def yX7_isSaid : MethodName := ⟨RX7, "isSaid", "(III)Z"⟩
def dkwX7_isSaid_2 : List UInt8 := [21, 5, 96, 46, 160, 0, 7, 4, 167, 0, 4, 3, 54, 4, 132, 5, 1, 167, 255, 212, 21, 4, 172]
abbrev dktX7_isSaid_2 : List UInt8 := dkwX7_isSaid_2 ++ []
def dkwX7_isSaid_1 : List UInt8 := [162, 0, 44, 21, 4, 153, 0, 39, 42, 180, 0, 7, 27, 4, 96, 21, 5, 96, 46, 42, 180, 0, 7, 28]
abbrev dktX7_isSaid_1 : List UInt8 := dkwX7_isSaid_1 ++ dktX7_isSaid_2
def dkwX7_isSaid_0 : List UInt8 := [42, 180, 0, 7, 27, 46, 29, 160, 0, 7, 4, 167, 0, 4, 3, 54, 4, 3, 54, 5, 21, 5, 29]
abbrev dktX7_isSaid_0 : List UInt8 := dkwX7_isSaid_0 ++ dktX7_isSaid_1
theorem dksX7_isSaid_0 : cX7_isSaid.data.toList.drop 0 = dktX7_isSaid_0 := by decide +kernel
theorem dksX7_isSaid_1 : cX7_isSaid.data.toList.drop 23 = dktX7_isSaid_1 := dk_seg dksX7_isSaid_0 23 rfl rfl
theorem dksX7_isSaid_2 : cX7_isSaid.data.toList.drop 47 = dktX7_isSaid_2 := dk_seg dksX7_isSaid_1 24 rfl rfl
theorem dX7_isSaid_0 : decode cX7_isSaid 0 = .ok (.aload_n 0, 1) := dk_42 (dk_at dksX7_isSaid_0 0 rfl rfl)
theorem dX7_isSaid_1 : decode cX7_isSaid 1 = .ok (.getfield 7, 3) := dk_180 0 7 (dk_at dksX7_isSaid_0 1 rfl rfl)
theorem dX7_isSaid_4 : decode cX7_isSaid 4 = .ok (.iload_n 1, 1) := dk_27 (dk_at dksX7_isSaid_0 4 rfl rfl)
theorem dX7_isSaid_5 : decode cX7_isSaid 5 = .ok (.iaload, 1) := dk_46 (dk_at dksX7_isSaid_0 5 rfl rfl)
theorem dX7_isSaid_6 : decode cX7_isSaid 6 = .ok (.iload_n 3, 1) := dk_29 (dk_at dksX7_isSaid_0 6 rfl rfl)
theorem dX7_isSaid_7 : decode cX7_isSaid 7 = .ok (.if_icmp .ne 7, 3) := dk_160 0 7 (dk_at dksX7_isSaid_0 7 rfl rfl)
theorem dX7_isSaid_10 : decode cX7_isSaid 10 = .ok (.iconst 1, 1) := dk_4 (dk_at dksX7_isSaid_0 10 rfl rfl)
theorem dX7_isSaid_11 : decode cX7_isSaid 11 = .ok (.goto 4, 3) := dk_167 0 4 (dk_at dksX7_isSaid_0 11 rfl rfl)
theorem dX7_isSaid_14 : decode cX7_isSaid 14 = .ok (.iconst 0, 1) := dk_3 (dk_at dksX7_isSaid_0 14 rfl rfl)
theorem dX7_isSaid_15 : decode cX7_isSaid 15 = .ok (.istore 4, 2) := dk_54 4 (dk_at dksX7_isSaid_0 15 rfl rfl)
theorem dX7_isSaid_17 : decode cX7_isSaid 17 = .ok (.iconst 0, 1) := dk_3 (dk_at dksX7_isSaid_0 17 rfl rfl)
theorem dX7_isSaid_18 : decode cX7_isSaid 18 = .ok (.istore 5, 2) := dk_54 5 (dk_at dksX7_isSaid_0 18 rfl rfl)
theorem dX7_isSaid_20 : decode cX7_isSaid 20 = .ok (.iload 5, 2) := dk_21 5 (dk_at dksX7_isSaid_0 20 rfl rfl)
theorem dX7_isSaid_22 : decode cX7_isSaid 22 = .ok (.iload_n 3, 1) := dk_29 (dk_at dksX7_isSaid_0 22 rfl rfl)
theorem dX7_isSaid_23 : decode cX7_isSaid 23 = .ok (.if_icmp .ge 44, 3) := dk_162 0 44 (dk_at dksX7_isSaid_1 0 rfl rfl)
theorem dX7_isSaid_26 : decode cX7_isSaid 26 = .ok (.iload 4, 2) := dk_21 4 (dk_at dksX7_isSaid_1 3 rfl rfl)
theorem dX7_isSaid_28 : decode cX7_isSaid 28 = .ok (.ifCond .eq 39, 3) := dk_153 0 39 (dk_at dksX7_isSaid_1 5 rfl rfl)
theorem dX7_isSaid_31 : decode cX7_isSaid 31 = .ok (.aload_n 0, 1) := dk_42 (dk_at dksX7_isSaid_1 8 rfl rfl)
theorem dX7_isSaid_32 : decode cX7_isSaid 32 = .ok (.getfield 7, 3) := dk_180 0 7 (dk_at dksX7_isSaid_1 9 rfl rfl)
theorem dX7_isSaid_35 : decode cX7_isSaid 35 = .ok (.iload_n 1, 1) := dk_27 (dk_at dksX7_isSaid_1 12 rfl rfl)
theorem dX7_isSaid_36 : decode cX7_isSaid 36 = .ok (.iconst 1, 1) := dk_4 (dk_at dksX7_isSaid_1 13 rfl rfl)
theorem dX7_isSaid_37 : decode cX7_isSaid 37 = .ok (.iadd, 1) := dk_96 (dk_at dksX7_isSaid_1 14 rfl rfl)
theorem dX7_isSaid_38 : decode cX7_isSaid 38 = .ok (.iload 5, 2) := dk_21 5 (dk_at dksX7_isSaid_1 15 rfl rfl)
theorem dX7_isSaid_40 : decode cX7_isSaid 40 = .ok (.iadd, 1) := dk_96 (dk_at dksX7_isSaid_1 17 rfl rfl)
theorem dX7_isSaid_41 : decode cX7_isSaid 41 = .ok (.iaload, 1) := dk_46 (dk_at dksX7_isSaid_1 18 rfl rfl)
theorem dX7_isSaid_42 : decode cX7_isSaid 42 = .ok (.aload_n 0, 1) := dk_42 (dk_at dksX7_isSaid_1 19 rfl rfl)
theorem dX7_isSaid_43 : decode cX7_isSaid 43 = .ok (.getfield 7, 3) := dk_180 0 7 (dk_at dksX7_isSaid_1 20 rfl rfl)
theorem dX7_isSaid_46 : decode cX7_isSaid 46 = .ok (.iload_n 2, 1) := dk_28 (dk_at dksX7_isSaid_1 23 rfl rfl)
theorem dX7_isSaid_47 : decode cX7_isSaid 47 = .ok (.iload 5, 2) := dk_21 5 (dk_at dksX7_isSaid_2 0 rfl rfl)
theorem dX7_isSaid_49 : decode cX7_isSaid 49 = .ok (.iadd, 1) := dk_96 (dk_at dksX7_isSaid_2 2 rfl rfl)
theorem dX7_isSaid_50 : decode cX7_isSaid 50 = .ok (.iaload, 1) := dk_46 (dk_at dksX7_isSaid_2 3 rfl rfl)
theorem dX7_isSaid_51 : decode cX7_isSaid 51 = .ok (.if_icmp .ne 7, 3) := dk_160 0 7 (dk_at dksX7_isSaid_2 4 rfl rfl)
theorem dX7_isSaid_54 : decode cX7_isSaid 54 = .ok (.iconst 1, 1) := dk_4 (dk_at dksX7_isSaid_2 7 rfl rfl)
theorem dX7_isSaid_55 : decode cX7_isSaid 55 = .ok (.goto 4, 3) := dk_167 0 4 (dk_at dksX7_isSaid_2 8 rfl rfl)
theorem dX7_isSaid_58 : decode cX7_isSaid 58 = .ok (.iconst 0, 1) := dk_3 (dk_at dksX7_isSaid_2 11 rfl rfl)
theorem dX7_isSaid_59 : decode cX7_isSaid 59 = .ok (.istore 4, 2) := dk_54 4 (dk_at dksX7_isSaid_2 12 rfl rfl)
theorem dX7_isSaid_61 : decode cX7_isSaid 61 = .ok (.iinc 5 1, 3) := dk_132 5 1 (dk_at dksX7_isSaid_2 14 rfl rfl)
theorem dX7_isSaid_64 : decode cX7_isSaid 64 = .ok (.goto (-44), 3) := dk_167 255 212 (dk_at dksX7_isSaid_2 17 rfl rfl)
theorem dX7_isSaid_67 : decode cX7_isSaid 67 = .ok (.iload 4, 2) := dk_21 4 (dk_at dksX7_isSaid_2 20 rfl rfl)
theorem dX7_isSaid_69 : decode cX7_isSaid 69 = .ok (.ireturn, 1) := dk_172 (dk_at dksX7_isSaid_2 22 rfl rfl)
abbrev cX7_pattern : ByteArray := prog_21_method_118_code
def yX7_pattern : MethodName := ⟨RX7, "pattern", "(II)I"⟩
def dkwX7_pattern_4 : List UInt8 := [180, 0, 7, 17, 19, 143, 46, 4, 100, 172]
abbrev dktX7_pattern_4 : List UInt8 := dkwX7_pattern_4 ++ []
def dkwX7_pattern_3 : List UInt8 := [17, 19, 143, 46, 104, 96, 4, 96, 28, 79, 42, 180, 0, 7, 17, 19, 143, 92, 46, 4, 96, 79, 42]
abbrev dktX7_pattern_3 : List UInt8 := dkwX7_pattern_3 ++ dktX7_pattern_4
def dkwX7_pattern_2 : List UInt8 := [180, 0, 7, 17, 19, 143, 46, 104, 96, 27, 79, 42, 180, 0, 7, 17, 19, 126, 5, 42, 180, 0, 7]
abbrev dktX7_pattern_2 : List UInt8 := dkwX7_pattern_2 ++ dktX7_pattern_3
def dkwX7_pattern_1 : List UInt8 := [28, 16, 157, 16, 99, 184, 0, 89, 154, 0, 5, 2, 172, 42, 180, 0, 7, 17, 19, 126, 5, 42]
abbrev dktX7_pattern_1 : List UInt8 := dkwX7_pattern_1 ++ dktX7_pattern_2
def dkwX7_pattern_0 : List UInt8 := [42, 180, 0, 7, 17, 19, 143, 46, 16, 8, 159, 0, 25, 27, 4, 17, 0, 255, 184, 0, 89, 153, 0, 14]
abbrev dktX7_pattern_0 : List UInt8 := dkwX7_pattern_0 ++ dktX7_pattern_1
theorem dksX7_pattern_0 : cX7_pattern.data.toList.drop 0 = dktX7_pattern_0 := by decide +kernel
theorem dksX7_pattern_1 : cX7_pattern.data.toList.drop 24 = dktX7_pattern_1 := dk_seg dksX7_pattern_0 24 rfl rfl
theorem dksX7_pattern_2 : cX7_pattern.data.toList.drop 46 = dktX7_pattern_2 := dk_seg dksX7_pattern_1 22 rfl rfl
theorem dksX7_pattern_3 : cX7_pattern.data.toList.drop 69 = dktX7_pattern_3 := dk_seg dksX7_pattern_2 23 rfl rfl
theorem dksX7_pattern_4 : cX7_pattern.data.toList.drop 92 = dktX7_pattern_4 := dk_seg dksX7_pattern_3 23 rfl rfl
theorem dX7_pattern_0 : decode cX7_pattern 0 = .ok (.aload_n 0, 1) := dk_42 (dk_at dksX7_pattern_0 0 rfl rfl)
theorem dX7_pattern_1 : decode cX7_pattern 1 = .ok (.getfield 7, 3) := dk_180 0 7 (dk_at dksX7_pattern_0 1 rfl rfl)
theorem dX7_pattern_4 : decode cX7_pattern 4 = .ok (.sipush 5007, 3) := dk_17 19 143 (dk_at dksX7_pattern_0 4 rfl rfl)
theorem dX7_pattern_7 : decode cX7_pattern 7 = .ok (.iaload, 1) := dk_46 (dk_at dksX7_pattern_0 7 rfl rfl)
theorem dX7_pattern_8 : decode cX7_pattern 8 = .ok (.bipush 8, 2) := dk_16 8 (dk_at dksX7_pattern_0 8 rfl rfl)
theorem dX7_pattern_10 : decode cX7_pattern 10 = .ok (.if_icmp .eq 25, 3) := dk_159 0 25 (dk_at dksX7_pattern_0 10 rfl rfl)
theorem dX7_pattern_13 : decode cX7_pattern 13 = .ok (.iload_n 1, 1) := dk_27 (dk_at dksX7_pattern_0 13 rfl rfl)
theorem dX7_pattern_14 : decode cX7_pattern 14 = .ok (.iconst 1, 1) := dk_4 (dk_at dksX7_pattern_0 14 rfl rfl)
theorem dX7_pattern_15 : decode cX7_pattern 15 = .ok (.sipush 255, 3) := dk_17 0 255 (dk_at dksX7_pattern_0 15 rfl rfl)
theorem dX7_pattern_18 : decode cX7_pattern 18 = .ok (.invokestatic 89, 3) := dk_184 0 89 (dk_at dksX7_pattern_0 18 rfl rfl)
theorem dX7_pattern_21 : decode cX7_pattern 21 = .ok (.ifCond .eq 14, 3) := dk_153 0 14 (dk_at dksX7_pattern_0 21 rfl rfl)
theorem dX7_pattern_24 : decode cX7_pattern 24 = .ok (.iload_n 2, 1) := dk_28 (dk_at dksX7_pattern_1 0 rfl rfl)
theorem dX7_pattern_25 : decode cX7_pattern 25 = .ok (.bipush (-99), 2) := dk_16 157 (dk_at dksX7_pattern_1 1 rfl rfl)
theorem dX7_pattern_27 : decode cX7_pattern 27 = .ok (.bipush 99, 2) := dk_16 99 (dk_at dksX7_pattern_1 3 rfl rfl)
theorem dX7_pattern_29 : decode cX7_pattern 29 = .ok (.invokestatic 89, 3) := dk_184 0 89 (dk_at dksX7_pattern_1 5 rfl rfl)
theorem dX7_pattern_32 : decode cX7_pattern 32 = .ok (.ifCond .ne 5, 3) := dk_154 0 5 (dk_at dksX7_pattern_1 8 rfl rfl)
theorem dX7_pattern_35 : decode cX7_pattern 35 = .ok (.iconst (-1), 1) := dk_2 (dk_at dksX7_pattern_1 11 rfl rfl)
theorem dX7_pattern_36 : decode cX7_pattern 36 = .ok (.ireturn, 1) := dk_172 (dk_at dksX7_pattern_1 12 rfl rfl)
theorem dX7_pattern_37 : decode cX7_pattern 37 = .ok (.aload_n 0, 1) := dk_42 (dk_at dksX7_pattern_1 13 rfl rfl)
theorem dX7_pattern_38 : decode cX7_pattern 38 = .ok (.getfield 7, 3) := dk_180 0 7 (dk_at dksX7_pattern_1 14 rfl rfl)
theorem dX7_pattern_41 : decode cX7_pattern 41 = .ok (.sipush 4990, 3) := dk_17 19 126 (dk_at dksX7_pattern_1 17 rfl rfl)
theorem dX7_pattern_44 : decode cX7_pattern 44 = .ok (.iconst 2, 1) := dk_5 (dk_at dksX7_pattern_1 20 rfl rfl)
theorem dX7_pattern_45 : decode cX7_pattern 45 = .ok (.aload_n 0, 1) := dk_42 (dk_at dksX7_pattern_1 21 rfl rfl)
theorem dX7_pattern_46 : decode cX7_pattern 46 = .ok (.getfield 7, 3) := dk_180 0 7 (dk_at dksX7_pattern_2 0 rfl rfl)
theorem dX7_pattern_49 : decode cX7_pattern 49 = .ok (.sipush 5007, 3) := dk_17 19 143 (dk_at dksX7_pattern_2 3 rfl rfl)
theorem dX7_pattern_52 : decode cX7_pattern 52 = .ok (.iaload, 1) := dk_46 (dk_at dksX7_pattern_2 6 rfl rfl)
theorem dX7_pattern_53 : decode cX7_pattern 53 = .ok (.imul, 1) := dk_104 (dk_at dksX7_pattern_2 7 rfl rfl)
theorem dX7_pattern_54 : decode cX7_pattern 54 = .ok (.iadd, 1) := dk_96 (dk_at dksX7_pattern_2 8 rfl rfl)
theorem dX7_pattern_55 : decode cX7_pattern 55 = .ok (.iload_n 1, 1) := dk_27 (dk_at dksX7_pattern_2 9 rfl rfl)
theorem dX7_pattern_56 : decode cX7_pattern 56 = .ok (.iastore, 1) := dk_79 (dk_at dksX7_pattern_2 10 rfl rfl)
theorem dX7_pattern_57 : decode cX7_pattern 57 = .ok (.aload_n 0, 1) := dk_42 (dk_at dksX7_pattern_2 11 rfl rfl)
theorem dX7_pattern_58 : decode cX7_pattern 58 = .ok (.getfield 7, 3) := dk_180 0 7 (dk_at dksX7_pattern_2 12 rfl rfl)
theorem dX7_pattern_61 : decode cX7_pattern 61 = .ok (.sipush 4990, 3) := dk_17 19 126 (dk_at dksX7_pattern_2 15 rfl rfl)
theorem dX7_pattern_64 : decode cX7_pattern 64 = .ok (.iconst 2, 1) := dk_5 (dk_at dksX7_pattern_2 18 rfl rfl)
theorem dX7_pattern_65 : decode cX7_pattern 65 = .ok (.aload_n 0, 1) := dk_42 (dk_at dksX7_pattern_2 19 rfl rfl)
theorem dX7_pattern_66 : decode cX7_pattern 66 = .ok (.getfield 7, 3) := dk_180 0 7 (dk_at dksX7_pattern_2 20 rfl rfl)
theorem dX7_pattern_69 : decode cX7_pattern 69 = .ok (.sipush 5007, 3) := dk_17 19 143 (dk_at dksX7_pattern_3 0 rfl rfl)
theorem dX7_pattern_72 : decode cX7_pattern 72 = .ok (.iaload, 1) := dk_46 (dk_at dksX7_pattern_3 3 rfl rfl)
theorem dX7_pattern_73 : decode cX7_pattern 73 = .ok (.imul, 1) := dk_104 (dk_at dksX7_pattern_3 4 rfl rfl)
theorem dX7_pattern_74 : decode cX7_pattern 74 = .ok (.iadd, 1) := dk_96 (dk_at dksX7_pattern_3 5 rfl rfl)
theorem dX7_pattern_75 : decode cX7_pattern 75 = .ok (.iconst 1, 1) := dk_4 (dk_at dksX7_pattern_3 6 rfl rfl)
theorem dX7_pattern_76 : decode cX7_pattern 76 = .ok (.iadd, 1) := dk_96 (dk_at dksX7_pattern_3 7 rfl rfl)
theorem dX7_pattern_77 : decode cX7_pattern 77 = .ok (.iload_n 2, 1) := dk_28 (dk_at dksX7_pattern_3 8 rfl rfl)
theorem dX7_pattern_78 : decode cX7_pattern 78 = .ok (.iastore, 1) := dk_79 (dk_at dksX7_pattern_3 9 rfl rfl)
theorem dX7_pattern_79 : decode cX7_pattern 79 = .ok (.aload_n 0, 1) := dk_42 (dk_at dksX7_pattern_3 10 rfl rfl)
theorem dX7_pattern_80 : decode cX7_pattern 80 = .ok (.getfield 7, 3) := dk_180 0 7 (dk_at dksX7_pattern_3 11 rfl rfl)
theorem dX7_pattern_83 : decode cX7_pattern 83 = .ok (.sipush 5007, 3) := dk_17 19 143 (dk_at dksX7_pattern_3 14 rfl rfl)
theorem dX7_pattern_86 : decode cX7_pattern 86 = .ok (.dup2, 1) := dk_92 (dk_at dksX7_pattern_3 17 rfl rfl)
theorem dX7_pattern_87 : decode cX7_pattern 87 = .ok (.iaload, 1) := dk_46 (dk_at dksX7_pattern_3 18 rfl rfl)
theorem dX7_pattern_88 : decode cX7_pattern 88 = .ok (.iconst 1, 1) := dk_4 (dk_at dksX7_pattern_3 19 rfl rfl)
theorem dX7_pattern_89 : decode cX7_pattern 89 = .ok (.iadd, 1) := dk_96 (dk_at dksX7_pattern_3 20 rfl rfl)
theorem dX7_pattern_90 : decode cX7_pattern 90 = .ok (.iastore, 1) := dk_79 (dk_at dksX7_pattern_3 21 rfl rfl)
theorem dX7_pattern_91 : decode cX7_pattern 91 = .ok (.aload_n 0, 1) := dk_42 (dk_at dksX7_pattern_3 22 rfl rfl)
theorem dX7_pattern_92 : decode cX7_pattern 92 = .ok (.getfield 7, 3) := dk_180 0 7 (dk_at dksX7_pattern_4 0 rfl rfl)
theorem dX7_pattern_95 : decode cX7_pattern 95 = .ok (.sipush 5007, 3) := dk_17 19 143 (dk_at dksX7_pattern_4 3 rfl rfl)
theorem dX7_pattern_98 : decode cX7_pattern 98 = .ok (.iaload, 1) := dk_46 (dk_at dksX7_pattern_4 6 rfl rfl)
theorem dX7_pattern_99 : decode cX7_pattern 99 = .ok (.iconst 1, 1) := dk_4 (dk_at dksX7_pattern_4 7 rfl rfl)
theorem dX7_pattern_100 : decode cX7_pattern 100 = .ok (.isub, 1) := dk_100 (dk_at dksX7_pattern_4 8 rfl rfl)
theorem dX7_pattern_101 : decode cX7_pattern 101 = .ok (.ireturn, 1) := dk_172 (dk_at dksX7_pattern_4 9 rfl rfl)
abbrev cX7_letter : ByteArray := prog_21_method_120_code
def yX7_letter : MethodName := ⟨RX7, "letter", "()I"⟩
def dkwX7_letter_5 : List UInt8 := [182, 1, 143, 172]
abbrev dktX7_letter_5 : List UInt8 := dkwX7_letter_5 ++ []
def dkwX7_letter_4 : List UInt8 := [180, 0, 7, 17, 19, 147, 27, 96, 42, 27, 182, 0, 119, 79, 132, 1, 1, 167, 255, 230, 42, 2]
abbrev dktX7_letter_4 : List UInt8 := dkwX7_letter_4 ++ dktX7_letter_5
def dkwX7_letter_3 : List UInt8 := [42, 180, 0, 7, 17, 19, 146, 42, 180, 0, 100, 79, 3, 60, 27, 42, 180, 0, 100, 162, 0, 24, 42]
abbrev dktX7_letter_3 : List UInt8 := dkwX7_letter_3 ++ dktX7_letter_4
def dkwX7_letter_2 : List UInt8 := [42, 180, 0, 7, 16, 7, 4, 79, 42, 180, 0, 7, 16, 8, 27, 79, 2, 172, 132, 1, 1, 167, 255, 193]
abbrev dktX7_letter_2 : List UInt8 := dkwX7_letter_2 ++ dktX7_letter_3
def dkwX7_letter_1 : List UInt8 := [154, 0, 42, 28, 16, 46, 159, 0, 36, 28, 16, 10, 159, 0, 30, 28, 16, 32, 160, 0, 6, 167, 0, 21]
abbrev dktX7_letter_1 : List UInt8 := dkwX7_letter_1 ++ dktX7_letter_2
def dkwX7_letter_0 : List UInt8 := [42, 182, 0, 179, 3, 60, 27, 42, 180, 0, 100, 162, 0, 61, 42, 27, 182, 0, 119, 61, 28, 184, 0, 128]
abbrev dktX7_letter_0 : List UInt8 := dkwX7_letter_0 ++ dktX7_letter_1
theorem dksX7_letter_0 : cX7_letter.data.toList.drop 0 = dktX7_letter_0 := by decide +kernel
theorem dksX7_letter_1 : cX7_letter.data.toList.drop 24 = dktX7_letter_1 := dk_seg dksX7_letter_0 24 rfl rfl
theorem dksX7_letter_2 : cX7_letter.data.toList.drop 48 = dktX7_letter_2 := dk_seg dksX7_letter_1 24 rfl rfl
theorem dksX7_letter_3 : cX7_letter.data.toList.drop 72 = dktX7_letter_3 := dk_seg dksX7_letter_2 24 rfl rfl
theorem dksX7_letter_4 : cX7_letter.data.toList.drop 95 = dktX7_letter_4 := dk_seg dksX7_letter_3 23 rfl rfl
theorem dksX7_letter_5 : cX7_letter.data.toList.drop 117 = dktX7_letter_5 := dk_seg dksX7_letter_4 22 rfl rfl
theorem dX7_letter_0 : decode cX7_letter 0 = .ok (.aload_n 0, 1) := dk_42 (dk_at dksX7_letter_0 0 rfl rfl)
theorem dX7_letter_1 : decode cX7_letter 1 = .ok (.invokevirtual 179, 3) := dk_182 0 179 (dk_at dksX7_letter_0 1 rfl rfl)
theorem dX7_letter_4 : decode cX7_letter 4 = .ok (.iconst 0, 1) := dk_3 (dk_at dksX7_letter_0 4 rfl rfl)
theorem dX7_letter_5 : decode cX7_letter 5 = .ok (.istore_n 1, 1) := dk_60 (dk_at dksX7_letter_0 5 rfl rfl)
theorem dX7_letter_6 : decode cX7_letter 6 = .ok (.iload_n 1, 1) := dk_27 (dk_at dksX7_letter_0 6 rfl rfl)
theorem dX7_letter_7 : decode cX7_letter 7 = .ok (.aload_n 0, 1) := dk_42 (dk_at dksX7_letter_0 7 rfl rfl)
theorem dX7_letter_8 : decode cX7_letter 8 = .ok (.getfield 100, 3) := dk_180 0 100 (dk_at dksX7_letter_0 8 rfl rfl)
theorem dX7_letter_11 : decode cX7_letter 11 = .ok (.if_icmp .ge 61, 3) := dk_162 0 61 (dk_at dksX7_letter_0 11 rfl rfl)
theorem dX7_letter_14 : decode cX7_letter 14 = .ok (.aload_n 0, 1) := dk_42 (dk_at dksX7_letter_0 14 rfl rfl)
theorem dX7_letter_15 : decode cX7_letter 15 = .ok (.iload_n 1, 1) := dk_27 (dk_at dksX7_letter_0 15 rfl rfl)
theorem dX7_letter_16 : decode cX7_letter 16 = .ok (.invokevirtual 119, 3) := dk_182 0 119 (dk_at dksX7_letter_0 16 rfl rfl)
theorem dX7_letter_19 : decode cX7_letter 19 = .ok (.istore_n 2, 1) := dk_61 (dk_at dksX7_letter_0 19 rfl rfl)
theorem dX7_letter_20 : decode cX7_letter 20 = .ok (.iload_n 2, 1) := dk_28 (dk_at dksX7_letter_0 20 rfl rfl)
theorem dX7_letter_21 : decode cX7_letter 21 = .ok (.invokestatic 128, 3) := dk_184 0 128 (dk_at dksX7_letter_0 21 rfl rfl)
theorem dX7_letter_24 : decode cX7_letter 24 = .ok (.ifCond .ne 42, 3) := dk_154 0 42 (dk_at dksX7_letter_1 0 rfl rfl)
theorem dX7_letter_27 : decode cX7_letter 27 = .ok (.iload_n 2, 1) := dk_28 (dk_at dksX7_letter_1 3 rfl rfl)
theorem dX7_letter_28 : decode cX7_letter 28 = .ok (.bipush 46, 2) := dk_16 46 (dk_at dksX7_letter_1 4 rfl rfl)
theorem dX7_letter_30 : decode cX7_letter 30 = .ok (.if_icmp .eq 36, 3) := dk_159 0 36 (dk_at dksX7_letter_1 6 rfl rfl)
theorem dX7_letter_33 : decode cX7_letter 33 = .ok (.iload_n 2, 1) := dk_28 (dk_at dksX7_letter_1 9 rfl rfl)
theorem dX7_letter_34 : decode cX7_letter 34 = .ok (.bipush 10, 2) := dk_16 10 (dk_at dksX7_letter_1 10 rfl rfl)
theorem dX7_letter_36 : decode cX7_letter 36 = .ok (.if_icmp .eq 30, 3) := dk_159 0 30 (dk_at dksX7_letter_1 12 rfl rfl)
theorem dX7_letter_39 : decode cX7_letter 39 = .ok (.iload_n 2, 1) := dk_28 (dk_at dksX7_letter_1 15 rfl rfl)
theorem dX7_letter_40 : decode cX7_letter 40 = .ok (.bipush 32, 2) := dk_16 32 (dk_at dksX7_letter_1 16 rfl rfl)
theorem dX7_letter_42 : decode cX7_letter 42 = .ok (.if_icmp .ne 6, 3) := dk_160 0 6 (dk_at dksX7_letter_1 18 rfl rfl)
theorem dX7_letter_45 : decode cX7_letter 45 = .ok (.goto 21, 3) := dk_167 0 21 (dk_at dksX7_letter_1 21 rfl rfl)
theorem dX7_letter_48 : decode cX7_letter 48 = .ok (.aload_n 0, 1) := dk_42 (dk_at dksX7_letter_2 0 rfl rfl)
theorem dX7_letter_49 : decode cX7_letter 49 = .ok (.getfield 7, 3) := dk_180 0 7 (dk_at dksX7_letter_2 1 rfl rfl)
theorem dX7_letter_52 : decode cX7_letter 52 = .ok (.bipush 7, 2) := dk_16 7 (dk_at dksX7_letter_2 4 rfl rfl)
theorem dX7_letter_54 : decode cX7_letter 54 = .ok (.iconst 1, 1) := dk_4 (dk_at dksX7_letter_2 6 rfl rfl)
theorem dX7_letter_55 : decode cX7_letter 55 = .ok (.iastore, 1) := dk_79 (dk_at dksX7_letter_2 7 rfl rfl)
theorem dX7_letter_56 : decode cX7_letter 56 = .ok (.aload_n 0, 1) := dk_42 (dk_at dksX7_letter_2 8 rfl rfl)
theorem dX7_letter_57 : decode cX7_letter 57 = .ok (.getfield 7, 3) := dk_180 0 7 (dk_at dksX7_letter_2 9 rfl rfl)
theorem dX7_letter_60 : decode cX7_letter 60 = .ok (.bipush 8, 2) := dk_16 8 (dk_at dksX7_letter_2 12 rfl rfl)
theorem dX7_letter_62 : decode cX7_letter 62 = .ok (.iload_n 1, 1) := dk_27 (dk_at dksX7_letter_2 14 rfl rfl)
theorem dX7_letter_63 : decode cX7_letter 63 = .ok (.iastore, 1) := dk_79 (dk_at dksX7_letter_2 15 rfl rfl)
theorem dX7_letter_64 : decode cX7_letter 64 = .ok (.iconst (-1), 1) := dk_2 (dk_at dksX7_letter_2 16 rfl rfl)
theorem dX7_letter_65 : decode cX7_letter 65 = .ok (.ireturn, 1) := dk_172 (dk_at dksX7_letter_2 17 rfl rfl)
theorem dX7_letter_66 : decode cX7_letter 66 = .ok (.iinc 1 1, 3) := dk_132 1 1 (dk_at dksX7_letter_2 18 rfl rfl)
theorem dX7_letter_69 : decode cX7_letter 69 = .ok (.goto (-63), 3) := dk_167 255 193 (dk_at dksX7_letter_2 21 rfl rfl)
theorem dX7_letter_72 : decode cX7_letter 72 = .ok (.aload_n 0, 1) := dk_42 (dk_at dksX7_letter_3 0 rfl rfl)
theorem dX7_letter_73 : decode cX7_letter 73 = .ok (.getfield 7, 3) := dk_180 0 7 (dk_at dksX7_letter_3 1 rfl rfl)
theorem dX7_letter_76 : decode cX7_letter 76 = .ok (.sipush 5010, 3) := dk_17 19 146 (dk_at dksX7_letter_3 4 rfl rfl)
theorem dX7_letter_79 : decode cX7_letter 79 = .ok (.aload_n 0, 1) := dk_42 (dk_at dksX7_letter_3 7 rfl rfl)
theorem dX7_letter_80 : decode cX7_letter 80 = .ok (.getfield 100, 3) := dk_180 0 100 (dk_at dksX7_letter_3 8 rfl rfl)
theorem dX7_letter_83 : decode cX7_letter 83 = .ok (.iastore, 1) := dk_79 (dk_at dksX7_letter_3 11 rfl rfl)
theorem dX7_letter_84 : decode cX7_letter 84 = .ok (.iconst 0, 1) := dk_3 (dk_at dksX7_letter_3 12 rfl rfl)
theorem dX7_letter_85 : decode cX7_letter 85 = .ok (.istore_n 1, 1) := dk_60 (dk_at dksX7_letter_3 13 rfl rfl)
theorem dX7_letter_86 : decode cX7_letter 86 = .ok (.iload_n 1, 1) := dk_27 (dk_at dksX7_letter_3 14 rfl rfl)
theorem dX7_letter_87 : decode cX7_letter 87 = .ok (.aload_n 0, 1) := dk_42 (dk_at dksX7_letter_3 15 rfl rfl)
theorem dX7_letter_88 : decode cX7_letter 88 = .ok (.getfield 100, 3) := dk_180 0 100 (dk_at dksX7_letter_3 16 rfl rfl)
theorem dX7_letter_91 : decode cX7_letter 91 = .ok (.if_icmp .ge 24, 3) := dk_162 0 24 (dk_at dksX7_letter_3 19 rfl rfl)
theorem dX7_letter_94 : decode cX7_letter 94 = .ok (.aload_n 0, 1) := dk_42 (dk_at dksX7_letter_3 22 rfl rfl)
theorem dX7_letter_95 : decode cX7_letter 95 = .ok (.getfield 7, 3) := dk_180 0 7 (dk_at dksX7_letter_4 0 rfl rfl)
theorem dX7_letter_98 : decode cX7_letter 98 = .ok (.sipush 5011, 3) := dk_17 19 147 (dk_at dksX7_letter_4 3 rfl rfl)
theorem dX7_letter_101 : decode cX7_letter 101 = .ok (.iload_n 1, 1) := dk_27 (dk_at dksX7_letter_4 6 rfl rfl)
theorem dX7_letter_102 : decode cX7_letter 102 = .ok (.iadd, 1) := dk_96 (dk_at dksX7_letter_4 7 rfl rfl)
theorem dX7_letter_103 : decode cX7_letter 103 = .ok (.aload_n 0, 1) := dk_42 (dk_at dksX7_letter_4 8 rfl rfl)
theorem dX7_letter_104 : decode cX7_letter 104 = .ok (.iload_n 1, 1) := dk_27 (dk_at dksX7_letter_4 9 rfl rfl)
theorem dX7_letter_105 : decode cX7_letter 105 = .ok (.invokevirtual 119, 3) := dk_182 0 119 (dk_at dksX7_letter_4 10 rfl rfl)
theorem dX7_letter_108 : decode cX7_letter 108 = .ok (.iastore, 1) := dk_79 (dk_at dksX7_letter_4 13 rfl rfl)
theorem dX7_letter_109 : decode cX7_letter 109 = .ok (.iinc 1 1, 3) := dk_132 1 1 (dk_at dksX7_letter_4 14 rfl rfl)
theorem dX7_letter_112 : decode cX7_letter 112 = .ok (.goto (-26), 3) := dk_167 255 230 (dk_at dksX7_letter_4 17 rfl rfl)
theorem dX7_letter_115 : decode cX7_letter 115 = .ok (.aload_n 0, 1) := dk_42 (dk_at dksX7_letter_4 20 rfl rfl)
theorem dX7_letter_116 : decode cX7_letter 116 = .ok (.iconst (-1), 1) := dk_2 (dk_at dksX7_letter_4 21 rfl rfl)
theorem dX7_letter_117 : decode cX7_letter 117 = .ok (.invokevirtual 399, 3) := dk_182 1 143 (dk_at dksX7_letter_5 0 rfl rfl)
theorem dX7_letter_120 : decode cX7_letter 120 = .ok (.ireturn, 1) := dk_172 (dk_at dksX7_letter_5 3 rfl rfl)
abbrev cX7_sentences : ByteArray := prog_21_method_119_code
def yX7_sentences : MethodName := ⟨RX7, "sentences", "(I)I"⟩
def dkwX7_sentences_8 : List UInt8 := [29, 181, 1, 140, 132, 2, 1, 3, 62, 3, 54, 4, 167, 255, 73, 28, 172]
abbrev dktX7_sentences_8 : List UInt8 := dkwX7_sentences_8 ++ []
def dkwX7_sentences_7 : List UInt8 := [132, 5, 1, 21, 7, 16, 46, 160, 255, 102, 21, 4, 154, 0, 6, 167, 255, 94, 28, 27, 160, 0, 8, 42]
abbrev dktX7_sentences_7 : List UInt8 := dkwX7_sentences_7 ++ dktX7_sentences_8
def dkwX7_sentences_6 : List UInt8 := [16, 10, 21, 9, 104, 96, 16, 9, 96, 46, 120, 128, 62, 21, 5, 21, 8, 96, 54, 5, 167, 255, 112]
abbrev dktX7_sentences_6 : List UInt8 := dkwX7_sentences_6 ++ dktX7_sentences_7
def dkwX7_sentences_5 : List UInt8 := [21, 8, 182, 1, 137, 54, 9, 4, 54, 4, 21, 9, 155, 0, 25, 29, 4, 42, 180, 0, 7, 17, 18, 182]
abbrev dktX7_sentences_5 : List UInt8 := dkwX7_sentences_5 ++ dktX7_sentences_6
def dkwX7_sentences_4 : List UInt8 := [180, 0, 7, 21, 6, 21, 8, 96, 46, 184, 0, 128, 153, 0, 9, 132, 8, 1, 167, 255, 221, 42, 21, 6]
abbrev dktX7_sentences_4 : List UInt8 := dkwX7_sentences_4 ++ dktX7_sentences_5
def dkwX7_sentences_3 : List UInt8 := [153, 0, 94, 4, 54, 8, 21, 5, 21, 8, 96, 42, 180, 0, 7, 17, 19, 146, 46, 162, 0, 25, 42]
abbrev dktX7_sentences_3 : List UInt8 := dkwX7_sentences_3 ++ dktX7_sentences_4
def dkwX7_sentences_2 : List UInt8 := [162, 0, 13, 42, 180, 0, 7, 21, 6, 46, 167, 0, 5, 16, 46, 54, 7, 21, 7, 184, 0, 128]
abbrev dktX7_sentences_2 : List UInt8 := dkwX7_sentences_2 ++ dktX7_sentences_3
def dkwX7_sentences_1 : List UInt8 := [46, 163, 0, 176, 17, 19, 147, 21, 5, 96, 54, 6, 21, 5, 42, 180, 0, 7, 17, 19, 146, 46]
abbrev dktX7_sentences_1 : List UInt8 := dkwX7_sentences_1 ++ dktX7_sentences_2
def dkwX7_sentences_0 : List UInt8 := [3, 61, 3, 62, 3, 54, 4, 42, 2, 181, 1, 140, 3, 54, 5, 21, 5, 42, 180, 0, 7, 17, 19, 146]
abbrev dktX7_sentences_0 : List UInt8 := dkwX7_sentences_0 ++ dktX7_sentences_1
theorem dksX7_sentences_0 : cX7_sentences.data.toList.drop 0 = dktX7_sentences_0 := by decide +kernel
theorem dksX7_sentences_1 : cX7_sentences.data.toList.drop 24 = dktX7_sentences_1 := dk_seg dksX7_sentences_0 24 rfl rfl
theorem dksX7_sentences_2 : cX7_sentences.data.toList.drop 46 = dktX7_sentences_2 := dk_seg dksX7_sentences_1 22 rfl rfl
theorem dksX7_sentences_3 : cX7_sentences.data.toList.drop 68 = dktX7_sentences_3 := dk_seg dksX7_sentences_2 22 rfl rfl
theorem dksX7_sentences_4 : cX7_sentences.data.toList.drop 91 = dktX7_sentences_4 := dk_seg dksX7_sentences_3 23 rfl rfl
theorem dksX7_sentences_5 : cX7_sentences.data.toList.drop 115 = dktX7_sentences_5 := dk_seg dksX7_sentences_4 24 rfl rfl
theorem dksX7_sentences_6 : cX7_sentences.data.toList.drop 139 = dktX7_sentences_6 := dk_seg dksX7_sentences_5 24 rfl rfl
theorem dksX7_sentences_7 : cX7_sentences.data.toList.drop 162 = dktX7_sentences_7 := dk_seg dksX7_sentences_6 23 rfl rfl
theorem dksX7_sentences_8 : cX7_sentences.data.toList.drop 186 = dktX7_sentences_8 := dk_seg dksX7_sentences_7 24 rfl rfl
theorem dX7_sentences_0 : decode cX7_sentences 0 = .ok (.iconst 0, 1) := dk_3 (dk_at dksX7_sentences_0 0 rfl rfl)
theorem dX7_sentences_1 : decode cX7_sentences 1 = .ok (.istore_n 2, 1) := dk_61 (dk_at dksX7_sentences_0 1 rfl rfl)
theorem dX7_sentences_2 : decode cX7_sentences 2 = .ok (.iconst 0, 1) := dk_3 (dk_at dksX7_sentences_0 2 rfl rfl)
theorem dX7_sentences_3 : decode cX7_sentences 3 = .ok (.istore_n 3, 1) := dk_62 (dk_at dksX7_sentences_0 3 rfl rfl)
theorem dX7_sentences_4 : decode cX7_sentences 4 = .ok (.iconst 0, 1) := dk_3 (dk_at dksX7_sentences_0 4 rfl rfl)
theorem dX7_sentences_5 : decode cX7_sentences 5 = .ok (.istore 4, 2) := dk_54 4 (dk_at dksX7_sentences_0 5 rfl rfl)
theorem dX7_sentences_7 : decode cX7_sentences 7 = .ok (.aload_n 0, 1) := dk_42 (dk_at dksX7_sentences_0 7 rfl rfl)
theorem dX7_sentences_8 : decode cX7_sentences 8 = .ok (.iconst (-1), 1) := dk_2 (dk_at dksX7_sentences_0 8 rfl rfl)
theorem dX7_sentences_9 : decode cX7_sentences 9 = .ok (.putfield 396, 3) := dk_181 1 140 (dk_at dksX7_sentences_0 9 rfl rfl)
theorem dX7_sentences_12 : decode cX7_sentences 12 = .ok (.iconst 0, 1) := dk_3 (dk_at dksX7_sentences_0 12 rfl rfl)
theorem dX7_sentences_13 : decode cX7_sentences 13 = .ok (.istore 5, 2) := dk_54 5 (dk_at dksX7_sentences_0 13 rfl rfl)
theorem dX7_sentences_15 : decode cX7_sentences 15 = .ok (.iload 5, 2) := dk_21 5 (dk_at dksX7_sentences_0 15 rfl rfl)
theorem dX7_sentences_17 : decode cX7_sentences 17 = .ok (.aload_n 0, 1) := dk_42 (dk_at dksX7_sentences_0 17 rfl rfl)
theorem dX7_sentences_18 : decode cX7_sentences 18 = .ok (.getfield 7, 3) := dk_180 0 7 (dk_at dksX7_sentences_0 18 rfl rfl)
theorem dX7_sentences_21 : decode cX7_sentences 21 = .ok (.sipush 5010, 3) := dk_17 19 146 (dk_at dksX7_sentences_0 21 rfl rfl)
theorem dX7_sentences_24 : decode cX7_sentences 24 = .ok (.iaload, 1) := dk_46 (dk_at dksX7_sentences_1 0 rfl rfl)
theorem dX7_sentences_25 : decode cX7_sentences 25 = .ok (.if_icmp .gt 176, 3) := dk_163 0 176 (dk_at dksX7_sentences_1 1 rfl rfl)
theorem dX7_sentences_28 : decode cX7_sentences 28 = .ok (.sipush 5011, 3) := dk_17 19 147 (dk_at dksX7_sentences_1 4 rfl rfl)
theorem dX7_sentences_31 : decode cX7_sentences 31 = .ok (.iload 5, 2) := dk_21 5 (dk_at dksX7_sentences_1 7 rfl rfl)
theorem dX7_sentences_33 : decode cX7_sentences 33 = .ok (.iadd, 1) := dk_96 (dk_at dksX7_sentences_1 9 rfl rfl)
theorem dX7_sentences_34 : decode cX7_sentences 34 = .ok (.istore 6, 2) := dk_54 6 (dk_at dksX7_sentences_1 10 rfl rfl)
theorem dX7_sentences_36 : decode cX7_sentences 36 = .ok (.iload 5, 2) := dk_21 5 (dk_at dksX7_sentences_1 12 rfl rfl)
theorem dX7_sentences_38 : decode cX7_sentences 38 = .ok (.aload_n 0, 1) := dk_42 (dk_at dksX7_sentences_1 14 rfl rfl)
theorem dX7_sentences_39 : decode cX7_sentences 39 = .ok (.getfield 7, 3) := dk_180 0 7 (dk_at dksX7_sentences_1 15 rfl rfl)
theorem dX7_sentences_42 : decode cX7_sentences 42 = .ok (.sipush 5010, 3) := dk_17 19 146 (dk_at dksX7_sentences_1 18 rfl rfl)
theorem dX7_sentences_45 : decode cX7_sentences 45 = .ok (.iaload, 1) := dk_46 (dk_at dksX7_sentences_1 21 rfl rfl)
theorem dX7_sentences_46 : decode cX7_sentences 46 = .ok (.if_icmp .ge 13, 3) := dk_162 0 13 (dk_at dksX7_sentences_2 0 rfl rfl)
theorem dX7_sentences_49 : decode cX7_sentences 49 = .ok (.aload_n 0, 1) := dk_42 (dk_at dksX7_sentences_2 3 rfl rfl)
theorem dX7_sentences_50 : decode cX7_sentences 50 = .ok (.getfield 7, 3) := dk_180 0 7 (dk_at dksX7_sentences_2 4 rfl rfl)
theorem dX7_sentences_53 : decode cX7_sentences 53 = .ok (.iload 6, 2) := dk_21 6 (dk_at dksX7_sentences_2 7 rfl rfl)
theorem dX7_sentences_55 : decode cX7_sentences 55 = .ok (.iaload, 1) := dk_46 (dk_at dksX7_sentences_2 9 rfl rfl)
theorem dX7_sentences_56 : decode cX7_sentences 56 = .ok (.goto 5, 3) := dk_167 0 5 (dk_at dksX7_sentences_2 10 rfl rfl)
theorem dX7_sentences_59 : decode cX7_sentences 59 = .ok (.bipush 46, 2) := dk_16 46 (dk_at dksX7_sentences_2 13 rfl rfl)
theorem dX7_sentences_61 : decode cX7_sentences 61 = .ok (.istore 7, 2) := dk_54 7 (dk_at dksX7_sentences_2 15 rfl rfl)
theorem dX7_sentences_63 : decode cX7_sentences 63 = .ok (.iload 7, 2) := dk_21 7 (dk_at dksX7_sentences_2 17 rfl rfl)
theorem dX7_sentences_65 : decode cX7_sentences 65 = .ok (.invokestatic 128, 3) := dk_184 0 128 (dk_at dksX7_sentences_2 19 rfl rfl)
theorem dX7_sentences_68 : decode cX7_sentences 68 = .ok (.ifCond .eq 94, 3) := dk_153 0 94 (dk_at dksX7_sentences_3 0 rfl rfl)
theorem dX7_sentences_71 : decode cX7_sentences 71 = .ok (.iconst 1, 1) := dk_4 (dk_at dksX7_sentences_3 3 rfl rfl)
theorem dX7_sentences_72 : decode cX7_sentences 72 = .ok (.istore 8, 2) := dk_54 8 (dk_at dksX7_sentences_3 4 rfl rfl)
theorem dX7_sentences_74 : decode cX7_sentences 74 = .ok (.iload 5, 2) := dk_21 5 (dk_at dksX7_sentences_3 6 rfl rfl)
theorem dX7_sentences_76 : decode cX7_sentences 76 = .ok (.iload 8, 2) := dk_21 8 (dk_at dksX7_sentences_3 8 rfl rfl)
theorem dX7_sentences_78 : decode cX7_sentences 78 = .ok (.iadd, 1) := dk_96 (dk_at dksX7_sentences_3 10 rfl rfl)
theorem dX7_sentences_79 : decode cX7_sentences 79 = .ok (.aload_n 0, 1) := dk_42 (dk_at dksX7_sentences_3 11 rfl rfl)
theorem dX7_sentences_80 : decode cX7_sentences 80 = .ok (.getfield 7, 3) := dk_180 0 7 (dk_at dksX7_sentences_3 12 rfl rfl)
theorem dX7_sentences_83 : decode cX7_sentences 83 = .ok (.sipush 5010, 3) := dk_17 19 146 (dk_at dksX7_sentences_3 15 rfl rfl)
theorem dX7_sentences_86 : decode cX7_sentences 86 = .ok (.iaload, 1) := dk_46 (dk_at dksX7_sentences_3 18 rfl rfl)
theorem dX7_sentences_87 : decode cX7_sentences 87 = .ok (.if_icmp .ge 25, 3) := dk_162 0 25 (dk_at dksX7_sentences_3 19 rfl rfl)
theorem dX7_sentences_90 : decode cX7_sentences 90 = .ok (.aload_n 0, 1) := dk_42 (dk_at dksX7_sentences_3 22 rfl rfl)
theorem dX7_sentences_91 : decode cX7_sentences 91 = .ok (.getfield 7, 3) := dk_180 0 7 (dk_at dksX7_sentences_4 0 rfl rfl)
theorem dX7_sentences_94 : decode cX7_sentences 94 = .ok (.iload 6, 2) := dk_21 6 (dk_at dksX7_sentences_4 3 rfl rfl)
theorem dX7_sentences_96 : decode cX7_sentences 96 = .ok (.iload 8, 2) := dk_21 8 (dk_at dksX7_sentences_4 5 rfl rfl)
theorem dX7_sentences_98 : decode cX7_sentences 98 = .ok (.iadd, 1) := dk_96 (dk_at dksX7_sentences_4 7 rfl rfl)
theorem dX7_sentences_99 : decode cX7_sentences 99 = .ok (.iaload, 1) := dk_46 (dk_at dksX7_sentences_4 8 rfl rfl)
theorem dX7_sentences_100 : decode cX7_sentences 100 = .ok (.invokestatic 128, 3) := dk_184 0 128 (dk_at dksX7_sentences_4 9 rfl rfl)
theorem dX7_sentences_103 : decode cX7_sentences 103 = .ok (.ifCond .eq 9, 3) := dk_153 0 9 (dk_at dksX7_sentences_4 12 rfl rfl)
theorem dX7_sentences_106 : decode cX7_sentences 106 = .ok (.iinc 8 1, 3) := dk_132 8 1 (dk_at dksX7_sentences_4 15 rfl rfl)
theorem dX7_sentences_109 : decode cX7_sentences 109 = .ok (.goto (-35), 3) := dk_167 255 221 (dk_at dksX7_sentences_4 18 rfl rfl)
theorem dX7_sentences_112 : decode cX7_sentences 112 = .ok (.aload_n 0, 1) := dk_42 (dk_at dksX7_sentences_4 21 rfl rfl)
theorem dX7_sentences_113 : decode cX7_sentences 113 = .ok (.iload 6, 2) := dk_21 6 (dk_at dksX7_sentences_4 22 rfl rfl)
theorem dX7_sentences_115 : decode cX7_sentences 115 = .ok (.iload 8, 2) := dk_21 8 (dk_at dksX7_sentences_5 0 rfl rfl)
theorem dX7_sentences_117 : decode cX7_sentences 117 = .ok (.invokevirtual 393, 3) := dk_182 1 137 (dk_at dksX7_sentences_5 2 rfl rfl)
theorem dX7_sentences_120 : decode cX7_sentences 120 = .ok (.istore 9, 2) := dk_54 9 (dk_at dksX7_sentences_5 5 rfl rfl)
theorem dX7_sentences_122 : decode cX7_sentences 122 = .ok (.iconst 1, 1) := dk_4 (dk_at dksX7_sentences_5 7 rfl rfl)
theorem dX7_sentences_123 : decode cX7_sentences 123 = .ok (.istore 4, 2) := dk_54 4 (dk_at dksX7_sentences_5 8 rfl rfl)
theorem dX7_sentences_125 : decode cX7_sentences 125 = .ok (.iload 9, 2) := dk_21 9 (dk_at dksX7_sentences_5 10 rfl rfl)
theorem dX7_sentences_127 : decode cX7_sentences 127 = .ok (.ifCond .lt 25, 3) := dk_155 0 25 (dk_at dksX7_sentences_5 12 rfl rfl)
theorem dX7_sentences_130 : decode cX7_sentences 130 = .ok (.iload_n 3, 1) := dk_29 (dk_at dksX7_sentences_5 15 rfl rfl)
theorem dX7_sentences_131 : decode cX7_sentences 131 = .ok (.iconst 1, 1) := dk_4 (dk_at dksX7_sentences_5 16 rfl rfl)
theorem dX7_sentences_132 : decode cX7_sentences 132 = .ok (.aload_n 0, 1) := dk_42 (dk_at dksX7_sentences_5 17 rfl rfl)
theorem dX7_sentences_133 : decode cX7_sentences 133 = .ok (.getfield 7, 3) := dk_180 0 7 (dk_at dksX7_sentences_5 18 rfl rfl)
theorem dX7_sentences_136 : decode cX7_sentences 136 = .ok (.sipush 4790, 3) := dk_17 18 182 (dk_at dksX7_sentences_5 21 rfl rfl)
theorem dX7_sentences_139 : decode cX7_sentences 139 = .ok (.bipush 10, 2) := dk_16 10 (dk_at dksX7_sentences_6 0 rfl rfl)
theorem dX7_sentences_141 : decode cX7_sentences 141 = .ok (.iload 9, 2) := dk_21 9 (dk_at dksX7_sentences_6 2 rfl rfl)
theorem dX7_sentences_143 : decode cX7_sentences 143 = .ok (.imul, 1) := dk_104 (dk_at dksX7_sentences_6 4 rfl rfl)
theorem dX7_sentences_144 : decode cX7_sentences 144 = .ok (.iadd, 1) := dk_96 (dk_at dksX7_sentences_6 5 rfl rfl)
theorem dX7_sentences_145 : decode cX7_sentences 145 = .ok (.bipush 9, 2) := dk_16 9 (dk_at dksX7_sentences_6 6 rfl rfl)
theorem dX7_sentences_147 : decode cX7_sentences 147 = .ok (.iadd, 1) := dk_96 (dk_at dksX7_sentences_6 8 rfl rfl)
theorem dX7_sentences_148 : decode cX7_sentences 148 = .ok (.iaload, 1) := dk_46 (dk_at dksX7_sentences_6 9 rfl rfl)
theorem dX7_sentences_149 : decode cX7_sentences 149 = .ok (.ishl, 1) := dk_120 (dk_at dksX7_sentences_6 10 rfl rfl)
theorem dX7_sentences_150 : decode cX7_sentences 150 = .ok (.ior, 1) := dk_128 (dk_at dksX7_sentences_6 11 rfl rfl)
theorem dX7_sentences_151 : decode cX7_sentences 151 = .ok (.istore_n 3, 1) := dk_62 (dk_at dksX7_sentences_6 12 rfl rfl)
theorem dX7_sentences_152 : decode cX7_sentences 152 = .ok (.iload 5, 2) := dk_21 5 (dk_at dksX7_sentences_6 13 rfl rfl)
theorem dX7_sentences_154 : decode cX7_sentences 154 = .ok (.iload 8, 2) := dk_21 8 (dk_at dksX7_sentences_6 15 rfl rfl)
theorem dX7_sentences_156 : decode cX7_sentences 156 = .ok (.iadd, 1) := dk_96 (dk_at dksX7_sentences_6 17 rfl rfl)
theorem dX7_sentences_157 : decode cX7_sentences 157 = .ok (.istore 5, 2) := dk_54 5 (dk_at dksX7_sentences_6 18 rfl rfl)
theorem dX7_sentences_159 : decode cX7_sentences 159 = .ok (.goto (-144), 3) := dk_167 255 112 (dk_at dksX7_sentences_6 20 rfl rfl)
theorem dX7_sentences_162 : decode cX7_sentences 162 = .ok (.iinc 5 1, 3) := dk_132 5 1 (dk_at dksX7_sentences_7 0 rfl rfl)
theorem dX7_sentences_165 : decode cX7_sentences 165 = .ok (.iload 7, 2) := dk_21 7 (dk_at dksX7_sentences_7 3 rfl rfl)
theorem dX7_sentences_167 : decode cX7_sentences 167 = .ok (.bipush 46, 2) := dk_16 46 (dk_at dksX7_sentences_7 5 rfl rfl)
theorem dX7_sentences_169 : decode cX7_sentences 169 = .ok (.if_icmp .ne (-154), 3) := dk_160 255 102 (dk_at dksX7_sentences_7 7 rfl rfl)
theorem dX7_sentences_172 : decode cX7_sentences 172 = .ok (.iload 4, 2) := dk_21 4 (dk_at dksX7_sentences_7 10 rfl rfl)
theorem dX7_sentences_174 : decode cX7_sentences 174 = .ok (.ifCond .ne 6, 3) := dk_154 0 6 (dk_at dksX7_sentences_7 12 rfl rfl)
theorem dX7_sentences_177 : decode cX7_sentences 177 = .ok (.goto (-162), 3) := dk_167 255 94 (dk_at dksX7_sentences_7 15 rfl rfl)
theorem dX7_sentences_180 : decode cX7_sentences 180 = .ok (.iload_n 2, 1) := dk_28 (dk_at dksX7_sentences_7 18 rfl rfl)
theorem dX7_sentences_181 : decode cX7_sentences 181 = .ok (.iload_n 1, 1) := dk_27 (dk_at dksX7_sentences_7 19 rfl rfl)
theorem dX7_sentences_182 : decode cX7_sentences 182 = .ok (.if_icmp .ne 8, 3) := dk_160 0 8 (dk_at dksX7_sentences_7 20 rfl rfl)
theorem dX7_sentences_185 : decode cX7_sentences 185 = .ok (.aload_n 0, 1) := dk_42 (dk_at dksX7_sentences_7 23 rfl rfl)
theorem dX7_sentences_186 : decode cX7_sentences 186 = .ok (.iload_n 3, 1) := dk_29 (dk_at dksX7_sentences_8 0 rfl rfl)
theorem dX7_sentences_187 : decode cX7_sentences 187 = .ok (.putfield 396, 3) := dk_181 1 140 (dk_at dksX7_sentences_8 1 rfl rfl)
theorem dX7_sentences_190 : decode cX7_sentences 190 = .ok (.iinc 2 1, 3) := dk_132 2 1 (dk_at dksX7_sentences_8 4 rfl rfl)
theorem dX7_sentences_193 : decode cX7_sentences 193 = .ok (.iconst 0, 1) := dk_3 (dk_at dksX7_sentences_8 7 rfl rfl)
theorem dX7_sentences_194 : decode cX7_sentences 194 = .ok (.istore_n 3, 1) := dk_62 (dk_at dksX7_sentences_8 8 rfl rfl)
theorem dX7_sentences_195 : decode cX7_sentences 195 = .ok (.iconst 0, 1) := dk_3 (dk_at dksX7_sentences_8 9 rfl rfl)
theorem dX7_sentences_196 : decode cX7_sentences 196 = .ok (.istore 4, 2) := dk_54 4 (dk_at dksX7_sentences_8 10 rfl rfl)
theorem dX7_sentences_198 : decode cX7_sentences 198 = .ok (.goto (-183), 3) := dk_167 255 73 (dk_at dksX7_sentences_8 12 rfl rfl)
theorem dX7_sentences_201 : decode cX7_sentences 201 = .ok (.iload_n 2, 1) := dk_28 (dk_at dksX7_sentences_8 15 rfl rfl)
theorem dX7_sentences_202 : decode cX7_sentences 202 = .ok (.ireturn, 1) := dk_172 (dk_at dksX7_sentences_8 16 rfl rfl)
abbrev cX7_sentence : ByteArray := prog_21_method_121_code
def yX7_sentence : MethodName := ⟨RX7, "sentence", "(I)I"⟩
def dkwX7_sentence_0 : List UInt8 := [42, 27, 182, 1, 143, 61, 42, 180, 1, 140, 172]
abbrev dktX7_sentence_0 : List UInt8 := dkwX7_sentence_0 ++ []
theorem dksX7_sentence_0 : cX7_sentence.data.toList.drop 0 = dktX7_sentence_0 := by decide +kernel
theorem dX7_sentence_0 : decode cX7_sentence 0 = .ok (.aload_n 0, 1) := dk_42 (dk_at dksX7_sentence_0 0 rfl rfl)
theorem dX7_sentence_1 : decode cX7_sentence 1 = .ok (.iload_n 1, 1) := dk_27 (dk_at dksX7_sentence_0 1 rfl rfl)
theorem dX7_sentence_2 : decode cX7_sentence 2 = .ok (.invokevirtual 399, 3) := dk_182 1 143 (dk_at dksX7_sentence_0 2 rfl rfl)
theorem dX7_sentence_5 : decode cX7_sentence 5 = .ok (.istore_n 2, 1) := dk_61 (dk_at dksX7_sentence_0 5 rfl rfl)
theorem dX7_sentence_6 : decode cX7_sentence 6 = .ok (.aload_n 0, 1) := dk_42 (dk_at dksX7_sentence_0 6 rfl rfl)
theorem dX7_sentence_7 : decode cX7_sentence 7 = .ok (.getfield 396, 3) := dk_180 1 140 (dk_at dksX7_sentence_0 7 rfl rfl)
theorem dX7_sentence_10 : decode cX7_sentence 10 = .ok (.ireturn, 1) := dk_172 (dk_at dksX7_sentence_0 10 rfl rfl)
abbrev cX7_holds : ByteArray := prog_21_method_123_code
def yX7_holds : MethodName := ⟨RX7, "holds", "(I)I"⟩
def dkwX7_holds_1 : List UInt8 := [167, 0, 4, 2, 172]
abbrev dktX7_holds_1 : List UInt8 := dkwX7_holds_1 ++ []
def dkwX7_holds_0 : List UInt8 := [27, 3, 42, 180, 0, 7, 17, 19, 143, 46, 4, 100, 184, 0, 89, 153, 0, 11, 42, 27, 182, 1, 149]
abbrev dktX7_holds_0 : List UInt8 := dkwX7_holds_0 ++ dktX7_holds_1
theorem dksX7_holds_0 : cX7_holds.data.toList.drop 0 = dktX7_holds_0 := by decide +kernel
theorem dksX7_holds_1 : cX7_holds.data.toList.drop 23 = dktX7_holds_1 := dk_seg dksX7_holds_0 23 rfl rfl
theorem dX7_holds_0 : decode cX7_holds 0 = .ok (.iload_n 1, 1) := dk_27 (dk_at dksX7_holds_0 0 rfl rfl)
theorem dX7_holds_1 : decode cX7_holds 1 = .ok (.iconst 0, 1) := dk_3 (dk_at dksX7_holds_0 1 rfl rfl)
theorem dX7_holds_2 : decode cX7_holds 2 = .ok (.aload_n 0, 1) := dk_42 (dk_at dksX7_holds_0 2 rfl rfl)
theorem dX7_holds_3 : decode cX7_holds 3 = .ok (.getfield 7, 3) := dk_180 0 7 (dk_at dksX7_holds_0 3 rfl rfl)
theorem dX7_holds_6 : decode cX7_holds 6 = .ok (.sipush 5007, 3) := dk_17 19 143 (dk_at dksX7_holds_0 6 rfl rfl)
theorem dX7_holds_9 : decode cX7_holds 9 = .ok (.iaload, 1) := dk_46 (dk_at dksX7_holds_0 9 rfl rfl)
theorem dX7_holds_10 : decode cX7_holds 10 = .ok (.iconst 1, 1) := dk_4 (dk_at dksX7_holds_0 10 rfl rfl)
theorem dX7_holds_11 : decode cX7_holds 11 = .ok (.isub, 1) := dk_100 (dk_at dksX7_holds_0 11 rfl rfl)
theorem dX7_holds_12 : decode cX7_holds 12 = .ok (.invokestatic 89, 3) := dk_184 0 89 (dk_at dksX7_holds_0 12 rfl rfl)
theorem dX7_holds_15 : decode cX7_holds 15 = .ok (.ifCond .eq 11, 3) := dk_153 0 11 (dk_at dksX7_holds_0 15 rfl rfl)
theorem dX7_holds_18 : decode cX7_holds 18 = .ok (.aload_n 0, 1) := dk_42 (dk_at dksX7_holds_0 18 rfl rfl)
theorem dX7_holds_19 : decode cX7_holds 19 = .ok (.iload_n 1, 1) := dk_27 (dk_at dksX7_holds_0 19 rfl rfl)
theorem dX7_holds_20 : decode cX7_holds 20 = .ok (.invokevirtual 405, 3) := dk_182 1 149 (dk_at dksX7_holds_0 20 rfl rfl)
theorem dX7_holds_23 : decode cX7_holds 23 = .ok (.goto 4, 3) := dk_167 0 4 (dk_at dksX7_holds_1 0 rfl rfl)
theorem dX7_holds_26 : decode cX7_holds 26 = .ok (.iconst (-1), 1) := dk_2 (dk_at dksX7_holds_1 3 rfl rfl)
theorem dX7_holds_27 : decode cX7_holds 27 = .ok (.ireturn, 1) := dk_172 (dk_at dksX7_holds_1 4 rfl rfl)
abbrev cX7_firstOf : ByteArray := prog_21_method_122_code
def yX7_firstOf : MethodName := ⟨RX7, "firstOf", "(I)I"⟩
def dkwX7_firstOf_1 : List UInt8 := [46, 42, 29, 182, 1, 146, 2, 130, 126, 154, 0, 5, 29, 172, 132, 3, 1, 167, 255, 223, 2, 172]
abbrev dktX7_firstOf_1 : List UInt8 := dkwX7_firstOf_1 ++ []
def dkwX7_firstOf_0 : List UInt8 := [42, 2, 182, 1, 143, 61, 3, 62, 29, 28, 162, 0, 34, 42, 180, 0, 7, 17, 19, 126, 5, 27, 104, 96]
abbrev dktX7_firstOf_0 : List UInt8 := dkwX7_firstOf_0 ++ dktX7_firstOf_1
theorem dksX7_firstOf_0 : cX7_firstOf.data.toList.drop 0 = dktX7_firstOf_0 := by decide +kernel
theorem dksX7_firstOf_1 : cX7_firstOf.data.toList.drop 24 = dktX7_firstOf_1 := dk_seg dksX7_firstOf_0 24 rfl rfl
theorem dX7_firstOf_0 : decode cX7_firstOf 0 = .ok (.aload_n 0, 1) := dk_42 (dk_at dksX7_firstOf_0 0 rfl rfl)
theorem dX7_firstOf_1 : decode cX7_firstOf 1 = .ok (.iconst (-1), 1) := dk_2 (dk_at dksX7_firstOf_0 1 rfl rfl)
theorem dX7_firstOf_2 : decode cX7_firstOf 2 = .ok (.invokevirtual 399, 3) := dk_182 1 143 (dk_at dksX7_firstOf_0 2 rfl rfl)
theorem dX7_firstOf_5 : decode cX7_firstOf 5 = .ok (.istore_n 2, 1) := dk_61 (dk_at dksX7_firstOf_0 5 rfl rfl)
theorem dX7_firstOf_6 : decode cX7_firstOf 6 = .ok (.iconst 0, 1) := dk_3 (dk_at dksX7_firstOf_0 6 rfl rfl)
theorem dX7_firstOf_7 : decode cX7_firstOf 7 = .ok (.istore_n 3, 1) := dk_62 (dk_at dksX7_firstOf_0 7 rfl rfl)
theorem dX7_firstOf_8 : decode cX7_firstOf 8 = .ok (.iload_n 3, 1) := dk_29 (dk_at dksX7_firstOf_0 8 rfl rfl)
theorem dX7_firstOf_9 : decode cX7_firstOf 9 = .ok (.iload_n 2, 1) := dk_28 (dk_at dksX7_firstOf_0 9 rfl rfl)
theorem dX7_firstOf_10 : decode cX7_firstOf 10 = .ok (.if_icmp .ge 34, 3) := dk_162 0 34 (dk_at dksX7_firstOf_0 10 rfl rfl)
theorem dX7_firstOf_13 : decode cX7_firstOf 13 = .ok (.aload_n 0, 1) := dk_42 (dk_at dksX7_firstOf_0 13 rfl rfl)
theorem dX7_firstOf_14 : decode cX7_firstOf 14 = .ok (.getfield 7, 3) := dk_180 0 7 (dk_at dksX7_firstOf_0 14 rfl rfl)
theorem dX7_firstOf_17 : decode cX7_firstOf 17 = .ok (.sipush 4990, 3) := dk_17 19 126 (dk_at dksX7_firstOf_0 17 rfl rfl)
theorem dX7_firstOf_20 : decode cX7_firstOf 20 = .ok (.iconst 2, 1) := dk_5 (dk_at dksX7_firstOf_0 20 rfl rfl)
theorem dX7_firstOf_21 : decode cX7_firstOf 21 = .ok (.iload_n 1, 1) := dk_27 (dk_at dksX7_firstOf_0 21 rfl rfl)
theorem dX7_firstOf_22 : decode cX7_firstOf 22 = .ok (.imul, 1) := dk_104 (dk_at dksX7_firstOf_0 22 rfl rfl)
theorem dX7_firstOf_23 : decode cX7_firstOf 23 = .ok (.iadd, 1) := dk_96 (dk_at dksX7_firstOf_0 23 rfl rfl)
theorem dX7_firstOf_24 : decode cX7_firstOf 24 = .ok (.iaload, 1) := dk_46 (dk_at dksX7_firstOf_1 0 rfl rfl)
theorem dX7_firstOf_25 : decode cX7_firstOf 25 = .ok (.aload_n 0, 1) := dk_42 (dk_at dksX7_firstOf_1 1 rfl rfl)
theorem dX7_firstOf_26 : decode cX7_firstOf 26 = .ok (.iload_n 3, 1) := dk_29 (dk_at dksX7_firstOf_1 2 rfl rfl)
theorem dX7_firstOf_27 : decode cX7_firstOf 27 = .ok (.invokevirtual 402, 3) := dk_182 1 146 (dk_at dksX7_firstOf_1 3 rfl rfl)
theorem dX7_firstOf_30 : decode cX7_firstOf 30 = .ok (.iconst (-1), 1) := dk_2 (dk_at dksX7_firstOf_1 6 rfl rfl)
theorem dX7_firstOf_31 : decode cX7_firstOf 31 = .ok (.ixor, 1) := dk_130 (dk_at dksX7_firstOf_1 7 rfl rfl)
theorem dX7_firstOf_32 : decode cX7_firstOf 32 = .ok (.iand, 1) := dk_126 (dk_at dksX7_firstOf_1 8 rfl rfl)
theorem dX7_firstOf_33 : decode cX7_firstOf 33 = .ok (.ifCond .ne 5, 3) := dk_154 0 5 (dk_at dksX7_firstOf_1 9 rfl rfl)
theorem dX7_firstOf_36 : decode cX7_firstOf 36 = .ok (.iload_n 3, 1) := dk_29 (dk_at dksX7_firstOf_1 12 rfl rfl)
theorem dX7_firstOf_37 : decode cX7_firstOf 37 = .ok (.ireturn, 1) := dk_172 (dk_at dksX7_firstOf_1 13 rfl rfl)
theorem dX7_firstOf_38 : decode cX7_firstOf 38 = .ok (.iinc 3 1, 3) := dk_132 3 1 (dk_at dksX7_firstOf_1 14 rfl rfl)
theorem dX7_firstOf_41 : decode cX7_firstOf 41 = .ok (.goto (-33), 3) := dk_167 255 223 (dk_at dksX7_firstOf_1 17 rfl rfl)
theorem dX7_firstOf_44 : decode cX7_firstOf 44 = .ok (.iconst (-1), 1) := dk_2 (dk_at dksX7_firstOf_1 20 rfl rfl)
theorem dX7_firstOf_45 : decode cX7_firstOf 45 = .ok (.ireturn, 1) := dk_172 (dk_at dksX7_firstOf_1 21 rfl rfl)
abbrev cX7_presses : ByteArray := prog_21_method_124_code
def yX7_presses : MethodName := ⟨RX7, "presses", "()I"⟩
def dkwX7_presses_2 : List UInt8 := [132, 2, 1, 167, 255, 212, 27, 172]
abbrev dktX7_presses_2 : List UInt8 := dkwX7_presses_2 ++ []
def dkwX7_presses_1 : List UInt8 := [155, 0, 20, 42, 180, 0, 7, 17, 19, 126, 5, 28, 104, 96, 4, 96, 46, 167, 0, 4, 3, 96, 60]
abbrev dktX7_presses_1 : List UInt8 := dkwX7_presses_1 ++ dktX7_presses_2
def dkwX7_presses_0 : List UInt8 := [3, 60, 3, 61, 28, 42, 180, 0, 7, 17, 19, 143, 46, 162, 0, 38, 27, 42, 28, 182, 1, 149]
abbrev dktX7_presses_0 : List UInt8 := dkwX7_presses_0 ++ dktX7_presses_1
theorem dksX7_presses_0 : cX7_presses.data.toList.drop 0 = dktX7_presses_0 := by decide +kernel
theorem dksX7_presses_1 : cX7_presses.data.toList.drop 22 = dktX7_presses_1 := dk_seg dksX7_presses_0 22 rfl rfl
theorem dksX7_presses_2 : cX7_presses.data.toList.drop 45 = dktX7_presses_2 := dk_seg dksX7_presses_1 23 rfl rfl
theorem dX7_presses_0 : decode cX7_presses 0 = .ok (.iconst 0, 1) := dk_3 (dk_at dksX7_presses_0 0 rfl rfl)
theorem dX7_presses_1 : decode cX7_presses 1 = .ok (.istore_n 1, 1) := dk_60 (dk_at dksX7_presses_0 1 rfl rfl)
theorem dX7_presses_2 : decode cX7_presses 2 = .ok (.iconst 0, 1) := dk_3 (dk_at dksX7_presses_0 2 rfl rfl)
theorem dX7_presses_3 : decode cX7_presses 3 = .ok (.istore_n 2, 1) := dk_61 (dk_at dksX7_presses_0 3 rfl rfl)
theorem dX7_presses_4 : decode cX7_presses 4 = .ok (.iload_n 2, 1) := dk_28 (dk_at dksX7_presses_0 4 rfl rfl)
theorem dX7_presses_5 : decode cX7_presses 5 = .ok (.aload_n 0, 1) := dk_42 (dk_at dksX7_presses_0 5 rfl rfl)
theorem dX7_presses_6 : decode cX7_presses 6 = .ok (.getfield 7, 3) := dk_180 0 7 (dk_at dksX7_presses_0 6 rfl rfl)
theorem dX7_presses_9 : decode cX7_presses 9 = .ok (.sipush 5007, 3) := dk_17 19 143 (dk_at dksX7_presses_0 9 rfl rfl)
theorem dX7_presses_12 : decode cX7_presses 12 = .ok (.iaload, 1) := dk_46 (dk_at dksX7_presses_0 12 rfl rfl)
theorem dX7_presses_13 : decode cX7_presses 13 = .ok (.if_icmp .ge 38, 3) := dk_162 0 38 (dk_at dksX7_presses_0 13 rfl rfl)
theorem dX7_presses_16 : decode cX7_presses 16 = .ok (.iload_n 1, 1) := dk_27 (dk_at dksX7_presses_0 16 rfl rfl)
theorem dX7_presses_17 : decode cX7_presses 17 = .ok (.aload_n 0, 1) := dk_42 (dk_at dksX7_presses_0 17 rfl rfl)
theorem dX7_presses_18 : decode cX7_presses 18 = .ok (.iload_n 2, 1) := dk_28 (dk_at dksX7_presses_0 18 rfl rfl)
theorem dX7_presses_19 : decode cX7_presses 19 = .ok (.invokevirtual 405, 3) := dk_182 1 149 (dk_at dksX7_presses_0 19 rfl rfl)
theorem dX7_presses_22 : decode cX7_presses 22 = .ok (.ifCond .lt 20, 3) := dk_155 0 20 (dk_at dksX7_presses_1 0 rfl rfl)
theorem dX7_presses_25 : decode cX7_presses 25 = .ok (.aload_n 0, 1) := dk_42 (dk_at dksX7_presses_1 3 rfl rfl)
theorem dX7_presses_26 : decode cX7_presses 26 = .ok (.getfield 7, 3) := dk_180 0 7 (dk_at dksX7_presses_1 4 rfl rfl)
theorem dX7_presses_29 : decode cX7_presses 29 = .ok (.sipush 4990, 3) := dk_17 19 126 (dk_at dksX7_presses_1 7 rfl rfl)
theorem dX7_presses_32 : decode cX7_presses 32 = .ok (.iconst 2, 1) := dk_5 (dk_at dksX7_presses_1 10 rfl rfl)
theorem dX7_presses_33 : decode cX7_presses 33 = .ok (.iload_n 2, 1) := dk_28 (dk_at dksX7_presses_1 11 rfl rfl)
theorem dX7_presses_34 : decode cX7_presses 34 = .ok (.imul, 1) := dk_104 (dk_at dksX7_presses_1 12 rfl rfl)
theorem dX7_presses_35 : decode cX7_presses 35 = .ok (.iadd, 1) := dk_96 (dk_at dksX7_presses_1 13 rfl rfl)
theorem dX7_presses_36 : decode cX7_presses 36 = .ok (.iconst 1, 1) := dk_4 (dk_at dksX7_presses_1 14 rfl rfl)
theorem dX7_presses_37 : decode cX7_presses 37 = .ok (.iadd, 1) := dk_96 (dk_at dksX7_presses_1 15 rfl rfl)
theorem dX7_presses_38 : decode cX7_presses 38 = .ok (.iaload, 1) := dk_46 (dk_at dksX7_presses_1 16 rfl rfl)
theorem dX7_presses_39 : decode cX7_presses 39 = .ok (.goto 4, 3) := dk_167 0 4 (dk_at dksX7_presses_1 17 rfl rfl)
theorem dX7_presses_42 : decode cX7_presses 42 = .ok (.iconst 0, 1) := dk_3 (dk_at dksX7_presses_1 20 rfl rfl)
theorem dX7_presses_43 : decode cX7_presses 43 = .ok (.iadd, 1) := dk_96 (dk_at dksX7_presses_1 21 rfl rfl)
theorem dX7_presses_44 : decode cX7_presses 44 = .ok (.istore_n 1, 1) := dk_60 (dk_at dksX7_presses_1 22 rfl rfl)
theorem dX7_presses_45 : decode cX7_presses 45 = .ok (.iinc 2 1, 3) := dk_132 2 1 (dk_at dksX7_presses_2 0 rfl rfl)
theorem dX7_presses_48 : decode cX7_presses 48 = .ok (.goto (-44), 3) := dk_167 255 212 (dk_at dksX7_presses_2 3 rfl rfl)
theorem dX7_presses_51 : decode cX7_presses 51 = .ok (.iload_n 1, 1) := dk_27 (dk_at dksX7_presses_2 6 rfl rfl)
theorem dX7_presses_52 : decode cX7_presses 52 = .ok (.ireturn, 1) := dk_172 (dk_at dksX7_presses_2 7 rfl rfl)
abbrev cX7_picture : ByteArray := prog_21_method_125_code
def yX7_picture : MethodName := ⟨RX7, "picture", "(ZII)Z"⟩
def dkwX7_picture_2 : List UInt8 := [17, 0, 202, 96, 167, 0, 11, 28, 184, 0, 97, 17, 0, 159, 96, 29, 79, 4, 172]
abbrev dktX7_picture_2 : List UInt8 := dkwX7_picture_2 ++ []
def dkwX7_picture_1 : List UInt8 := [3, 19, 1, 152, 184, 0, 89, 154, 0, 5, 3, 172, 42, 180, 0, 7, 27, 153, 0, 14, 28, 184, 0, 93]
abbrev dktX7_picture_1 : List UInt8 := dkwX7_picture_1 ++ dktX7_picture_2
def dkwX7_picture_0 : List UInt8 := [27, 153, 0, 14, 42, 28, 182, 0, 202, 154, 0, 14, 167, 0, 22, 42, 28, 182, 0, 182, 153, 0, 14, 29]
abbrev dktX7_picture_0 : List UInt8 := dkwX7_picture_0 ++ dktX7_picture_1
theorem dksX7_picture_0 : cX7_picture.data.toList.drop 0 = dktX7_picture_0 := by decide +kernel
theorem dksX7_picture_1 : cX7_picture.data.toList.drop 24 = dktX7_picture_1 := dk_seg dksX7_picture_0 24 rfl rfl
theorem dksX7_picture_2 : cX7_picture.data.toList.drop 48 = dktX7_picture_2 := dk_seg dksX7_picture_1 24 rfl rfl
theorem dX7_picture_0 : decode cX7_picture 0 = .ok (.iload_n 1, 1) := dk_27 (dk_at dksX7_picture_0 0 rfl rfl)
theorem dX7_picture_1 : decode cX7_picture 1 = .ok (.ifCond .eq 14, 3) := dk_153 0 14 (dk_at dksX7_picture_0 1 rfl rfl)
theorem dX7_picture_4 : decode cX7_picture 4 = .ok (.aload_n 0, 1) := dk_42 (dk_at dksX7_picture_0 4 rfl rfl)
theorem dX7_picture_5 : decode cX7_picture 5 = .ok (.iload_n 2, 1) := dk_28 (dk_at dksX7_picture_0 5 rfl rfl)
theorem dX7_picture_6 : decode cX7_picture 6 = .ok (.invokevirtual 202, 3) := dk_182 0 202 (dk_at dksX7_picture_0 6 rfl rfl)
theorem dX7_picture_9 : decode cX7_picture 9 = .ok (.ifCond .ne 14, 3) := dk_154 0 14 (dk_at dksX7_picture_0 9 rfl rfl)
theorem dX7_picture_12 : decode cX7_picture 12 = .ok (.goto 22, 3) := dk_167 0 22 (dk_at dksX7_picture_0 12 rfl rfl)
theorem dX7_picture_15 : decode cX7_picture 15 = .ok (.aload_n 0, 1) := dk_42 (dk_at dksX7_picture_0 15 rfl rfl)
theorem dX7_picture_16 : decode cX7_picture 16 = .ok (.iload_n 2, 1) := dk_28 (dk_at dksX7_picture_0 16 rfl rfl)
theorem dX7_picture_17 : decode cX7_picture 17 = .ok (.invokevirtual 182, 3) := dk_182 0 182 (dk_at dksX7_picture_0 17 rfl rfl)
theorem dX7_picture_20 : decode cX7_picture 20 = .ok (.ifCond .eq 14, 3) := dk_153 0 14 (dk_at dksX7_picture_0 20 rfl rfl)
theorem dX7_picture_23 : decode cX7_picture 23 = .ok (.iload_n 3, 1) := dk_29 (dk_at dksX7_picture_0 23 rfl rfl)
theorem dX7_picture_24 : decode cX7_picture 24 = .ok (.iconst 0, 1) := dk_3 (dk_at dksX7_picture_1 0 rfl rfl)
theorem dX7_picture_25 : decode cX7_picture 25 = .ok (.ldc_w 408, 3) := dk_19 1 152 (dk_at dksX7_picture_1 1 rfl rfl)
theorem dX7_picture_28 : decode cX7_picture 28 = .ok (.invokestatic 89, 3) := dk_184 0 89 (dk_at dksX7_picture_1 4 rfl rfl)
theorem dX7_picture_31 : decode cX7_picture 31 = .ok (.ifCond .ne 5, 3) := dk_154 0 5 (dk_at dksX7_picture_1 7 rfl rfl)
theorem dX7_picture_34 : decode cX7_picture 34 = .ok (.iconst 0, 1) := dk_3 (dk_at dksX7_picture_1 10 rfl rfl)
theorem dX7_picture_35 : decode cX7_picture 35 = .ok (.ireturn, 1) := dk_172 (dk_at dksX7_picture_1 11 rfl rfl)
theorem dX7_picture_36 : decode cX7_picture 36 = .ok (.aload_n 0, 1) := dk_42 (dk_at dksX7_picture_1 12 rfl rfl)
theorem dX7_picture_37 : decode cX7_picture 37 = .ok (.getfield 7, 3) := dk_180 0 7 (dk_at dksX7_picture_1 13 rfl rfl)
theorem dX7_picture_40 : decode cX7_picture 40 = .ok (.iload_n 1, 1) := dk_27 (dk_at dksX7_picture_1 16 rfl rfl)
theorem dX7_picture_41 : decode cX7_picture 41 = .ok (.ifCond .eq 14, 3) := dk_153 0 14 (dk_at dksX7_picture_1 17 rfl rfl)
theorem dX7_picture_44 : decode cX7_picture 44 = .ok (.iload_n 2, 1) := dk_28 (dk_at dksX7_picture_1 20 rfl rfl)
theorem dX7_picture_45 : decode cX7_picture 45 = .ok (.invokestatic 93, 3) := dk_184 0 93 (dk_at dksX7_picture_1 21 rfl rfl)
theorem dX7_picture_48 : decode cX7_picture 48 = .ok (.sipush 202, 3) := dk_17 0 202 (dk_at dksX7_picture_2 0 rfl rfl)
theorem dX7_picture_51 : decode cX7_picture 51 = .ok (.iadd, 1) := dk_96 (dk_at dksX7_picture_2 3 rfl rfl)
theorem dX7_picture_52 : decode cX7_picture 52 = .ok (.goto 11, 3) := dk_167 0 11 (dk_at dksX7_picture_2 4 rfl rfl)
theorem dX7_picture_55 : decode cX7_picture 55 = .ok (.iload_n 2, 1) := dk_28 (dk_at dksX7_picture_2 7 rfl rfl)
theorem dX7_picture_56 : decode cX7_picture 56 = .ok (.invokestatic 97, 3) := dk_184 0 97 (dk_at dksX7_picture_2 8 rfl rfl)
theorem dX7_picture_59 : decode cX7_picture 59 = .ok (.sipush 159, 3) := dk_17 0 159 (dk_at dksX7_picture_2 11 rfl rfl)
theorem dX7_picture_62 : decode cX7_picture 62 = .ok (.iadd, 1) := dk_96 (dk_at dksX7_picture_2 14 rfl rfl)
theorem dX7_picture_63 : decode cX7_picture 63 = .ok (.iload_n 3, 1) := dk_29 (dk_at dksX7_picture_2 15 rfl rfl)
theorem dX7_picture_64 : decode cX7_picture 64 = .ok (.iastore, 1) := dk_79 (dk_at dksX7_picture_2 16 rfl rfl)
theorem dX7_picture_65 : decode cX7_picture 65 = .ok (.iconst 1, 1) := dk_4 (dk_at dksX7_picture_2 17 rfl rfl)
theorem dX7_picture_66 : decode cX7_picture 66 = .ok (.ireturn, 1) := dk_172 (dk_at dksX7_picture_2 18 rfl rfl)
abbrev cX7_unlike : ByteArray := prog_21_method_129_code
def yX7_unlike : MethodName := ⟨RX7, "unlike", "(II)I"⟩
def dkwX7_unlike_1 : List UInt8 := [167, 0, 4, 2, 172]
abbrev dktX7_unlike_1 : List UInt8 := dkwX7_unlike_1 ++ []
def dkwX7_unlike_0 : List UInt8 := [42, 27, 182, 0, 202, 153, 0, 20, 42, 28, 182, 0, 182, 153, 0, 12, 42, 27, 28, 182, 1, 159]
abbrev dktX7_unlike_0 : List UInt8 := dkwX7_unlike_0 ++ dktX7_unlike_1
theorem dksX7_unlike_0 : cX7_unlike.data.toList.drop 0 = dktX7_unlike_0 := by decide +kernel
theorem dksX7_unlike_1 : cX7_unlike.data.toList.drop 22 = dktX7_unlike_1 := dk_seg dksX7_unlike_0 22 rfl rfl
theorem dX7_unlike_0 : decode cX7_unlike 0 = .ok (.aload_n 0, 1) := dk_42 (dk_at dksX7_unlike_0 0 rfl rfl)
theorem dX7_unlike_1 : decode cX7_unlike 1 = .ok (.iload_n 1, 1) := dk_27 (dk_at dksX7_unlike_0 1 rfl rfl)
theorem dX7_unlike_2 : decode cX7_unlike 2 = .ok (.invokevirtual 202, 3) := dk_182 0 202 (dk_at dksX7_unlike_0 2 rfl rfl)
theorem dX7_unlike_5 : decode cX7_unlike 5 = .ok (.ifCond .eq 20, 3) := dk_153 0 20 (dk_at dksX7_unlike_0 5 rfl rfl)
theorem dX7_unlike_8 : decode cX7_unlike 8 = .ok (.aload_n 0, 1) := dk_42 (dk_at dksX7_unlike_0 8 rfl rfl)
theorem dX7_unlike_9 : decode cX7_unlike 9 = .ok (.iload_n 2, 1) := dk_28 (dk_at dksX7_unlike_0 9 rfl rfl)
theorem dX7_unlike_10 : decode cX7_unlike 10 = .ok (.invokevirtual 182, 3) := dk_182 0 182 (dk_at dksX7_unlike_0 10 rfl rfl)
theorem dX7_unlike_13 : decode cX7_unlike 13 = .ok (.ifCond .eq 12, 3) := dk_153 0 12 (dk_at dksX7_unlike_0 13 rfl rfl)
theorem dX7_unlike_16 : decode cX7_unlike 16 = .ok (.aload_n 0, 1) := dk_42 (dk_at dksX7_unlike_0 16 rfl rfl)
theorem dX7_unlike_17 : decode cX7_unlike 17 = .ok (.iload_n 1, 1) := dk_27 (dk_at dksX7_unlike_0 17 rfl rfl)
theorem dX7_unlike_18 : decode cX7_unlike 18 = .ok (.iload_n 2, 1) := dk_28 (dk_at dksX7_unlike_0 18 rfl rfl)
theorem dX7_unlike_19 : decode cX7_unlike 19 = .ok (.invokevirtual 415, 3) := dk_182 1 159 (dk_at dksX7_unlike_0 19 rfl rfl)
theorem dX7_unlike_22 : decode cX7_unlike 22 = .ok (.goto 4, 3) := dk_167 0 4 (dk_at dksX7_unlike_1 0 rfl rfl)
theorem dX7_unlike_25 : decode cX7_unlike 25 = .ok (.iconst (-1), 1) := dk_2 (dk_at dksX7_unlike_1 3 rfl rfl)
theorem dX7_unlike_26 : decode cX7_unlike 26 = .ok (.ireturn, 1) := dk_172 (dk_at dksX7_unlike_1 4 rfl rfl)
abbrev cX7_unlikeOf : ByteArray := prog_21_method_128_code
def yX7_unlikeOf : MethodName := ⟨RX7, "unlikeOf", "(II)I"⟩
def dkwX7_unlikeOf_4 : List UInt8 := [172]
abbrev dktX7_unlikeOf_4 : List UInt8 := dkwX7_unlikeOf_4 ++ []
def dkwX7_unlikeOf_3 : List UInt8 := [184, 0, 205, 62, 132, 6, 1, 167, 255, 207, 21, 4, 184, 1, 156, 54, 4, 132, 5, 1, 167, 255, 185, 29]
abbrev dktX7_unlikeOf_3 : List UInt8 := dkwX7_unlikeOf_3 ++ dktX7_unlikeOf_4
def dkwX7_unlikeOf_2 : List UInt8 := [6, 112, 4, 100, 184, 1, 153, 42, 180, 0, 7, 28, 184, 0, 97, 17, 0, 159, 96, 46, 130, 184, 1, 35]
abbrev dktX7_unlikeOf_2 : List UInt8 := dkwX7_unlikeOf_2 ++ dktX7_unlikeOf_3
def dkwX7_unlikeOf_1 : List UInt8 := [162, 0, 71, 3, 54, 6, 21, 6, 16, 9, 162, 0, 48, 29, 21, 4, 21, 6, 6, 108, 4, 100, 21, 6]
abbrev dktX7_unlikeOf_1 : List UInt8 := dkwX7_unlikeOf_1 ++ dktX7_unlikeOf_2
def dkwX7_unlikeOf_0 : List UInt8 := [16, 25, 62, 42, 180, 0, 7, 27, 184, 0, 93, 17, 0, 202, 96, 46, 54, 4, 3, 54, 5, 21, 5, 7]
abbrev dktX7_unlikeOf_0 : List UInt8 := dkwX7_unlikeOf_0 ++ dktX7_unlikeOf_1
theorem dksX7_unlikeOf_0 : cX7_unlikeOf.data.toList.drop 0 = dktX7_unlikeOf_0 := by decide +kernel
theorem dksX7_unlikeOf_1 : cX7_unlikeOf.data.toList.drop 24 = dktX7_unlikeOf_1 := dk_seg dksX7_unlikeOf_0 24 rfl rfl
theorem dksX7_unlikeOf_2 : cX7_unlikeOf.data.toList.drop 48 = dktX7_unlikeOf_2 := dk_seg dksX7_unlikeOf_1 24 rfl rfl
theorem dksX7_unlikeOf_3 : cX7_unlikeOf.data.toList.drop 72 = dktX7_unlikeOf_3 := dk_seg dksX7_unlikeOf_2 24 rfl rfl
theorem dksX7_unlikeOf_4 : cX7_unlikeOf.data.toList.drop 96 = dktX7_unlikeOf_4 := dk_seg dksX7_unlikeOf_3 24 rfl rfl
theorem dX7_unlikeOf_0 : decode cX7_unlikeOf 0 = .ok (.bipush 25, 2) := dk_16 25 (dk_at dksX7_unlikeOf_0 0 rfl rfl)
theorem dX7_unlikeOf_2 : decode cX7_unlikeOf 2 = .ok (.istore_n 3, 1) := dk_62 (dk_at dksX7_unlikeOf_0 2 rfl rfl)
theorem dX7_unlikeOf_3 : decode cX7_unlikeOf 3 = .ok (.aload_n 0, 1) := dk_42 (dk_at dksX7_unlikeOf_0 3 rfl rfl)
theorem dX7_unlikeOf_4 : decode cX7_unlikeOf 4 = .ok (.getfield 7, 3) := dk_180 0 7 (dk_at dksX7_unlikeOf_0 4 rfl rfl)
theorem dX7_unlikeOf_7 : decode cX7_unlikeOf 7 = .ok (.iload_n 1, 1) := dk_27 (dk_at dksX7_unlikeOf_0 7 rfl rfl)
theorem dX7_unlikeOf_8 : decode cX7_unlikeOf 8 = .ok (.invokestatic 93, 3) := dk_184 0 93 (dk_at dksX7_unlikeOf_0 8 rfl rfl)
theorem dX7_unlikeOf_11 : decode cX7_unlikeOf 11 = .ok (.sipush 202, 3) := dk_17 0 202 (dk_at dksX7_unlikeOf_0 11 rfl rfl)
theorem dX7_unlikeOf_14 : decode cX7_unlikeOf 14 = .ok (.iadd, 1) := dk_96 (dk_at dksX7_unlikeOf_0 14 rfl rfl)
theorem dX7_unlikeOf_15 : decode cX7_unlikeOf 15 = .ok (.iaload, 1) := dk_46 (dk_at dksX7_unlikeOf_0 15 rfl rfl)
theorem dX7_unlikeOf_16 : decode cX7_unlikeOf 16 = .ok (.istore 4, 2) := dk_54 4 (dk_at dksX7_unlikeOf_0 16 rfl rfl)
theorem dX7_unlikeOf_18 : decode cX7_unlikeOf 18 = .ok (.iconst 0, 1) := dk_3 (dk_at dksX7_unlikeOf_0 18 rfl rfl)
theorem dX7_unlikeOf_19 : decode cX7_unlikeOf 19 = .ok (.istore 5, 2) := dk_54 5 (dk_at dksX7_unlikeOf_0 19 rfl rfl)
theorem dX7_unlikeOf_21 : decode cX7_unlikeOf 21 = .ok (.iload 5, 2) := dk_21 5 (dk_at dksX7_unlikeOf_0 21 rfl rfl)
theorem dX7_unlikeOf_23 : decode cX7_unlikeOf 23 = .ok (.iconst 4, 1) := dk_7 (dk_at dksX7_unlikeOf_0 23 rfl rfl)
theorem dX7_unlikeOf_24 : decode cX7_unlikeOf 24 = .ok (.if_icmp .ge 71, 3) := dk_162 0 71 (dk_at dksX7_unlikeOf_1 0 rfl rfl)
theorem dX7_unlikeOf_27 : decode cX7_unlikeOf 27 = .ok (.iconst 0, 1) := dk_3 (dk_at dksX7_unlikeOf_1 3 rfl rfl)
theorem dX7_unlikeOf_28 : decode cX7_unlikeOf 28 = .ok (.istore 6, 2) := dk_54 6 (dk_at dksX7_unlikeOf_1 4 rfl rfl)
theorem dX7_unlikeOf_30 : decode cX7_unlikeOf 30 = .ok (.iload 6, 2) := dk_21 6 (dk_at dksX7_unlikeOf_1 6 rfl rfl)
theorem dX7_unlikeOf_32 : decode cX7_unlikeOf 32 = .ok (.bipush 9, 2) := dk_16 9 (dk_at dksX7_unlikeOf_1 8 rfl rfl)
theorem dX7_unlikeOf_34 : decode cX7_unlikeOf 34 = .ok (.if_icmp .ge 48, 3) := dk_162 0 48 (dk_at dksX7_unlikeOf_1 10 rfl rfl)
theorem dX7_unlikeOf_37 : decode cX7_unlikeOf 37 = .ok (.iload_n 3, 1) := dk_29 (dk_at dksX7_unlikeOf_1 13 rfl rfl)
theorem dX7_unlikeOf_38 : decode cX7_unlikeOf 38 = .ok (.iload 4, 2) := dk_21 4 (dk_at dksX7_unlikeOf_1 14 rfl rfl)
theorem dX7_unlikeOf_40 : decode cX7_unlikeOf 40 = .ok (.iload 6, 2) := dk_21 6 (dk_at dksX7_unlikeOf_1 16 rfl rfl)
theorem dX7_unlikeOf_42 : decode cX7_unlikeOf 42 = .ok (.iconst 3, 1) := dk_6 (dk_at dksX7_unlikeOf_1 18 rfl rfl)
theorem dX7_unlikeOf_43 : decode cX7_unlikeOf 43 = .ok (.idiv, 1) := dk_108 (dk_at dksX7_unlikeOf_1 19 rfl rfl)
theorem dX7_unlikeOf_44 : decode cX7_unlikeOf 44 = .ok (.iconst 1, 1) := dk_4 (dk_at dksX7_unlikeOf_1 20 rfl rfl)
theorem dX7_unlikeOf_45 : decode cX7_unlikeOf 45 = .ok (.isub, 1) := dk_100 (dk_at dksX7_unlikeOf_1 21 rfl rfl)
theorem dX7_unlikeOf_46 : decode cX7_unlikeOf 46 = .ok (.iload 6, 2) := dk_21 6 (dk_at dksX7_unlikeOf_1 22 rfl rfl)
theorem dX7_unlikeOf_48 : decode cX7_unlikeOf 48 = .ok (.iconst 3, 1) := dk_6 (dk_at dksX7_unlikeOf_2 0 rfl rfl)
theorem dX7_unlikeOf_49 : decode cX7_unlikeOf 49 = .ok (.irem, 1) := dk_112 (dk_at dksX7_unlikeOf_2 1 rfl rfl)
theorem dX7_unlikeOf_50 : decode cX7_unlikeOf 50 = .ok (.iconst 1, 1) := dk_4 (dk_at dksX7_unlikeOf_2 2 rfl rfl)
theorem dX7_unlikeOf_51 : decode cX7_unlikeOf 51 = .ok (.isub, 1) := dk_100 (dk_at dksX7_unlikeOf_2 3 rfl rfl)
theorem dX7_unlikeOf_52 : decode cX7_unlikeOf 52 = .ok (.invokestatic 409, 3) := dk_184 1 153 (dk_at dksX7_unlikeOf_2 4 rfl rfl)
theorem dX7_unlikeOf_55 : decode cX7_unlikeOf 55 = .ok (.aload_n 0, 1) := dk_42 (dk_at dksX7_unlikeOf_2 7 rfl rfl)
theorem dX7_unlikeOf_56 : decode cX7_unlikeOf 56 = .ok (.getfield 7, 3) := dk_180 0 7 (dk_at dksX7_unlikeOf_2 8 rfl rfl)
theorem dX7_unlikeOf_59 : decode cX7_unlikeOf 59 = .ok (.iload_n 2, 1) := dk_28 (dk_at dksX7_unlikeOf_2 11 rfl rfl)
theorem dX7_unlikeOf_60 : decode cX7_unlikeOf 60 = .ok (.invokestatic 97, 3) := dk_184 0 97 (dk_at dksX7_unlikeOf_2 12 rfl rfl)
theorem dX7_unlikeOf_63 : decode cX7_unlikeOf 63 = .ok (.sipush 159, 3) := dk_17 0 159 (dk_at dksX7_unlikeOf_2 15 rfl rfl)
theorem dX7_unlikeOf_66 : decode cX7_unlikeOf 66 = .ok (.iadd, 1) := dk_96 (dk_at dksX7_unlikeOf_2 18 rfl rfl)
theorem dX7_unlikeOf_67 : decode cX7_unlikeOf 67 = .ok (.iaload, 1) := dk_46 (dk_at dksX7_unlikeOf_2 19 rfl rfl)
theorem dX7_unlikeOf_68 : decode cX7_unlikeOf 68 = .ok (.ixor, 1) := dk_130 (dk_at dksX7_unlikeOf_2 20 rfl rfl)
theorem dX7_unlikeOf_69 : decode cX7_unlikeOf 69 = .ok (.invokestatic 291, 3) := dk_184 1 35 (dk_at dksX7_unlikeOf_2 21 rfl rfl)
theorem dX7_unlikeOf_72 : decode cX7_unlikeOf 72 = .ok (.invokestatic 205, 3) := dk_184 0 205 (dk_at dksX7_unlikeOf_3 0 rfl rfl)
theorem dX7_unlikeOf_75 : decode cX7_unlikeOf 75 = .ok (.istore_n 3, 1) := dk_62 (dk_at dksX7_unlikeOf_3 3 rfl rfl)
theorem dX7_unlikeOf_76 : decode cX7_unlikeOf 76 = .ok (.iinc 6 1, 3) := dk_132 6 1 (dk_at dksX7_unlikeOf_3 4 rfl rfl)
theorem dX7_unlikeOf_79 : decode cX7_unlikeOf 79 = .ok (.goto (-49), 3) := dk_167 255 207 (dk_at dksX7_unlikeOf_3 7 rfl rfl)
theorem dX7_unlikeOf_82 : decode cX7_unlikeOf 82 = .ok (.iload 4, 2) := dk_21 4 (dk_at dksX7_unlikeOf_3 10 rfl rfl)
theorem dX7_unlikeOf_84 : decode cX7_unlikeOf 84 = .ok (.invokestatic 412, 3) := dk_184 1 156 (dk_at dksX7_unlikeOf_3 12 rfl rfl)
theorem dX7_unlikeOf_87 : decode cX7_unlikeOf 87 = .ok (.istore 4, 2) := dk_54 4 (dk_at dksX7_unlikeOf_3 15 rfl rfl)
theorem dX7_unlikeOf_89 : decode cX7_unlikeOf 89 = .ok (.iinc 5 1, 3) := dk_132 5 1 (dk_at dksX7_unlikeOf_3 17 rfl rfl)
theorem dX7_unlikeOf_92 : decode cX7_unlikeOf 92 = .ok (.goto (-71), 3) := dk_167 255 185 (dk_at dksX7_unlikeOf_3 20 rfl rfl)
theorem dX7_unlikeOf_95 : decode cX7_unlikeOf 95 = .ok (.iload_n 3, 1) := dk_29 (dk_at dksX7_unlikeOf_3 23 rfl rfl)
theorem dX7_unlikeOf_96 : decode cX7_unlikeOf 96 = .ok (.ireturn, 1) := dk_172 (dk_at dksX7_unlikeOf_4 0 rfl rfl)
abbrev cX7_moved : ByteArray := prog_21_method_127_code
def yX7_moved : MethodName := ⟨RX7, "moved", "(III)I"⟩
def dkwX7_moved_3 : List UInt8 := [132, 4, 1, 167, 255, 188, 29, 172]
abbrev dktX7_moved_3 : List UInt8 := dkwX7_moved_3 ++ []
def dkwX7_moved_2 : List UInt8 := [21, 6, 3, 7, 184, 0, 89, 153, 0, 15, 29, 4, 8, 21, 5, 104, 21, 6, 96, 120, 128, 62]
abbrev dktX7_moved_2 : List UInt8 := dkwX7_moved_2 ++ dktX7_moved_3
def dkwX7_moved_1 : List UInt8 := [28, 96, 54, 6, 26, 21, 4, 122, 4, 126, 4, 160, 0, 35, 21, 5, 3, 7, 184, 0, 89, 153, 0, 25]
abbrev dktX7_moved_1 : List UInt8 := dkwX7_moved_1 ++ dktX7_moved_2
def dkwX7_moved_0 : List UInt8 := [3, 62, 3, 54, 4, 21, 4, 16, 25, 162, 0, 67, 21, 4, 8, 108, 27, 96, 54, 5, 21, 4, 8, 112]
abbrev dktX7_moved_0 : List UInt8 := dkwX7_moved_0 ++ dktX7_moved_1
theorem dksX7_moved_0 : cX7_moved.data.toList.drop 0 = dktX7_moved_0 := by decide +kernel
theorem dksX7_moved_1 : cX7_moved.data.toList.drop 24 = dktX7_moved_1 := dk_seg dksX7_moved_0 24 rfl rfl
theorem dksX7_moved_2 : cX7_moved.data.toList.drop 48 = dktX7_moved_2 := dk_seg dksX7_moved_1 24 rfl rfl
theorem dksX7_moved_3 : cX7_moved.data.toList.drop 70 = dktX7_moved_3 := dk_seg dksX7_moved_2 22 rfl rfl
theorem dX7_moved_0 : decode cX7_moved 0 = .ok (.iconst 0, 1) := dk_3 (dk_at dksX7_moved_0 0 rfl rfl)
theorem dX7_moved_1 : decode cX7_moved 1 = .ok (.istore_n 3, 1) := dk_62 (dk_at dksX7_moved_0 1 rfl rfl)
theorem dX7_moved_2 : decode cX7_moved 2 = .ok (.iconst 0, 1) := dk_3 (dk_at dksX7_moved_0 2 rfl rfl)
theorem dX7_moved_3 : decode cX7_moved 3 = .ok (.istore 4, 2) := dk_54 4 (dk_at dksX7_moved_0 3 rfl rfl)
theorem dX7_moved_5 : decode cX7_moved 5 = .ok (.iload 4, 2) := dk_21 4 (dk_at dksX7_moved_0 5 rfl rfl)
theorem dX7_moved_7 : decode cX7_moved 7 = .ok (.bipush 25, 2) := dk_16 25 (dk_at dksX7_moved_0 7 rfl rfl)
theorem dX7_moved_9 : decode cX7_moved 9 = .ok (.if_icmp .ge 67, 3) := dk_162 0 67 (dk_at dksX7_moved_0 9 rfl rfl)
theorem dX7_moved_12 : decode cX7_moved 12 = .ok (.iload 4, 2) := dk_21 4 (dk_at dksX7_moved_0 12 rfl rfl)
theorem dX7_moved_14 : decode cX7_moved 14 = .ok (.iconst 5, 1) := dk_8 (dk_at dksX7_moved_0 14 rfl rfl)
theorem dX7_moved_15 : decode cX7_moved 15 = .ok (.idiv, 1) := dk_108 (dk_at dksX7_moved_0 15 rfl rfl)
theorem dX7_moved_16 : decode cX7_moved 16 = .ok (.iload_n 1, 1) := dk_27 (dk_at dksX7_moved_0 16 rfl rfl)
theorem dX7_moved_17 : decode cX7_moved 17 = .ok (.iadd, 1) := dk_96 (dk_at dksX7_moved_0 17 rfl rfl)
theorem dX7_moved_18 : decode cX7_moved 18 = .ok (.istore 5, 2) := dk_54 5 (dk_at dksX7_moved_0 18 rfl rfl)
theorem dX7_moved_20 : decode cX7_moved 20 = .ok (.iload 4, 2) := dk_21 4 (dk_at dksX7_moved_0 20 rfl rfl)
theorem dX7_moved_22 : decode cX7_moved 22 = .ok (.iconst 5, 1) := dk_8 (dk_at dksX7_moved_0 22 rfl rfl)
theorem dX7_moved_23 : decode cX7_moved 23 = .ok (.irem, 1) := dk_112 (dk_at dksX7_moved_0 23 rfl rfl)
theorem dX7_moved_24 : decode cX7_moved 24 = .ok (.iload_n 2, 1) := dk_28 (dk_at dksX7_moved_1 0 rfl rfl)
theorem dX7_moved_25 : decode cX7_moved 25 = .ok (.iadd, 1) := dk_96 (dk_at dksX7_moved_1 1 rfl rfl)
theorem dX7_moved_26 : decode cX7_moved 26 = .ok (.istore 6, 2) := dk_54 6 (dk_at dksX7_moved_1 2 rfl rfl)
theorem dX7_moved_28 : decode cX7_moved 28 = .ok (.iload_n 0, 1) := dk_26 (dk_at dksX7_moved_1 4 rfl rfl)
theorem dX7_moved_29 : decode cX7_moved 29 = .ok (.iload 4, 2) := dk_21 4 (dk_at dksX7_moved_1 5 rfl rfl)
theorem dX7_moved_31 : decode cX7_moved 31 = .ok (.ishr, 1) := dk_122 (dk_at dksX7_moved_1 7 rfl rfl)
theorem dX7_moved_32 : decode cX7_moved 32 = .ok (.iconst 1, 1) := dk_4 (dk_at dksX7_moved_1 8 rfl rfl)
theorem dX7_moved_33 : decode cX7_moved 33 = .ok (.iand, 1) := dk_126 (dk_at dksX7_moved_1 9 rfl rfl)
theorem dX7_moved_34 : decode cX7_moved 34 = .ok (.iconst 1, 1) := dk_4 (dk_at dksX7_moved_1 10 rfl rfl)
theorem dX7_moved_35 : decode cX7_moved 35 = .ok (.if_icmp .ne 35, 3) := dk_160 0 35 (dk_at dksX7_moved_1 11 rfl rfl)
theorem dX7_moved_38 : decode cX7_moved 38 = .ok (.iload 5, 2) := dk_21 5 (dk_at dksX7_moved_1 14 rfl rfl)
theorem dX7_moved_40 : decode cX7_moved 40 = .ok (.iconst 0, 1) := dk_3 (dk_at dksX7_moved_1 16 rfl rfl)
theorem dX7_moved_41 : decode cX7_moved 41 = .ok (.iconst 4, 1) := dk_7 (dk_at dksX7_moved_1 17 rfl rfl)
theorem dX7_moved_42 : decode cX7_moved 42 = .ok (.invokestatic 89, 3) := dk_184 0 89 (dk_at dksX7_moved_1 18 rfl rfl)
theorem dX7_moved_45 : decode cX7_moved 45 = .ok (.ifCond .eq 25, 3) := dk_153 0 25 (dk_at dksX7_moved_1 21 rfl rfl)
theorem dX7_moved_48 : decode cX7_moved 48 = .ok (.iload 6, 2) := dk_21 6 (dk_at dksX7_moved_2 0 rfl rfl)
theorem dX7_moved_50 : decode cX7_moved 50 = .ok (.iconst 0, 1) := dk_3 (dk_at dksX7_moved_2 2 rfl rfl)
theorem dX7_moved_51 : decode cX7_moved 51 = .ok (.iconst 4, 1) := dk_7 (dk_at dksX7_moved_2 3 rfl rfl)
theorem dX7_moved_52 : decode cX7_moved 52 = .ok (.invokestatic 89, 3) := dk_184 0 89 (dk_at dksX7_moved_2 4 rfl rfl)
theorem dX7_moved_55 : decode cX7_moved 55 = .ok (.ifCond .eq 15, 3) := dk_153 0 15 (dk_at dksX7_moved_2 7 rfl rfl)
theorem dX7_moved_58 : decode cX7_moved 58 = .ok (.iload_n 3, 1) := dk_29 (dk_at dksX7_moved_2 10 rfl rfl)
theorem dX7_moved_59 : decode cX7_moved 59 = .ok (.iconst 1, 1) := dk_4 (dk_at dksX7_moved_2 11 rfl rfl)
theorem dX7_moved_60 : decode cX7_moved 60 = .ok (.iconst 5, 1) := dk_8 (dk_at dksX7_moved_2 12 rfl rfl)
theorem dX7_moved_61 : decode cX7_moved 61 = .ok (.iload 5, 2) := dk_21 5 (dk_at dksX7_moved_2 13 rfl rfl)
theorem dX7_moved_63 : decode cX7_moved 63 = .ok (.imul, 1) := dk_104 (dk_at dksX7_moved_2 15 rfl rfl)
theorem dX7_moved_64 : decode cX7_moved 64 = .ok (.iload 6, 2) := dk_21 6 (dk_at dksX7_moved_2 16 rfl rfl)
theorem dX7_moved_66 : decode cX7_moved 66 = .ok (.iadd, 1) := dk_96 (dk_at dksX7_moved_2 18 rfl rfl)
theorem dX7_moved_67 : decode cX7_moved 67 = .ok (.ishl, 1) := dk_120 (dk_at dksX7_moved_2 19 rfl rfl)
theorem dX7_moved_68 : decode cX7_moved 68 = .ok (.ior, 1) := dk_128 (dk_at dksX7_moved_2 20 rfl rfl)
theorem dX7_moved_69 : decode cX7_moved 69 = .ok (.istore_n 3, 1) := dk_62 (dk_at dksX7_moved_2 21 rfl rfl)
theorem dX7_moved_70 : decode cX7_moved 70 = .ok (.iinc 4 1, 3) := dk_132 4 1 (dk_at dksX7_moved_3 0 rfl rfl)
theorem dX7_moved_73 : decode cX7_moved 73 = .ok (.goto (-68), 3) := dk_167 255 188 (dk_at dksX7_moved_3 3 rfl rfl)
theorem dX7_moved_76 : decode cX7_moved 76 = .ok (.iload_n 3, 1) := dk_29 (dk_at dksX7_moved_3 6 rfl rfl)
theorem dX7_moved_77 : decode cX7_moved 77 = .ok (.ireturn, 1) := dk_172 (dk_at dksX7_moved_3 7 rfl rfl)
abbrev cX7_quarter : ByteArray := prog_21_method_126_code
def yX7_quarter : MethodName := ⟨RX7, "quarter", "(I)I"⟩
def dkwX7_quarter_1 : List UInt8 := [112, 104, 7, 96, 28, 8, 108, 100, 120, 167, 0, 4, 3, 128, 60, 132, 2, 1, 167, 255, 218, 27, 172]
abbrev dktX7_quarter_1 : List UInt8 := dkwX7_quarter_1 ++ []
def dkwX7_quarter_0 : List UInt8 := [3, 60, 3, 61, 28, 16, 25, 162, 0, 38, 27, 26, 28, 122, 4, 126, 4, 160, 0, 19, 4, 8, 28, 8]
abbrev dktX7_quarter_0 : List UInt8 := dkwX7_quarter_0 ++ dktX7_quarter_1
theorem dksX7_quarter_0 : cX7_quarter.data.toList.drop 0 = dktX7_quarter_0 := by decide +kernel
theorem dksX7_quarter_1 : cX7_quarter.data.toList.drop 24 = dktX7_quarter_1 := dk_seg dksX7_quarter_0 24 rfl rfl
theorem dX7_quarter_0 : decode cX7_quarter 0 = .ok (.iconst 0, 1) := dk_3 (dk_at dksX7_quarter_0 0 rfl rfl)
theorem dX7_quarter_1 : decode cX7_quarter 1 = .ok (.istore_n 1, 1) := dk_60 (dk_at dksX7_quarter_0 1 rfl rfl)
theorem dX7_quarter_2 : decode cX7_quarter 2 = .ok (.iconst 0, 1) := dk_3 (dk_at dksX7_quarter_0 2 rfl rfl)
theorem dX7_quarter_3 : decode cX7_quarter 3 = .ok (.istore_n 2, 1) := dk_61 (dk_at dksX7_quarter_0 3 rfl rfl)
theorem dX7_quarter_4 : decode cX7_quarter 4 = .ok (.iload_n 2, 1) := dk_28 (dk_at dksX7_quarter_0 4 rfl rfl)
theorem dX7_quarter_5 : decode cX7_quarter 5 = .ok (.bipush 25, 2) := dk_16 25 (dk_at dksX7_quarter_0 5 rfl rfl)
theorem dX7_quarter_7 : decode cX7_quarter 7 = .ok (.if_icmp .ge 38, 3) := dk_162 0 38 (dk_at dksX7_quarter_0 7 rfl rfl)
theorem dX7_quarter_10 : decode cX7_quarter 10 = .ok (.iload_n 1, 1) := dk_27 (dk_at dksX7_quarter_0 10 rfl rfl)
theorem dX7_quarter_11 : decode cX7_quarter 11 = .ok (.iload_n 0, 1) := dk_26 (dk_at dksX7_quarter_0 11 rfl rfl)
theorem dX7_quarter_12 : decode cX7_quarter 12 = .ok (.iload_n 2, 1) := dk_28 (dk_at dksX7_quarter_0 12 rfl rfl)
theorem dX7_quarter_13 : decode cX7_quarter 13 = .ok (.ishr, 1) := dk_122 (dk_at dksX7_quarter_0 13 rfl rfl)
theorem dX7_quarter_14 : decode cX7_quarter 14 = .ok (.iconst 1, 1) := dk_4 (dk_at dksX7_quarter_0 14 rfl rfl)
theorem dX7_quarter_15 : decode cX7_quarter 15 = .ok (.iand, 1) := dk_126 (dk_at dksX7_quarter_0 15 rfl rfl)
theorem dX7_quarter_16 : decode cX7_quarter 16 = .ok (.iconst 1, 1) := dk_4 (dk_at dksX7_quarter_0 16 rfl rfl)
theorem dX7_quarter_17 : decode cX7_quarter 17 = .ok (.if_icmp .ne 19, 3) := dk_160 0 19 (dk_at dksX7_quarter_0 17 rfl rfl)
theorem dX7_quarter_20 : decode cX7_quarter 20 = .ok (.iconst 1, 1) := dk_4 (dk_at dksX7_quarter_0 20 rfl rfl)
theorem dX7_quarter_21 : decode cX7_quarter 21 = .ok (.iconst 5, 1) := dk_8 (dk_at dksX7_quarter_0 21 rfl rfl)
theorem dX7_quarter_22 : decode cX7_quarter 22 = .ok (.iload_n 2, 1) := dk_28 (dk_at dksX7_quarter_0 22 rfl rfl)
theorem dX7_quarter_23 : decode cX7_quarter 23 = .ok (.iconst 5, 1) := dk_8 (dk_at dksX7_quarter_0 23 rfl rfl)
theorem dX7_quarter_24 : decode cX7_quarter 24 = .ok (.irem, 1) := dk_112 (dk_at dksX7_quarter_1 0 rfl rfl)
theorem dX7_quarter_25 : decode cX7_quarter 25 = .ok (.imul, 1) := dk_104 (dk_at dksX7_quarter_1 1 rfl rfl)
theorem dX7_quarter_26 : decode cX7_quarter 26 = .ok (.iconst 4, 1) := dk_7 (dk_at dksX7_quarter_1 2 rfl rfl)
theorem dX7_quarter_27 : decode cX7_quarter 27 = .ok (.iadd, 1) := dk_96 (dk_at dksX7_quarter_1 3 rfl rfl)
theorem dX7_quarter_28 : decode cX7_quarter 28 = .ok (.iload_n 2, 1) := dk_28 (dk_at dksX7_quarter_1 4 rfl rfl)
theorem dX7_quarter_29 : decode cX7_quarter 29 = .ok (.iconst 5, 1) := dk_8 (dk_at dksX7_quarter_1 5 rfl rfl)
theorem dX7_quarter_30 : decode cX7_quarter 30 = .ok (.idiv, 1) := dk_108 (dk_at dksX7_quarter_1 6 rfl rfl)
theorem dX7_quarter_31 : decode cX7_quarter 31 = .ok (.isub, 1) := dk_100 (dk_at dksX7_quarter_1 7 rfl rfl)
theorem dX7_quarter_32 : decode cX7_quarter 32 = .ok (.ishl, 1) := dk_120 (dk_at dksX7_quarter_1 8 rfl rfl)
theorem dX7_quarter_33 : decode cX7_quarter 33 = .ok (.goto 4, 3) := dk_167 0 4 (dk_at dksX7_quarter_1 9 rfl rfl)
theorem dX7_quarter_36 : decode cX7_quarter 36 = .ok (.iconst 0, 1) := dk_3 (dk_at dksX7_quarter_1 12 rfl rfl)
theorem dX7_quarter_37 : decode cX7_quarter 37 = .ok (.ior, 1) := dk_128 (dk_at dksX7_quarter_1 13 rfl rfl)
theorem dX7_quarter_38 : decode cX7_quarter 38 = .ok (.istore_n 1, 1) := dk_60 (dk_at dksX7_quarter_1 14 rfl rfl)
theorem dX7_quarter_39 : decode cX7_quarter 39 = .ok (.iinc 2 1, 3) := dk_132 2 1 (dk_at dksX7_quarter_1 15 rfl rfl)
theorem dX7_quarter_42 : decode cX7_quarter 42 = .ok (.goto (-38), 3) := dk_167 255 218 (dk_at dksX7_quarter_1 18 rfl rfl)
theorem dX7_quarter_45 : decode cX7_quarter 45 = .ok (.iload_n 1, 1) := dk_27 (dk_at dksX7_quarter_1 21 rfl rfl)
theorem dX7_quarter_46 : decode cX7_quarter 46 = .ok (.ireturn, 1) := dk_172 (dk_at dksX7_quarter_1 22 rfl rfl)
abbrev cX7_near : ByteArray := prog_21_method_130_code
def yX7_near : MethodName := ⟨RX7, "near", "(I)I"⟩
def dkwX7_near_2 : List UInt8 := [167, 255, 222, 28, 172]
abbrev dktX7_near_2 : List UInt8 := dkwX7_near_2 ++ []
def dkwX7_near_1 : List UInt8 := [28, 155, 0, 18, 42, 27, 29, 182, 1, 159, 42, 27, 28, 182, 1, 159, 162, 0, 5, 29, 61, 132, 3, 1]
abbrev dktX7_near_1 : List UInt8 := dkwX7_near_1 ++ dktX7_near_2
def dkwX7_near_0 : List UInt8 := [42, 27, 182, 0, 202, 154, 0, 5, 2, 172, 2, 61, 3, 62, 29, 42, 180, 0, 7, 3, 46, 162, 0, 30]
abbrev dktX7_near_0 : List UInt8 := dkwX7_near_0 ++ dktX7_near_1
theorem dksX7_near_0 : cX7_near.data.toList.drop 0 = dktX7_near_0 := by decide +kernel
theorem dksX7_near_1 : cX7_near.data.toList.drop 24 = dktX7_near_1 := dk_seg dksX7_near_0 24 rfl rfl
theorem dksX7_near_2 : cX7_near.data.toList.drop 48 = dktX7_near_2 := dk_seg dksX7_near_1 24 rfl rfl
theorem dX7_near_0 : decode cX7_near 0 = .ok (.aload_n 0, 1) := dk_42 (dk_at dksX7_near_0 0 rfl rfl)
theorem dX7_near_1 : decode cX7_near 1 = .ok (.iload_n 1, 1) := dk_27 (dk_at dksX7_near_0 1 rfl rfl)
theorem dX7_near_2 : decode cX7_near 2 = .ok (.invokevirtual 202, 3) := dk_182 0 202 (dk_at dksX7_near_0 2 rfl rfl)
theorem dX7_near_5 : decode cX7_near 5 = .ok (.ifCond .ne 5, 3) := dk_154 0 5 (dk_at dksX7_near_0 5 rfl rfl)
theorem dX7_near_8 : decode cX7_near 8 = .ok (.iconst (-1), 1) := dk_2 (dk_at dksX7_near_0 8 rfl rfl)
theorem dX7_near_9 : decode cX7_near 9 = .ok (.ireturn, 1) := dk_172 (dk_at dksX7_near_0 9 rfl rfl)
theorem dX7_near_10 : decode cX7_near 10 = .ok (.iconst (-1), 1) := dk_2 (dk_at dksX7_near_0 10 rfl rfl)
theorem dX7_near_11 : decode cX7_near 11 = .ok (.istore_n 2, 1) := dk_61 (dk_at dksX7_near_0 11 rfl rfl)
theorem dX7_near_12 : decode cX7_near 12 = .ok (.iconst 0, 1) := dk_3 (dk_at dksX7_near_0 12 rfl rfl)
theorem dX7_near_13 : decode cX7_near 13 = .ok (.istore_n 3, 1) := dk_62 (dk_at dksX7_near_0 13 rfl rfl)
theorem dX7_near_14 : decode cX7_near 14 = .ok (.iload_n 3, 1) := dk_29 (dk_at dksX7_near_0 14 rfl rfl)
theorem dX7_near_15 : decode cX7_near 15 = .ok (.aload_n 0, 1) := dk_42 (dk_at dksX7_near_0 15 rfl rfl)
theorem dX7_near_16 : decode cX7_near 16 = .ok (.getfield 7, 3) := dk_180 0 7 (dk_at dksX7_near_0 16 rfl rfl)
theorem dX7_near_19 : decode cX7_near 19 = .ok (.iconst 0, 1) := dk_3 (dk_at dksX7_near_0 19 rfl rfl)
theorem dX7_near_20 : decode cX7_near 20 = .ok (.iaload, 1) := dk_46 (dk_at dksX7_near_0 20 rfl rfl)
theorem dX7_near_21 : decode cX7_near 21 = .ok (.if_icmp .ge 30, 3) := dk_162 0 30 (dk_at dksX7_near_0 21 rfl rfl)
theorem dX7_near_24 : decode cX7_near 24 = .ok (.iload_n 2, 1) := dk_28 (dk_at dksX7_near_1 0 rfl rfl)
theorem dX7_near_25 : decode cX7_near 25 = .ok (.ifCond .lt 18, 3) := dk_155 0 18 (dk_at dksX7_near_1 1 rfl rfl)
theorem dX7_near_28 : decode cX7_near 28 = .ok (.aload_n 0, 1) := dk_42 (dk_at dksX7_near_1 4 rfl rfl)
theorem dX7_near_29 : decode cX7_near 29 = .ok (.iload_n 1, 1) := dk_27 (dk_at dksX7_near_1 5 rfl rfl)
theorem dX7_near_30 : decode cX7_near 30 = .ok (.iload_n 3, 1) := dk_29 (dk_at dksX7_near_1 6 rfl rfl)
theorem dX7_near_31 : decode cX7_near 31 = .ok (.invokevirtual 415, 3) := dk_182 1 159 (dk_at dksX7_near_1 7 rfl rfl)
theorem dX7_near_34 : decode cX7_near 34 = .ok (.aload_n 0, 1) := dk_42 (dk_at dksX7_near_1 10 rfl rfl)
theorem dX7_near_35 : decode cX7_near 35 = .ok (.iload_n 1, 1) := dk_27 (dk_at dksX7_near_1 11 rfl rfl)
theorem dX7_near_36 : decode cX7_near 36 = .ok (.iload_n 2, 1) := dk_28 (dk_at dksX7_near_1 12 rfl rfl)
theorem dX7_near_37 : decode cX7_near 37 = .ok (.invokevirtual 415, 3) := dk_182 1 159 (dk_at dksX7_near_1 13 rfl rfl)
theorem dX7_near_40 : decode cX7_near 40 = .ok (.if_icmp .ge 5, 3) := dk_162 0 5 (dk_at dksX7_near_1 16 rfl rfl)
theorem dX7_near_43 : decode cX7_near 43 = .ok (.iload_n 3, 1) := dk_29 (dk_at dksX7_near_1 19 rfl rfl)
theorem dX7_near_44 : decode cX7_near 44 = .ok (.istore_n 2, 1) := dk_61 (dk_at dksX7_near_1 20 rfl rfl)
theorem dX7_near_45 : decode cX7_near 45 = .ok (.iinc 3 1, 3) := dk_132 3 1 (dk_at dksX7_near_1 21 rfl rfl)
theorem dX7_near_48 : decode cX7_near 48 = .ok (.goto (-34), 3) := dk_167 255 222 (dk_at dksX7_near_2 0 rfl rfl)
theorem dX7_near_51 : decode cX7_near 51 = .ok (.iload_n 2, 1) := dk_28 (dk_at dksX7_near_2 3 rfl rfl)
theorem dX7_near_52 : decode cX7_near 52 = .ok (.ireturn, 1) := dk_172 (dk_at dksX7_near_2 4 rfl rfl)
abbrev cX7_count : ByteArray := prog_21_method_131_code
def yX7_count : MethodName := ⟨RX7, "count", "(I)I"⟩
def dkwX7_count_6 : List UInt8 := [16, 10, 27, 96, 16, 30, 100, 46, 167, 0, 5, 16, 254, 172]
abbrev dktX7_count_6 : List UInt8 := dkwX7_count_6 ++ []
def dkwX7_count_5 : List UInt8 := [100, 184, 0, 97, 16, 13, 96, 46, 172, 27, 16, 30, 16, 37, 184, 0, 89, 153, 0, 18, 42, 180, 0, 7]
abbrev dktX7_count_5 : List UInt8 := dkwX7_count_5 ++ dktX7_count_6
def dkwX7_count_4 : List UInt8 := [16, 20, 16, 19, 42, 180, 0, 7, 3, 46, 96, 184, 0, 89, 153, 0, 19, 42, 180, 0, 7, 27, 16, 20]
abbrev dktX7_count_4 : List UInt8 := dkwX7_count_4 ++ dktX7_count_5
def dkwX7_count_3 : List UInt8 := [184, 0, 89, 153, 0, 19, 42, 180, 0, 7, 27, 16, 10, 100, 184, 0, 93, 16, 15, 96, 46, 172, 27]
abbrev dktX7_count_3 : List UInt8 := dkwX7_count_3 ++ dktX7_count_4
def dkwX7_count_2 : List UInt8 := [16, 8, 160, 0, 9, 42, 2, 182, 1, 143, 172, 27, 16, 10, 16, 9, 42, 180, 0, 7, 4, 46, 96]
abbrev dktX7_count_2 : List UInt8 := dkwX7_count_2 ++ dktX7_count_3
def dkwX7_count_1 : List UInt8 := [180, 0, 7, 17, 19, 142, 46, 172, 27, 16, 7, 160, 0, 12, 42, 180, 0, 7, 17, 19, 143, 46, 172, 27]
abbrev dktX7_count_1 : List UInt8 := dkwX7_count_1 ++ dktX7_count_2
def dkwX7_count_0 : List UInt8 := [27, 3, 8, 184, 0, 89, 153, 0, 10, 42, 180, 0, 7, 27, 46, 172, 27, 16, 6, 160, 0, 12, 42]
abbrev dktX7_count_0 : List UInt8 := dkwX7_count_0 ++ dktX7_count_1
theorem dksX7_count_0 : cX7_count.data.toList.drop 0 = dktX7_count_0 := by decide +kernel
theorem dksX7_count_1 : cX7_count.data.toList.drop 23 = dktX7_count_1 := dk_seg dksX7_count_0 23 rfl rfl
theorem dksX7_count_2 : cX7_count.data.toList.drop 47 = dktX7_count_2 := dk_seg dksX7_count_1 24 rfl rfl
theorem dksX7_count_3 : cX7_count.data.toList.drop 70 = dktX7_count_3 := dk_seg dksX7_count_2 23 rfl rfl
theorem dksX7_count_4 : cX7_count.data.toList.drop 93 = dktX7_count_4 := dk_seg dksX7_count_3 23 rfl rfl
theorem dksX7_count_5 : cX7_count.data.toList.drop 117 = dktX7_count_5 := dk_seg dksX7_count_4 24 rfl rfl
theorem dksX7_count_6 : cX7_count.data.toList.drop 141 = dktX7_count_6 := dk_seg dksX7_count_5 24 rfl rfl
theorem dX7_count_0 : decode cX7_count 0 = .ok (.iload_n 1, 1) := dk_27 (dk_at dksX7_count_0 0 rfl rfl)
theorem dX7_count_1 : decode cX7_count 1 = .ok (.iconst 0, 1) := dk_3 (dk_at dksX7_count_0 1 rfl rfl)
theorem dX7_count_2 : decode cX7_count 2 = .ok (.iconst 5, 1) := dk_8 (dk_at dksX7_count_0 2 rfl rfl)
theorem dX7_count_3 : decode cX7_count 3 = .ok (.invokestatic 89, 3) := dk_184 0 89 (dk_at dksX7_count_0 3 rfl rfl)
theorem dX7_count_6 : decode cX7_count 6 = .ok (.ifCond .eq 10, 3) := dk_153 0 10 (dk_at dksX7_count_0 6 rfl rfl)
theorem dX7_count_9 : decode cX7_count 9 = .ok (.aload_n 0, 1) := dk_42 (dk_at dksX7_count_0 9 rfl rfl)
theorem dX7_count_10 : decode cX7_count 10 = .ok (.getfield 7, 3) := dk_180 0 7 (dk_at dksX7_count_0 10 rfl rfl)
theorem dX7_count_13 : decode cX7_count 13 = .ok (.iload_n 1, 1) := dk_27 (dk_at dksX7_count_0 13 rfl rfl)
theorem dX7_count_14 : decode cX7_count 14 = .ok (.iaload, 1) := dk_46 (dk_at dksX7_count_0 14 rfl rfl)
theorem dX7_count_15 : decode cX7_count 15 = .ok (.ireturn, 1) := dk_172 (dk_at dksX7_count_0 15 rfl rfl)
theorem dX7_count_16 : decode cX7_count 16 = .ok (.iload_n 1, 1) := dk_27 (dk_at dksX7_count_0 16 rfl rfl)
theorem dX7_count_17 : decode cX7_count 17 = .ok (.bipush 6, 2) := dk_16 6 (dk_at dksX7_count_0 17 rfl rfl)
theorem dX7_count_19 : decode cX7_count 19 = .ok (.if_icmp .ne 12, 3) := dk_160 0 12 (dk_at dksX7_count_0 19 rfl rfl)
theorem dX7_count_22 : decode cX7_count 22 = .ok (.aload_n 0, 1) := dk_42 (dk_at dksX7_count_0 22 rfl rfl)
theorem dX7_count_23 : decode cX7_count 23 = .ok (.getfield 7, 3) := dk_180 0 7 (dk_at dksX7_count_1 0 rfl rfl)
theorem dX7_count_26 : decode cX7_count 26 = .ok (.sipush 5006, 3) := dk_17 19 142 (dk_at dksX7_count_1 3 rfl rfl)
theorem dX7_count_29 : decode cX7_count 29 = .ok (.iaload, 1) := dk_46 (dk_at dksX7_count_1 6 rfl rfl)
theorem dX7_count_30 : decode cX7_count 30 = .ok (.ireturn, 1) := dk_172 (dk_at dksX7_count_1 7 rfl rfl)
theorem dX7_count_31 : decode cX7_count 31 = .ok (.iload_n 1, 1) := dk_27 (dk_at dksX7_count_1 8 rfl rfl)
theorem dX7_count_32 : decode cX7_count 32 = .ok (.bipush 7, 2) := dk_16 7 (dk_at dksX7_count_1 9 rfl rfl)
theorem dX7_count_34 : decode cX7_count 34 = .ok (.if_icmp .ne 12, 3) := dk_160 0 12 (dk_at dksX7_count_1 11 rfl rfl)
theorem dX7_count_37 : decode cX7_count 37 = .ok (.aload_n 0, 1) := dk_42 (dk_at dksX7_count_1 14 rfl rfl)
theorem dX7_count_38 : decode cX7_count 38 = .ok (.getfield 7, 3) := dk_180 0 7 (dk_at dksX7_count_1 15 rfl rfl)
theorem dX7_count_41 : decode cX7_count 41 = .ok (.sipush 5007, 3) := dk_17 19 143 (dk_at dksX7_count_1 18 rfl rfl)
theorem dX7_count_44 : decode cX7_count 44 = .ok (.iaload, 1) := dk_46 (dk_at dksX7_count_1 21 rfl rfl)
theorem dX7_count_45 : decode cX7_count 45 = .ok (.ireturn, 1) := dk_172 (dk_at dksX7_count_1 22 rfl rfl)
theorem dX7_count_46 : decode cX7_count 46 = .ok (.iload_n 1, 1) := dk_27 (dk_at dksX7_count_1 23 rfl rfl)
theorem dX7_count_47 : decode cX7_count 47 = .ok (.bipush 8, 2) := dk_16 8 (dk_at dksX7_count_2 0 rfl rfl)
theorem dX7_count_49 : decode cX7_count 49 = .ok (.if_icmp .ne 9, 3) := dk_160 0 9 (dk_at dksX7_count_2 2 rfl rfl)
theorem dX7_count_52 : decode cX7_count 52 = .ok (.aload_n 0, 1) := dk_42 (dk_at dksX7_count_2 5 rfl rfl)
theorem dX7_count_53 : decode cX7_count 53 = .ok (.iconst (-1), 1) := dk_2 (dk_at dksX7_count_2 6 rfl rfl)
theorem dX7_count_54 : decode cX7_count 54 = .ok (.invokevirtual 399, 3) := dk_182 1 143 (dk_at dksX7_count_2 7 rfl rfl)
theorem dX7_count_57 : decode cX7_count 57 = .ok (.ireturn, 1) := dk_172 (dk_at dksX7_count_2 10 rfl rfl)
theorem dX7_count_58 : decode cX7_count 58 = .ok (.iload_n 1, 1) := dk_27 (dk_at dksX7_count_2 11 rfl rfl)
theorem dX7_count_59 : decode cX7_count 59 = .ok (.bipush 10, 2) := dk_16 10 (dk_at dksX7_count_2 12 rfl rfl)
theorem dX7_count_61 : decode cX7_count 61 = .ok (.bipush 9, 2) := dk_16 9 (dk_at dksX7_count_2 14 rfl rfl)
theorem dX7_count_63 : decode cX7_count 63 = .ok (.aload_n 0, 1) := dk_42 (dk_at dksX7_count_2 16 rfl rfl)
theorem dX7_count_64 : decode cX7_count 64 = .ok (.getfield 7, 3) := dk_180 0 7 (dk_at dksX7_count_2 17 rfl rfl)
theorem dX7_count_67 : decode cX7_count 67 = .ok (.iconst 1, 1) := dk_4 (dk_at dksX7_count_2 20 rfl rfl)
theorem dX7_count_68 : decode cX7_count 68 = .ok (.iaload, 1) := dk_46 (dk_at dksX7_count_2 21 rfl rfl)
theorem dX7_count_69 : decode cX7_count 69 = .ok (.iadd, 1) := dk_96 (dk_at dksX7_count_2 22 rfl rfl)
theorem dX7_count_70 : decode cX7_count 70 = .ok (.invokestatic 89, 3) := dk_184 0 89 (dk_at dksX7_count_3 0 rfl rfl)
theorem dX7_count_73 : decode cX7_count 73 = .ok (.ifCond .eq 19, 3) := dk_153 0 19 (dk_at dksX7_count_3 3 rfl rfl)
theorem dX7_count_76 : decode cX7_count 76 = .ok (.aload_n 0, 1) := dk_42 (dk_at dksX7_count_3 6 rfl rfl)
theorem dX7_count_77 : decode cX7_count 77 = .ok (.getfield 7, 3) := dk_180 0 7 (dk_at dksX7_count_3 7 rfl rfl)
theorem dX7_count_80 : decode cX7_count 80 = .ok (.iload_n 1, 1) := dk_27 (dk_at dksX7_count_3 10 rfl rfl)
theorem dX7_count_81 : decode cX7_count 81 = .ok (.bipush 10, 2) := dk_16 10 (dk_at dksX7_count_3 11 rfl rfl)
theorem dX7_count_83 : decode cX7_count 83 = .ok (.isub, 1) := dk_100 (dk_at dksX7_count_3 13 rfl rfl)
theorem dX7_count_84 : decode cX7_count 84 = .ok (.invokestatic 93, 3) := dk_184 0 93 (dk_at dksX7_count_3 14 rfl rfl)
theorem dX7_count_87 : decode cX7_count 87 = .ok (.bipush 15, 2) := dk_16 15 (dk_at dksX7_count_3 17 rfl rfl)
theorem dX7_count_89 : decode cX7_count 89 = .ok (.iadd, 1) := dk_96 (dk_at dksX7_count_3 19 rfl rfl)
theorem dX7_count_90 : decode cX7_count 90 = .ok (.iaload, 1) := dk_46 (dk_at dksX7_count_3 20 rfl rfl)
theorem dX7_count_91 : decode cX7_count 91 = .ok (.ireturn, 1) := dk_172 (dk_at dksX7_count_3 21 rfl rfl)
theorem dX7_count_92 : decode cX7_count 92 = .ok (.iload_n 1, 1) := dk_27 (dk_at dksX7_count_3 22 rfl rfl)
theorem dX7_count_93 : decode cX7_count 93 = .ok (.bipush 20, 2) := dk_16 20 (dk_at dksX7_count_4 0 rfl rfl)
theorem dX7_count_95 : decode cX7_count 95 = .ok (.bipush 19, 2) := dk_16 19 (dk_at dksX7_count_4 2 rfl rfl)
theorem dX7_count_97 : decode cX7_count 97 = .ok (.aload_n 0, 1) := dk_42 (dk_at dksX7_count_4 4 rfl rfl)
theorem dX7_count_98 : decode cX7_count 98 = .ok (.getfield 7, 3) := dk_180 0 7 (dk_at dksX7_count_4 5 rfl rfl)
theorem dX7_count_101 : decode cX7_count 101 = .ok (.iconst 0, 1) := dk_3 (dk_at dksX7_count_4 8 rfl rfl)
theorem dX7_count_102 : decode cX7_count 102 = .ok (.iaload, 1) := dk_46 (dk_at dksX7_count_4 9 rfl rfl)
theorem dX7_count_103 : decode cX7_count 103 = .ok (.iadd, 1) := dk_96 (dk_at dksX7_count_4 10 rfl rfl)
theorem dX7_count_104 : decode cX7_count 104 = .ok (.invokestatic 89, 3) := dk_184 0 89 (dk_at dksX7_count_4 11 rfl rfl)
theorem dX7_count_107 : decode cX7_count 107 = .ok (.ifCond .eq 19, 3) := dk_153 0 19 (dk_at dksX7_count_4 14 rfl rfl)
theorem dX7_count_110 : decode cX7_count 110 = .ok (.aload_n 0, 1) := dk_42 (dk_at dksX7_count_4 17 rfl rfl)
theorem dX7_count_111 : decode cX7_count 111 = .ok (.getfield 7, 3) := dk_180 0 7 (dk_at dksX7_count_4 18 rfl rfl)
theorem dX7_count_114 : decode cX7_count 114 = .ok (.iload_n 1, 1) := dk_27 (dk_at dksX7_count_4 21 rfl rfl)
theorem dX7_count_115 : decode cX7_count 115 = .ok (.bipush 20, 2) := dk_16 20 (dk_at dksX7_count_4 22 rfl rfl)
theorem dX7_count_117 : decode cX7_count 117 = .ok (.isub, 1) := dk_100 (dk_at dksX7_count_5 0 rfl rfl)
theorem dX7_count_118 : decode cX7_count 118 = .ok (.invokestatic 97, 3) := dk_184 0 97 (dk_at dksX7_count_5 1 rfl rfl)
theorem dX7_count_121 : decode cX7_count 121 = .ok (.bipush 13, 2) := dk_16 13 (dk_at dksX7_count_5 4 rfl rfl)
theorem dX7_count_123 : decode cX7_count 123 = .ok (.iadd, 1) := dk_96 (dk_at dksX7_count_5 6 rfl rfl)
theorem dX7_count_124 : decode cX7_count 124 = .ok (.iaload, 1) := dk_46 (dk_at dksX7_count_5 7 rfl rfl)
theorem dX7_count_125 : decode cX7_count 125 = .ok (.ireturn, 1) := dk_172 (dk_at dksX7_count_5 8 rfl rfl)
theorem dX7_count_126 : decode cX7_count 126 = .ok (.iload_n 1, 1) := dk_27 (dk_at dksX7_count_5 9 rfl rfl)
theorem dX7_count_127 : decode cX7_count 127 = .ok (.bipush 30, 2) := dk_16 30 (dk_at dksX7_count_5 10 rfl rfl)
theorem dX7_count_129 : decode cX7_count 129 = .ok (.bipush 37, 2) := dk_16 37 (dk_at dksX7_count_5 12 rfl rfl)
theorem dX7_count_131 : decode cX7_count 131 = .ok (.invokestatic 89, 3) := dk_184 0 89 (dk_at dksX7_count_5 14 rfl rfl)
theorem dX7_count_134 : decode cX7_count 134 = .ok (.ifCond .eq 18, 3) := dk_153 0 18 (dk_at dksX7_count_5 17 rfl rfl)
theorem dX7_count_137 : decode cX7_count 137 = .ok (.aload_n 0, 1) := dk_42 (dk_at dksX7_count_5 20 rfl rfl)
theorem dX7_count_138 : decode cX7_count 138 = .ok (.getfield 7, 3) := dk_180 0 7 (dk_at dksX7_count_5 21 rfl rfl)
theorem dX7_count_141 : decode cX7_count 141 = .ok (.bipush 10, 2) := dk_16 10 (dk_at dksX7_count_6 0 rfl rfl)
theorem dX7_count_143 : decode cX7_count 143 = .ok (.iload_n 1, 1) := dk_27 (dk_at dksX7_count_6 2 rfl rfl)
theorem dX7_count_144 : decode cX7_count 144 = .ok (.iadd, 1) := dk_96 (dk_at dksX7_count_6 3 rfl rfl)
theorem dX7_count_145 : decode cX7_count 145 = .ok (.bipush 30, 2) := dk_16 30 (dk_at dksX7_count_6 4 rfl rfl)
theorem dX7_count_147 : decode cX7_count 147 = .ok (.isub, 1) := dk_100 (dk_at dksX7_count_6 6 rfl rfl)
theorem dX7_count_148 : decode cX7_count 148 = .ok (.iaload, 1) := dk_46 (dk_at dksX7_count_6 7 rfl rfl)
theorem dX7_count_149 : decode cX7_count 149 = .ok (.goto 5, 3) := dk_167 0 5 (dk_at dksX7_count_6 8 rfl rfl)
theorem dX7_count_152 : decode cX7_count 152 = .ok (.bipush (-2), 2) := dk_16 254 (dk_at dksX7_count_6 11 rfl rfl)
theorem dX7_count_154 : decode cX7_count 154 = .ok (.ireturn, 1) := dk_172 (dk_at dksX7_count_6 13 rfl rfl)
abbrev cX7_image : ByteArray := prog_21_method_132_code
def yX7_image : MethodName := ⟨RX7, "image", "(I)Z"⟩
def dkwX7_image_2 : List UInt8 := [132, 2, 1, 167, 255, 226, 4, 172]
abbrev dktX7_image_2 : List UInt8 := dkwX7_image_2 ++ []
def dkwX7_image_1 : List UInt8 := [162, 0, 29, 42, 180, 0, 7, 17, 21, 144, 27, 4, 96, 104, 28, 96, 42, 180, 0, 7, 28, 46, 79]
abbrev dktX7_image_1 : List UInt8 := dkwX7_image_1 ++ dktX7_image_2
def dkwX7_image_0 : List UInt8 := [27, 3, 5, 184, 0, 89, 154, 0, 5, 3, 172, 42, 180, 0, 13, 27, 4, 84, 3, 61, 28, 17, 21, 144]
abbrev dktX7_image_0 : List UInt8 := dkwX7_image_0 ++ dktX7_image_1
theorem dksX7_image_0 : cX7_image.data.toList.drop 0 = dktX7_image_0 := by decide +kernel
theorem dksX7_image_1 : cX7_image.data.toList.drop 24 = dktX7_image_1 := dk_seg dksX7_image_0 24 rfl rfl
theorem dksX7_image_2 : cX7_image.data.toList.drop 47 = dktX7_image_2 := dk_seg dksX7_image_1 23 rfl rfl
theorem dX7_image_0 : decode cX7_image 0 = .ok (.iload_n 1, 1) := dk_27 (dk_at dksX7_image_0 0 rfl rfl)
theorem dX7_image_1 : decode cX7_image 1 = .ok (.iconst 0, 1) := dk_3 (dk_at dksX7_image_0 1 rfl rfl)
theorem dX7_image_2 : decode cX7_image 2 = .ok (.iconst 2, 1) := dk_5 (dk_at dksX7_image_0 2 rfl rfl)
theorem dX7_image_3 : decode cX7_image 3 = .ok (.invokestatic 89, 3) := dk_184 0 89 (dk_at dksX7_image_0 3 rfl rfl)
theorem dX7_image_6 : decode cX7_image 6 = .ok (.ifCond .ne 5, 3) := dk_154 0 5 (dk_at dksX7_image_0 6 rfl rfl)
theorem dX7_image_9 : decode cX7_image 9 = .ok (.iconst 0, 1) := dk_3 (dk_at dksX7_image_0 9 rfl rfl)
theorem dX7_image_10 : decode cX7_image 10 = .ok (.ireturn, 1) := dk_172 (dk_at dksX7_image_0 10 rfl rfl)
theorem dX7_image_11 : decode cX7_image 11 = .ok (.aload_n 0, 1) := dk_42 (dk_at dksX7_image_0 11 rfl rfl)
theorem dX7_image_12 : decode cX7_image 12 = .ok (.getfield 13, 3) := dk_180 0 13 (dk_at dksX7_image_0 12 rfl rfl)
theorem dX7_image_15 : decode cX7_image 15 = .ok (.iload_n 1, 1) := dk_27 (dk_at dksX7_image_0 15 rfl rfl)
theorem dX7_image_16 : decode cX7_image 16 = .ok (.iconst 1, 1) := dk_4 (dk_at dksX7_image_0 16 rfl rfl)
theorem dX7_image_17 : decode cX7_image 17 = .ok (.bastore, 1) := dk_84 (dk_at dksX7_image_0 17 rfl rfl)
theorem dX7_image_18 : decode cX7_image 18 = .ok (.iconst 0, 1) := dk_3 (dk_at dksX7_image_0 18 rfl rfl)
theorem dX7_image_19 : decode cX7_image 19 = .ok (.istore_n 2, 1) := dk_61 (dk_at dksX7_image_0 19 rfl rfl)
theorem dX7_image_20 : decode cX7_image 20 = .ok (.iload_n 2, 1) := dk_28 (dk_at dksX7_image_0 20 rfl rfl)
theorem dX7_image_21 : decode cX7_image 21 = .ok (.sipush 5520, 3) := dk_17 21 144 (dk_at dksX7_image_0 21 rfl rfl)
theorem dX7_image_24 : decode cX7_image 24 = .ok (.if_icmp .ge 29, 3) := dk_162 0 29 (dk_at dksX7_image_1 0 rfl rfl)
theorem dX7_image_27 : decode cX7_image 27 = .ok (.aload_n 0, 1) := dk_42 (dk_at dksX7_image_1 3 rfl rfl)
theorem dX7_image_28 : decode cX7_image 28 = .ok (.getfield 7, 3) := dk_180 0 7 (dk_at dksX7_image_1 4 rfl rfl)
theorem dX7_image_31 : decode cX7_image 31 = .ok (.sipush 5520, 3) := dk_17 21 144 (dk_at dksX7_image_1 7 rfl rfl)
theorem dX7_image_34 : decode cX7_image 34 = .ok (.iload_n 1, 1) := dk_27 (dk_at dksX7_image_1 10 rfl rfl)
theorem dX7_image_35 : decode cX7_image 35 = .ok (.iconst 1, 1) := dk_4 (dk_at dksX7_image_1 11 rfl rfl)
theorem dX7_image_36 : decode cX7_image 36 = .ok (.iadd, 1) := dk_96 (dk_at dksX7_image_1 12 rfl rfl)
theorem dX7_image_37 : decode cX7_image 37 = .ok (.imul, 1) := dk_104 (dk_at dksX7_image_1 13 rfl rfl)
theorem dX7_image_38 : decode cX7_image 38 = .ok (.iload_n 2, 1) := dk_28 (dk_at dksX7_image_1 14 rfl rfl)
theorem dX7_image_39 : decode cX7_image 39 = .ok (.iadd, 1) := dk_96 (dk_at dksX7_image_1 15 rfl rfl)
theorem dX7_image_40 : decode cX7_image 40 = .ok (.aload_n 0, 1) := dk_42 (dk_at dksX7_image_1 16 rfl rfl)
theorem dX7_image_41 : decode cX7_image 41 = .ok (.getfield 7, 3) := dk_180 0 7 (dk_at dksX7_image_1 17 rfl rfl)
theorem dX7_image_44 : decode cX7_image 44 = .ok (.iload_n 2, 1) := dk_28 (dk_at dksX7_image_1 20 rfl rfl)
theorem dX7_image_45 : decode cX7_image 45 = .ok (.iaload, 1) := dk_46 (dk_at dksX7_image_1 21 rfl rfl)
theorem dX7_image_46 : decode cX7_image 46 = .ok (.iastore, 1) := dk_79 (dk_at dksX7_image_1 22 rfl rfl)
theorem dX7_image_47 : decode cX7_image 47 = .ok (.iinc 2 1, 3) := dk_132 2 1 (dk_at dksX7_image_2 0 rfl rfl)
theorem dX7_image_50 : decode cX7_image 50 = .ok (.goto (-30), 3) := dk_167 255 226 (dk_at dksX7_image_2 3 rfl rfl)
theorem dX7_image_53 : decode cX7_image 53 = .ok (.iconst 1, 1) := dk_4 (dk_at dksX7_image_2 6 rfl rfl)
theorem dX7_image_54 : decode cX7_image 54 = .ok (.ireturn, 1) := dk_172 (dk_at dksX7_image_2 7 rfl rfl)
abbrev cX7_again : ByteArray := prog_21_method_133_code
def yX7_again : MethodName := ⟨RX7, "again", "(I)Z"⟩
def dkwX7_again_2 : List UInt8 := [46, 79, 132, 2, 1, 167, 255, 226, 4, 172]
abbrev dktX7_again_2 : List UInt8 := dkwX7_again_2 ++ []
def dkwX7_again_1 : List UInt8 := [17, 21, 144, 162, 0, 29, 42, 180, 0, 7, 28, 42, 180, 0, 7, 17, 21, 144, 27, 4, 96, 104, 28, 96]
abbrev dktX7_again_1 : List UInt8 := dkwX7_again_1 ++ dktX7_again_2
def dkwX7_again_0 : List UInt8 := [27, 3, 5, 184, 0, 89, 153, 0, 12, 42, 180, 0, 13, 27, 51, 154, 0, 5, 3, 172, 3, 61, 28]
abbrev dktX7_again_0 : List UInt8 := dkwX7_again_0 ++ dktX7_again_1
theorem dksX7_again_0 : cX7_again.data.toList.drop 0 = dktX7_again_0 := by decide +kernel
theorem dksX7_again_1 : cX7_again.data.toList.drop 23 = dktX7_again_1 := dk_seg dksX7_again_0 23 rfl rfl
theorem dksX7_again_2 : cX7_again.data.toList.drop 47 = dktX7_again_2 := dk_seg dksX7_again_1 24 rfl rfl
theorem dX7_again_0 : decode cX7_again 0 = .ok (.iload_n 1, 1) := dk_27 (dk_at dksX7_again_0 0 rfl rfl)
theorem dX7_again_1 : decode cX7_again 1 = .ok (.iconst 0, 1) := dk_3 (dk_at dksX7_again_0 1 rfl rfl)
theorem dX7_again_2 : decode cX7_again 2 = .ok (.iconst 2, 1) := dk_5 (dk_at dksX7_again_0 2 rfl rfl)
theorem dX7_again_3 : decode cX7_again 3 = .ok (.invokestatic 89, 3) := dk_184 0 89 (dk_at dksX7_again_0 3 rfl rfl)
theorem dX7_again_6 : decode cX7_again 6 = .ok (.ifCond .eq 12, 3) := dk_153 0 12 (dk_at dksX7_again_0 6 rfl rfl)
theorem dX7_again_9 : decode cX7_again 9 = .ok (.aload_n 0, 1) := dk_42 (dk_at dksX7_again_0 9 rfl rfl)
theorem dX7_again_10 : decode cX7_again 10 = .ok (.getfield 13, 3) := dk_180 0 13 (dk_at dksX7_again_0 10 rfl rfl)
theorem dX7_again_13 : decode cX7_again 13 = .ok (.iload_n 1, 1) := dk_27 (dk_at dksX7_again_0 13 rfl rfl)
theorem dX7_again_14 : decode cX7_again 14 = .ok (.baload, 1) := dk_51 (dk_at dksX7_again_0 14 rfl rfl)
theorem dX7_again_15 : decode cX7_again 15 = .ok (.ifCond .ne 5, 3) := dk_154 0 5 (dk_at dksX7_again_0 15 rfl rfl)
theorem dX7_again_18 : decode cX7_again 18 = .ok (.iconst 0, 1) := dk_3 (dk_at dksX7_again_0 18 rfl rfl)
theorem dX7_again_19 : decode cX7_again 19 = .ok (.ireturn, 1) := dk_172 (dk_at dksX7_again_0 19 rfl rfl)
theorem dX7_again_20 : decode cX7_again 20 = .ok (.iconst 0, 1) := dk_3 (dk_at dksX7_again_0 20 rfl rfl)
theorem dX7_again_21 : decode cX7_again 21 = .ok (.istore_n 2, 1) := dk_61 (dk_at dksX7_again_0 21 rfl rfl)
theorem dX7_again_22 : decode cX7_again 22 = .ok (.iload_n 2, 1) := dk_28 (dk_at dksX7_again_0 22 rfl rfl)
theorem dX7_again_23 : decode cX7_again 23 = .ok (.sipush 5520, 3) := dk_17 21 144 (dk_at dksX7_again_1 0 rfl rfl)
theorem dX7_again_26 : decode cX7_again 26 = .ok (.if_icmp .ge 29, 3) := dk_162 0 29 (dk_at dksX7_again_1 3 rfl rfl)
theorem dX7_again_29 : decode cX7_again 29 = .ok (.aload_n 0, 1) := dk_42 (dk_at dksX7_again_1 6 rfl rfl)
theorem dX7_again_30 : decode cX7_again 30 = .ok (.getfield 7, 3) := dk_180 0 7 (dk_at dksX7_again_1 7 rfl rfl)
theorem dX7_again_33 : decode cX7_again 33 = .ok (.iload_n 2, 1) := dk_28 (dk_at dksX7_again_1 10 rfl rfl)
theorem dX7_again_34 : decode cX7_again 34 = .ok (.aload_n 0, 1) := dk_42 (dk_at dksX7_again_1 11 rfl rfl)
theorem dX7_again_35 : decode cX7_again 35 = .ok (.getfield 7, 3) := dk_180 0 7 (dk_at dksX7_again_1 12 rfl rfl)
theorem dX7_again_38 : decode cX7_again 38 = .ok (.sipush 5520, 3) := dk_17 21 144 (dk_at dksX7_again_1 15 rfl rfl)
theorem dX7_again_41 : decode cX7_again 41 = .ok (.iload_n 1, 1) := dk_27 (dk_at dksX7_again_1 18 rfl rfl)
theorem dX7_again_42 : decode cX7_again 42 = .ok (.iconst 1, 1) := dk_4 (dk_at dksX7_again_1 19 rfl rfl)
theorem dX7_again_43 : decode cX7_again 43 = .ok (.iadd, 1) := dk_96 (dk_at dksX7_again_1 20 rfl rfl)
theorem dX7_again_44 : decode cX7_again 44 = .ok (.imul, 1) := dk_104 (dk_at dksX7_again_1 21 rfl rfl)
theorem dX7_again_45 : decode cX7_again 45 = .ok (.iload_n 2, 1) := dk_28 (dk_at dksX7_again_1 22 rfl rfl)
theorem dX7_again_46 : decode cX7_again 46 = .ok (.iadd, 1) := dk_96 (dk_at dksX7_again_1 23 rfl rfl)
theorem dX7_again_47 : decode cX7_again 47 = .ok (.iaload, 1) := dk_46 (dk_at dksX7_again_2 0 rfl rfl)
theorem dX7_again_48 : decode cX7_again 48 = .ok (.iastore, 1) := dk_79 (dk_at dksX7_again_2 1 rfl rfl)
theorem dX7_again_49 : decode cX7_again 49 = .ok (.iinc 2 1, 3) := dk_132 2 1 (dk_at dksX7_again_2 2 rfl rfl)
theorem dX7_again_52 : decode cX7_again 52 = .ok (.goto (-30), 3) := dk_167 255 226 (dk_at dksX7_again_2 5 rfl rfl)
theorem dX7_again_55 : decode cX7_again 55 = .ok (.iconst 1, 1) := dk_4 (dk_at dksX7_again_2 8 rfl rfl)
theorem dX7_again_56 : decode cX7_again 56 = .ok (.ireturn, 1) := dk_172 (dk_at dksX7_again_2 9 rfl rfl)
theorem q107 : (Jvm.Cond.initialized "PretendDeskModel") ∈ lw_all := lw_g (lw_at lw_m1 8 rfl) rfl
theorem q1438 : (Jvm.Cond.instantiable "PretendDeskModel" (49 : Nat)) ∈ lw_all := lw_g (lw_at lw_m6 139 rfl) rfl
theorem q1440 : (Jvm.Cond.instanceMethod ({ cls := "PretendDeskModel", name := "<init>", desc := "()V" } : Jvm.MethodName)) ∈ lw_all := lw_g (lw_at lw_m6 141 rfl) rfl
theorem q1441 : (Jvm.Cond.code ({ cls := "PretendDeskModel", name := "<init>", desc := "()V" } : Jvm.MethodName) prog_21_method_1_code (1 : Nat) (Option.none : Option Jvm.ClassFile.FieldType)) ∈ lw_all := lw_g (lw_at lw_m6 142 rfl) rfl
theorem q1442 : (Jvm.Cond.methodLink "PretendDeskModel" (1 : Nat) ({ cls := "java/lang/Object", name := "<init>", desc := "()V" } : Jvm.MethodName)) ∈ lw_all := lw_g (lw_at lw_m6 143 rfl) rfl
theorem q1443 : (Jvm.Cond.fieldLink "PretendDeskModel" (7 : Nat) "PretendDeskModel" "all" "[I") ∈ lw_all := lw_g (lw_at lw_m6 144 rfl) rfl
theorem q1444 : (Jvm.Cond.fieldLink "PretendDeskModel" (13 : Nat) "PretendDeskModel" "has" "[Z") ∈ lw_all := lw_g (lw_at lw_m6 145 rfl) rfl
theorem q1445 : (Jvm.Cond.fieldLink "PretendDeskModel" (100 : Nat) "PretendDeskModel" "size" "I") ∈ lw_all := lw_g (lw_at lw_m6 146 rfl) rfl
theorem q1446 : (Jvm.Cond.fieldLink "PretendDeskModel" (116 : Nat) "PretendDeskModel" "next" "I") ∈ lw_all := lw_g (lw_at lw_m6 147 rfl) rfl
theorem q1447 : (Jvm.Cond.fieldLink "PretendDeskModel" (122 : Nat) "PretendDeskModel" "where" "I") ∈ lw_all := lw_g (lw_at lw_m6 148 rfl) rfl
theorem q1448 : (Jvm.Cond.fieldLink "PretendDeskModel" (125 : Nat) "PretendDeskModel" "token" "I") ∈ lw_all := lw_g (lw_at lw_m6 149 rfl) rfl
theorem q1449 : (Jvm.Cond.fieldLink "PretendDeskModel" (141 : Nat) "PretendDeskModel" "number" "I") ∈ lw_all := lw_g (lw_at lw_m6 150 rfl) rfl
theorem q1450 : (Jvm.Cond.fieldLink "PretendDeskModel" (144 : Nat) "PretendDeskModel" "sign" "I") ∈ lw_all := lw_g (lw_at lw_m6 151 rfl) rfl
theorem q1451 : (Jvm.Cond.fieldLink "PretendDeskModel" (135 : Nat) "PretendDeskModel" "word" "I") ∈ lw_all := lw_g (lw_at lw_m6 152 rfl) rfl
theorem q1452 : (Jvm.Cond.fieldLink "PretendDeskModel" (147 : Nat) "PretendDeskModel" "wrong" "Z") ∈ lw_all := lw_g (lw_at lw_m6 153 rfl) rfl
theorem q1453 : (Jvm.Cond.fieldLink "PretendDeskModel" (151 : Nat) "PretendDeskModel" "boxes" "I") ∈ lw_all := lw_g (lw_at lw_m6 154 rfl) rfl
theorem q1454 : (Jvm.Cond.fieldLink "PretendDeskModel" (154 : Nat) "PretendDeskModel" "depth" "I") ∈ lw_all := lw_g (lw_at lw_m6 155 rfl) rfl
theorem q1455 : (Jvm.Cond.fieldLink "PretendDeskModel" (17 : Nat) "PretendDeskModel" "within" "[I") ∈ lw_all := lw_g (lw_at lw_m6 156 rfl) rfl
theorem q1456 : (Jvm.Cond.fieldLink "PretendDeskModel" (20 : Nat) "PretendDeskModel" "read" "[I") ∈ lw_all := lw_g (lw_at lw_m6 157 rfl) rfl
theorem q1457 : (Jvm.Cond.fieldLink "PretendDeskModel" (23 : Nat) "PretendDeskModel" "spelled" "[I") ∈ lw_all := lw_g (lw_at lw_m6 158 rfl) rfl
theorem q1458 : (Jvm.Cond.fieldLink "PretendDeskModel" (215 : Nat) "PretendDeskModel" "tree" "I") ∈ lw_all := lw_g (lw_at lw_m6 159 rfl) rfl
theorem q1459 : (Jvm.Cond.fieldLink "PretendDeskModel" (26 : Nat) "PretendDeskModel" "gone" "[Z") ∈ lw_all := lw_g (lw_at lw_m6 160 rfl) rfl
theorem q1460 : (Jvm.Cond.fieldLink "PretendDeskModel" (29 : Nat) "PretendDeskModel" "colour" "[I") ∈ lw_all := lw_g (lw_at lw_m6 161 rfl) rfl
theorem q1461 : (Jvm.Cond.fieldLink "PretendDeskModel" (32 : Nat) "PretendDeskModel" "shown" "[Z") ∈ lw_all := lw_g (lw_at lw_m6 162 rfl) rfl
theorem q1462 : (Jvm.Cond.fieldLink "PretendDeskModel" (35 : Nat) "PretendDeskModel" "over" "[I") ∈ lw_all := lw_g (lw_at lw_m6 163 rfl) rfl
theorem q1463 : (Jvm.Cond.fieldLink "PretendDeskModel" (38 : Nat) "PretendDeskModel" "stack" "[I") ∈ lw_all := lw_g (lw_at lw_m6 164 rfl) rfl
theorem q1464 : (Jvm.Cond.fieldLink "PretendDeskModel" (41 : Nat) "PretendDeskModel" "begun" "[I") ∈ lw_all := lw_g (lw_at lw_m6 165 rfl) rfl
theorem q1465 : (Jvm.Cond.fieldLink "PretendDeskModel" (44 : Nat) "PretendDeskModel" "many" "[I") ∈ lw_all := lw_g (lw_at lw_m6 166 rfl) rfl
theorem q1466 : (Jvm.Cond.fieldLink "PretendDeskModel" (47 : Nat) "PretendDeskModel" "kinds" "[I") ∈ lw_all := lw_g (lw_at lw_m6 167 rfl) rfl
theorem q1467 : (Jvm.Cond.fieldLink "PretendDeskModel" (50 : Nat) "PretendDeskModel" "colours" "[I") ∈ lw_all := lw_g (lw_at lw_m6 168 rfl) rfl
theorem q1468 : (Jvm.Cond.fieldLink "PretendDeskModel" (53 : Nat) "PretendDeskModel" "first" "[I") ∈ lw_all := lw_g (lw_at lw_m6 169 rfl) rfl
theorem q1469 : (Jvm.Cond.fieldLink "PretendDeskModel" (221 : Nat) "PretendDeskModel" "opened" "I") ∈ lw_all := lw_g (lw_at lw_m6 170 rfl) rfl
theorem q1470 : (Jvm.Cond.fieldLink "PretendDeskModel" (224 : Nat) "PretendDeskModel" "asked" "I") ∈ lw_all := lw_g (lw_at lw_m6 171 rfl) rfl
theorem q1471 : (Jvm.Cond.fieldLink "PretendDeskModel" (56 : Nat) "PretendDeskModel" "apart" "[I") ∈ lw_all := lw_g (lw_at lw_m6 172 rfl) rfl
theorem q1472 : (Jvm.Cond.fieldLink "PretendDeskModel" (59 : Nat) "PretendDeskModel" "row" "[I") ∈ lw_all := lw_g (lw_at lw_m6 173 rfl) rfl
theorem q1473 : (Jvm.Cond.fieldLink "PretendDeskModel" (270 : Nat) "PretendDeskModel" "likeLook" "I") ∈ lw_all := lw_g (lw_at lw_m6 174 rfl) rfl
theorem q1474 : (Jvm.Cond.fieldLink "PretendDeskModel" (279 : Nat) "PretendDeskModel" "likeIs" "I") ∈ lw_all := lw_g (lw_at lw_m6 175 rfl) rfl
theorem q1475 : (Jvm.Cond.fieldLink "PretendDeskModel" (282 : Nat) "PretendDeskModel" "lookIs" "I") ∈ lw_all := lw_g (lw_at lw_m6 176 rfl) rfl
theorem q1476 : (Jvm.Cond.fieldLink "PretendDeskModel" (276 : Nat) "PretendDeskModel" "askIs" "I") ∈ lw_all := lw_g (lw_at lw_m6 177 rfl) rfl
theorem q1477 : (Jvm.Cond.fieldLink "PretendDeskModel" (288 : Nat) "PretendDeskModel" "isElsewhere" "Z") ∈ lw_all := lw_g (lw_at lw_m6 178 rfl) rfl
theorem q1478 : (Jvm.Cond.fieldLink "PretendDeskModel" (62 : Nat) "PretendDeskModel" "caseLook" "[I") ∈ lw_all := lw_g (lw_at lw_m6 179 rfl) rfl
theorem q1479 : (Jvm.Cond.fieldLink "PretendDeskModel" (65 : Nat) "PretendDeskModel" "caseAsk" "[I") ∈ lw_all := lw_g (lw_at lw_m6 180 rfl) rfl
theorem q1480 : (Jvm.Cond.fieldLink "PretendDeskModel" (68 : Nat) "PretendDeskModel" "caseAge" "[I") ∈ lw_all := lw_g (lw_at lw_m6 181 rfl) rfl
theorem q1481 : (Jvm.Cond.fieldLink "PretendDeskModel" (71 : Nat) "PretendDeskModel" "told" "[I") ∈ lw_all := lw_g (lw_at lw_m6 182 rfl) rfl
theorem q1482 : (Jvm.Cond.fieldLink "PretendDeskModel" (74 : Nat) "PretendDeskModel" "fitted" "[I") ∈ lw_all := lw_g (lw_at lw_m6 183 rfl) rfl
theorem q1483 : (Jvm.Cond.fieldLink "PretendDeskModel" (325 : Nat) "PretendDeskModel" "waits" "I") ∈ lw_all := lw_g (lw_at lw_m6 184 rfl) rfl
theorem q1484 : (Jvm.Cond.fieldLink "PretendDeskModel" (328 : Nat) "PretendDeskModel" "priceNow" "I") ∈ lw_all := lw_g (lw_at lw_m6 185 rfl) rfl
theorem q1485 : (Jvm.Cond.fieldLink "PretendDeskModel" (357 : Nat) "PretendDeskModel" "lines" "I") ∈ lw_all := lw_g (lw_at lw_m6 186 rfl) rfl
theorem q1486 : (Jvm.Cond.fieldLink "PretendDeskModel" (77 : Nat) "PretendDeskModel" "line" "[I") ∈ lw_all := lw_g (lw_at lw_m6 187 rfl) rfl
theorem q1487 : (Jvm.Cond.fieldLink "PretendDeskModel" (80 : Nat) "PretendDeskModel" "register" "[I") ∈ lw_all := lw_g (lw_at lw_m6 188 rfl) rfl
theorem q1488 : (Jvm.Cond.fieldLink "PretendDeskModel" (83 : Nat) "PretendDeskModel" "traces" "[I") ∈ lw_all := lw_g (lw_at lw_m6 189 rfl) rfl
theorem q1489 : (Jvm.Cond.fieldLink "PretendDeskModel" (86 : Nat) "PretendDeskModel" "come" "[I") ∈ lw_all := lw_g (lw_at lw_m6 190 rfl) rfl
theorem q1490 : (Jvm.Cond.fieldLink "PretendDeskModel" (375 : Nat) "PretendDeskModel" "relays" "I") ∈ lw_all := lw_g (lw_at lw_m6 191 rfl) rfl
theorem q1491 : (Jvm.Cond.fieldLink "PretendDeskModel" (396 : Nat) "PretendDeskModel" "meant" "I") ∈ lw_all := lw_g (lw_at lw_m6 192 rfl) rfl
theorem q1492 : (Jvm.Cond.laysFinal "PretendDeskModel" "PretendDeskModel" "all" "[I") ∈ lw_all := lw_g (lw_at lw_m6 193 rfl) rfl
theorem q1493 : (Jvm.Cond.soleField "PretendDeskModel" "all") ∈ lw_all := lw_g (lw_at lw_m6 194 rfl) rfl
theorem q1494 : (Jvm.Cond.laysFinal "PretendDeskModel" "PretendDeskModel" "has" "[Z") ∈ lw_all := lw_g (lw_at lw_m6 195 rfl) rfl
theorem q1495 : (Jvm.Cond.soleField "PretendDeskModel" "has") ∈ lw_all := lw_g (lw_at lw_m6 196 rfl) rfl
theorem q1496 : (Jvm.Cond.lays "PretendDeskModel" "PretendDeskModel" "size" "I") ∈ lw_all := lw_g (lw_at lw_m6 197 rfl) rfl
theorem q1497 : (Jvm.Cond.soleField "PretendDeskModel" "size") ∈ lw_all := lw_g (lw_at lw_m6 198 rfl) rfl
theorem q1498 : (Jvm.Cond.lays "PretendDeskModel" "PretendDeskModel" "next" "I") ∈ lw_all := lw_g (lw_at lw_m6 199 rfl) rfl
theorem q1499 : (Jvm.Cond.soleField "PretendDeskModel" "next") ∈ lw_all := lw_g (lw_at lw_m6 200 rfl) rfl
theorem q1500 : (Jvm.Cond.lays "PretendDeskModel" "PretendDeskModel" "where" "I") ∈ lw_all := lw_g (lw_at lw_m6 201 rfl) rfl
theorem q1501 : (Jvm.Cond.soleField "PretendDeskModel" "where") ∈ lw_all := lw_g (lw_at lw_m6 202 rfl) rfl
theorem q1502 : (Jvm.Cond.lays "PretendDeskModel" "PretendDeskModel" "token" "I") ∈ lw_all := lw_g (lw_at lw_m6 203 rfl) rfl
theorem q1503 : (Jvm.Cond.soleField "PretendDeskModel" "token") ∈ lw_all := lw_g (lw_at lw_m6 204 rfl) rfl
theorem q1504 : (Jvm.Cond.lays "PretendDeskModel" "PretendDeskModel" "number" "I") ∈ lw_all := lw_g (lw_at lw_m6 205 rfl) rfl
theorem q1505 : (Jvm.Cond.soleField "PretendDeskModel" "number") ∈ lw_all := lw_g (lw_at lw_m6 206 rfl) rfl
theorem q1506 : (Jvm.Cond.lays "PretendDeskModel" "PretendDeskModel" "sign" "I") ∈ lw_all := lw_g (lw_at lw_m6 207 rfl) rfl
theorem q1507 : (Jvm.Cond.soleField "PretendDeskModel" "sign") ∈ lw_all := lw_g (lw_at lw_m6 208 rfl) rfl
theorem q1508 : (Jvm.Cond.lays "PretendDeskModel" "PretendDeskModel" "word" "I") ∈ lw_all := lw_g (lw_at lw_m6 209 rfl) rfl
theorem q1509 : (Jvm.Cond.soleField "PretendDeskModel" "word") ∈ lw_all := lw_g (lw_at lw_m6 210 rfl) rfl
theorem q1510 : (Jvm.Cond.lays "PretendDeskModel" "PretendDeskModel" "wrong" "Z") ∈ lw_all := lw_g (lw_at lw_m6 211 rfl) rfl
theorem q1511 : (Jvm.Cond.soleField "PretendDeskModel" "wrong") ∈ lw_all := lw_g (lw_at lw_m6 212 rfl) rfl
theorem q1512 : (Jvm.Cond.lays "PretendDeskModel" "PretendDeskModel" "boxes" "I") ∈ lw_all := lw_g (lw_at lw_m6 213 rfl) rfl
theorem q1513 : (Jvm.Cond.soleField "PretendDeskModel" "boxes") ∈ lw_all := lw_g (lw_at lw_m6 214 rfl) rfl
theorem q1514 : (Jvm.Cond.lays "PretendDeskModel" "PretendDeskModel" "depth" "I") ∈ lw_all := lw_g (lw_at lw_m6 215 rfl) rfl
theorem q1515 : (Jvm.Cond.soleField "PretendDeskModel" "depth") ∈ lw_all := lw_g (lw_at lw_m6 216 rfl) rfl
theorem q1516 : (Jvm.Cond.laysFinal "PretendDeskModel" "PretendDeskModel" "within" "[I") ∈ lw_all := lw_g (lw_at lw_m6 217 rfl) rfl
theorem q1517 : (Jvm.Cond.soleField "PretendDeskModel" "within") ∈ lw_all := lw_g (lw_at lw_m6 218 rfl) rfl
theorem q1518 : (Jvm.Cond.laysFinal "PretendDeskModel" "PretendDeskModel" "read" "[I") ∈ lw_all := lw_g (lw_at lw_m6 219 rfl) rfl
theorem q1519 : (Jvm.Cond.soleField "PretendDeskModel" "read") ∈ lw_all := lw_g (lw_at lw_m6 220 rfl) rfl
theorem q1520 : (Jvm.Cond.laysFinal "PretendDeskModel" "PretendDeskModel" "spelled" "[I") ∈ lw_all := lw_g (lw_at lw_m6 221 rfl) rfl
theorem q1521 : (Jvm.Cond.soleField "PretendDeskModel" "spelled") ∈ lw_all := lw_g (lw_at lw_m6 222 rfl) rfl
theorem q1522 : (Jvm.Cond.lays "PretendDeskModel" "PretendDeskModel" "tree" "I") ∈ lw_all := lw_g (lw_at lw_m6 223 rfl) rfl
theorem q1523 : (Jvm.Cond.soleField "PretendDeskModel" "tree") ∈ lw_all := lw_g (lw_at lw_m6 224 rfl) rfl
theorem q1524 : (Jvm.Cond.laysFinal "PretendDeskModel" "PretendDeskModel" "gone" "[Z") ∈ lw_all := lw_g (lw_at lw_m6 225 rfl) rfl
theorem q1525 : (Jvm.Cond.soleField "PretendDeskModel" "gone") ∈ lw_all := lw_g (lw_at lw_m6 226 rfl) rfl
theorem q1526 : (Jvm.Cond.laysFinal "PretendDeskModel" "PretendDeskModel" "colour" "[I") ∈ lw_all := lw_g (lw_at lw_m6 227 rfl) rfl
theorem q1527 : (Jvm.Cond.soleField "PretendDeskModel" "colour") ∈ lw_all := lw_g (lw_at lw_m6 228 rfl) rfl
theorem q1528 : (Jvm.Cond.laysFinal "PretendDeskModel" "PretendDeskModel" "shown" "[Z") ∈ lw_all := lw_g (lw_at lw_m6 229 rfl) rfl
theorem q1529 : (Jvm.Cond.soleField "PretendDeskModel" "shown") ∈ lw_all := lw_g (lw_at lw_m6 230 rfl) rfl
theorem q1530 : (Jvm.Cond.laysFinal "PretendDeskModel" "PretendDeskModel" "over" "[I") ∈ lw_all := lw_g (lw_at lw_m6 231 rfl) rfl
theorem q1531 : (Jvm.Cond.soleField "PretendDeskModel" "over") ∈ lw_all := lw_g (lw_at lw_m6 232 rfl) rfl
theorem q1532 : (Jvm.Cond.laysFinal "PretendDeskModel" "PretendDeskModel" "stack" "[I") ∈ lw_all := lw_g (lw_at lw_m6 233 rfl) rfl
theorem q1533 : (Jvm.Cond.soleField "PretendDeskModel" "stack") ∈ lw_all := lw_g (lw_at lw_m6 234 rfl) rfl
theorem q1534 : (Jvm.Cond.laysFinal "PretendDeskModel" "PretendDeskModel" "begun" "[I") ∈ lw_all := lw_g (lw_at lw_m6 235 rfl) rfl
theorem q1535 : (Jvm.Cond.soleField "PretendDeskModel" "begun") ∈ lw_all := lw_g (lw_at lw_m6 236 rfl) rfl
theorem q1536 : (Jvm.Cond.laysFinal "PretendDeskModel" "PretendDeskModel" "many" "[I") ∈ lw_all := lw_g (lw_at lw_m6 237 rfl) rfl
theorem q1537 : (Jvm.Cond.soleField "PretendDeskModel" "many") ∈ lw_all := lw_g (lw_at lw_m6 238 rfl) rfl
theorem q1538 : (Jvm.Cond.laysFinal "PretendDeskModel" "PretendDeskModel" "kinds" "[I") ∈ lw_all := lw_g (lw_at lw_m6 239 rfl) rfl
theorem q1539 : (Jvm.Cond.soleField "PretendDeskModel" "kinds") ∈ lw_all := lw_g (lw_at lw_m7 0 rfl) rfl
theorem q1540 : (Jvm.Cond.laysFinal "PretendDeskModel" "PretendDeskModel" "colours" "[I") ∈ lw_all := lw_g (lw_at lw_m7 1 rfl) rfl
theorem q1541 : (Jvm.Cond.soleField "PretendDeskModel" "colours") ∈ lw_all := lw_g (lw_at lw_m7 2 rfl) rfl
theorem q1542 : (Jvm.Cond.laysFinal "PretendDeskModel" "PretendDeskModel" "first" "[I") ∈ lw_all := lw_g (lw_at lw_m7 3 rfl) rfl
theorem q1543 : (Jvm.Cond.soleField "PretendDeskModel" "first") ∈ lw_all := lw_g (lw_at lw_m7 4 rfl) rfl
theorem q1544 : (Jvm.Cond.lays "PretendDeskModel" "PretendDeskModel" "opened" "I") ∈ lw_all := lw_g (lw_at lw_m7 5 rfl) rfl
theorem q1545 : (Jvm.Cond.soleField "PretendDeskModel" "opened") ∈ lw_all := lw_g (lw_at lw_m7 6 rfl) rfl
theorem q1546 : (Jvm.Cond.lays "PretendDeskModel" "PretendDeskModel" "asked" "I") ∈ lw_all := lw_g (lw_at lw_m7 7 rfl) rfl
theorem q1547 : (Jvm.Cond.soleField "PretendDeskModel" "asked") ∈ lw_all := lw_g (lw_at lw_m7 8 rfl) rfl
theorem q1548 : (Jvm.Cond.laysFinal "PretendDeskModel" "PretendDeskModel" "apart" "[I") ∈ lw_all := lw_g (lw_at lw_m7 9 rfl) rfl
theorem q1549 : (Jvm.Cond.soleField "PretendDeskModel" "apart") ∈ lw_all := lw_g (lw_at lw_m7 10 rfl) rfl
theorem q1550 : (Jvm.Cond.laysFinal "PretendDeskModel" "PretendDeskModel" "row" "[I") ∈ lw_all := lw_g (lw_at lw_m7 11 rfl) rfl
theorem q1551 : (Jvm.Cond.soleField "PretendDeskModel" "row") ∈ lw_all := lw_g (lw_at lw_m7 12 rfl) rfl
theorem q1552 : (Jvm.Cond.lays "PretendDeskModel" "PretendDeskModel" "likeLook" "I") ∈ lw_all := lw_g (lw_at lw_m7 13 rfl) rfl
theorem q1553 : (Jvm.Cond.soleField "PretendDeskModel" "likeLook") ∈ lw_all := lw_g (lw_at lw_m7 14 rfl) rfl
theorem q1554 : (Jvm.Cond.lays "PretendDeskModel" "PretendDeskModel" "likeIs" "I") ∈ lw_all := lw_g (lw_at lw_m7 15 rfl) rfl
theorem q1555 : (Jvm.Cond.soleField "PretendDeskModel" "likeIs") ∈ lw_all := lw_g (lw_at lw_m7 16 rfl) rfl
theorem q1556 : (Jvm.Cond.lays "PretendDeskModel" "PretendDeskModel" "lookIs" "I") ∈ lw_all := lw_g (lw_at lw_m7 17 rfl) rfl
theorem q1557 : (Jvm.Cond.soleField "PretendDeskModel" "lookIs") ∈ lw_all := lw_g (lw_at lw_m7 18 rfl) rfl
theorem q1558 : (Jvm.Cond.lays "PretendDeskModel" "PretendDeskModel" "askIs" "I") ∈ lw_all := lw_g (lw_at lw_m7 19 rfl) rfl
theorem q1559 : (Jvm.Cond.soleField "PretendDeskModel" "askIs") ∈ lw_all := lw_g (lw_at lw_m7 20 rfl) rfl
theorem q1560 : (Jvm.Cond.lays "PretendDeskModel" "PretendDeskModel" "isElsewhere" "Z") ∈ lw_all := lw_g (lw_at lw_m7 21 rfl) rfl
theorem q1561 : (Jvm.Cond.soleField "PretendDeskModel" "isElsewhere") ∈ lw_all := lw_g (lw_at lw_m7 22 rfl) rfl
theorem q1562 : (Jvm.Cond.laysFinal "PretendDeskModel" "PretendDeskModel" "caseLook" "[I") ∈ lw_all := lw_g (lw_at lw_m7 23 rfl) rfl
theorem q1563 : (Jvm.Cond.soleField "PretendDeskModel" "caseLook") ∈ lw_all := lw_g (lw_at lw_m7 24 rfl) rfl
theorem q1564 : (Jvm.Cond.laysFinal "PretendDeskModel" "PretendDeskModel" "caseAsk" "[I") ∈ lw_all := lw_g (lw_at lw_m7 25 rfl) rfl
theorem q1565 : (Jvm.Cond.soleField "PretendDeskModel" "caseAsk") ∈ lw_all := lw_g (lw_at lw_m7 26 rfl) rfl
theorem q1566 : (Jvm.Cond.laysFinal "PretendDeskModel" "PretendDeskModel" "caseAge" "[I") ∈ lw_all := lw_g (lw_at lw_m7 27 rfl) rfl
theorem q1567 : (Jvm.Cond.soleField "PretendDeskModel" "caseAge") ∈ lw_all := lw_g (lw_at lw_m7 28 rfl) rfl
theorem q1568 : (Jvm.Cond.laysFinal "PretendDeskModel" "PretendDeskModel" "told" "[I") ∈ lw_all := lw_g (lw_at lw_m7 29 rfl) rfl
theorem q1569 : (Jvm.Cond.soleField "PretendDeskModel" "told") ∈ lw_all := lw_g (lw_at lw_m7 30 rfl) rfl
theorem q1570 : (Jvm.Cond.laysFinal "PretendDeskModel" "PretendDeskModel" "fitted" "[I") ∈ lw_all := lw_g (lw_at lw_m7 31 rfl) rfl
theorem q1571 : (Jvm.Cond.soleField "PretendDeskModel" "fitted") ∈ lw_all := lw_g (lw_at lw_m7 32 rfl) rfl
theorem q1572 : (Jvm.Cond.lays "PretendDeskModel" "PretendDeskModel" "waits" "I") ∈ lw_all := lw_g (lw_at lw_m7 33 rfl) rfl
theorem q1573 : (Jvm.Cond.soleField "PretendDeskModel" "waits") ∈ lw_all := lw_g (lw_at lw_m7 34 rfl) rfl
theorem q1574 : (Jvm.Cond.lays "PretendDeskModel" "PretendDeskModel" "priceNow" "I") ∈ lw_all := lw_g (lw_at lw_m7 35 rfl) rfl
theorem q1575 : (Jvm.Cond.soleField "PretendDeskModel" "priceNow") ∈ lw_all := lw_g (lw_at lw_m7 36 rfl) rfl
theorem q1576 : (Jvm.Cond.lays "PretendDeskModel" "PretendDeskModel" "lines" "I") ∈ lw_all := lw_g (lw_at lw_m7 37 rfl) rfl
theorem q1577 : (Jvm.Cond.soleField "PretendDeskModel" "lines") ∈ lw_all := lw_g (lw_at lw_m7 38 rfl) rfl
theorem q1578 : (Jvm.Cond.laysFinal "PretendDeskModel" "PretendDeskModel" "line" "[I") ∈ lw_all := lw_g (lw_at lw_m7 39 rfl) rfl
theorem q1579 : (Jvm.Cond.soleField "PretendDeskModel" "line") ∈ lw_all := lw_g (lw_at lw_m7 40 rfl) rfl
theorem q1580 : (Jvm.Cond.laysFinal "PretendDeskModel" "PretendDeskModel" "register" "[I") ∈ lw_all := lw_g (lw_at lw_m7 41 rfl) rfl
theorem q1581 : (Jvm.Cond.soleField "PretendDeskModel" "register") ∈ lw_all := lw_g (lw_at lw_m7 42 rfl) rfl
theorem q1582 : (Jvm.Cond.laysFinal "PretendDeskModel" "PretendDeskModel" "traces" "[I") ∈ lw_all := lw_g (lw_at lw_m7 43 rfl) rfl
theorem q1583 : (Jvm.Cond.soleField "PretendDeskModel" "traces") ∈ lw_all := lw_g (lw_at lw_m7 44 rfl) rfl
theorem q1584 : (Jvm.Cond.laysFinal "PretendDeskModel" "PretendDeskModel" "come" "[I") ∈ lw_all := lw_g (lw_at lw_m7 45 rfl) rfl
theorem q1585 : (Jvm.Cond.soleField "PretendDeskModel" "come") ∈ lw_all := lw_g (lw_at lw_m7 46 rfl) rfl
theorem q1586 : (Jvm.Cond.lays "PretendDeskModel" "PretendDeskModel" "relays" "I") ∈ lw_all := lw_g (lw_at lw_m7 47 rfl) rfl
theorem q1587 : (Jvm.Cond.soleField "PretendDeskModel" "relays") ∈ lw_all := lw_g (lw_at lw_m7 48 rfl) rfl
theorem q1588 : (Jvm.Cond.lays "PretendDeskModel" "PretendDeskModel" "meant" "I") ∈ lw_all := lw_g (lw_at lw_m7 49 rfl) rfl
theorem q1589 : (Jvm.Cond.soleField "PretendDeskModel" "meant") ∈ lw_all := lw_g (lw_at lw_m7 50 rfl) rfl
theorem q1590 : (Jvm.Cond.superclass "PretendDeskModel" "java/lang/Object") ∈ lw_all := lw_g (lw_at lw_m7 51 rfl) rfl
theorem q1593 : (Jvm.Cond.instanceMethod ({ cls := "PretendDeskModel", name := "feed", desc := "(IIIII)I" } : Jvm.MethodName)) ∈ lw_all := lw_g (lw_at lw_m7 54 rfl) rfl
theorem q1594 : (Jvm.Cond.selects "PretendDeskModel" ({ cls := "PretendDeskModel", name := "feed", desc := "(IIIII)I" } : Jvm.MethodName) ({ cls := "PretendDeskModel", name := "feed", desc := "(IIIII)I" } : Jvm.MethodName)) ∈ lw_all := lw_g (lw_at lw_m7 55 rfl) rfl
theorem q1595 : (Jvm.Cond.code ({ cls := "PretendDeskModel", name := "feed", desc := "(IIIII)I" } : Jvm.MethodName) prog_21_method_11_code (8 : Nat) (Option.some Jvm.ClassFile.FieldType.int)) ∈ lw_all := lw_g (lw_at lw_m7 56 rfl) rfl
theorem q1597 : (Jvm.Cond.instanceMethod ({ cls := "PretendDeskModel", name := "end", desc := "(I)I" } : Jvm.MethodName)) ∈ lw_all := lw_g (lw_at lw_m7 58 rfl) rfl
theorem q1598 : (Jvm.Cond.selects "PretendDeskModel" ({ cls := "PretendDeskModel", name := "end", desc := "(I)I" } : Jvm.MethodName) ({ cls := "PretendDeskModel", name := "end", desc := "(I)I" } : Jvm.MethodName)) ∈ lw_all := lw_g (lw_at lw_m7 59 rfl) rfl
theorem q1599 : (Jvm.Cond.code ({ cls := "PretendDeskModel", name := "end", desc := "(I)I" } : Jvm.MethodName) prog_21_method_12_code (2 : Nat) (Option.some Jvm.ClassFile.FieldType.int)) ∈ lw_all := lw_g (lw_at lw_m7 60 rfl) rfl
theorem q1601 : (Jvm.Cond.instanceMethod ({ cls := "PretendDeskModel", name := "own", desc := "(I)I" } : Jvm.MethodName)) ∈ lw_all := lw_g (lw_at lw_m7 62 rfl) rfl
theorem q1602 : (Jvm.Cond.selects "PretendDeskModel" ({ cls := "PretendDeskModel", name := "own", desc := "(I)I" } : Jvm.MethodName) ({ cls := "PretendDeskModel", name := "own", desc := "(I)I" } : Jvm.MethodName)) ∈ lw_all := lw_g (lw_at lw_m7 63 rfl) rfl
theorem q1603 : (Jvm.Cond.code ({ cls := "PretendDeskModel", name := "own", desc := "(I)I" } : Jvm.MethodName) prog_21_method_30_code (3 : Nat) (Option.some Jvm.ClassFile.FieldType.int)) ∈ lw_all := lw_g (lw_at lw_m7 64 rfl) rfl
theorem q1604 : (Jvm.Cond.methodLink "PretendDeskModel" (179 : Nat) ({ cls := "PretendDeskModel", name := "begins", desc := "()V" } : Jvm.MethodName)) ∈ lw_all := lw_g (lw_at lw_m7 65 rfl) rfl
theorem q1605 : (Jvm.Cond.privateMethod ({ cls := "PretendDeskModel", name := "begins", desc := "()V" } : Jvm.MethodName)) ∈ lw_tbl := lw_at lw_m7 66 rfl
theorem q1606 : (Jvm.Cond.instanceMethod ({ cls := "PretendDeskModel", name := "begins", desc := "()V" } : Jvm.MethodName)) ∈ lw_all := lw_g (lw_at lw_m7 67 rfl) rfl
theorem q1607 : (Jvm.Cond.code ({ cls := "PretendDeskModel", name := "begins", desc := "()V" } : Jvm.MethodName) prog_21_method_23_code (1 : Nat) (Option.none : Option Jvm.ClassFile.FieldType)) ∈ lw_all := lw_g (lw_at lw_m7 68 rfl) rfl
theorem q1608 : (Jvm.Cond.methodLink "PretendDeskModel" (182 : Nat) ({ cls := "PretendDeskModel", name := "isHouse", desc := "(I)Z" } : Jvm.MethodName)) ∈ lw_all := lw_g (lw_at lw_m7 69 rfl) rfl
theorem q1609 : (Jvm.Cond.privateMethod ({ cls := "PretendDeskModel", name := "isHouse", desc := "(I)Z" } : Jvm.MethodName)) ∈ lw_tbl := lw_at lw_m7 70 rfl
theorem q1610 : (Jvm.Cond.instanceMethod ({ cls := "PretendDeskModel", name := "isHouse", desc := "(I)Z" } : Jvm.MethodName)) ∈ lw_all := lw_g (lw_at lw_m7 71 rfl) rfl
theorem q1611 : (Jvm.Cond.code ({ cls := "PretendDeskModel", name := "isHouse", desc := "(I)Z" } : Jvm.MethodName) prog_21_method_4_code (2 : Nat) (Option.some Jvm.ClassFile.FieldType.boolean)) ∈ lw_all := lw_g (lw_at lw_m7 72 rfl) rfl
theorem q1612 : (Jvm.Cond.methodLink "PretendDeskModel" (89 : Nat) ({ cls := "PretendDeskModel", name := "isIn", desc := "(III)Z" } : Jvm.MethodName)) ∈ lw_all := lw_g (lw_at lw_m7 73 rfl) rfl
theorem q1613 : (Jvm.Cond.static ({ cls := "PretendDeskModel", name := "isIn", desc := "(III)Z" } : Jvm.MethodName)) ∈ lw_all := lw_g (lw_at lw_m7 74 rfl) rfl
theorem q1614 : (Jvm.Cond.code ({ cls := "PretendDeskModel", name := "isIn", desc := "(III)Z" } : Jvm.MethodName) prog_21_method_2_code (3 : Nat) (Option.some Jvm.ClassFile.FieldType.boolean)) ∈ lw_all := lw_g (lw_at lw_m7 75 rfl) rfl
theorem q1615 : (Jvm.Cond.methodLink "PretendDeskModel" (97 : Nat) ({ cls := "PretendDeskModel", name := "houseAt", desc := "(I)I" } : Jvm.MethodName)) ∈ lw_all := lw_g (lw_at lw_m7 76 rfl) rfl
theorem q1616 : (Jvm.Cond.static ({ cls := "PretendDeskModel", name := "houseAt", desc := "(I)I" } : Jvm.MethodName)) ∈ lw_all := lw_g (lw_at lw_m7 77 rfl) rfl
theorem q1617 : (Jvm.Cond.code ({ cls := "PretendDeskModel", name := "houseAt", desc := "(I)I" } : Jvm.MethodName) prog_21_method_7_code (1 : Nat) (Option.some Jvm.ClassFile.FieldType.int)) ∈ lw_all := lw_g (lw_at lw_m7 78 rfl) rfl
theorem q1618 : (Jvm.Cond.methodLink "PretendDeskModel" (185 : Nat) ({ cls := "PretendDeskModel", name := "reads", desc := "()Z" } : Jvm.MethodName)) ∈ lw_all := lw_g (lw_at lw_m7 79 rfl) rfl
theorem q1619 : (Jvm.Cond.privateMethod ({ cls := "PretendDeskModel", name := "reads", desc := "()Z" } : Jvm.MethodName)) ∈ lw_tbl := lw_at lw_m7 80 rfl
theorem q1620 : (Jvm.Cond.instanceMethod ({ cls := "PretendDeskModel", name := "reads", desc := "()Z" } : Jvm.MethodName)) ∈ lw_all := lw_g (lw_at lw_m7 81 rfl) rfl
theorem q1621 : (Jvm.Cond.code ({ cls := "PretendDeskModel", name := "reads", desc := "()Z" } : Jvm.MethodName) prog_21_method_28_code (1 : Nat) (Option.some Jvm.ClassFile.FieldType.boolean)) ∈ lw_all := lw_g (lw_at lw_m7 82 rfl) rfl
theorem q1622 : (Jvm.Cond.methodLink "PretendDeskModel" (164 : Nat) ({ cls := "PretendDeskModel", name := "advance", desc := "()V" } : Jvm.MethodName)) ∈ lw_all := lw_g (lw_at lw_m7 83 rfl) rfl
theorem q1623 : (Jvm.Cond.privateMethod ({ cls := "PretendDeskModel", name := "advance", desc := "()V" } : Jvm.MethodName)) ∈ lw_tbl := lw_at lw_m7 84 rfl
theorem q1624 : (Jvm.Cond.instanceMethod ({ cls := "PretendDeskModel", name := "advance", desc := "()V" } : Jvm.MethodName)) ∈ lw_all := lw_g (lw_at lw_m7 85 rfl) rfl
theorem q1625 : (Jvm.Cond.code ({ cls := "PretendDeskModel", name := "advance", desc := "()V" } : Jvm.MethodName) prog_21_method_20_code (3 : Nat) (Option.none : Option Jvm.ClassFile.FieldType)) ∈ lw_all := lw_g (lw_at lw_m7 86 rfl) rfl
theorem q1626 : (Jvm.Cond.methodLink "PretendDeskModel" (119 : Nat) ({ cls := "PretendDeskModel", name := "byteAt", desc := "(I)I" } : Jvm.MethodName)) ∈ lw_all := lw_g (lw_at lw_m7 87 rfl) rfl
theorem q1627 : (Jvm.Cond.privateMethod ({ cls := "PretendDeskModel", name := "byteAt", desc := "(I)I" } : Jvm.MethodName)) ∈ lw_tbl := lw_at lw_m7 88 rfl
theorem q1628 : (Jvm.Cond.instanceMethod ({ cls := "PretendDeskModel", name := "byteAt", desc := "(I)I" } : Jvm.MethodName)) ∈ lw_all := lw_g (lw_at lw_m7 89 rfl) rfl
theorem q1629 : (Jvm.Cond.code ({ cls := "PretendDeskModel", name := "byteAt", desc := "(I)I" } : Jvm.MethodName) prog_21_method_13_code (2 : Nat) (Option.some Jvm.ClassFile.FieldType.int)) ∈ lw_all := lw_g (lw_at lw_m7 90 rfl) rfl
theorem q1630 : (Jvm.Cond.methodLink "PretendDeskModel" (128 : Nat) ({ cls := "PretendDeskModel", name := "isLetter", desc := "(I)Z" } : Jvm.MethodName)) ∈ lw_all := lw_g (lw_at lw_m7 91 rfl) rfl
theorem q1631 : (Jvm.Cond.static ({ cls := "PretendDeskModel", name := "isLetter", desc := "(I)Z" } : Jvm.MethodName)) ∈ lw_all := lw_g (lw_at lw_m7 92 rfl) rfl
theorem q1632 : (Jvm.Cond.code ({ cls := "PretendDeskModel", name := "isLetter", desc := "(I)Z" } : Jvm.MethodName) prog_21_method_14_code (1 : Nat) (Option.some Jvm.ClassFile.FieldType.boolean)) ∈ lw_all := lw_g (lw_at lw_m7 93 rfl) rfl
theorem q1633 : (Jvm.Cond.methodLink "PretendDeskModel" (132 : Nat) ({ cls := "PretendDeskModel", name := "wordOf", desc := "(I)I" } : Jvm.MethodName)) ∈ lw_all := lw_g (lw_at lw_m7 94 rfl) rfl
theorem q1634 : (Jvm.Cond.static ({ cls := "PretendDeskModel", name := "wordOf", desc := "(I)I" } : Jvm.MethodName)) ∈ lw_all := lw_g (lw_at lw_m7 95 rfl) rfl
theorem q1635 : (Jvm.Cond.code ({ cls := "PretendDeskModel", name := "wordOf", desc := "(I)I" } : Jvm.MethodName) prog_21_method_19_code (1 : Nat) (Option.some Jvm.ClassFile.FieldType.int)) ∈ lw_all := lw_g (lw_at lw_m7 96 rfl) rfl
theorem q1636 : (Jvm.Cond.methodLink "PretendDeskModel" (104 : Nat) ({ cls := "PretendDeskModel", name := "three", desc := "(III)I" } : Jvm.MethodName)) ∈ lw_all := lw_g (lw_at lw_m7 97 rfl) rfl
theorem q1637 : (Jvm.Cond.static ({ cls := "PretendDeskModel", name := "three", desc := "(III)I" } : Jvm.MethodName)) ∈ lw_all := lw_g (lw_at lw_m7 98 rfl) rfl
theorem q1638 : (Jvm.Cond.code ({ cls := "PretendDeskModel", name := "three", desc := "(III)I" } : Jvm.MethodName) prog_21_method_17_code (3 : Nat) (Option.some Jvm.ClassFile.FieldType.int)) ∈ lw_all := lw_g (lw_at lw_m7 99 rfl) rfl
theorem q1639 : (Jvm.Cond.methodLink "PretendDeskModel" (108 : Nat) ({ cls := "PretendDeskModel", name := "four", desc := "(IIII)I" } : Jvm.MethodName)) ∈ lw_all := lw_g (lw_at lw_m7 100 rfl) rfl
theorem q1640 : (Jvm.Cond.static ({ cls := "PretendDeskModel", name := "four", desc := "(IIII)I" } : Jvm.MethodName)) ∈ lw_all := lw_g (lw_at lw_m7 101 rfl) rfl
theorem q1641 : (Jvm.Cond.code ({ cls := "PretendDeskModel", name := "four", desc := "(IIII)I" } : Jvm.MethodName) prog_21_method_18_code (4 : Nat) (Option.some Jvm.ClassFile.FieldType.int)) ∈ lw_all := lw_g (lw_at lw_m7 102 rfl) rfl
theorem q1642 : (Jvm.Cond.methodLink "PretendDeskModel" (112 : Nat) ({ cls := "PretendDeskModel", name := "two", desc := "(II)I" } : Jvm.MethodName)) ∈ lw_all := lw_g (lw_at lw_m7 103 rfl) rfl
theorem q1643 : (Jvm.Cond.static ({ cls := "PretendDeskModel", name := "two", desc := "(II)I" } : Jvm.MethodName)) ∈ lw_all := lw_g (lw_at lw_m7 104 rfl) rfl
theorem q1644 : (Jvm.Cond.code ({ cls := "PretendDeskModel", name := "two", desc := "(II)I" } : Jvm.MethodName) prog_21_method_16_code (2 : Nat) (Option.some Jvm.ClassFile.FieldType.int)) ∈ lw_all := lw_g (lw_at lw_m7 105 rfl) rfl
theorem q1645 : (Jvm.Cond.methodLink "PretendDeskModel" (138 : Nat) ({ cls := "PretendDeskModel", name := "isDigit", desc := "(I)Z" } : Jvm.MethodName)) ∈ lw_all := lw_g (lw_at lw_m7 106 rfl) rfl
theorem q1646 : (Jvm.Cond.static ({ cls := "PretendDeskModel", name := "isDigit", desc := "(I)Z" } : Jvm.MethodName)) ∈ lw_all := lw_g (lw_at lw_m7 107 rfl) rfl
theorem q1647 : (Jvm.Cond.code ({ cls := "PretendDeskModel", name := "isDigit", desc := "(I)Z" } : Jvm.MethodName) prog_21_method_15_code (1 : Nat) (Option.some Jvm.ClassFile.FieldType.boolean)) ∈ lw_all := lw_g (lw_at lw_m7 108 rfl) rfl
theorem q1648 : (Jvm.Cond.methodLink "PretendDeskModel" (176 : Nat) ({ cls := "PretendDeskModel", name := "aBox", desc := "()V" } : Jvm.MethodName)) ∈ lw_all := lw_g (lw_at lw_m7 109 rfl) rfl
theorem q1649 : (Jvm.Cond.privateMethod ({ cls := "PretendDeskModel", name := "aBox", desc := "()V" } : Jvm.MethodName)) ∈ lw_tbl := lw_at lw_m7 110 rfl
theorem q1650 : (Jvm.Cond.instanceMethod ({ cls := "PretendDeskModel", name := "aBox", desc := "()V" } : Jvm.MethodName)) ∈ lw_all := lw_g (lw_at lw_m7 111 rfl) rfl
theorem q1651 : (Jvm.Cond.code ({ cls := "PretendDeskModel", name := "aBox", desc := "()V" } : Jvm.MethodName) prog_21_method_27_code (3 : Nat) (Option.none : Option Jvm.ClassFile.FieldType)) ∈ lw_all := lw_g (lw_at lw_m7 112 rfl) rfl
theorem q1652 : (Jvm.Cond.methodLink "PretendDeskModel" (157 : Nat) ({ cls := "PretendDeskModel", name := "ends", desc := "()V" } : Jvm.MethodName)) ∈ lw_all := lw_g (lw_at lw_m7 113 rfl) rfl
theorem q1653 : (Jvm.Cond.privateMethod ({ cls := "PretendDeskModel", name := "ends", desc := "()V" } : Jvm.MethodName)) ∈ lw_tbl := lw_at lw_m7 114 rfl
theorem q1654 : (Jvm.Cond.instanceMethod ({ cls := "PretendDeskModel", name := "ends", desc := "()V" } : Jvm.MethodName)) ∈ lw_all := lw_g (lw_at lw_m7 115 rfl) rfl
theorem q1655 : (Jvm.Cond.code ({ cls := "PretendDeskModel", name := "ends", desc := "()V" } : Jvm.MethodName) prog_21_method_21_code (1 : Nat) (Option.none : Option Jvm.ClassFile.FieldType)) ∈ lw_all := lw_g (lw_at lw_m7 116 rfl) rfl
theorem q1656 : (Jvm.Cond.methodLink "PretendDeskModel" (160 : Nat) ({ cls := "PretendDeskModel", name := "also", desc := "(II)V" } : Jvm.MethodName)) ∈ lw_all := lw_g (lw_at lw_m7 117 rfl) rfl
theorem q1657 : (Jvm.Cond.privateMethod ({ cls := "PretendDeskModel", name := "also", desc := "(II)V" } : Jvm.MethodName)) ∈ lw_tbl := lw_at lw_m7 118 rfl
theorem q1658 : (Jvm.Cond.instanceMethod ({ cls := "PretendDeskModel", name := "also", desc := "(II)V" } : Jvm.MethodName)) ∈ lw_all := lw_g (lw_at lw_m7 119 rfl) rfl
theorem q1659 : (Jvm.Cond.code ({ cls := "PretendDeskModel", name := "also", desc := "(II)V" } : Jvm.MethodName) prog_21_method_22_code (3 : Nat) (Option.none : Option Jvm.ClassFile.FieldType)) ∈ lw_all := lw_g (lw_at lw_m7 120 rfl) rfl
theorem q1660 : (Jvm.Cond.methodLink "PretendDeskModel" (167 : Nat) ({ cls := "PretendDeskModel", name := "numbered", desc := "(I)I" } : Jvm.MethodName)) ∈ lw_all := lw_g (lw_at lw_m7 121 rfl) rfl
theorem q1661 : (Jvm.Cond.privateMethod ({ cls := "PretendDeskModel", name := "numbered", desc := "(I)I" } : Jvm.MethodName)) ∈ lw_tbl := lw_at lw_m7 122 rfl
theorem q1662 : (Jvm.Cond.instanceMethod ({ cls := "PretendDeskModel", name := "numbered", desc := "(I)I" } : Jvm.MethodName)) ∈ lw_all := lw_g (lw_at lw_m7 123 rfl) rfl
theorem q1663 : (Jvm.Cond.code ({ cls := "PretendDeskModel", name := "numbered", desc := "(I)I" } : Jvm.MethodName) prog_21_method_24_code (3 : Nat) (Option.some Jvm.ClassFile.FieldType.int)) ∈ lw_all := lw_g (lw_at lw_m7 124 rfl) rfl
theorem q1664 : (Jvm.Cond.methodLink "PretendDeskModel" (170 : Nat) ({ cls := "PretendDeskModel", name := "isWord", desc := "(I)Z" } : Jvm.MethodName)) ∈ lw_all := lw_g (lw_at lw_m7 125 rfl) rfl
theorem q1665 : (Jvm.Cond.privateMethod ({ cls := "PretendDeskModel", name := "isWord", desc := "(I)Z" } : Jvm.MethodName)) ∈ lw_tbl := lw_at lw_m7 126 rfl
theorem q1666 : (Jvm.Cond.instanceMethod ({ cls := "PretendDeskModel", name := "isWord", desc := "(I)Z" } : Jvm.MethodName)) ∈ lw_all := lw_g (lw_at lw_m7 127 rfl) rfl
theorem q1667 : (Jvm.Cond.code ({ cls := "PretendDeskModel", name := "isWord", desc := "(I)Z" } : Jvm.MethodName) prog_21_method_25_code (2 : Nat) (Option.some Jvm.ClassFile.FieldType.boolean)) ∈ lw_all := lw_g (lw_at lw_m7 128 rfl) rfl
theorem q1668 : (Jvm.Cond.methodLink "PretendDeskModel" (173 : Nat) ({ cls := "PretendDeskModel", name := "isSign", desc := "(I)Z" } : Jvm.MethodName)) ∈ lw_all := lw_g (lw_at lw_m7 129 rfl) rfl
theorem q1669 : (Jvm.Cond.privateMethod ({ cls := "PretendDeskModel", name := "isSign", desc := "(I)Z" } : Jvm.MethodName)) ∈ lw_tbl := lw_at lw_m7 130 rfl
theorem q1670 : (Jvm.Cond.instanceMethod ({ cls := "PretendDeskModel", name := "isSign", desc := "(I)Z" } : Jvm.MethodName)) ∈ lw_all := lw_g (lw_at lw_m7 131 rfl) rfl
theorem q1671 : (Jvm.Cond.code ({ cls := "PretendDeskModel", name := "isSign", desc := "(I)Z" } : Jvm.MethodName) prog_21_method_26_code (2 : Nat) (Option.some Jvm.ClassFile.FieldType.boolean)) ∈ lw_all := lw_g (lw_at lw_m7 132 rfl) rfl
theorem q1672 : (Jvm.Cond.methodLink "PretendDeskModel" (189 : Nat) ({ cls := "PretendDeskModel", name := "ownTree", desc := "(II)I" } : Jvm.MethodName)) ∈ lw_all := lw_g (lw_at lw_m7 133 rfl) rfl
theorem q1673 : (Jvm.Cond.static ({ cls := "PretendDeskModel", name := "ownTree", desc := "(II)I" } : Jvm.MethodName)) ∈ lw_all := lw_g (lw_at lw_m7 134 rfl) rfl
theorem q1674 : (Jvm.Cond.code ({ cls := "PretendDeskModel", name := "ownTree", desc := "(II)I" } : Jvm.MethodName) prog_21_method_10_code (2 : Nat) (Option.some Jvm.ClassFile.FieldType.int)) ∈ lw_all := lw_g (lw_at lw_m7 135 rfl) rfl
theorem q1675 : (Jvm.Cond.methodLink "PretendDeskModel" (192 : Nat) ({ cls := "PretendDeskModel", name := "keeps", desc := "(I)V" } : Jvm.MethodName)) ∈ lw_all := lw_g (lw_at lw_m7 136 rfl) rfl
theorem q1676 : (Jvm.Cond.privateMethod ({ cls := "PretendDeskModel", name := "keeps", desc := "(I)V" } : Jvm.MethodName)) ∈ lw_tbl := lw_at lw_m7 137 rfl
theorem q1677 : (Jvm.Cond.instanceMethod ({ cls := "PretendDeskModel", name := "keeps", desc := "(I)V" } : Jvm.MethodName)) ∈ lw_all := lw_g (lw_at lw_m7 138 rfl) rfl
theorem q1678 : (Jvm.Cond.code ({ cls := "PretendDeskModel", name := "keeps", desc := "(I)V" } : Jvm.MethodName) prog_21_method_29_code (3 : Nat) (Option.none : Option Jvm.ClassFile.FieldType)) ∈ lw_all := lw_g (lw_at lw_m7 139 rfl) rfl
theorem q1680 : (Jvm.Cond.instanceMethod ({ cls := "PretendDeskModel", name := "page", desc := "()I" } : Jvm.MethodName)) ∈ lw_all := lw_g (lw_at lw_m7 141 rfl) rfl
theorem q1681 : (Jvm.Cond.selects "PretendDeskModel" ({ cls := "PretendDeskModel", name := "page", desc := "()I" } : Jvm.MethodName) ({ cls := "PretendDeskModel", name := "page", desc := "()I" } : Jvm.MethodName)) ∈ lw_all := lw_g (lw_at lw_m7 142 rfl) rfl
theorem q1682 : (Jvm.Cond.code ({ cls := "PretendDeskModel", name := "page", desc := "()I" } : Jvm.MethodName) prog_21_method_31_code (3 : Nat) (Option.some Jvm.ClassFile.FieldType.int)) ∈ lw_all := lw_g (lw_at lw_m7 143 rfl) rfl
theorem q1683 : (Jvm.Cond.methodLink "PretendDeskModel" (93 : Nat) ({ cls := "PretendDeskModel", name := "pageAt", desc := "(I)I" } : Jvm.MethodName)) ∈ lw_all := lw_g (lw_at lw_m7 144 rfl) rfl
theorem q1684 : (Jvm.Cond.static ({ cls := "PretendDeskModel", name := "pageAt", desc := "(I)I" } : Jvm.MethodName)) ∈ lw_all := lw_g (lw_at lw_m7 145 rfl) rfl
theorem q1685 : (Jvm.Cond.code ({ cls := "PretendDeskModel", name := "pageAt", desc := "(I)I" } : Jvm.MethodName) prog_21_method_8_code (1 : Nat) (Option.some Jvm.ClassFile.FieldType.int)) ∈ lw_all := lw_g (lw_at lw_m7 146 rfl) rfl
theorem q1687 : (Jvm.Cond.instanceMethod ({ cls := "PretendDeskModel", name := "house", desc := "()I" } : Jvm.MethodName)) ∈ lw_all := lw_g (lw_at lw_m7 148 rfl) rfl
theorem q1688 : (Jvm.Cond.selects "PretendDeskModel" ({ cls := "PretendDeskModel", name := "house", desc := "()I" } : Jvm.MethodName) ({ cls := "PretendDeskModel", name := "house", desc := "()I" } : Jvm.MethodName)) ∈ lw_all := lw_g (lw_at lw_m7 149 rfl) rfl
theorem q1689 : (Jvm.Cond.code ({ cls := "PretendDeskModel", name := "house", desc := "()I" } : Jvm.MethodName) prog_21_method_34_code (1 : Nat) (Option.some Jvm.ClassFile.FieldType.int)) ∈ lw_all := lw_g (lw_at lw_m7 150 rfl) rfl
theorem q1690 : (Jvm.Cond.methodLink "PretendDeskModel" (199 : Nat) ({ cls := "PretendDeskModel", name := "named", desc := "(I)Z" } : Jvm.MethodName)) ∈ lw_all := lw_g (lw_at lw_m7 151 rfl) rfl
theorem q1691 : (Jvm.Cond.privateMethod ({ cls := "PretendDeskModel", name := "named", desc := "(I)Z" } : Jvm.MethodName)) ∈ lw_tbl := lw_at lw_m7 152 rfl
theorem q1692 : (Jvm.Cond.instanceMethod ({ cls := "PretendDeskModel", name := "named", desc := "(I)Z" } : Jvm.MethodName)) ∈ lw_all := lw_g (lw_at lw_m7 153 rfl) rfl
theorem q1693 : (Jvm.Cond.code ({ cls := "PretendDeskModel", name := "named", desc := "(I)Z" } : Jvm.MethodName) prog_21_method_33_code (4 : Nat) (Option.some Jvm.ClassFile.FieldType.boolean)) ∈ lw_all := lw_g (lw_at lw_m7 154 rfl) rfl
theorem q1694 : (Jvm.Cond.methodLink "PretendDeskModel" (196 : Nat) ({ cls := "PretendDeskModel", name := "signOf", desc := "(I)I" } : Jvm.MethodName)) ∈ lw_all := lw_g (lw_at lw_m7 155 rfl) rfl
theorem q1695 : (Jvm.Cond.static ({ cls := "PretendDeskModel", name := "signOf", desc := "(I)I" } : Jvm.MethodName)) ∈ lw_all := lw_g (lw_at lw_m7 156 rfl) rfl
theorem q1696 : (Jvm.Cond.code ({ cls := "PretendDeskModel", name := "signOf", desc := "(I)I" } : Jvm.MethodName) prog_21_method_32_code (1 : Nat) (Option.some Jvm.ClassFile.FieldType.int)) ∈ lw_all := lw_g (lw_at lw_m7 157 rfl) rfl
theorem q1698 : (Jvm.Cond.instanceMethod ({ cls := "PretendDeskModel", name := "name", desc := "(I)Z" } : Jvm.MethodName)) ∈ lw_all := lw_g (lw_at lw_m7 159 rfl) rfl
theorem q1699 : (Jvm.Cond.selects "PretendDeskModel" ({ cls := "PretendDeskModel", name := "name", desc := "(I)Z" } : Jvm.MethodName) ({ cls := "PretendDeskModel", name := "name", desc := "(I)Z" } : Jvm.MethodName)) ∈ lw_all := lw_g (lw_at lw_m7 160 rfl) rfl
theorem q1700 : (Jvm.Cond.code ({ cls := "PretendDeskModel", name := "name", desc := "(I)Z" } : Jvm.MethodName) prog_21_method_35_code (2 : Nat) (Option.some Jvm.ClassFile.FieldType.boolean)) ∈ lw_all := lw_g (lw_at lw_m7 161 rfl) rfl
theorem q1701 : (Jvm.Cond.methodLink "PretendDeskModel" (202 : Nat) ({ cls := "PretendDeskModel", name := "isPage", desc := "(I)Z" } : Jvm.MethodName)) ∈ lw_all := lw_g (lw_at lw_m7 162 rfl) rfl
theorem q1702 : (Jvm.Cond.privateMethod ({ cls := "PretendDeskModel", name := "isPage", desc := "(I)Z" } : Jvm.MethodName)) ∈ lw_tbl := lw_at lw_m7 163 rfl
theorem q1703 : (Jvm.Cond.instanceMethod ({ cls := "PretendDeskModel", name := "isPage", desc := "(I)Z" } : Jvm.MethodName)) ∈ lw_all := lw_g (lw_at lw_m7 164 rfl) rfl
theorem q1704 : (Jvm.Cond.code ({ cls := "PretendDeskModel", name := "isPage", desc := "(I)Z" } : Jvm.MethodName) prog_21_method_5_code (2 : Nat) (Option.some Jvm.ClassFile.FieldType.boolean)) ∈ lw_all := lw_g (lw_at lw_m7 165 rfl) rfl
theorem q1706 : (Jvm.Cond.instanceMethod ({ cls := "PretendDeskModel", name := "fault", desc := "(I)I" } : Jvm.MethodName)) ∈ lw_all := lw_g (lw_at lw_m7 167 rfl) rfl
theorem q1707 : (Jvm.Cond.selects "PretendDeskModel" ({ cls := "PretendDeskModel", name := "fault", desc := "(I)I" } : Jvm.MethodName) ({ cls := "PretendDeskModel", name := "fault", desc := "(I)I" } : Jvm.MethodName)) ∈ lw_all := lw_g (lw_at lw_m7 168 rfl) rfl
theorem q1708 : (Jvm.Cond.code ({ cls := "PretendDeskModel", name := "fault", desc := "(I)I" } : Jvm.MethodName) prog_21_method_36_code (2 : Nat) (Option.some Jvm.ClassFile.FieldType.int)) ∈ lw_all := lw_g (lw_at lw_m7 169 rfl) rfl
theorem q1710 : (Jvm.Cond.instanceMethod ({ cls := "PretendDeskModel", name := "alike", desc := "(III)Z" } : Jvm.MethodName)) ∈ lw_all := lw_g (lw_at lw_m7 171 rfl) rfl
theorem q1711 : (Jvm.Cond.selects "PretendDeskModel" ({ cls := "PretendDeskModel", name := "alike", desc := "(III)Z" } : Jvm.MethodName) ({ cls := "PretendDeskModel", name := "alike", desc := "(III)Z" } : Jvm.MethodName)) ∈ lw_all := lw_g (lw_at lw_m7 172 rfl) rfl
theorem q1712 : (Jvm.Cond.code ({ cls := "PretendDeskModel", name := "alike", desc := "(III)Z" } : Jvm.MethodName) prog_21_method_37_code (4 : Nat) (Option.some Jvm.ClassFile.FieldType.boolean)) ∈ lw_all := lw_g (lw_at lw_m7 173 rfl) rfl
theorem q1714 : (Jvm.Cond.instanceMethod ({ cls := "PretendDeskModel", name := "spell", desc := "(II)I" } : Jvm.MethodName)) ∈ lw_all := lw_g (lw_at lw_m7 175 rfl) rfl
theorem q1715 : (Jvm.Cond.selects "PretendDeskModel" ({ cls := "PretendDeskModel", name := "spell", desc := "(II)I" } : Jvm.MethodName) ({ cls := "PretendDeskModel", name := "spell", desc := "(II)I" } : Jvm.MethodName)) ∈ lw_all := lw_g (lw_at lw_m7 176 rfl) rfl
theorem q1716 : (Jvm.Cond.code ({ cls := "PretendDeskModel", name := "spell", desc := "(II)I" } : Jvm.MethodName) prog_21_method_41_code (3 : Nat) (Option.some Jvm.ClassFile.FieldType.int)) ∈ lw_all := lw_g (lw_at lw_m7 177 rfl) rfl
theorem q1717 : (Jvm.Cond.methodLink "PretendDeskModel" (211 : Nat) ({ cls := "PretendDeskModel", name := "spells", desc := "(II)I" } : Jvm.MethodName)) ∈ lw_all := lw_g (lw_at lw_m7 178 rfl) rfl
theorem q1718 : (Jvm.Cond.privateMethod ({ cls := "PretendDeskModel", name := "spells", desc := "(II)I" } : Jvm.MethodName)) ∈ lw_tbl := lw_at lw_m7 179 rfl
theorem q1719 : (Jvm.Cond.instanceMethod ({ cls := "PretendDeskModel", name := "spells", desc := "(II)I" } : Jvm.MethodName)) ∈ lw_all := lw_g (lw_at lw_m7 180 rfl) rfl
theorem q1720 : (Jvm.Cond.code ({ cls := "PretendDeskModel", name := "spells", desc := "(II)I" } : Jvm.MethodName) prog_21_method_40_code (6 : Nat) (Option.some Jvm.ClassFile.FieldType.int)) ∈ lw_all := lw_g (lw_at lw_m7 181 rfl) rfl
theorem q1721 : (Jvm.Cond.methodLink "PretendDeskModel" (205 : Nat) ({ cls := "PretendDeskModel", name := "lesser", desc := "(II)I" } : Jvm.MethodName)) ∈ lw_all := lw_g (lw_at lw_m7 182 rfl) rfl
theorem q1722 : (Jvm.Cond.static ({ cls := "PretendDeskModel", name := "lesser", desc := "(II)I" } : Jvm.MethodName)) ∈ lw_all := lw_g (lw_at lw_m7 183 rfl) rfl
theorem q1723 : (Jvm.Cond.code ({ cls := "PretendDeskModel", name := "lesser", desc := "(II)I" } : Jvm.MethodName) prog_21_method_39_code (2 : Nat) (Option.some Jvm.ClassFile.FieldType.int)) ∈ lw_all := lw_g (lw_at lw_m7 184 rfl) rfl
theorem q1724 : (Jvm.Cond.methodLink "PretendDeskModel" (208 : Nat) ({ cls := "PretendDeskModel", name := "priceOf", desc := "(II)I" } : Jvm.MethodName)) ∈ lw_all := lw_g (lw_at lw_m7 185 rfl) rfl
theorem q1725 : (Jvm.Cond.privateMethod ({ cls := "PretendDeskModel", name := "priceOf", desc := "(II)I" } : Jvm.MethodName)) ∈ lw_tbl := lw_at lw_m7 186 rfl
theorem q1726 : (Jvm.Cond.instanceMethod ({ cls := "PretendDeskModel", name := "priceOf", desc := "(II)I" } : Jvm.MethodName)) ∈ lw_all := lw_g (lw_at lw_m7 187 rfl) rfl
theorem q1727 : (Jvm.Cond.code ({ cls := "PretendDeskModel", name := "priceOf", desc := "(II)I" } : Jvm.MethodName) prog_21_method_38_code (4 : Nat) (Option.some Jvm.ClassFile.FieldType.int)) ∈ lw_all := lw_g (lw_at lw_m7 188 rfl) rfl
theorem q1729 : (Jvm.Cond.instanceMethod ({ cls := "PretendDeskModel", name := "stands", desc := "(III)Z" } : Jvm.MethodName)) ∈ lw_all := lw_g (lw_at lw_m7 190 rfl) rfl
theorem q1730 : (Jvm.Cond.selects "PretendDeskModel" ({ cls := "PretendDeskModel", name := "stands", desc := "(III)Z" } : Jvm.MethodName) ({ cls := "PretendDeskModel", name := "stands", desc := "(III)Z" } : Jvm.MethodName)) ∈ lw_all := lw_g (lw_at lw_m7 191 rfl) rfl
theorem q1731 : (Jvm.Cond.code ({ cls := "PretendDeskModel", name := "stands", desc := "(III)Z" } : Jvm.MethodName) prog_21_method_43_code (4 : Nat) (Option.some Jvm.ClassFile.FieldType.boolean)) ∈ lw_all := lw_g (lw_at lw_m7 192 rfl) rfl
theorem q1732 : (Jvm.Cond.constant "PretendDeskModel" (214 : Nat) (1048575 : Int32)) ∈ lw_all := lw_g (lw_at lw_m7 193 rfl) rfl
theorem q1734 : (Jvm.Cond.instanceMethod ({ cls := "PretendDeskModel", name := "worth", desc := "(II)Z" } : Jvm.MethodName)) ∈ lw_all := lw_g (lw_at lw_m7 195 rfl) rfl
theorem q1735 : (Jvm.Cond.selects "PretendDeskModel" ({ cls := "PretendDeskModel", name := "worth", desc := "(II)Z" } : Jvm.MethodName) ({ cls := "PretendDeskModel", name := "worth", desc := "(II)Z" } : Jvm.MethodName)) ∈ lw_all := lw_g (lw_at lw_m7 196 rfl) rfl
theorem q1736 : (Jvm.Cond.code ({ cls := "PretendDeskModel", name := "worth", desc := "(II)Z" } : Jvm.MethodName) prog_21_method_44_code (3 : Nat) (Option.some Jvm.ClassFile.FieldType.boolean)) ∈ lw_all := lw_g (lw_at lw_m7 197 rfl) rfl
theorem q1738 : (Jvm.Cond.instanceMethod ({ cls := "PretendDeskModel", name := "boxes", desc := "(III)I" } : Jvm.MethodName)) ∈ lw_all := lw_g (lw_at lw_m7 199 rfl) rfl
theorem q1739 : (Jvm.Cond.selects "PretendDeskModel" ({ cls := "PretendDeskModel", name := "boxes", desc := "(III)I" } : Jvm.MethodName) ({ cls := "PretendDeskModel", name := "boxes", desc := "(III)I" } : Jvm.MethodName)) ∈ lw_all := lw_g (lw_at lw_m7 200 rfl) rfl
theorem q1740 : (Jvm.Cond.code ({ cls := "PretendDeskModel", name := "boxes", desc := "(III)I" } : Jvm.MethodName) prog_21_method_55_code (4 : Nat) (Option.some Jvm.ClassFile.FieldType.int)) ∈ lw_all := lw_g (lw_at lw_m7 201 rfl) rfl
theorem q1741 : (Jvm.Cond.methodLink "PretendDeskModel" (254 : Nat) ({ cls := "PretendDeskModel", name := "isPerson", desc := "(II)Z" } : Jvm.MethodName)) ∈ lw_all := lw_g (lw_at lw_m7 202 rfl) rfl
theorem q1742 : (Jvm.Cond.static ({ cls := "PretendDeskModel", name := "isPerson", desc := "(II)Z" } : Jvm.MethodName)) ∈ lw_all := lw_g (lw_at lw_m7 203 rfl) rfl
theorem q1743 : (Jvm.Cond.code ({ cls := "PretendDeskModel", name := "isPerson", desc := "(II)Z" } : Jvm.MethodName) prog_21_method_6_code (2 : Nat) (Option.some Jvm.ClassFile.FieldType.boolean)) ∈ lw_all := lw_g (lw_at lw_m7 204 rfl) rfl
theorem q1744 : (Jvm.Cond.methodLink "PretendDeskModel" (257 : Nat) ({ cls := "PretendDeskModel", name := "treeOf", desc := "(I)I" } : Jvm.MethodName)) ∈ lw_all := lw_g (lw_at lw_m7 205 rfl) rfl
theorem q1745 : (Jvm.Cond.static ({ cls := "PretendDeskModel", name := "treeOf", desc := "(I)I" } : Jvm.MethodName)) ∈ lw_all := lw_g (lw_at lw_m7 206 rfl) rfl
theorem q1746 : (Jvm.Cond.code ({ cls := "PretendDeskModel", name := "treeOf", desc := "(I)I" } : Jvm.MethodName) prog_21_method_9_code (1 : Nat) (Option.some Jvm.ClassFile.FieldType.int)) ∈ lw_all := lw_g (lw_at lw_m7 207 rfl) rfl
theorem q1747 : (Jvm.Cond.methodLink "PretendDeskModel" (243 : Nat) ({ cls := "PretendDeskModel", name := "takes", desc := "(I)V" } : Jvm.MethodName)) ∈ lw_all := lw_g (lw_at lw_m7 208 rfl) rfl
theorem q1748 : (Jvm.Cond.privateMethod ({ cls := "PretendDeskModel", name := "takes", desc := "(I)V" } : Jvm.MethodName)) ∈ lw_tbl := lw_at lw_m7 209 rfl
theorem q1749 : (Jvm.Cond.instanceMethod ({ cls := "PretendDeskModel", name := "takes", desc := "(I)V" } : Jvm.MethodName)) ∈ lw_all := lw_g (lw_at lw_m7 210 rfl) rfl
theorem q1750 : (Jvm.Cond.code ({ cls := "PretendDeskModel", name := "takes", desc := "(I)V" } : Jvm.MethodName) prog_21_method_46_code (3 : Nat) (Option.none : Option Jvm.ClassFile.FieldType)) ∈ lw_all := lw_g (lw_at lw_m7 211 rfl) rfl
theorem q1751 : (Jvm.Cond.methodLink "PretendDeskModel" (218 : Nat) ({ cls := "PretendDeskModel", name := "boxOf", desc := "(II)I" } : Jvm.MethodName)) ∈ lw_all := lw_g (lw_at lw_m7 212 rfl) rfl
theorem q1752 : (Jvm.Cond.privateMethod ({ cls := "PretendDeskModel", name := "boxOf", desc := "(II)I" } : Jvm.MethodName)) ∈ lw_tbl := lw_at lw_m7 213 rfl
theorem q1753 : (Jvm.Cond.instanceMethod ({ cls := "PretendDeskModel", name := "boxOf", desc := "(II)I" } : Jvm.MethodName)) ∈ lw_all := lw_g (lw_at lw_m7 214 rfl) rfl
theorem q1754 : (Jvm.Cond.code ({ cls := "PretendDeskModel", name := "boxOf", desc := "(II)I" } : Jvm.MethodName) prog_21_method_45_code (3 : Nat) (Option.some Jvm.ClassFile.FieldType.int)) ∈ lw_all := lw_g (lw_at lw_m7 215 rfl) rfl
theorem q1755 : (Jvm.Cond.methodLink "PretendDeskModel" (246 : Nat) ({ cls := "PretendDeskModel", name := "opens", desc := "(III)V" } : Jvm.MethodName)) ∈ lw_all := lw_g (lw_at lw_m7 216 rfl) rfl
theorem q1756 : (Jvm.Cond.privateMethod ({ cls := "PretendDeskModel", name := "opens", desc := "(III)V" } : Jvm.MethodName)) ∈ lw_tbl := lw_at lw_m7 217 rfl
theorem q1757 : (Jvm.Cond.instanceMethod ({ cls := "PretendDeskModel", name := "opens", desc := "(III)V" } : Jvm.MethodName)) ∈ lw_all := lw_g (lw_at lw_m7 218 rfl) rfl
theorem q1758 : (Jvm.Cond.code ({ cls := "PretendDeskModel", name := "opens", desc := "(III)V" } : Jvm.MethodName) prog_21_method_48_code (8 : Nat) (Option.none : Option Jvm.ClassFile.FieldType)) ∈ lw_all := lw_g (lw_at lw_m7 219 rfl) rfl
theorem q1759 : (Jvm.Cond.methodLink "PretendDeskModel" (227 : Nat) ({ cls := "PretendDeskModel", name := "closes", desc := "(II)V" } : Jvm.MethodName)) ∈ lw_all := lw_g (lw_at lw_m7 220 rfl) rfl
theorem q1760 : (Jvm.Cond.privateMethod ({ cls := "PretendDeskModel", name := "closes", desc := "(II)V" } : Jvm.MethodName)) ∈ lw_tbl := lw_at lw_m7 221 rfl
theorem q1761 : (Jvm.Cond.instanceMethod ({ cls := "PretendDeskModel", name := "closes", desc := "(II)V" } : Jvm.MethodName)) ∈ lw_all := lw_g (lw_at lw_m7 222 rfl) rfl
theorem q1762 : (Jvm.Cond.code ({ cls := "PretendDeskModel", name := "closes", desc := "(II)V" } : Jvm.MethodName) prog_21_method_47_code (4 : Nat) (Option.none : Option Jvm.ClassFile.FieldType)) ∈ lw_all := lw_g (lw_at lw_m7 223 rfl) rfl
theorem q1764 : (Jvm.Cond.instanceMethod ({ cls := "PretendDeskModel", name := "box", desc := "(III)I" } : Jvm.MethodName)) ∈ lw_all := lw_g (lw_at lw_m7 225 rfl) rfl
theorem q1765 : (Jvm.Cond.selects "PretendDeskModel" ({ cls := "PretendDeskModel", name := "box", desc := "(III)I" } : Jvm.MethodName) ({ cls := "PretendDeskModel", name := "box", desc := "(III)I" } : Jvm.MethodName)) ∈ lw_all := lw_g (lw_at lw_m7 226 rfl) rfl
theorem q1766 : (Jvm.Cond.code ({ cls := "PretendDeskModel", name := "box", desc := "(III)I" } : Jvm.MethodName) prog_21_method_56_code (4 : Nat) (Option.some Jvm.ClassFile.FieldType.int)) ∈ lw_all := lw_g (lw_at lw_m7 227 rfl) rfl
theorem q1768 : (Jvm.Cond.instanceMethod ({ cls := "PretendDeskModel", name := "far", desc := "(IIII)I" } : Jvm.MethodName)) ∈ lw_all := lw_g (lw_at lw_m7 229 rfl) rfl
theorem q1769 : (Jvm.Cond.selects "PretendDeskModel" ({ cls := "PretendDeskModel", name := "far", desc := "(IIII)I" } : Jvm.MethodName) ({ cls := "PretendDeskModel", name := "far", desc := "(IIII)I" } : Jvm.MethodName)) ∈ lw_all := lw_g (lw_at lw_m7 230 rfl) rfl
theorem q1770 : (Jvm.Cond.code ({ cls := "PretendDeskModel", name := "far", desc := "(IIII)I" } : Jvm.MethodName) prog_21_method_57_code (5 : Nat) (Option.some Jvm.ClassFile.FieldType.int)) ∈ lw_all := lw_g (lw_at lw_m7 231 rfl) rfl
theorem q1771 : (Jvm.Cond.methodLink "PretendDeskModel" (260 : Nat) ({ cls := "PretendDeskModel", name := "farOf", desc := "(IIIIII)I" } : Jvm.MethodName)) ∈ lw_all := lw_g (lw_at lw_m7 232 rfl) rfl
theorem q1772 : (Jvm.Cond.privateMethod ({ cls := "PretendDeskModel", name := "farOf", desc := "(IIIIII)I" } : Jvm.MethodName)) ∈ lw_tbl := lw_at lw_m7 233 rfl
theorem q1773 : (Jvm.Cond.instanceMethod ({ cls := "PretendDeskModel", name := "farOf", desc := "(IIIIII)I" } : Jvm.MethodName)) ∈ lw_all := lw_g (lw_at lw_m7 234 rfl) rfl
theorem q1774 : (Jvm.Cond.code ({ cls := "PretendDeskModel", name := "farOf", desc := "(IIIIII)I" } : Jvm.MethodName) prog_21_method_54_code (7 : Nat) (Option.some Jvm.ClassFile.FieldType.int)) ∈ lw_all := lw_g (lw_at lw_m7 235 rfl) rfl
theorem q1775 : (Jvm.Cond.methodLink "PretendDeskModel" (250 : Nat) ({ cls := "PretendDeskModel", name := "farNow", desc := "()I" } : Jvm.MethodName)) ∈ lw_all := lw_g (lw_at lw_m7 236 rfl) rfl
theorem q1776 : (Jvm.Cond.privateMethod ({ cls := "PretendDeskModel", name := "farNow", desc := "()I" } : Jvm.MethodName)) ∈ lw_tbl := lw_at lw_m7 237 rfl
theorem q1777 : (Jvm.Cond.instanceMethod ({ cls := "PretendDeskModel", name := "farNow", desc := "()I" } : Jvm.MethodName)) ∈ lw_all := lw_g (lw_at lw_m7 238 rfl) rfl
theorem q1778 : (Jvm.Cond.code ({ cls := "PretendDeskModel", name := "farNow", desc := "()I" } : Jvm.MethodName) prog_21_method_52_code (3 : Nat) (Option.some Jvm.ClassFile.FieldType.int)) ∈ lw_all := lw_g (lw_at lw_m7 239 rfl) rfl
theorem q1779 : (Jvm.Cond.methodLink "PretendDeskModel" (236 : Nat) ({ cls := "PretendDeskModel", name := "isLast", desc := "(II)Z" } : Jvm.MethodName)) ∈ lw_all := lw_g (lw_at lw_m8 0 rfl) rfl
theorem q1780 : (Jvm.Cond.privateMethod ({ cls := "PretendDeskModel", name := "isLast", desc := "(II)Z" } : Jvm.MethodName)) ∈ lw_tbl := lw_at lw_m8 1 rfl
theorem q1781 : (Jvm.Cond.instanceMethod ({ cls := "PretendDeskModel", name := "isLast", desc := "(II)Z" } : Jvm.MethodName)) ∈ lw_all := lw_g (lw_at lw_m8 2 rfl) rfl
theorem q1782 : (Jvm.Cond.code ({ cls := "PretendDeskModel", name := "isLast", desc := "(II)Z" } : Jvm.MethodName) prog_21_method_53_code (5 : Nat) (Option.some Jvm.ClassFile.FieldType.boolean)) ∈ lw_all := lw_g (lw_at lw_m8 3 rfl) rfl
theorem q1783 : (Jvm.Cond.methodLink "PretendDeskModel" (240 : Nat) ({ cls := "PretendDeskModel", name := "lays", desc := "(II)V" } : Jvm.MethodName)) ∈ lw_all := lw_g (lw_at lw_m8 4 rfl) rfl
theorem q1784 : (Jvm.Cond.privateMethod ({ cls := "PretendDeskModel", name := "lays", desc := "(II)V" } : Jvm.MethodName)) ∈ lw_tbl := lw_at lw_m8 5 rfl
theorem q1785 : (Jvm.Cond.instanceMethod ({ cls := "PretendDeskModel", name := "lays", desc := "(II)V" } : Jvm.MethodName)) ∈ lw_all := lw_g (lw_at lw_m8 6 rfl) rfl
theorem q1786 : (Jvm.Cond.code ({ cls := "PretendDeskModel", name := "lays", desc := "(II)V" } : Jvm.MethodName) prog_21_method_51_code (9 : Nat) (Option.none : Option Jvm.ClassFile.FieldType)) ∈ lw_all := lw_g (lw_at lw_m8 7 rfl) rfl
theorem q1787 : (Jvm.Cond.methodLink "PretendDeskModel" (230 : Nat) ({ cls := "PretendDeskModel", name := "without", desc := "(I)I" } : Jvm.MethodName)) ∈ lw_all := lw_g (lw_at lw_m8 8 rfl) rfl
theorem q1788 : (Jvm.Cond.privateMethod ({ cls := "PretendDeskModel", name := "without", desc := "(I)I" } : Jvm.MethodName)) ∈ lw_tbl := lw_at lw_m8 9 rfl
theorem q1789 : (Jvm.Cond.instanceMethod ({ cls := "PretendDeskModel", name := "without", desc := "(I)I" } : Jvm.MethodName)) ∈ lw_all := lw_g (lw_at lw_m8 10 rfl) rfl
theorem q1790 : (Jvm.Cond.code ({ cls := "PretendDeskModel", name := "without", desc := "(I)I" } : Jvm.MethodName) prog_21_method_50_code (2 : Nat) (Option.some Jvm.ClassFile.FieldType.int)) ∈ lw_all := lw_g (lw_at lw_m8 11 rfl) rfl
theorem q1791 : (Jvm.Cond.methodLink "PretendDeskModel" (233 : Nat) ({ cls := "PretendDeskModel", name := "changed", desc := "(II)I" } : Jvm.MethodName)) ∈ lw_all := lw_g (lw_at lw_m8 12 rfl) rfl
theorem q1792 : (Jvm.Cond.privateMethod ({ cls := "PretendDeskModel", name := "changed", desc := "(II)I" } : Jvm.MethodName)) ∈ lw_tbl := lw_at lw_m8 13 rfl
theorem q1793 : (Jvm.Cond.instanceMethod ({ cls := "PretendDeskModel", name := "changed", desc := "(II)I" } : Jvm.MethodName)) ∈ lw_all := lw_g (lw_at lw_m8 14 rfl) rfl
theorem q1794 : (Jvm.Cond.code ({ cls := "PretendDeskModel", name := "changed", desc := "(II)I" } : Jvm.MethodName) prog_21_method_49_code (3 : Nat) (Option.some Jvm.ClassFile.FieldType.int)) ∈ lw_all := lw_g (lw_at lw_m8 15 rfl) rfl
theorem q1796 : (Jvm.Cond.instanceMethod ({ cls := "PretendDeskModel", name := "look", desc := "(IIII)I" } : Jvm.MethodName)) ∈ lw_all := lw_g (lw_at lw_m8 17 rfl) rfl
theorem q1797 : (Jvm.Cond.selects "PretendDeskModel" ({ cls := "PretendDeskModel", name := "look", desc := "(IIII)I" } : Jvm.MethodName) ({ cls := "PretendDeskModel", name := "look", desc := "(IIII)I" } : Jvm.MethodName)) ∈ lw_all := lw_g (lw_at lw_m8 18 rfl) rfl
theorem q1798 : (Jvm.Cond.code ({ cls := "PretendDeskModel", name := "look", desc := "(IIII)I" } : Jvm.MethodName) prog_21_method_60_code (5 : Nat) (Option.some Jvm.ClassFile.FieldType.int)) ∈ lw_all := lw_g (lw_at lw_m8 19 rfl) rfl
theorem q1799 : (Jvm.Cond.methodLink "PretendDeskModel" (264 : Nat) ({ cls := "PretendDeskModel", name := "shows", desc := "(III)V" } : Jvm.MethodName)) ∈ lw_all := lw_g (lw_at lw_m8 20 rfl) rfl
theorem q1800 : (Jvm.Cond.privateMethod ({ cls := "PretendDeskModel", name := "shows", desc := "(III)V" } : Jvm.MethodName)) ∈ lw_tbl := lw_at lw_m8 21 rfl
theorem q1801 : (Jvm.Cond.instanceMethod ({ cls := "PretendDeskModel", name := "shows", desc := "(III)V" } : Jvm.MethodName)) ∈ lw_all := lw_g (lw_at lw_m8 22 rfl) rfl
theorem q1802 : (Jvm.Cond.code ({ cls := "PretendDeskModel", name := "shows", desc := "(III)V" } : Jvm.MethodName) prog_21_method_59_code (4 : Nat) (Option.none : Option Jvm.ClassFile.FieldType)) ∈ lw_all := lw_g (lw_at lw_m8 23 rfl) rfl
theorem q1803 : (Jvm.Cond.methodLink "PretendDeskModel" (267 : Nat) ({ cls := "PretendDeskModel", name := "lookAt", desc := "(III)I" } : Jvm.MethodName)) ∈ lw_all := lw_g (lw_at lw_m8 24 rfl) rfl
theorem q1804 : (Jvm.Cond.privateMethod ({ cls := "PretendDeskModel", name := "lookAt", desc := "(III)I" } : Jvm.MethodName)) ∈ lw_tbl := lw_at lw_m8 25 rfl
theorem q1805 : (Jvm.Cond.instanceMethod ({ cls := "PretendDeskModel", name := "lookAt", desc := "(III)I" } : Jvm.MethodName)) ∈ lw_all := lw_g (lw_at lw_m8 26 rfl) rfl
theorem q1806 : (Jvm.Cond.code ({ cls := "PretendDeskModel", name := "lookAt", desc := "(III)I" } : Jvm.MethodName) prog_21_method_58_code (6 : Nat) (Option.some Jvm.ClassFile.FieldType.int)) ∈ lw_all := lw_g (lw_at lw_m8 27 rfl) rfl
theorem q1808 : (Jvm.Cond.instanceMethod ({ cls := "PretendDeskModel", name := "like", desc := "(III)I" } : Jvm.MethodName)) ∈ lw_all := lw_g (lw_at lw_m8 29 rfl) rfl
theorem q1809 : (Jvm.Cond.selects "PretendDeskModel" ({ cls := "PretendDeskModel", name := "like", desc := "(III)I" } : Jvm.MethodName) ({ cls := "PretendDeskModel", name := "like", desc := "(III)I" } : Jvm.MethodName)) ∈ lw_all := lw_g (lw_at lw_m8 30 rfl) rfl
theorem q1810 : (Jvm.Cond.code ({ cls := "PretendDeskModel", name := "like", desc := "(III)I" } : Jvm.MethodName) prog_21_method_62_code (4 : Nat) (Option.some Jvm.ClassFile.FieldType.int)) ∈ lw_all := lw_g (lw_at lw_m8 31 rfl) rfl
theorem q1811 : (Jvm.Cond.methodLink "PretendDeskModel" (273 : Nat) ({ cls := "PretendDeskModel", name := "likeNow", desc := "(II)I" } : Jvm.MethodName)) ∈ lw_all := lw_g (lw_at lw_m8 32 rfl) rfl
theorem q1812 : (Jvm.Cond.privateMethod ({ cls := "PretendDeskModel", name := "likeNow", desc := "(II)I" } : Jvm.MethodName)) ∈ lw_tbl := lw_at lw_m8 33 rfl
theorem q1813 : (Jvm.Cond.instanceMethod ({ cls := "PretendDeskModel", name := "likeNow", desc := "(II)I" } : Jvm.MethodName)) ∈ lw_all := lw_g (lw_at lw_m8 34 rfl) rfl
theorem q1814 : (Jvm.Cond.code ({ cls := "PretendDeskModel", name := "likeNow", desc := "(II)I" } : Jvm.MethodName) prog_21_method_61_code (6 : Nat) (Option.some Jvm.ClassFile.FieldType.int)) ∈ lw_all := lw_g (lw_at lw_m8 35 rfl) rfl
theorem q1816 : (Jvm.Cond.instanceMethod ({ cls := "PretendDeskModel", name := "asks", desc := "(III)I" } : Jvm.MethodName)) ∈ lw_all := lw_g (lw_at lw_m8 37 rfl) rfl
theorem q1817 : (Jvm.Cond.selects "PretendDeskModel" ({ cls := "PretendDeskModel", name := "asks", desc := "(III)I" } : Jvm.MethodName) ({ cls := "PretendDeskModel", name := "asks", desc := "(III)I" } : Jvm.MethodName)) ∈ lw_all := lw_g (lw_at lw_m8 38 rfl) rfl
theorem q1818 : (Jvm.Cond.code ({ cls := "PretendDeskModel", name := "asks", desc := "(III)I" } : Jvm.MethodName) prog_21_method_63_code (4 : Nat) (Option.some Jvm.ClassFile.FieldType.int)) ∈ lw_all := lw_g (lw_at lw_m8 39 rfl) rfl
theorem q1820 : (Jvm.Cond.instanceMethod ({ cls := "PretendDeskModel", name := "strange", desc := "()I" } : Jvm.MethodName)) ∈ lw_all := lw_g (lw_at lw_m8 41 rfl) rfl
theorem q1821 : (Jvm.Cond.selects "PretendDeskModel" ({ cls := "PretendDeskModel", name := "strange", desc := "()I" } : Jvm.MethodName) ({ cls := "PretendDeskModel", name := "strange", desc := "()I" } : Jvm.MethodName)) ∈ lw_all := lw_g (lw_at lw_m8 42 rfl) rfl
theorem q1822 : (Jvm.Cond.code ({ cls := "PretendDeskModel", name := "strange", desc := "()I" } : Jvm.MethodName) prog_21_method_64_code (7 : Nat) (Option.some Jvm.ClassFile.FieldType.int)) ∈ lw_all := lw_g (lw_at lw_m8 43 rfl) rfl
theorem q1824 : (Jvm.Cond.instanceMethod ({ cls := "PretendDeskModel", name := "marks", desc := "(III)Z" } : Jvm.MethodName)) ∈ lw_all := lw_g (lw_at lw_m8 45 rfl) rfl
theorem q1825 : (Jvm.Cond.selects "PretendDeskModel" ({ cls := "PretendDeskModel", name := "marks", desc := "(III)Z" } : Jvm.MethodName) ({ cls := "PretendDeskModel", name := "marks", desc := "(III)Z" } : Jvm.MethodName)) ∈ lw_all := lw_g (lw_at lw_m8 46 rfl) rfl
theorem q1826 : (Jvm.Cond.code ({ cls := "PretendDeskModel", name := "marks", desc := "(III)Z" } : Jvm.MethodName) prog_21_method_65_code (4 : Nat) (Option.some Jvm.ClassFile.FieldType.boolean)) ∈ lw_all := lw_g (lw_at lw_m8 47 rfl) rfl
theorem q1828 : (Jvm.Cond.instanceMethod ({ cls := "PretendDeskModel", name := "signs", desc := "(III)I" } : Jvm.MethodName)) ∈ lw_all := lw_g (lw_at lw_m8 49 rfl) rfl
theorem q1829 : (Jvm.Cond.selects "PretendDeskModel" ({ cls := "PretendDeskModel", name := "signs", desc := "(III)I" } : Jvm.MethodName) ({ cls := "PretendDeskModel", name := "signs", desc := "(III)I" } : Jvm.MethodName)) ∈ lw_all := lw_g (lw_at lw_m8 50 rfl) rfl
theorem q1830 : (Jvm.Cond.code ({ cls := "PretendDeskModel", name := "signs", desc := "(III)I" } : Jvm.MethodName) prog_21_method_71_code (4 : Nat) (Option.some Jvm.ClassFile.FieldType.int)) ∈ lw_all := lw_g (lw_at lw_m8 51 rfl) rfl
theorem q1831 : (Jvm.Cond.methodLink "PretendDeskModel" (303 : Nat) ({ cls := "PretendDeskModel", name := "signsOf", desc := "(III)I" } : Jvm.MethodName)) ∈ lw_all := lw_g (lw_at lw_m8 52 rfl) rfl
theorem q1832 : (Jvm.Cond.privateMethod ({ cls := "PretendDeskModel", name := "signsOf", desc := "(III)I" } : Jvm.MethodName)) ∈ lw_tbl := lw_at lw_m8 53 rfl
theorem q1833 : (Jvm.Cond.instanceMethod ({ cls := "PretendDeskModel", name := "signsOf", desc := "(III)I" } : Jvm.MethodName)) ∈ lw_all := lw_g (lw_at lw_m8 54 rfl) rfl
theorem q1834 : (Jvm.Cond.code ({ cls := "PretendDeskModel", name := "signsOf", desc := "(III)I" } : Jvm.MethodName) prog_21_method_70_code (4 : Nat) (Option.some Jvm.ClassFile.FieldType.int)) ∈ lw_all := lw_g (lw_at lw_m8 55 rfl) rfl
theorem q1835 : (Jvm.Cond.methodLink "PretendDeskModel" (294 : Nat) ({ cls := "PretendDeskModel", name := "judges", desc := "(III)V" } : Jvm.MethodName)) ∈ lw_all := lw_g (lw_at lw_m8 56 rfl) rfl
theorem q1836 : (Jvm.Cond.privateMethod ({ cls := "PretendDeskModel", name := "judges", desc := "(III)V" } : Jvm.MethodName)) ∈ lw_tbl := lw_at lw_m8 57 rfl
theorem q1837 : (Jvm.Cond.instanceMethod ({ cls := "PretendDeskModel", name := "judges", desc := "(III)V" } : Jvm.MethodName)) ∈ lw_all := lw_g (lw_at lw_m8 58 rfl) rfl
theorem q1838 : (Jvm.Cond.code ({ cls := "PretendDeskModel", name := "judges", desc := "(III)V" } : Jvm.MethodName) prog_21_method_67_code (4 : Nat) (Option.none : Option Jvm.ClassFile.FieldType)) ∈ lw_all := lw_g (lw_at lw_m8 59 rfl) rfl
theorem q1839 : (Jvm.Cond.methodLink "PretendDeskModel" (285 : Nat) ({ cls := "PretendDeskModel", name := "isNameOf", desc := "(II)Z" } : Jvm.MethodName)) ∈ lw_all := lw_g (lw_at lw_m8 60 rfl) rfl
theorem q1840 : (Jvm.Cond.privateMethod ({ cls := "PretendDeskModel", name := "isNameOf", desc := "(II)Z" } : Jvm.MethodName)) ∈ lw_tbl := lw_at lw_m8 61 rfl
theorem q1841 : (Jvm.Cond.instanceMethod ({ cls := "PretendDeskModel", name := "isNameOf", desc := "(II)Z" } : Jvm.MethodName)) ∈ lw_all := lw_g (lw_at lw_m8 62 rfl) rfl
theorem q1842 : (Jvm.Cond.code ({ cls := "PretendDeskModel", name := "isNameOf", desc := "(II)Z" } : Jvm.MethodName) prog_21_method_42_code (5 : Nat) (Option.some Jvm.ClassFile.FieldType.boolean)) ∈ lw_all := lw_g (lw_at lw_m8 63 rfl) rfl
theorem q1843 : (Jvm.Cond.methodLink "PretendDeskModel" (297 : Nat) ({ cls := "PretendDeskModel", name := "ageOf", desc := "(II)I" } : Jvm.MethodName)) ∈ lw_all := lw_g (lw_at lw_m8 64 rfl) rfl
theorem q1844 : (Jvm.Cond.privateMethod ({ cls := "PretendDeskModel", name := "ageOf", desc := "(II)I" } : Jvm.MethodName)) ∈ lw_tbl := lw_at lw_m8 65 rfl
theorem q1845 : (Jvm.Cond.instanceMethod ({ cls := "PretendDeskModel", name := "ageOf", desc := "(II)I" } : Jvm.MethodName)) ∈ lw_all := lw_g (lw_at lw_m8 66 rfl) rfl
theorem q1846 : (Jvm.Cond.code ({ cls := "PretendDeskModel", name := "ageOf", desc := "(II)I" } : Jvm.MethodName) prog_21_method_66_code (3 : Nat) (Option.some Jvm.ClassFile.FieldType.int)) ∈ lw_all := lw_g (lw_at lw_m8 67 rfl) rfl
theorem q1847 : (Jvm.Cond.methodLink "PretendDeskModel" (300 : Nat) ({ cls := "PretendDeskModel", name := "signsBy", desc := "(I)I" } : Jvm.MethodName)) ∈ lw_all := lw_g (lw_at lw_m8 68 rfl) rfl
theorem q1848 : (Jvm.Cond.privateMethod ({ cls := "PretendDeskModel", name := "signsBy", desc := "(I)I" } : Jvm.MethodName)) ∈ lw_tbl := lw_at lw_m8 69 rfl
theorem q1849 : (Jvm.Cond.instanceMethod ({ cls := "PretendDeskModel", name := "signsBy", desc := "(I)I" } : Jvm.MethodName)) ∈ lw_all := lw_g (lw_at lw_m8 70 rfl) rfl
theorem q1850 : (Jvm.Cond.code ({ cls := "PretendDeskModel", name := "signsBy", desc := "(I)I" } : Jvm.MethodName) prog_21_method_68_code (3 : Nat) (Option.some Jvm.ClassFile.FieldType.int)) ∈ lw_all := lw_g (lw_at lw_m8 71 rfl) rfl
theorem q1852 : (Jvm.Cond.instanceMethod ({ cls := "PretendDeskModel", name := "say", desc := "(III)I" } : Jvm.MethodName)) ∈ lw_all := lw_g (lw_at lw_m8 73 rfl) rfl
theorem q1853 : (Jvm.Cond.selects "PretendDeskModel" ({ cls := "PretendDeskModel", name := "say", desc := "(III)I" } : Jvm.MethodName) ({ cls := "PretendDeskModel", name := "say", desc := "(III)I" } : Jvm.MethodName)) ∈ lw_all := lw_g (lw_at lw_m8 74 rfl) rfl
theorem q1854 : (Jvm.Cond.code ({ cls := "PretendDeskModel", name := "say", desc := "(III)I" } : Jvm.MethodName) prog_21_method_72_code (4 : Nat) (Option.some Jvm.ClassFile.FieldType.int)) ∈ lw_all := lw_g (lw_at lw_m8 75 rfl) rfl
theorem q1855 : (Jvm.Cond.methodLink "PretendDeskModel" (306 : Nat) ({ cls := "PretendDeskModel", name := "sayOf", desc := "(I)I" } : Jvm.MethodName)) ∈ lw_all := lw_g (lw_at lw_m8 76 rfl) rfl
theorem q1856 : (Jvm.Cond.static ({ cls := "PretendDeskModel", name := "sayOf", desc := "(I)I" } : Jvm.MethodName)) ∈ lw_all := lw_g (lw_at lw_m8 77 rfl) rfl
theorem q1857 : (Jvm.Cond.code ({ cls := "PretendDeskModel", name := "sayOf", desc := "(I)I" } : Jvm.MethodName) prog_21_method_69_code (1 : Nat) (Option.some Jvm.ClassFile.FieldType.int)) ∈ lw_all := lw_g (lw_at lw_m8 78 rfl) rfl
theorem q1858 : (Jvm.Cond.methodLink "PretendDeskModel" (291 : Nat) ({ cls := "PretendDeskModel", name := "ones", desc := "(I)I" } : Jvm.MethodName)) ∈ lw_all := lw_g (lw_at lw_m8 79 rfl) rfl
theorem q1859 : (Jvm.Cond.static ({ cls := "PretendDeskModel", name := "ones", desc := "(I)I" } : Jvm.MethodName)) ∈ lw_all := lw_g (lw_at lw_m8 80 rfl) rfl
theorem q1860 : (Jvm.Cond.code ({ cls := "PretendDeskModel", name := "ones", desc := "(I)I" } : Jvm.MethodName) prog_21_method_3_code (3 : Nat) (Option.some Jvm.ClassFile.FieldType.int)) ∈ lw_all := lw_g (lw_at lw_m8 81 rfl) rfl
theorem q1862 : (Jvm.Cond.instanceMethod ({ cls := "PretendDeskModel", name := "differs", desc := "(IIIII)I" } : Jvm.MethodName)) ∈ lw_all := lw_g (lw_at lw_m8 83 rfl) rfl
theorem q1863 : (Jvm.Cond.selects "PretendDeskModel" ({ cls := "PretendDeskModel", name := "differs", desc := "(IIIII)I" } : Jvm.MethodName) ({ cls := "PretendDeskModel", name := "differs", desc := "(IIIII)I" } : Jvm.MethodName)) ∈ lw_all := lw_g (lw_at lw_m8 84 rfl) rfl
theorem q1864 : (Jvm.Cond.code ({ cls := "PretendDeskModel", name := "differs", desc := "(IIIII)I" } : Jvm.MethodName) prog_21_method_73_code (6 : Nat) (Option.some Jvm.ClassFile.FieldType.int)) ∈ lw_all := lw_g (lw_at lw_m8 85 rfl) rfl
theorem q1866 : (Jvm.Cond.instanceMethod ({ cls := "PretendDeskModel", name := "hides", desc := "(II)I" } : Jvm.MethodName)) ∈ lw_all := lw_g (lw_at lw_m8 87 rfl) rfl
theorem q1867 : (Jvm.Cond.selects "PretendDeskModel" ({ cls := "PretendDeskModel", name := "hides", desc := "(II)I" } : Jvm.MethodName) ({ cls := "PretendDeskModel", name := "hides", desc := "(II)I" } : Jvm.MethodName)) ∈ lw_all := lw_g (lw_at lw_m8 88 rfl) rfl
theorem q1868 : (Jvm.Cond.code ({ cls := "PretendDeskModel", name := "hides", desc := "(II)I" } : Jvm.MethodName) prog_21_method_74_code (7 : Nat) (Option.some Jvm.ClassFile.FieldType.int)) ∈ lw_all := lw_g (lw_at lw_m8 89 rfl) rfl
theorem q1870 : (Jvm.Cond.instanceMethod ({ cls := "PretendDeskModel", name := "late", desc := "(II)I" } : Jvm.MethodName)) ∈ lw_all := lw_g (lw_at lw_m8 91 rfl) rfl
theorem q1871 : (Jvm.Cond.selects "PretendDeskModel" ({ cls := "PretendDeskModel", name := "late", desc := "(II)I" } : Jvm.MethodName) ({ cls := "PretendDeskModel", name := "late", desc := "(II)I" } : Jvm.MethodName)) ∈ lw_all := lw_g (lw_at lw_m8 92 rfl) rfl
theorem q1872 : (Jvm.Cond.code ({ cls := "PretendDeskModel", name := "late", desc := "(II)I" } : Jvm.MethodName) prog_21_method_75_code (5 : Nat) (Option.some Jvm.ClassFile.FieldType.int)) ∈ lw_all := lw_g (lw_at lw_m8 93 rfl) rfl
theorem q1874 : (Jvm.Cond.instanceMethod ({ cls := "PretendDeskModel", name := "keep", desc := "(IIZ)I" } : Jvm.MethodName)) ∈ lw_all := lw_g (lw_at lw_m8 95 rfl) rfl
theorem q1875 : (Jvm.Cond.selects "PretendDeskModel" ({ cls := "PretendDeskModel", name := "keep", desc := "(IIZ)I" } : Jvm.MethodName) ({ cls := "PretendDeskModel", name := "keep", desc := "(IIZ)I" } : Jvm.MethodName)) ∈ lw_all := lw_g (lw_at lw_m8 96 rfl) rfl
theorem q1876 : (Jvm.Cond.code ({ cls := "PretendDeskModel", name := "keep", desc := "(IIZ)I" } : Jvm.MethodName) prog_21_method_76_code (5 : Nat) (Option.some Jvm.ClassFile.FieldType.int)) ∈ lw_all := lw_g (lw_at lw_m8 97 rfl) rfl
theorem q1878 : (Jvm.Cond.instanceMethod ({ cls := "PretendDeskModel", name := "fit", desc := "(II)I" } : Jvm.MethodName)) ∈ lw_all := lw_g (lw_at lw_m8 99 rfl) rfl
theorem q1879 : (Jvm.Cond.selects "PretendDeskModel" ({ cls := "PretendDeskModel", name := "fit", desc := "(II)I" } : Jvm.MethodName) ({ cls := "PretendDeskModel", name := "fit", desc := "(II)I" } : Jvm.MethodName)) ∈ lw_all := lw_g (lw_at lw_m8 100 rfl) rfl
theorem q1880 : (Jvm.Cond.code ({ cls := "PretendDeskModel", name := "fit", desc := "(II)I" } : Jvm.MethodName) prog_21_method_82_code (3 : Nat) (Option.some Jvm.ClassFile.FieldType.int)) ∈ lw_all := lw_g (lw_at lw_m8 101 rfl) rfl
theorem q1881 : (Jvm.Cond.methodLink "PretendDeskModel" (322 : Nat) ({ cls := "PretendDeskModel", name := "fits", desc := "(I)V" } : Jvm.MethodName)) ∈ lw_all := lw_g (lw_at lw_m8 102 rfl) rfl
theorem q1882 : (Jvm.Cond.privateMethod ({ cls := "PretendDeskModel", name := "fits", desc := "(I)V" } : Jvm.MethodName)) ∈ lw_tbl := lw_at lw_m8 103 rfl
theorem q1883 : (Jvm.Cond.instanceMethod ({ cls := "PretendDeskModel", name := "fits", desc := "(I)V" } : Jvm.MethodName)) ∈ lw_all := lw_g (lw_at lw_m8 104 rfl) rfl
theorem q1884 : (Jvm.Cond.code ({ cls := "PretendDeskModel", name := "fits", desc := "(I)V" } : Jvm.MethodName) prog_21_method_81_code (8 : Nat) (Option.none : Option Jvm.ClassFile.FieldType)) ∈ lw_all := lw_g (lw_at lw_m8 105 rfl) rfl
theorem q1885 : (Jvm.Cond.methodLink "PretendDeskModel" (309 : Nat) ({ cls := "PretendDeskModel", name := "weighs", desc := "()V" } : Jvm.MethodName)) ∈ lw_all := lw_g (lw_at lw_m8 106 rfl) rfl
theorem q1886 : (Jvm.Cond.privateMethod ({ cls := "PretendDeskModel", name := "weighs", desc := "()V" } : Jvm.MethodName)) ∈ lw_tbl := lw_at lw_m8 107 rfl
theorem q1887 : (Jvm.Cond.instanceMethod ({ cls := "PretendDeskModel", name := "weighs", desc := "()V" } : Jvm.MethodName)) ∈ lw_all := lw_g (lw_at lw_m8 108 rfl) rfl
theorem q1888 : (Jvm.Cond.code ({ cls := "PretendDeskModel", name := "weighs", desc := "()V" } : Jvm.MethodName) prog_21_method_77_code (3 : Nat) (Option.none : Option Jvm.ClassFile.FieldType)) ∈ lw_all := lw_g (lw_at lw_m8 109 rfl) rfl
theorem q1889 : (Jvm.Cond.methodLink "PretendDeskModel" (312 : Nat) ({ cls := "PretendDeskModel", name := "tells", desc := "(II)Z" } : Jvm.MethodName)) ∈ lw_all := lw_g (lw_at lw_m8 110 rfl) rfl
theorem q1890 : (Jvm.Cond.privateMethod ({ cls := "PretendDeskModel", name := "tells", desc := "(II)Z" } : Jvm.MethodName)) ∈ lw_tbl := lw_at lw_m8 111 rfl
theorem q1891 : (Jvm.Cond.instanceMethod ({ cls := "PretendDeskModel", name := "tells", desc := "(II)Z" } : Jvm.MethodName)) ∈ lw_all := lw_g (lw_at lw_m8 112 rfl) rfl
theorem q1892 : (Jvm.Cond.code ({ cls := "PretendDeskModel", name := "tells", desc := "(II)Z" } : Jvm.MethodName) prog_21_method_80_code (4 : Nat) (Option.some Jvm.ClassFile.FieldType.boolean)) ∈ lw_all := lw_g (lw_at lw_m8 113 rfl) rfl
theorem q1893 : (Jvm.Cond.methodLink "PretendDeskModel" (315 : Nat) ({ cls := "PretendDeskModel", name := "missed", desc := "(Z)I" } : Jvm.MethodName)) ∈ lw_all := lw_g (lw_at lw_m8 114 rfl) rfl
theorem q1894 : (Jvm.Cond.privateMethod ({ cls := "PretendDeskModel", name := "missed", desc := "(Z)I" } : Jvm.MethodName)) ∈ lw_tbl := lw_at lw_m8 115 rfl
theorem q1895 : (Jvm.Cond.instanceMethod ({ cls := "PretendDeskModel", name := "missed", desc := "(Z)I" } : Jvm.MethodName)) ∈ lw_all := lw_g (lw_at lw_m8 116 rfl) rfl
theorem q1896 : (Jvm.Cond.code ({ cls := "PretendDeskModel", name := "missed", desc := "(Z)I" } : Jvm.MethodName) prog_21_method_78_code (6 : Nat) (Option.some Jvm.ClassFile.FieldType.int)) ∈ lw_all := lw_g (lw_at lw_m8 117 rfl) rfl
theorem q1897 : (Jvm.Cond.methodLink "PretendDeskModel" (319 : Nat) ({ cls := "PretendDeskModel", name := "isAhead", desc := "(II)Z" } : Jvm.MethodName)) ∈ lw_all := lw_g (lw_at lw_m8 118 rfl) rfl
theorem q1898 : (Jvm.Cond.privateMethod ({ cls := "PretendDeskModel", name := "isAhead", desc := "(II)Z" } : Jvm.MethodName)) ∈ lw_tbl := lw_at lw_m8 119 rfl
theorem q1899 : (Jvm.Cond.instanceMethod ({ cls := "PretendDeskModel", name := "isAhead", desc := "(II)Z" } : Jvm.MethodName)) ∈ lw_all := lw_g (lw_at lw_m8 120 rfl) rfl
theorem q1900 : (Jvm.Cond.code ({ cls := "PretendDeskModel", name := "isAhead", desc := "(II)Z" } : Jvm.MethodName) prog_21_method_79_code (3 : Nat) (Option.some Jvm.ClassFile.FieldType.boolean)) ∈ lw_all := lw_g (lw_at lw_m8 121 rfl) rfl
theorem q1902 : (Jvm.Cond.instanceMethod ({ cls := "PretendDeskModel", name := "change", desc := "(IIIII)I" } : Jvm.MethodName)) ∈ lw_all := lw_g (lw_at lw_m8 123 rfl) rfl
theorem q1903 : (Jvm.Cond.selects "PretendDeskModel" ({ cls := "PretendDeskModel", name := "change", desc := "(IIIII)I" } : Jvm.MethodName) ({ cls := "PretendDeskModel", name := "change", desc := "(IIIII)I" } : Jvm.MethodName)) ∈ lw_all := lw_g (lw_at lw_m8 124 rfl) rfl
theorem q1904 : (Jvm.Cond.code ({ cls := "PretendDeskModel", name := "change", desc := "(IIIII)I" } : Jvm.MethodName) prog_21_method_83_code (9 : Nat) (Option.some Jvm.ClassFile.FieldType.int)) ∈ lw_all := lw_g (lw_at lw_m8 125 rfl) rfl
theorem q1906 : (Jvm.Cond.instanceMethod ({ cls := "PretendDeskModel", name := "pass", desc := "(IIIII)I" } : Jvm.MethodName)) ∈ lw_all := lw_g (lw_at lw_m8 127 rfl) rfl
theorem q1907 : (Jvm.Cond.selects "PretendDeskModel" ({ cls := "PretendDeskModel", name := "pass", desc := "(IIIII)I" } : Jvm.MethodName) ({ cls := "PretendDeskModel", name := "pass", desc := "(IIIII)I" } : Jvm.MethodName)) ∈ lw_all := lw_g (lw_at lw_m8 128 rfl) rfl
theorem q1908 : (Jvm.Cond.code ({ cls := "PretendDeskModel", name := "pass", desc := "(IIIII)I" } : Jvm.MethodName) prog_21_method_87_code (11 : Nat) (Option.some Jvm.ClassFile.FieldType.int)) ∈ lw_all := lw_g (lw_at lw_m8 129 rfl) rfl
theorem q1909 : (Jvm.Cond.methodLink "PretendDeskModel" (331 : Nat) ({ cls := "PretendDeskModel", name := "isForger", desc := "(IIII)Z" } : Jvm.MethodName)) ∈ lw_all := lw_g (lw_at lw_m8 130 rfl) rfl
theorem q1910 : (Jvm.Cond.privateMethod ({ cls := "PretendDeskModel", name := "isForger", desc := "(IIII)Z" } : Jvm.MethodName)) ∈ lw_tbl := lw_at lw_m8 131 rfl
theorem q1911 : (Jvm.Cond.instanceMethod ({ cls := "PretendDeskModel", name := "isForger", desc := "(IIII)Z" } : Jvm.MethodName)) ∈ lw_all := lw_g (lw_at lw_m8 132 rfl) rfl
theorem q1912 : (Jvm.Cond.code ({ cls := "PretendDeskModel", name := "isForger", desc := "(IIII)Z" } : Jvm.MethodName) prog_21_method_86_code (5 : Nat) (Option.some Jvm.ClassFile.FieldType.boolean)) ∈ lw_all := lw_g (lw_at lw_m8 133 rfl) rfl
theorem q1913 : (Jvm.Cond.methodLink "PretendDeskModel" (335 : Nat) ({ cls := "PretendDeskModel", name := "forges", desc := "(III)V" } : Jvm.MethodName)) ∈ lw_all := lw_g (lw_at lw_m8 134 rfl) rfl
theorem q1914 : (Jvm.Cond.privateMethod ({ cls := "PretendDeskModel", name := "forges", desc := "(III)V" } : Jvm.MethodName)) ∈ lw_tbl := lw_at lw_m8 135 rfl
theorem q1915 : (Jvm.Cond.instanceMethod ({ cls := "PretendDeskModel", name := "forges", desc := "(III)V" } : Jvm.MethodName)) ∈ lw_all := lw_g (lw_at lw_m8 136 rfl) rfl
theorem q1916 : (Jvm.Cond.code ({ cls := "PretendDeskModel", name := "forges", desc := "(III)V" } : Jvm.MethodName) prog_21_method_84_code (6 : Nat) (Option.none : Option Jvm.ClassFile.FieldType)) ∈ lw_all := lw_g (lw_at lw_m8 137 rfl) rfl
theorem q1917 : (Jvm.Cond.methodLink "PretendDeskModel" (338 : Nat) ({ cls := "PretendDeskModel", name := "isForgery", desc := "(II)Z" } : Jvm.MethodName)) ∈ lw_all := lw_g (lw_at lw_m8 138 rfl) rfl
theorem q1918 : (Jvm.Cond.privateMethod ({ cls := "PretendDeskModel", name := "isForgery", desc := "(II)Z" } : Jvm.MethodName)) ∈ lw_tbl := lw_at lw_m8 139 rfl
theorem q1919 : (Jvm.Cond.instanceMethod ({ cls := "PretendDeskModel", name := "isForgery", desc := "(II)Z" } : Jvm.MethodName)) ∈ lw_all := lw_g (lw_at lw_m8 140 rfl) rfl
theorem q1920 : (Jvm.Cond.code ({ cls := "PretendDeskModel", name := "isForgery", desc := "(II)Z" } : Jvm.MethodName) prog_21_method_85_code (3 : Nat) (Option.some Jvm.ClassFile.FieldType.boolean)) ∈ lw_all := lw_g (lw_at lw_m8 141 rfl) rfl
theorem q1922 : (Jvm.Cond.instanceMethod ({ cls := "PretendDeskModel", name := "met", desc := "(IIII)I" } : Jvm.MethodName)) ∈ lw_all := lw_g (lw_at lw_m8 143 rfl) rfl
theorem q1923 : (Jvm.Cond.selects "PretendDeskModel" ({ cls := "PretendDeskModel", name := "met", desc := "(IIII)I" } : Jvm.MethodName) ({ cls := "PretendDeskModel", name := "met", desc := "(IIII)I" } : Jvm.MethodName)) ∈ lw_all := lw_g (lw_at lw_m8 144 rfl) rfl
theorem q1924 : (Jvm.Cond.code ({ cls := "PretendDeskModel", name := "met", desc := "(IIII)I" } : Jvm.MethodName) prog_21_method_88_code (9 : Nat) (Option.some Jvm.ClassFile.FieldType.int)) ∈ lw_all := lw_g (lw_at lw_m8 145 rfl) rfl
theorem q1926 : (Jvm.Cond.instanceMethod ({ cls := "PretendDeskModel", name := "odds", desc := "(III)I" } : Jvm.MethodName)) ∈ lw_all := lw_g (lw_at lw_m8 147 rfl) rfl
theorem q1927 : (Jvm.Cond.selects "PretendDeskModel" ({ cls := "PretendDeskModel", name := "odds", desc := "(III)I" } : Jvm.MethodName) ({ cls := "PretendDeskModel", name := "odds", desc := "(III)I" } : Jvm.MethodName)) ∈ lw_all := lw_g (lw_at lw_m8 148 rfl) rfl
theorem q1928 : (Jvm.Cond.code ({ cls := "PretendDeskModel", name := "odds", desc := "(III)I" } : Jvm.MethodName) prog_21_method_92_code (4 : Nat) (Option.some Jvm.ClassFile.FieldType.int)) ∈ lw_all := lw_g (lw_at lw_m8 149 rfl) rfl
theorem q1929 : (Jvm.Cond.methodLink "PretendDeskModel" (347 : Nat) ({ cls := "PretendDeskModel", name := "oddsOf", desc := "(II)I" } : Jvm.MethodName)) ∈ lw_all := lw_g (lw_at lw_m8 150 rfl) rfl
theorem q1930 : (Jvm.Cond.privateMethod ({ cls := "PretendDeskModel", name := "oddsOf", desc := "(II)I" } : Jvm.MethodName)) ∈ lw_tbl := lw_at lw_m8 151 rfl
theorem q1931 : (Jvm.Cond.instanceMethod ({ cls := "PretendDeskModel", name := "oddsOf", desc := "(II)I" } : Jvm.MethodName)) ∈ lw_all := lw_g (lw_at lw_m8 152 rfl) rfl
theorem q1932 : (Jvm.Cond.code ({ cls := "PretendDeskModel", name := "oddsOf", desc := "(II)I" } : Jvm.MethodName) prog_21_method_91_code (7 : Nat) (Option.some Jvm.ClassFile.FieldType.int)) ∈ lw_all := lw_g (lw_at lw_m8 153 rfl) rfl
theorem q1933 : (Jvm.Cond.methodLink "PretendDeskModel" (341 : Nat) ({ cls := "PretendDeskModel", name := "pieces", desc := "(I)I" } : Jvm.MethodName)) ∈ lw_all := lw_g (lw_at lw_m8 154 rfl) rfl
theorem q1934 : (Jvm.Cond.privateMethod ({ cls := "PretendDeskModel", name := "pieces", desc := "(I)I" } : Jvm.MethodName)) ∈ lw_tbl := lw_at lw_m8 155 rfl
theorem q1935 : (Jvm.Cond.instanceMethod ({ cls := "PretendDeskModel", name := "pieces", desc := "(I)I" } : Jvm.MethodName)) ∈ lw_all := lw_g (lw_at lw_m8 156 rfl) rfl
theorem q1936 : (Jvm.Cond.code ({ cls := "PretendDeskModel", name := "pieces", desc := "(I)I" } : Jvm.MethodName) prog_21_method_90_code (2 : Nat) (Option.some Jvm.ClassFile.FieldType.int)) ∈ lw_all := lw_g (lw_at lw_m8 157 rfl) rfl
theorem q1937 : (Jvm.Cond.methodLink "PretendDeskModel" (344 : Nat) ({ cls := "PretendDeskModel", name := "choose", desc := "(II)I" } : Jvm.MethodName)) ∈ lw_all := lw_g (lw_at lw_m8 158 rfl) rfl
theorem q1938 : (Jvm.Cond.static ({ cls := "PretendDeskModel", name := "choose", desc := "(II)I" } : Jvm.MethodName)) ∈ lw_all := lw_g (lw_at lw_m8 159 rfl) rfl
theorem q1939 : (Jvm.Cond.code ({ cls := "PretendDeskModel", name := "choose", desc := "(II)I" } : Jvm.MethodName) prog_21_method_89_code (5 : Nat) (Option.some Jvm.ClassFile.FieldType.int)) ∈ lw_all := lw_g (lw_at lw_m8 160 rfl) rfl
theorem q1941 : (Jvm.Cond.instanceMethod ({ cls := "PretendDeskModel", name := "ring", desc := "(II)I" } : Jvm.MethodName)) ∈ lw_all := lw_g (lw_at lw_m8 162 rfl) rfl
theorem q1942 : (Jvm.Cond.selects "PretendDeskModel" ({ cls := "PretendDeskModel", name := "ring", desc := "(II)I" } : Jvm.MethodName) ({ cls := "PretendDeskModel", name := "ring", desc := "(II)I" } : Jvm.MethodName)) ∈ lw_all := lw_g (lw_at lw_m8 163 rfl) rfl
theorem q1943 : (Jvm.Cond.code ({ cls := "PretendDeskModel", name := "ring", desc := "(II)I" } : Jvm.MethodName) prog_21_method_94_code (7 : Nat) (Option.some Jvm.ClassFile.FieldType.int)) ∈ lw_all := lw_g (lw_at lw_m8 164 rfl) rfl
theorem q1944 : (Jvm.Cond.methodLink "PretendDeskModel" (350 : Nat) ({ cls := "PretendDeskModel", name := "isOneHand", desc := "(III)Z" } : Jvm.MethodName)) ∈ lw_all := lw_g (lw_at lw_m8 165 rfl) rfl
theorem q1945 : (Jvm.Cond.privateMethod ({ cls := "PretendDeskModel", name := "isOneHand", desc := "(III)Z" } : Jvm.MethodName)) ∈ lw_tbl := lw_at lw_m8 166 rfl
theorem q1946 : (Jvm.Cond.instanceMethod ({ cls := "PretendDeskModel", name := "isOneHand", desc := "(III)Z" } : Jvm.MethodName)) ∈ lw_all := lw_g (lw_at lw_m8 167 rfl) rfl
theorem q1947 : (Jvm.Cond.code ({ cls := "PretendDeskModel", name := "isOneHand", desc := "(III)Z" } : Jvm.MethodName) prog_21_method_93_code (5 : Nat) (Option.some Jvm.ClassFile.FieldType.boolean)) ∈ lw_all := lw_g (lw_at lw_m8 168 rfl) rfl
theorem q1949 : (Jvm.Cond.instanceMethod ({ cls := "PretendDeskModel", name := "sketch", desc := "(II)I" } : Jvm.MethodName)) ∈ lw_all := lw_g (lw_at lw_m8 170 rfl) rfl
theorem q1950 : (Jvm.Cond.selects "PretendDeskModel" ({ cls := "PretendDeskModel", name := "sketch", desc := "(II)I" } : Jvm.MethodName) ({ cls := "PretendDeskModel", name := "sketch", desc := "(II)I" } : Jvm.MethodName)) ∈ lw_all := lw_g (lw_at lw_m8 171 rfl) rfl
theorem q1951 : (Jvm.Cond.code ({ cls := "PretendDeskModel", name := "sketch", desc := "(II)I" } : Jvm.MethodName) prog_21_method_96_code (3 : Nat) (Option.some Jvm.ClassFile.FieldType.int)) ∈ lw_all := lw_g (lw_at lw_m8 172 rfl) rfl
theorem q1952 : (Jvm.Cond.methodLink "PretendDeskModel" (354 : Nat) ({ cls := "PretendDeskModel", name := "sketchOf", desc := "(II)I" } : Jvm.MethodName)) ∈ lw_all := lw_g (lw_at lw_m8 173 rfl) rfl
theorem q1953 : (Jvm.Cond.privateMethod ({ cls := "PretendDeskModel", name := "sketchOf", desc := "(II)I" } : Jvm.MethodName)) ∈ lw_tbl := lw_at lw_m8 174 rfl
theorem q1954 : (Jvm.Cond.instanceMethod ({ cls := "PretendDeskModel", name := "sketchOf", desc := "(II)I" } : Jvm.MethodName)) ∈ lw_all := lw_g (lw_at lw_m8 175 rfl) rfl
theorem q1955 : (Jvm.Cond.code ({ cls := "PretendDeskModel", name := "sketchOf", desc := "(II)I" } : Jvm.MethodName) prog_21_method_95_code (6 : Nat) (Option.some Jvm.ClassFile.FieldType.int)) ∈ lw_all := lw_g (lw_at lw_m8 176 rfl) rfl
theorem q1956 : (Jvm.Cond.constant "PretendDeskModel" (353 : Nat) (65535 : Int32)) ∈ lw_all := lw_g (lw_at lw_m8 177 rfl) rfl
theorem q1958 : (Jvm.Cond.instanceMethod ({ cls := "PretendDeskModel", name := "leaves", desc := "(II)I" } : Jvm.MethodName)) ∈ lw_all := lw_g (lw_at lw_m8 179 rfl) rfl
theorem q1959 : (Jvm.Cond.selects "PretendDeskModel" ({ cls := "PretendDeskModel", name := "leaves", desc := "(II)I" } : Jvm.MethodName) ({ cls := "PretendDeskModel", name := "leaves", desc := "(II)I" } : Jvm.MethodName)) ∈ lw_all := lw_g (lw_at lw_m8 180 rfl) rfl
theorem q1960 : (Jvm.Cond.code ({ cls := "PretendDeskModel", name := "leaves", desc := "(II)I" } : Jvm.MethodName) prog_21_method_97_code (6 : Nat) (Option.some Jvm.ClassFile.FieldType.int)) ∈ lw_all := lw_g (lw_at lw_m8 181 rfl) rfl
theorem q1962 : (Jvm.Cond.instanceMethod ({ cls := "PretendDeskModel", name := "warn", desc := "(III)I" } : Jvm.MethodName)) ∈ lw_all := lw_g (lw_at lw_m8 183 rfl) rfl
theorem q1963 : (Jvm.Cond.selects "PretendDeskModel" ({ cls := "PretendDeskModel", name := "warn", desc := "(III)I" } : Jvm.MethodName) ({ cls := "PretendDeskModel", name := "warn", desc := "(III)I" } : Jvm.MethodName)) ∈ lw_all := lw_g (lw_at lw_m8 184 rfl) rfl
theorem q1964 : (Jvm.Cond.code ({ cls := "PretendDeskModel", name := "warn", desc := "(III)I" } : Jvm.MethodName) prog_21_method_98_code (7 : Nat) (Option.some Jvm.ClassFile.FieldType.int)) ∈ lw_all := lw_g (lw_at lw_m8 185 rfl) rfl
theorem q1966 : (Jvm.Cond.instanceMethod ({ cls := "PretendDeskModel", name := "program", desc := "(I)I" } : Jvm.MethodName)) ∈ lw_all := lw_g (lw_at lw_m8 187 rfl) rfl
theorem q1967 : (Jvm.Cond.selects "PretendDeskModel" ({ cls := "PretendDeskModel", name := "program", desc := "(I)I" } : Jvm.MethodName) ({ cls := "PretendDeskModel", name := "program", desc := "(I)I" } : Jvm.MethodName)) ∈ lw_all := lw_g (lw_at lw_m8 188 rfl) rfl
theorem q1968 : (Jvm.Cond.code ({ cls := "PretendDeskModel", name := "program", desc := "(I)I" } : Jvm.MethodName) prog_21_method_103_code (3 : Nat) (Option.some Jvm.ClassFile.FieldType.int)) ∈ lw_all := lw_g (lw_at lw_m8 189 rfl) rfl
theorem q1969 : (Jvm.Cond.methodLink "PretendDeskModel" (369 : Nat) ({ cls := "PretendDeskModel", name := "aLine", desc := "()V" } : Jvm.MethodName)) ∈ lw_all := lw_g (lw_at lw_m8 190 rfl) rfl
theorem q1970 : (Jvm.Cond.privateMethod ({ cls := "PretendDeskModel", name := "aLine", desc := "()V" } : Jvm.MethodName)) ∈ lw_tbl := lw_at lw_m8 191 rfl
theorem q1971 : (Jvm.Cond.instanceMethod ({ cls := "PretendDeskModel", name := "aLine", desc := "()V" } : Jvm.MethodName)) ∈ lw_all := lw_g (lw_at lw_m8 192 rfl) rfl
theorem q1972 : (Jvm.Cond.code ({ cls := "PretendDeskModel", name := "aLine", desc := "()V" } : Jvm.MethodName) prog_21_method_102_code (2 : Nat) (Option.none : Option Jvm.ClassFile.FieldType)) ∈ lw_all := lw_g (lw_at lw_m8 193 rfl) rfl
theorem q1973 : (Jvm.Cond.methodLink "PretendDeskModel" (360 : Nat) ({ cls := "PretendDeskModel", name := "puts", desc := "(II)V" } : Jvm.MethodName)) ∈ lw_all := lw_g (lw_at lw_m8 194 rfl) rfl
theorem q1974 : (Jvm.Cond.privateMethod ({ cls := "PretendDeskModel", name := "puts", desc := "(II)V" } : Jvm.MethodName)) ∈ lw_tbl := lw_at lw_m8 195 rfl
theorem q1975 : (Jvm.Cond.instanceMethod ({ cls := "PretendDeskModel", name := "puts", desc := "(II)V" } : Jvm.MethodName)) ∈ lw_all := lw_g (lw_at lw_m8 196 rfl) rfl
theorem q1976 : (Jvm.Cond.code ({ cls := "PretendDeskModel", name := "puts", desc := "(II)V" } : Jvm.MethodName) prog_21_method_100_code (3 : Nat) (Option.none : Option Jvm.ClassFile.FieldType)) ∈ lw_all := lw_g (lw_at lw_m8 197 rfl) rfl
theorem q1977 : (Jvm.Cond.methodLink "PretendDeskModel" (363 : Nat) ({ cls := "PretendDeskModel", name := "must", desc := "(I)V" } : Jvm.MethodName)) ∈ lw_all := lw_g (lw_at lw_m8 198 rfl) rfl
theorem q1978 : (Jvm.Cond.privateMethod ({ cls := "PretendDeskModel", name := "must", desc := "(I)V" } : Jvm.MethodName)) ∈ lw_tbl := lw_at lw_m8 199 rfl
theorem q1979 : (Jvm.Cond.instanceMethod ({ cls := "PretendDeskModel", name := "must", desc := "(I)V" } : Jvm.MethodName)) ∈ lw_all := lw_g (lw_at lw_m8 200 rfl) rfl
theorem q1980 : (Jvm.Cond.code ({ cls := "PretendDeskModel", name := "must", desc := "(I)V" } : Jvm.MethodName) prog_21_method_99_code (2 : Nat) (Option.none : Option Jvm.ClassFile.FieldType)) ∈ lw_all := lw_g (lw_at lw_m8 201 rfl) rfl
theorem q1981 : (Jvm.Cond.methodLink "PretendDeskModel" (366 : Nat) ({ cls := "PretendDeskModel", name := "oneTo", desc := "(II)V" } : Jvm.MethodName)) ∈ lw_all := lw_g (lw_at lw_m8 202 rfl) rfl
theorem q1982 : (Jvm.Cond.privateMethod ({ cls := "PretendDeskModel", name := "oneTo", desc := "(II)V" } : Jvm.MethodName)) ∈ lw_tbl := lw_at lw_m8 203 rfl
theorem q1983 : (Jvm.Cond.instanceMethod ({ cls := "PretendDeskModel", name := "oneTo", desc := "(II)V" } : Jvm.MethodName)) ∈ lw_all := lw_g (lw_at lw_m8 204 rfl) rfl
theorem q1984 : (Jvm.Cond.code ({ cls := "PretendDeskModel", name := "oneTo", desc := "(II)V" } : Jvm.MethodName) prog_21_method_101_code (3 : Nat) (Option.none : Option Jvm.ClassFile.FieldType)) ∈ lw_all := lw_g (lw_at lw_m8 205 rfl) rfl
theorem q1986 : (Jvm.Cond.instanceMethod ({ cls := "PretendDeskModel", name := "relay", desc := "(II)Z" } : Jvm.MethodName)) ∈ lw_all := lw_g (lw_at lw_m8 207 rfl) rfl
theorem q1987 : (Jvm.Cond.selects "PretendDeskModel" ({ cls := "PretendDeskModel", name := "relay", desc := "(II)Z" } : Jvm.MethodName) ({ cls := "PretendDeskModel", name := "relay", desc := "(II)Z" } : Jvm.MethodName)) ∈ lw_all := lw_g (lw_at lw_m8 208 rfl) rfl
theorem q1988 : (Jvm.Cond.code ({ cls := "PretendDeskModel", name := "relay", desc := "(II)Z" } : Jvm.MethodName) prog_21_method_106_code (3 : Nat) (Option.some Jvm.ClassFile.FieldType.boolean)) ∈ lw_all := lw_g (lw_at lw_m8 209 rfl) rfl
theorem q1989 : (Jvm.Cond.methodLink "PretendDeskModel" (372 : Nat) ({ cls := "PretendDeskModel", name := "isAddress", desc := "(I)Z" } : Jvm.MethodName)) ∈ lw_all := lw_g (lw_at lw_m8 210 rfl) rfl
theorem q1990 : (Jvm.Cond.static ({ cls := "PretendDeskModel", name := "isAddress", desc := "(I)Z" } : Jvm.MethodName)) ∈ lw_all := lw_g (lw_at lw_m8 211 rfl) rfl
theorem q1991 : (Jvm.Cond.code ({ cls := "PretendDeskModel", name := "isAddress", desc := "(I)Z" } : Jvm.MethodName) prog_21_method_105_code (1 : Nat) (Option.some Jvm.ClassFile.FieldType.boolean)) ∈ lw_all := lw_g (lw_at lw_m8 212 rfl) rfl
theorem q1993 : (Jvm.Cond.instanceMethod ({ cls := "PretendDeskModel", name := "owner", desc := "(II)Z" } : Jvm.MethodName)) ∈ lw_all := lw_g (lw_at lw_m8 214 rfl) rfl
theorem q1994 : (Jvm.Cond.selects "PretendDeskModel" ({ cls := "PretendDeskModel", name := "owner", desc := "(II)Z" } : Jvm.MethodName) ({ cls := "PretendDeskModel", name := "owner", desc := "(II)Z" } : Jvm.MethodName)) ∈ lw_all := lw_g (lw_at lw_m8 215 rfl) rfl
theorem q1995 : (Jvm.Cond.code ({ cls := "PretendDeskModel", name := "owner", desc := "(II)Z" } : Jvm.MethodName) prog_21_method_107_code (3 : Nat) (Option.some Jvm.ClassFile.FieldType.boolean)) ∈ lw_all := lw_g (lw_at lw_m8 216 rfl) rfl
theorem q1997 : (Jvm.Cond.instanceMethod ({ cls := "PretendDeskModel", name := "goes", desc := "(IZ)I" } : Jvm.MethodName)) ∈ lw_all := lw_g (lw_at lw_m8 218 rfl) rfl
theorem q1998 : (Jvm.Cond.selects "PretendDeskModel" ({ cls := "PretendDeskModel", name := "goes", desc := "(IZ)I" } : Jvm.MethodName) ({ cls := "PretendDeskModel", name := "goes", desc := "(IZ)I" } : Jvm.MethodName)) ∈ lw_all := lw_g (lw_at lw_m8 219 rfl) rfl
theorem q1999 : (Jvm.Cond.code ({ cls := "PretendDeskModel", name := "goes", desc := "(IZ)I" } : Jvm.MethodName) prog_21_method_109_code (4 : Nat) (Option.some Jvm.ClassFile.FieldType.int)) ∈ lw_all := lw_g (lw_at lw_m8 220 rfl) rfl
theorem q2000 : (Jvm.Cond.methodLink "PretendDeskModel" (378 : Nat) ({ cls := "PretendDeskModel", name := "endOf", desc := "(I)I" } : Jvm.MethodName)) ∈ lw_all := lw_g (lw_at lw_m8 221 rfl) rfl
theorem q2001 : (Jvm.Cond.privateMethod ({ cls := "PretendDeskModel", name := "endOf", desc := "(I)I" } : Jvm.MethodName)) ∈ lw_tbl := lw_at lw_m8 222 rfl
theorem q2002 : (Jvm.Cond.instanceMethod ({ cls := "PretendDeskModel", name := "endOf", desc := "(I)I" } : Jvm.MethodName)) ∈ lw_all := lw_g (lw_at lw_m8 223 rfl) rfl
theorem q2003 : (Jvm.Cond.code ({ cls := "PretendDeskModel", name := "endOf", desc := "(I)I" } : Jvm.MethodName) prog_21_method_108_code (3 : Nat) (Option.some Jvm.ClassFile.FieldType.int)) ∈ lw_all := lw_g (lw_at lw_m8 224 rfl) rfl
theorem q2005 : (Jvm.Cond.instanceMethod ({ cls := "PretendDeskModel", name := "sent", desc := "(III)I" } : Jvm.MethodName)) ∈ lw_all := lw_g (lw_at lw_m8 226 rfl) rfl
theorem q2006 : (Jvm.Cond.selects "PretendDeskModel" ({ cls := "PretendDeskModel", name := "sent", desc := "(III)I" } : Jvm.MethodName) ({ cls := "PretendDeskModel", name := "sent", desc := "(III)I" } : Jvm.MethodName)) ∈ lw_all := lw_g (lw_at lw_m8 227 rfl) rfl
theorem q2007 : (Jvm.Cond.code ({ cls := "PretendDeskModel", name := "sent", desc := "(III)I" } : Jvm.MethodName) prog_21_method_111_code (5 : Nat) (Option.some Jvm.ClassFile.FieldType.int)) ∈ lw_all := lw_g (lw_at lw_m8 228 rfl) rfl
theorem q2008 : (Jvm.Cond.methodLink "PretendDeskModel" (381 : Nat) ({ cls := "PretendDeskModel", name := "isMade", desc := "(I)Z" } : Jvm.MethodName)) ∈ lw_all := lw_g (lw_at lw_m8 229 rfl) rfl
theorem q2009 : (Jvm.Cond.static ({ cls := "PretendDeskModel", name := "isMade", desc := "(I)Z" } : Jvm.MethodName)) ∈ lw_all := lw_g (lw_at lw_m8 230 rfl) rfl
theorem q2010 : (Jvm.Cond.code ({ cls := "PretendDeskModel", name := "isMade", desc := "(I)Z" } : Jvm.MethodName) prog_21_method_110_code (1 : Nat) (Option.some Jvm.ClassFile.FieldType.boolean)) ∈ lw_all := lw_g (lw_at lw_m8 231 rfl) rfl
theorem q2011 : (Jvm.Cond.methodLink "PretendDeskModel" (384 : Nat) ({ cls := "PretendDeskModel", name := "does", desc := "(II)I" } : Jvm.MethodName)) ∈ lw_all := lw_g (lw_at lw_m8 232 rfl) rfl
theorem q2012 : (Jvm.Cond.privateMethod ({ cls := "PretendDeskModel", name := "does", desc := "(II)I" } : Jvm.MethodName)) ∈ lw_tbl := lw_at lw_m8 233 rfl
theorem q2013 : (Jvm.Cond.instanceMethod ({ cls := "PretendDeskModel", name := "does", desc := "(II)I" } : Jvm.MethodName)) ∈ lw_all := lw_g (lw_at lw_m8 234 rfl) rfl
theorem q2014 : (Jvm.Cond.code ({ cls := "PretendDeskModel", name := "does", desc := "(II)I" } : Jvm.MethodName) prog_21_method_104_code (8 : Nat) (Option.some Jvm.ClassFile.FieldType.int)) ∈ lw_all := lw_g (lw_at lw_m8 235 rfl) rfl
theorem q2016 : (Jvm.Cond.instanceMethod ({ cls := "PretendDeskModel", name := "steps", desc := "(II)I" } : Jvm.MethodName)) ∈ lw_all := lw_g (lw_at lw_m8 237 rfl) rfl
theorem q2017 : (Jvm.Cond.selects "PretendDeskModel" ({ cls := "PretendDeskModel", name := "steps", desc := "(II)I" } : Jvm.MethodName) ({ cls := "PretendDeskModel", name := "steps", desc := "(II)I" } : Jvm.MethodName)) ∈ lw_all := lw_g (lw_at lw_m8 238 rfl) rfl
theorem q2018 : (Jvm.Cond.code ({ cls := "PretendDeskModel", name := "steps", desc := "(II)I" } : Jvm.MethodName) prog_21_method_112_code (3 : Nat) (Option.some Jvm.ClassFile.FieldType.int)) ∈ lw_all := lw_g (lw_at lw_m8 239 rfl) rfl
theorem q2020 : (Jvm.Cond.instanceMethod ({ cls := "PretendDeskModel", name := "taken", desc := "(II)I" } : Jvm.MethodName)) ∈ lw_all := lw_g (lw_at lw_m9 1 rfl) rfl
theorem q2021 : (Jvm.Cond.selects "PretendDeskModel" ({ cls := "PretendDeskModel", name := "taken", desc := "(II)I" } : Jvm.MethodName) ({ cls := "PretendDeskModel", name := "taken", desc := "(II)I" } : Jvm.MethodName)) ∈ lw_all := lw_g (lw_at lw_m9 2 rfl) rfl
theorem q2022 : (Jvm.Cond.code ({ cls := "PretendDeskModel", name := "taken", desc := "(II)I" } : Jvm.MethodName) prog_21_method_114_code (6 : Nat) (Option.some Jvm.ClassFile.FieldType.int)) ∈ lw_all := lw_g (lw_at lw_m9 3 rfl) rfl
theorem q2023 : (Jvm.Cond.methodLink "PretendDeskModel" (387 : Nat) ({ cls := "PretendDeskModel", name := "takenWith", desc := "(III)I" } : Jvm.MethodName)) ∈ lw_all := lw_g (lw_at lw_m9 4 rfl) rfl
theorem q2024 : (Jvm.Cond.privateMethod ({ cls := "PretendDeskModel", name := "takenWith", desc := "(III)I" } : Jvm.MethodName)) ∈ lw_tbl := lw_at lw_m9 5 rfl
theorem q2025 : (Jvm.Cond.instanceMethod ({ cls := "PretendDeskModel", name := "takenWith", desc := "(III)I" } : Jvm.MethodName)) ∈ lw_all := lw_g (lw_at lw_m9 6 rfl) rfl
theorem q2026 : (Jvm.Cond.code ({ cls := "PretendDeskModel", name := "takenWith", desc := "(III)I" } : Jvm.MethodName) prog_21_method_113_code (9 : Nat) (Option.some Jvm.ClassFile.FieldType.int)) ∈ lw_all := lw_g (lw_at lw_m9 7 rfl) rfl
theorem q2028 : (Jvm.Cond.instanceMethod ({ cls := "PretendDeskModel", name := "word", desc := "(I)I" } : Jvm.MethodName)) ∈ lw_all := lw_g (lw_at lw_m9 9 rfl) rfl
theorem q2029 : (Jvm.Cond.selects "PretendDeskModel" ({ cls := "PretendDeskModel", name := "word", desc := "(I)I" } : Jvm.MethodName) ({ cls := "PretendDeskModel", name := "word", desc := "(I)I" } : Jvm.MethodName)) ∈ lw_all := lw_g (lw_at lw_m9 10 rfl) rfl
theorem q2030 : (Jvm.Cond.code ({ cls := "PretendDeskModel", name := "word", desc := "(I)I" } : Jvm.MethodName) prog_21_method_117_code (5 : Nat) (Option.some Jvm.ClassFile.FieldType.int)) ∈ lw_all := lw_g (lw_at lw_m9 11 rfl) rfl
theorem q2031 : (Jvm.Cond.methodLink "PretendDeskModel" (393 : Nat) ({ cls := "PretendDeskModel", name := "wordAt", desc := "(II)I" } : Jvm.MethodName)) ∈ lw_all := lw_g (lw_at lw_m9 12 rfl) rfl
theorem q2032 : (Jvm.Cond.privateMethod ({ cls := "PretendDeskModel", name := "wordAt", desc := "(II)I" } : Jvm.MethodName)) ∈ lw_tbl := lw_at lw_m9 13 rfl
theorem q2033 : (Jvm.Cond.instanceMethod ({ cls := "PretendDeskModel", name := "wordAt", desc := "(II)I" } : Jvm.MethodName)) ∈ lw_all := lw_g (lw_at lw_m9 14 rfl) rfl
theorem q2034 : (Jvm.Cond.code ({ cls := "PretendDeskModel", name := "wordAt", desc := "(II)I" } : Jvm.MethodName) prog_21_method_116_code (4 : Nat) (Option.some Jvm.ClassFile.FieldType.int)) ∈ lw_all := lw_g (lw_at lw_m9 15 rfl) rfl
theorem q2035 : (Jvm.Cond.methodLink "PretendDeskModel" (390 : Nat) ({ cls := "PretendDeskModel", name := "isSaid", desc := "(III)Z" } : Jvm.MethodName)) ∈ lw_all := lw_g (lw_at lw_m9 16 rfl) rfl
theorem q2036 : (Jvm.Cond.privateMethod ({ cls := "PretendDeskModel", name := "isSaid", desc := "(III)Z" } : Jvm.MethodName)) ∈ lw_tbl := lw_at lw_m9 17 rfl
theorem q2037 : (Jvm.Cond.instanceMethod ({ cls := "PretendDeskModel", name := "isSaid", desc := "(III)Z" } : Jvm.MethodName)) ∈ lw_all := lw_g (lw_at lw_m9 18 rfl) rfl
theorem q2038 : (Jvm.Cond.code ({ cls := "PretendDeskModel", name := "isSaid", desc := "(III)Z" } : Jvm.MethodName) prog_21_method_115_code (6 : Nat) (Option.some Jvm.ClassFile.FieldType.boolean)) ∈ lw_all := lw_g (lw_at lw_m9 19 rfl) rfl
theorem q2040 : (Jvm.Cond.instanceMethod ({ cls := "PretendDeskModel", name := "pattern", desc := "(II)I" } : Jvm.MethodName)) ∈ lw_all := lw_g (lw_at lw_m9 21 rfl) rfl
theorem q2041 : (Jvm.Cond.selects "PretendDeskModel" ({ cls := "PretendDeskModel", name := "pattern", desc := "(II)I" } : Jvm.MethodName) ({ cls := "PretendDeskModel", name := "pattern", desc := "(II)I" } : Jvm.MethodName)) ∈ lw_all := lw_g (lw_at lw_m9 22 rfl) rfl
theorem q2042 : (Jvm.Cond.code ({ cls := "PretendDeskModel", name := "pattern", desc := "(II)I" } : Jvm.MethodName) prog_21_method_118_code (3 : Nat) (Option.some Jvm.ClassFile.FieldType.int)) ∈ lw_all := lw_g (lw_at lw_m9 23 rfl) rfl
theorem q2044 : (Jvm.Cond.instanceMethod ({ cls := "PretendDeskModel", name := "letter", desc := "()I" } : Jvm.MethodName)) ∈ lw_all := lw_g (lw_at lw_m9 25 rfl) rfl
theorem q2045 : (Jvm.Cond.selects "PretendDeskModel" ({ cls := "PretendDeskModel", name := "letter", desc := "()I" } : Jvm.MethodName) ({ cls := "PretendDeskModel", name := "letter", desc := "()I" } : Jvm.MethodName)) ∈ lw_all := lw_g (lw_at lw_m9 26 rfl) rfl
theorem q2046 : (Jvm.Cond.code ({ cls := "PretendDeskModel", name := "letter", desc := "()I" } : Jvm.MethodName) prog_21_method_120_code (3 : Nat) (Option.some Jvm.ClassFile.FieldType.int)) ∈ lw_all := lw_g (lw_at lw_m9 27 rfl) rfl
theorem q2047 : (Jvm.Cond.methodLink "PretendDeskModel" (399 : Nat) ({ cls := "PretendDeskModel", name := "sentences", desc := "(I)I" } : Jvm.MethodName)) ∈ lw_all := lw_g (lw_at lw_m9 28 rfl) rfl
theorem q2048 : (Jvm.Cond.privateMethod ({ cls := "PretendDeskModel", name := "sentences", desc := "(I)I" } : Jvm.MethodName)) ∈ lw_tbl := lw_at lw_m9 29 rfl
theorem q2049 : (Jvm.Cond.instanceMethod ({ cls := "PretendDeskModel", name := "sentences", desc := "(I)I" } : Jvm.MethodName)) ∈ lw_all := lw_g (lw_at lw_m9 30 rfl) rfl
theorem q2050 : (Jvm.Cond.code ({ cls := "PretendDeskModel", name := "sentences", desc := "(I)I" } : Jvm.MethodName) prog_21_method_119_code (10 : Nat) (Option.some Jvm.ClassFile.FieldType.int)) ∈ lw_all := lw_g (lw_at lw_m9 31 rfl) rfl
theorem q2052 : (Jvm.Cond.instanceMethod ({ cls := "PretendDeskModel", name := "sentence", desc := "(I)I" } : Jvm.MethodName)) ∈ lw_all := lw_g (lw_at lw_m9 33 rfl) rfl
theorem q2053 : (Jvm.Cond.selects "PretendDeskModel" ({ cls := "PretendDeskModel", name := "sentence", desc := "(I)I" } : Jvm.MethodName) ({ cls := "PretendDeskModel", name := "sentence", desc := "(I)I" } : Jvm.MethodName)) ∈ lw_all := lw_g (lw_at lw_m9 34 rfl) rfl
theorem q2054 : (Jvm.Cond.code ({ cls := "PretendDeskModel", name := "sentence", desc := "(I)I" } : Jvm.MethodName) prog_21_method_121_code (3 : Nat) (Option.some Jvm.ClassFile.FieldType.int)) ∈ lw_all := lw_g (lw_at lw_m9 35 rfl) rfl
theorem q2056 : (Jvm.Cond.instanceMethod ({ cls := "PretendDeskModel", name := "holds", desc := "(I)I" } : Jvm.MethodName)) ∈ lw_all := lw_g (lw_at lw_m9 37 rfl) rfl
theorem q2057 : (Jvm.Cond.selects "PretendDeskModel" ({ cls := "PretendDeskModel", name := "holds", desc := "(I)I" } : Jvm.MethodName) ({ cls := "PretendDeskModel", name := "holds", desc := "(I)I" } : Jvm.MethodName)) ∈ lw_all := lw_g (lw_at lw_m9 38 rfl) rfl
theorem q2058 : (Jvm.Cond.code ({ cls := "PretendDeskModel", name := "holds", desc := "(I)I" } : Jvm.MethodName) prog_21_method_123_code (2 : Nat) (Option.some Jvm.ClassFile.FieldType.int)) ∈ lw_all := lw_g (lw_at lw_m9 39 rfl) rfl
theorem q2059 : (Jvm.Cond.methodLink "PretendDeskModel" (405 : Nat) ({ cls := "PretendDeskModel", name := "firstOf", desc := "(I)I" } : Jvm.MethodName)) ∈ lw_all := lw_g (lw_at lw_m9 40 rfl) rfl
theorem q2060 : (Jvm.Cond.privateMethod ({ cls := "PretendDeskModel", name := "firstOf", desc := "(I)I" } : Jvm.MethodName)) ∈ lw_tbl := lw_at lw_m9 41 rfl
theorem q2061 : (Jvm.Cond.instanceMethod ({ cls := "PretendDeskModel", name := "firstOf", desc := "(I)I" } : Jvm.MethodName)) ∈ lw_all := lw_g (lw_at lw_m9 42 rfl) rfl
theorem q2062 : (Jvm.Cond.code ({ cls := "PretendDeskModel", name := "firstOf", desc := "(I)I" } : Jvm.MethodName) prog_21_method_122_code (4 : Nat) (Option.some Jvm.ClassFile.FieldType.int)) ∈ lw_all := lw_g (lw_at lw_m9 43 rfl) rfl
theorem q2063 : (Jvm.Cond.methodLink "PretendDeskModel" (402 : Nat) ({ cls := "PretendDeskModel", name := "sentence", desc := "(I)I" } : Jvm.MethodName)) ∈ lw_all := lw_g (lw_at lw_m9 44 rfl) rfl
theorem q2065 : (Jvm.Cond.instanceMethod ({ cls := "PretendDeskModel", name := "presses", desc := "()I" } : Jvm.MethodName)) ∈ lw_all := lw_g (lw_at lw_m9 46 rfl) rfl
theorem q2066 : (Jvm.Cond.selects "PretendDeskModel" ({ cls := "PretendDeskModel", name := "presses", desc := "()I" } : Jvm.MethodName) ({ cls := "PretendDeskModel", name := "presses", desc := "()I" } : Jvm.MethodName)) ∈ lw_all := lw_g (lw_at lw_m9 47 rfl) rfl
theorem q2067 : (Jvm.Cond.code ({ cls := "PretendDeskModel", name := "presses", desc := "()I" } : Jvm.MethodName) prog_21_method_124_code (3 : Nat) (Option.some Jvm.ClassFile.FieldType.int)) ∈ lw_all := lw_g (lw_at lw_m9 48 rfl) rfl
theorem q2069 : (Jvm.Cond.instanceMethod ({ cls := "PretendDeskModel", name := "picture", desc := "(ZII)Z" } : Jvm.MethodName)) ∈ lw_all := lw_g (lw_at lw_m9 50 rfl) rfl
theorem q2070 : (Jvm.Cond.selects "PretendDeskModel" ({ cls := "PretendDeskModel", name := "picture", desc := "(ZII)Z" } : Jvm.MethodName) ({ cls := "PretendDeskModel", name := "picture", desc := "(ZII)Z" } : Jvm.MethodName)) ∈ lw_all := lw_g (lw_at lw_m9 51 rfl) rfl
theorem q2071 : (Jvm.Cond.code ({ cls := "PretendDeskModel", name := "picture", desc := "(ZII)Z" } : Jvm.MethodName) prog_21_method_125_code (4 : Nat) (Option.some Jvm.ClassFile.FieldType.boolean)) ∈ lw_all := lw_g (lw_at lw_m9 52 rfl) rfl
theorem q2072 : (Jvm.Cond.constant "PretendDeskModel" (408 : Nat) (33554431 : Int32)) ∈ lw_all := lw_g (lw_at lw_m9 53 rfl) rfl
theorem q2074 : (Jvm.Cond.instanceMethod ({ cls := "PretendDeskModel", name := "unlike", desc := "(II)I" } : Jvm.MethodName)) ∈ lw_all := lw_g (lw_at lw_m9 55 rfl) rfl
theorem q2075 : (Jvm.Cond.selects "PretendDeskModel" ({ cls := "PretendDeskModel", name := "unlike", desc := "(II)I" } : Jvm.MethodName) ({ cls := "PretendDeskModel", name := "unlike", desc := "(II)I" } : Jvm.MethodName)) ∈ lw_all := lw_g (lw_at lw_m9 56 rfl) rfl
theorem q2076 : (Jvm.Cond.code ({ cls := "PretendDeskModel", name := "unlike", desc := "(II)I" } : Jvm.MethodName) prog_21_method_129_code (3 : Nat) (Option.some Jvm.ClassFile.FieldType.int)) ∈ lw_all := lw_g (lw_at lw_m9 57 rfl) rfl
theorem q2077 : (Jvm.Cond.methodLink "PretendDeskModel" (415 : Nat) ({ cls := "PretendDeskModel", name := "unlikeOf", desc := "(II)I" } : Jvm.MethodName)) ∈ lw_all := lw_g (lw_at lw_m9 58 rfl) rfl
theorem q2078 : (Jvm.Cond.privateMethod ({ cls := "PretendDeskModel", name := "unlikeOf", desc := "(II)I" } : Jvm.MethodName)) ∈ lw_tbl := lw_at lw_m9 59 rfl
theorem q2079 : (Jvm.Cond.instanceMethod ({ cls := "PretendDeskModel", name := "unlikeOf", desc := "(II)I" } : Jvm.MethodName)) ∈ lw_all := lw_g (lw_at lw_m9 60 rfl) rfl
theorem q2080 : (Jvm.Cond.code ({ cls := "PretendDeskModel", name := "unlikeOf", desc := "(II)I" } : Jvm.MethodName) prog_21_method_128_code (7 : Nat) (Option.some Jvm.ClassFile.FieldType.int)) ∈ lw_all := lw_g (lw_at lw_m9 61 rfl) rfl
theorem q2081 : (Jvm.Cond.methodLink "PretendDeskModel" (409 : Nat) ({ cls := "PretendDeskModel", name := "moved", desc := "(III)I" } : Jvm.MethodName)) ∈ lw_all := lw_g (lw_at lw_m9 62 rfl) rfl
theorem q2082 : (Jvm.Cond.static ({ cls := "PretendDeskModel", name := "moved", desc := "(III)I" } : Jvm.MethodName)) ∈ lw_all := lw_g (lw_at lw_m9 63 rfl) rfl
theorem q2083 : (Jvm.Cond.code ({ cls := "PretendDeskModel", name := "moved", desc := "(III)I" } : Jvm.MethodName) prog_21_method_127_code (7 : Nat) (Option.some Jvm.ClassFile.FieldType.int)) ∈ lw_all := lw_g (lw_at lw_m9 64 rfl) rfl
theorem q2084 : (Jvm.Cond.methodLink "PretendDeskModel" (412 : Nat) ({ cls := "PretendDeskModel", name := "quarter", desc := "(I)I" } : Jvm.MethodName)) ∈ lw_all := lw_g (lw_at lw_m9 65 rfl) rfl
theorem q2085 : (Jvm.Cond.static ({ cls := "PretendDeskModel", name := "quarter", desc := "(I)I" } : Jvm.MethodName)) ∈ lw_all := lw_g (lw_at lw_m9 66 rfl) rfl
theorem q2086 : (Jvm.Cond.code ({ cls := "PretendDeskModel", name := "quarter", desc := "(I)I" } : Jvm.MethodName) prog_21_method_126_code (3 : Nat) (Option.some Jvm.ClassFile.FieldType.int)) ∈ lw_all := lw_g (lw_at lw_m9 67 rfl) rfl
theorem q2088 : (Jvm.Cond.instanceMethod ({ cls := "PretendDeskModel", name := "near", desc := "(I)I" } : Jvm.MethodName)) ∈ lw_all := lw_g (lw_at lw_m9 69 rfl) rfl
theorem q2089 : (Jvm.Cond.selects "PretendDeskModel" ({ cls := "PretendDeskModel", name := "near", desc := "(I)I" } : Jvm.MethodName) ({ cls := "PretendDeskModel", name := "near", desc := "(I)I" } : Jvm.MethodName)) ∈ lw_all := lw_g (lw_at lw_m9 70 rfl) rfl
theorem q2090 : (Jvm.Cond.code ({ cls := "PretendDeskModel", name := "near", desc := "(I)I" } : Jvm.MethodName) prog_21_method_130_code (4 : Nat) (Option.some Jvm.ClassFile.FieldType.int)) ∈ lw_all := lw_g (lw_at lw_m9 71 rfl) rfl
theorem q2092 : (Jvm.Cond.instanceMethod ({ cls := "PretendDeskModel", name := "count", desc := "(I)I" } : Jvm.MethodName)) ∈ lw_all := lw_g (lw_at lw_m9 73 rfl) rfl
theorem q2093 : (Jvm.Cond.selects "PretendDeskModel" ({ cls := "PretendDeskModel", name := "count", desc := "(I)I" } : Jvm.MethodName) ({ cls := "PretendDeskModel", name := "count", desc := "(I)I" } : Jvm.MethodName)) ∈ lw_all := lw_g (lw_at lw_m9 74 rfl) rfl
theorem q2094 : (Jvm.Cond.code ({ cls := "PretendDeskModel", name := "count", desc := "(I)I" } : Jvm.MethodName) prog_21_method_131_code (2 : Nat) (Option.some Jvm.ClassFile.FieldType.int)) ∈ lw_all := lw_g (lw_at lw_m9 75 rfl) rfl
theorem q2096 : (Jvm.Cond.instanceMethod ({ cls := "PretendDeskModel", name := "image", desc := "(I)Z" } : Jvm.MethodName)) ∈ lw_all := lw_g (lw_at lw_m9 77 rfl) rfl
theorem q2097 : (Jvm.Cond.selects "PretendDeskModel" ({ cls := "PretendDeskModel", name := "image", desc := "(I)Z" } : Jvm.MethodName) ({ cls := "PretendDeskModel", name := "image", desc := "(I)Z" } : Jvm.MethodName)) ∈ lw_all := lw_g (lw_at lw_m9 78 rfl) rfl
theorem q2098 : (Jvm.Cond.code ({ cls := "PretendDeskModel", name := "image", desc := "(I)Z" } : Jvm.MethodName) prog_21_method_132_code (3 : Nat) (Option.some Jvm.ClassFile.FieldType.boolean)) ∈ lw_all := lw_g (lw_at lw_m9 79 rfl) rfl
theorem q2100 : (Jvm.Cond.instanceMethod ({ cls := "PretendDeskModel", name := "again", desc := "(I)Z" } : Jvm.MethodName)) ∈ lw_all := lw_g (lw_at lw_m9 81 rfl) rfl
theorem q2101 : (Jvm.Cond.selects "PretendDeskModel" ({ cls := "PretendDeskModel", name := "again", desc := "(I)Z" } : Jvm.MethodName) ({ cls := "PretendDeskModel", name := "again", desc := "(I)Z" } : Jvm.MethodName)) ∈ lw_all := lw_g (lw_at lw_m9 82 rfl) rfl
theorem q2102 : (Jvm.Cond.code ({ cls := "PretendDeskModel", name := "again", desc := "(I)Z" } : Jvm.MethodName) prog_21_method_133_code (3 : Nat) (Option.some Jvm.ClassFile.FieldType.boolean)) ∈ lw_all := lw_g (lw_at lw_m9 83 rfl) rfl
theorem in_X7 : ∀ w ∈ wsX70, w ∈ lw_all := lw_in wsX70 [1492, 1494, 1496, 1498, 1500, 1502, 1504, 1506, 1508, 1510, 1512, 1514, 1516, 1518, 1520, 1522, 1524, 1526, 1528, 1530, 1532, 1534, 1536, 1538, 1540, 1542, 1544, 1546, 1548, 1550, 1552, 1554, 1556, 1558, 1560, 1562, 1564, 1566, 1568, 1570, 1572, 1574, 1576, 1578, 1580, 1582, 1584, 1586, 1588] (by decide +kernel) (by decide +kernel)
