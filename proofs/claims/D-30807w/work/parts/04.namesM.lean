/-! SelahGeneratorModel -/
set_option maxRecDepth 100000
def RX2 : String := "SelahGeneratorModel"
def TX2 : u_T := fun k => match k with
  | 0 => ("SelahGeneratorModel", "left", "[I", true)
  | 1 => ("SelahGeneratorModel", "length", "[I", true)
  | 2 => ("SelahGeneratorModel", "right", "[I", true)
  | 3 => ("SelahGeneratorModel", "heldLeft", "[I", true)
  | 4 => ("SelahGeneratorModel", "heldLength", "[I", true)
  | 5 => ("SelahGeneratorModel", "heldRight", "[I", true)
  | 6 => ("SelahGeneratorModel", "rules", "I", false)
  | 7 => ("SelahGeneratorModel", "heldRules", "I", false)
  | 8 => ("SelahGeneratorModel", "code", "I", false)
  | 9 => ("SelahGeneratorModel", "first", "[I", true)
  | 10 => ("SelahGeneratorModel", "follow", "[I", true)
  | 11 => ("SelahGeneratorModel", "nullable", "I", false)
  | 12 => ("SelahGeneratorModel", "rounds", "I", false)
  | 13 => ("SelahGeneratorModel", "isKnown", "Z", false)
  | 14 => ("SelahGeneratorModel", "shortest", "[I", true)
  | 15 => ("SelahGeneratorModel", "firsts", "[Z", true)
  | 16 => ("SelahGeneratorModel", "follows", "[Z", true)
  | 17 => ("SelahGeneratorModel", "now", "[Z", true)
  | 18 => ("SelahGeneratorModel", "next", "[Z", true)
  | 19 => ("SelahGeneratorModel", "arePairsKnown", "Z", false)
  | 20 => ("SelahGeneratorModel", "pairs", "[Z", true)
  | 21 => ("SelahGeneratorModel", "reached", "[I", true)
  | 22 => ("SelahGeneratorModel", "tail", "[I", true)
  | 23 => ("SelahGeneratorModel", "others", "[I", true)
  | 24 => ("SelahGeneratorModel", "stack", "[I", true)
  | 25 => ("SelahGeneratorModel", "tokens", "[I", true)
  | 26 => ("SelahGeneratorModel", "appliedOnes", "[I", true)
  | 27 => ("SelahGeneratorModel", "errorAt", "[I", true)
  | 28 => ("SelahGeneratorModel", "errorBy", "[I", true)
  | 29 => ("SelahGeneratorModel", "errorSkips", "[Z", true)
  | 30 => ("SelahGeneratorModel", "state", "I", false)
  | 31 => ("SelahGeneratorModel", "ahead", "I", false)
  | 32 => ("SelahGeneratorModel", "given", "I", false)
  | 33 => ("SelahGeneratorModel", "depth", "I", false)
  | 34 => ("SelahGeneratorModel", "applied", "I", false)
  | 35 => ("SelahGeneratorModel", "errors", "I", false)
  | 36 => ("SelahGeneratorModel", "pending", "I", false)
  | 37 => ("SelahGeneratorModel", "spans", "[J", true)
  | 38 => ("SelahGeneratorModel", "ways", "[J", true)
  | 39 => ("SelahGeneratorModel", "more", "[J", true)
  | 40 => ("SelahGeneratorModel", "page", "[I", true)
  | _ => ("SelahGeneratorModel", "printed", "I", false)
def tyX2 : Nat → FieldType := fun k => match k with
  | 0 => .array .int
  | 1 => .array .int
  | 2 => .array .int
  | 3 => .array .int
  | 4 => .array .int
  | 5 => .array .int
  | 6 => .int
  | 7 => .int
  | 8 => .int
  | 9 => .array .int
  | 10 => .array .int
  | 11 => .int
  | 12 => .int
  | 13 => .boolean
  | 14 => .array .int
  | 15 => .array .boolean
  | 16 => .array .boolean
  | 17 => .array .boolean
  | 18 => .array .boolean
  | 19 => .boolean
  | 20 => .array .boolean
  | 21 => .array .int
  | 22 => .array .int
  | 23 => .array .int
  | 24 => .array .int
  | 25 => .array .int
  | 26 => .array .int
  | 27 => .array .int
  | 28 => .array .int
  | 29 => .array .boolean
  | 30 => .int
  | 31 => .int
  | 32 => .int
  | 33 => .int
  | 34 => .int
  | 35 => .int
  | 36 => .int
  | 37 => .array .long
  | 38 => .array .long
  | 39 => .array .long
  | 40 => .array .int
  | _ => .int
abbrev wsX20 : List Cond := u_ws RX2 TX2 42
set_option maxRecDepth 100000 in
theorem nmX2 : ∀ a, a < 42 → ∀ b, b < 42 → a ≠ b → (TX2 a).2.1 ≠ (TX2 b).2.1 := by decide +kernel
set_option maxRecDepth 100000 in
theorem tyX2_ok : ∀ k, k < 42 → parseFieldDescriptor (TX2 k).2.2.1 = some (tyX2 k) := by decide +kernel
abbrev cX2_init : ByteArray := prog_14_method_1_code
def yX2_init : MethodName := ⟨RX2, "<init>", "()V"⟩
def dkwX2_init_10 : List UInt8 := [181, 0, 90, 177]
abbrev dktX2_init_10 : List UInt8 := dkwX2_init_10 ++ []
def dkwX2_init_9 : List UInt8 := [181, 0, 80, 42, 16, 17, 188, 11, 181, 0, 84, 42, 16, 17, 188, 11, 181, 0, 87, 42, 16, 20, 188, 10]
abbrev dktX2_init_9 : List UInt8 := dkwX2_init_9 ++ dktX2_init_10
def dkwX2_init_8 : List UInt8 := [17, 16, 104, 188, 10, 181, 0, 74, 42, 17, 16, 104, 188, 4, 181, 0, 77, 42, 17, 13, 140, 188, 11]
abbrev dktX2_init_8 : List UInt8 := dkwX2_init_8 ++ dktX2_init_9
def dkwX2_init_7 : List UInt8 := [181, 0, 65, 42, 17, 1, 144, 188, 10, 181, 0, 68, 42, 17, 16, 104, 188, 10, 181, 0, 71, 42]
abbrev dktX2_init_7 : List UInt8 := dkwX2_init_7 ++ dktX2_init_8
def dkwX2_init_6 : List UInt8 := [42, 16, 100, 188, 10, 181, 0, 59, 42, 17, 14, 116, 188, 10, 181, 0, 62, 42, 16, 40, 188, 10]
abbrev dktX2_init_6 : List UInt8 := dkwX2_init_6 ++ dktX2_init_7
def dkwX2_init_5 : List UInt8 := [17, 34, 80, 188, 4, 181, 0, 50, 42, 16, 12, 188, 10, 181, 0, 53, 42, 16, 20, 188, 10, 181, 0, 56]
abbrev dktX2_init_5 : List UInt8 := dkwX2_init_5 ++ dktX2_init_6
def dkwX2_init_4 : List UInt8 := [181, 0, 41, 42, 17, 0, 183, 188, 4, 181, 0, 44, 42, 17, 0, 183, 188, 4, 181, 0, 47, 42]
abbrev dktX2_init_4 : List UInt8 := dkwX2_init_4 ++ dktX2_init_5
def dkwX2_init_3 : List UInt8 := [42, 16, 12, 188, 10, 181, 0, 34, 42, 17, 8, 148, 188, 4, 181, 0, 37, 42, 17, 8, 148, 188, 4]
abbrev dktX2_init_3 : List UInt8 := dkwX2_init_3 ++ dktX2_init_4
def dkwX2_init_2 : List UInt8 := [17, 7, 208, 188, 10, 181, 0, 25, 42, 16, 12, 188, 10, 181, 0, 28, 42, 16, 12, 188, 10, 181, 0, 31]
abbrev dktX2_init_2 : List UInt8 := dkwX2_init_2 ++ dktX2_init_3
def dkwX2_init_1 : List UInt8 := [188, 10, 181, 0, 16, 42, 16, 100, 188, 10, 181, 0, 19, 42, 16, 100, 188, 10, 181, 0, 22, 42]
abbrev dktX2_init_1 : List UInt8 := dkwX2_init_1 ++ dktX2_init_2
def dkwX2_init_0 : List UInt8 := [42, 183, 0, 1, 42, 16, 100, 188, 10, 181, 0, 7, 42, 16, 100, 188, 10, 181, 0, 13, 42, 17, 7, 208]
abbrev dktX2_init_0 : List UInt8 := dkwX2_init_0 ++ dktX2_init_1
theorem dksX2_init_0 : cX2_init.data.toList.drop 0 = dktX2_init_0 := by decide +kernel
theorem dksX2_init_1 : cX2_init.data.toList.drop 24 = dktX2_init_1 := dk_seg dksX2_init_0 24 rfl rfl
theorem dksX2_init_2 : cX2_init.data.toList.drop 46 = dktX2_init_2 := dk_seg dksX2_init_1 22 rfl rfl
theorem dksX2_init_3 : cX2_init.data.toList.drop 70 = dktX2_init_3 := dk_seg dksX2_init_2 24 rfl rfl
theorem dksX2_init_4 : cX2_init.data.toList.drop 93 = dktX2_init_4 := dk_seg dksX2_init_3 23 rfl rfl
theorem dksX2_init_5 : cX2_init.data.toList.drop 115 = dktX2_init_5 := dk_seg dksX2_init_4 22 rfl rfl
theorem dksX2_init_6 : cX2_init.data.toList.drop 139 = dktX2_init_6 := dk_seg dksX2_init_5 24 rfl rfl
theorem dksX2_init_7 : cX2_init.data.toList.drop 161 = dktX2_init_7 := dk_seg dksX2_init_6 22 rfl rfl
theorem dksX2_init_8 : cX2_init.data.toList.drop 183 = dktX2_init_8 := dk_seg dksX2_init_7 22 rfl rfl
theorem dksX2_init_9 : cX2_init.data.toList.drop 206 = dktX2_init_9 := dk_seg dksX2_init_8 23 rfl rfl
theorem dksX2_init_10 : cX2_init.data.toList.drop 230 = dktX2_init_10 := dk_seg dksX2_init_9 24 rfl rfl
theorem dX2_init_0 : decode cX2_init 0 = .ok (.aload_n 0, 1) := dk_42 (dk_at dksX2_init_0 0 rfl rfl)
theorem dX2_init_1 : decode cX2_init 1 = .ok (.invokespecial 1, 3) := dk_183 0 1 (dk_at dksX2_init_0 1 rfl rfl)
theorem dX2_init_4 : decode cX2_init 4 = .ok (.aload_n 0, 1) := dk_42 (dk_at dksX2_init_0 4 rfl rfl)
theorem dX2_init_5 : decode cX2_init 5 = .ok (.bipush 100, 2) := dk_16 100 (dk_at dksX2_init_0 5 rfl rfl)
theorem dX2_init_7 : decode cX2_init 7 = .ok (.newarray .int, 2) := dk_188_10 (dk_at dksX2_init_0 7 rfl rfl)
theorem dX2_init_9 : decode cX2_init 9 = .ok (.putfield 7, 3) := dk_181 0 7 (dk_at dksX2_init_0 9 rfl rfl)
theorem dX2_init_12 : decode cX2_init 12 = .ok (.aload_n 0, 1) := dk_42 (dk_at dksX2_init_0 12 rfl rfl)
theorem dX2_init_13 : decode cX2_init 13 = .ok (.bipush 100, 2) := dk_16 100 (dk_at dksX2_init_0 13 rfl rfl)
theorem dX2_init_15 : decode cX2_init 15 = .ok (.newarray .int, 2) := dk_188_10 (dk_at dksX2_init_0 15 rfl rfl)
theorem dX2_init_17 : decode cX2_init 17 = .ok (.putfield 13, 3) := dk_181 0 13 (dk_at dksX2_init_0 17 rfl rfl)
theorem dX2_init_20 : decode cX2_init 20 = .ok (.aload_n 0, 1) := dk_42 (dk_at dksX2_init_0 20 rfl rfl)
theorem dX2_init_21 : decode cX2_init 21 = .ok (.sipush 2000, 3) := dk_17 7 208 (dk_at dksX2_init_0 21 rfl rfl)
theorem dX2_init_24 : decode cX2_init 24 = .ok (.newarray .int, 2) := dk_188_10 (dk_at dksX2_init_1 0 rfl rfl)
theorem dX2_init_26 : decode cX2_init 26 = .ok (.putfield 16, 3) := dk_181 0 16 (dk_at dksX2_init_1 2 rfl rfl)
theorem dX2_init_29 : decode cX2_init 29 = .ok (.aload_n 0, 1) := dk_42 (dk_at dksX2_init_1 5 rfl rfl)
theorem dX2_init_30 : decode cX2_init 30 = .ok (.bipush 100, 2) := dk_16 100 (dk_at dksX2_init_1 6 rfl rfl)
theorem dX2_init_32 : decode cX2_init 32 = .ok (.newarray .int, 2) := dk_188_10 (dk_at dksX2_init_1 8 rfl rfl)
theorem dX2_init_34 : decode cX2_init 34 = .ok (.putfield 19, 3) := dk_181 0 19 (dk_at dksX2_init_1 10 rfl rfl)
theorem dX2_init_37 : decode cX2_init 37 = .ok (.aload_n 0, 1) := dk_42 (dk_at dksX2_init_1 13 rfl rfl)
theorem dX2_init_38 : decode cX2_init 38 = .ok (.bipush 100, 2) := dk_16 100 (dk_at dksX2_init_1 14 rfl rfl)
theorem dX2_init_40 : decode cX2_init 40 = .ok (.newarray .int, 2) := dk_188_10 (dk_at dksX2_init_1 16 rfl rfl)
theorem dX2_init_42 : decode cX2_init 42 = .ok (.putfield 22, 3) := dk_181 0 22 (dk_at dksX2_init_1 18 rfl rfl)
theorem dX2_init_45 : decode cX2_init 45 = .ok (.aload_n 0, 1) := dk_42 (dk_at dksX2_init_1 21 rfl rfl)
theorem dX2_init_46 : decode cX2_init 46 = .ok (.sipush 2000, 3) := dk_17 7 208 (dk_at dksX2_init_2 0 rfl rfl)
theorem dX2_init_49 : decode cX2_init 49 = .ok (.newarray .int, 2) := dk_188_10 (dk_at dksX2_init_2 3 rfl rfl)
theorem dX2_init_51 : decode cX2_init 51 = .ok (.putfield 25, 3) := dk_181 0 25 (dk_at dksX2_init_2 5 rfl rfl)
theorem dX2_init_54 : decode cX2_init 54 = .ok (.aload_n 0, 1) := dk_42 (dk_at dksX2_init_2 8 rfl rfl)
theorem dX2_init_55 : decode cX2_init 55 = .ok (.bipush 12, 2) := dk_16 12 (dk_at dksX2_init_2 9 rfl rfl)
theorem dX2_init_57 : decode cX2_init 57 = .ok (.newarray .int, 2) := dk_188_10 (dk_at dksX2_init_2 11 rfl rfl)
theorem dX2_init_59 : decode cX2_init 59 = .ok (.putfield 28, 3) := dk_181 0 28 (dk_at dksX2_init_2 13 rfl rfl)
theorem dX2_init_62 : decode cX2_init 62 = .ok (.aload_n 0, 1) := dk_42 (dk_at dksX2_init_2 16 rfl rfl)
theorem dX2_init_63 : decode cX2_init 63 = .ok (.bipush 12, 2) := dk_16 12 (dk_at dksX2_init_2 17 rfl rfl)
theorem dX2_init_65 : decode cX2_init 65 = .ok (.newarray .int, 2) := dk_188_10 (dk_at dksX2_init_2 19 rfl rfl)
theorem dX2_init_67 : decode cX2_init 67 = .ok (.putfield 31, 3) := dk_181 0 31 (dk_at dksX2_init_2 21 rfl rfl)
theorem dX2_init_70 : decode cX2_init 70 = .ok (.aload_n 0, 1) := dk_42 (dk_at dksX2_init_3 0 rfl rfl)
theorem dX2_init_71 : decode cX2_init 71 = .ok (.bipush 12, 2) := dk_16 12 (dk_at dksX2_init_3 1 rfl rfl)
theorem dX2_init_73 : decode cX2_init 73 = .ok (.newarray .int, 2) := dk_188_10 (dk_at dksX2_init_3 3 rfl rfl)
theorem dX2_init_75 : decode cX2_init 75 = .ok (.putfield 34, 3) := dk_181 0 34 (dk_at dksX2_init_3 5 rfl rfl)
theorem dX2_init_78 : decode cX2_init 78 = .ok (.aload_n 0, 1) := dk_42 (dk_at dksX2_init_3 8 rfl rfl)
theorem dX2_init_79 : decode cX2_init 79 = .ok (.sipush 2196, 3) := dk_17 8 148 (dk_at dksX2_init_3 9 rfl rfl)
theorem dX2_init_82 : decode cX2_init 82 = .ok (.newarray .boolean, 2) := dk_188_4 (dk_at dksX2_init_3 12 rfl rfl)
theorem dX2_init_84 : decode cX2_init 84 = .ok (.putfield 37, 3) := dk_181 0 37 (dk_at dksX2_init_3 14 rfl rfl)
theorem dX2_init_87 : decode cX2_init 87 = .ok (.aload_n 0, 1) := dk_42 (dk_at dksX2_init_3 17 rfl rfl)
theorem dX2_init_88 : decode cX2_init 88 = .ok (.sipush 2196, 3) := dk_17 8 148 (dk_at dksX2_init_3 18 rfl rfl)
theorem dX2_init_91 : decode cX2_init 91 = .ok (.newarray .boolean, 2) := dk_188_4 (dk_at dksX2_init_3 21 rfl rfl)
theorem dX2_init_93 : decode cX2_init 93 = .ok (.putfield 41, 3) := dk_181 0 41 (dk_at dksX2_init_4 0 rfl rfl)
theorem dX2_init_96 : decode cX2_init 96 = .ok (.aload_n 0, 1) := dk_42 (dk_at dksX2_init_4 3 rfl rfl)
theorem dX2_init_97 : decode cX2_init 97 = .ok (.sipush 183, 3) := dk_17 0 183 (dk_at dksX2_init_4 4 rfl rfl)
theorem dX2_init_100 : decode cX2_init 100 = .ok (.newarray .boolean, 2) := dk_188_4 (dk_at dksX2_init_4 7 rfl rfl)
theorem dX2_init_102 : decode cX2_init 102 = .ok (.putfield 44, 3) := dk_181 0 44 (dk_at dksX2_init_4 9 rfl rfl)
theorem dX2_init_105 : decode cX2_init 105 = .ok (.aload_n 0, 1) := dk_42 (dk_at dksX2_init_4 12 rfl rfl)
theorem dX2_init_106 : decode cX2_init 106 = .ok (.sipush 183, 3) := dk_17 0 183 (dk_at dksX2_init_4 13 rfl rfl)
theorem dX2_init_109 : decode cX2_init 109 = .ok (.newarray .boolean, 2) := dk_188_4 (dk_at dksX2_init_4 16 rfl rfl)
theorem dX2_init_111 : decode cX2_init 111 = .ok (.putfield 47, 3) := dk_181 0 47 (dk_at dksX2_init_4 18 rfl rfl)
theorem dX2_init_114 : decode cX2_init 114 = .ok (.aload_n 0, 1) := dk_42 (dk_at dksX2_init_4 21 rfl rfl)
theorem dX2_init_115 : decode cX2_init 115 = .ok (.sipush 8784, 3) := dk_17 34 80 (dk_at dksX2_init_5 0 rfl rfl)
theorem dX2_init_118 : decode cX2_init 118 = .ok (.newarray .boolean, 2) := dk_188_4 (dk_at dksX2_init_5 3 rfl rfl)
theorem dX2_init_120 : decode cX2_init 120 = .ok (.putfield 50, 3) := dk_181 0 50 (dk_at dksX2_init_5 5 rfl rfl)
theorem dX2_init_123 : decode cX2_init 123 = .ok (.aload_n 0, 1) := dk_42 (dk_at dksX2_init_5 8 rfl rfl)
theorem dX2_init_124 : decode cX2_init 124 = .ok (.bipush 12, 2) := dk_16 12 (dk_at dksX2_init_5 9 rfl rfl)
theorem dX2_init_126 : decode cX2_init 126 = .ok (.newarray .int, 2) := dk_188_10 (dk_at dksX2_init_5 11 rfl rfl)
theorem dX2_init_128 : decode cX2_init 128 = .ok (.putfield 53, 3) := dk_181 0 53 (dk_at dksX2_init_5 13 rfl rfl)
theorem dX2_init_131 : decode cX2_init 131 = .ok (.aload_n 0, 1) := dk_42 (dk_at dksX2_init_5 16 rfl rfl)
theorem dX2_init_132 : decode cX2_init 132 = .ok (.bipush 20, 2) := dk_16 20 (dk_at dksX2_init_5 17 rfl rfl)
theorem dX2_init_134 : decode cX2_init 134 = .ok (.newarray .int, 2) := dk_188_10 (dk_at dksX2_init_5 19 rfl rfl)
theorem dX2_init_136 : decode cX2_init 136 = .ok (.putfield 56, 3) := dk_181 0 56 (dk_at dksX2_init_5 21 rfl rfl)
theorem dX2_init_139 : decode cX2_init 139 = .ok (.aload_n 0, 1) := dk_42 (dk_at dksX2_init_6 0 rfl rfl)
theorem dX2_init_140 : decode cX2_init 140 = .ok (.bipush 100, 2) := dk_16 100 (dk_at dksX2_init_6 1 rfl rfl)
theorem dX2_init_142 : decode cX2_init 142 = .ok (.newarray .int, 2) := dk_188_10 (dk_at dksX2_init_6 3 rfl rfl)
theorem dX2_init_144 : decode cX2_init 144 = .ok (.putfield 59, 3) := dk_181 0 59 (dk_at dksX2_init_6 5 rfl rfl)
theorem dX2_init_147 : decode cX2_init 147 = .ok (.aload_n 0, 1) := dk_42 (dk_at dksX2_init_6 8 rfl rfl)
theorem dX2_init_148 : decode cX2_init 148 = .ok (.sipush 3700, 3) := dk_17 14 116 (dk_at dksX2_init_6 9 rfl rfl)
theorem dX2_init_151 : decode cX2_init 151 = .ok (.newarray .int, 2) := dk_188_10 (dk_at dksX2_init_6 12 rfl rfl)
theorem dX2_init_153 : decode cX2_init 153 = .ok (.putfield 62, 3) := dk_181 0 62 (dk_at dksX2_init_6 14 rfl rfl)
theorem dX2_init_156 : decode cX2_init 156 = .ok (.aload_n 0, 1) := dk_42 (dk_at dksX2_init_6 17 rfl rfl)
theorem dX2_init_157 : decode cX2_init 157 = .ok (.bipush 40, 2) := dk_16 40 (dk_at dksX2_init_6 18 rfl rfl)
theorem dX2_init_159 : decode cX2_init 159 = .ok (.newarray .int, 2) := dk_188_10 (dk_at dksX2_init_6 20 rfl rfl)
theorem dX2_init_161 : decode cX2_init 161 = .ok (.putfield 65, 3) := dk_181 0 65 (dk_at dksX2_init_7 0 rfl rfl)
theorem dX2_init_164 : decode cX2_init 164 = .ok (.aload_n 0, 1) := dk_42 (dk_at dksX2_init_7 3 rfl rfl)
theorem dX2_init_165 : decode cX2_init 165 = .ok (.sipush 400, 3) := dk_17 1 144 (dk_at dksX2_init_7 4 rfl rfl)
theorem dX2_init_168 : decode cX2_init 168 = .ok (.newarray .int, 2) := dk_188_10 (dk_at dksX2_init_7 7 rfl rfl)
theorem dX2_init_170 : decode cX2_init 170 = .ok (.putfield 68, 3) := dk_181 0 68 (dk_at dksX2_init_7 9 rfl rfl)
theorem dX2_init_173 : decode cX2_init 173 = .ok (.aload_n 0, 1) := dk_42 (dk_at dksX2_init_7 12 rfl rfl)
theorem dX2_init_174 : decode cX2_init 174 = .ok (.sipush 4200, 3) := dk_17 16 104 (dk_at dksX2_init_7 13 rfl rfl)
theorem dX2_init_177 : decode cX2_init 177 = .ok (.newarray .int, 2) := dk_188_10 (dk_at dksX2_init_7 16 rfl rfl)
theorem dX2_init_179 : decode cX2_init 179 = .ok (.putfield 71, 3) := dk_181 0 71 (dk_at dksX2_init_7 18 rfl rfl)
theorem dX2_init_182 : decode cX2_init 182 = .ok (.aload_n 0, 1) := dk_42 (dk_at dksX2_init_7 21 rfl rfl)
theorem dX2_init_183 : decode cX2_init 183 = .ok (.sipush 4200, 3) := dk_17 16 104 (dk_at dksX2_init_8 0 rfl rfl)
theorem dX2_init_186 : decode cX2_init 186 = .ok (.newarray .int, 2) := dk_188_10 (dk_at dksX2_init_8 3 rfl rfl)
theorem dX2_init_188 : decode cX2_init 188 = .ok (.putfield 74, 3) := dk_181 0 74 (dk_at dksX2_init_8 5 rfl rfl)
theorem dX2_init_191 : decode cX2_init 191 = .ok (.aload_n 0, 1) := dk_42 (dk_at dksX2_init_8 8 rfl rfl)
theorem dX2_init_192 : decode cX2_init 192 = .ok (.sipush 4200, 3) := dk_17 16 104 (dk_at dksX2_init_8 9 rfl rfl)
theorem dX2_init_195 : decode cX2_init 195 = .ok (.newarray .boolean, 2) := dk_188_4 (dk_at dksX2_init_8 12 rfl rfl)
theorem dX2_init_197 : decode cX2_init 197 = .ok (.putfield 77, 3) := dk_181 0 77 (dk_at dksX2_init_8 14 rfl rfl)
theorem dX2_init_200 : decode cX2_init 200 = .ok (.aload_n 0, 1) := dk_42 (dk_at dksX2_init_8 17 rfl rfl)
theorem dX2_init_201 : decode cX2_init 201 = .ok (.sipush 3468, 3) := dk_17 13 140 (dk_at dksX2_init_8 18 rfl rfl)
theorem dX2_init_204 : decode cX2_init 204 = .ok (.newarray .long, 2) := dk_188_11 (dk_at dksX2_init_8 21 rfl rfl)
theorem dX2_init_206 : decode cX2_init 206 = .ok (.putfield 80, 3) := dk_181 0 80 (dk_at dksX2_init_9 0 rfl rfl)
theorem dX2_init_209 : decode cX2_init 209 = .ok (.aload_n 0, 1) := dk_42 (dk_at dksX2_init_9 3 rfl rfl)
theorem dX2_init_210 : decode cX2_init 210 = .ok (.bipush 17, 2) := dk_16 17 (dk_at dksX2_init_9 4 rfl rfl)
theorem dX2_init_212 : decode cX2_init 212 = .ok (.newarray .long, 2) := dk_188_11 (dk_at dksX2_init_9 6 rfl rfl)
theorem dX2_init_214 : decode cX2_init 214 = .ok (.putfield 84, 3) := dk_181 0 84 (dk_at dksX2_init_9 8 rfl rfl)
theorem dX2_init_217 : decode cX2_init 217 = .ok (.aload_n 0, 1) := dk_42 (dk_at dksX2_init_9 11 rfl rfl)
theorem dX2_init_218 : decode cX2_init 218 = .ok (.bipush 17, 2) := dk_16 17 (dk_at dksX2_init_9 12 rfl rfl)
theorem dX2_init_220 : decode cX2_init 220 = .ok (.newarray .long, 2) := dk_188_11 (dk_at dksX2_init_9 14 rfl rfl)
theorem dX2_init_222 : decode cX2_init 222 = .ok (.putfield 87, 3) := dk_181 0 87 (dk_at dksX2_init_9 16 rfl rfl)
theorem dX2_init_225 : decode cX2_init 225 = .ok (.aload_n 0, 1) := dk_42 (dk_at dksX2_init_9 19 rfl rfl)
theorem dX2_init_226 : decode cX2_init 226 = .ok (.bipush 20, 2) := dk_16 20 (dk_at dksX2_init_9 20 rfl rfl)
theorem dX2_init_228 : decode cX2_init 228 = .ok (.newarray .int, 2) := dk_188_10 (dk_at dksX2_init_9 22 rfl rfl)
theorem dX2_init_230 : decode cX2_init 230 = .ok (.putfield 90, 3) := dk_181 0 90 (dk_at dksX2_init_10 0 rfl rfl)
theorem dX2_init_233 : decode cX2_init 233 = .ok (.return_, 1) := dk_177 (dk_at dksX2_init_10 3 rfl rfl)
abbrev cX2_thrown : ByteArray := prog_14_method_2_code
def yX2_thrown : MethodName := ⟨RX2, "thrown", "()I"⟩
theorem dX2_thrown_0 : decode cX2_thrown 0 = .ok (.aload_n 0, 1) := by decide +kernel
theorem dX2_thrown_1 : decode cX2_thrown 1 = .ok (.getfield 93, 3) := by decide +kernel
theorem dX2_thrown_4 : decode cX2_thrown 4 = .ok (.ireturn, 1) := by decide +kernel
abbrev cX2_addRule : ByteArray := prog_14_method_24_code
def yX2_addRule : MethodName := ⟨RX2, "addRule", "(I)I"⟩
def dkwX2_addRule_1 : List UInt8 := [154, 0, 5, 3, 172, 42, 182, 0, 157, 42, 27, 182, 0, 160, 172]
abbrev dktX2_addRule_1 : List UInt8 := dkwX2_addRule_1 ++ []
def dkwX2_addRule_0 : List UInt8 := [42, 27, 184, 0, 149, 42, 180, 0, 113, 16, 48, 162, 0, 7, 4, 167, 0, 4, 3, 182, 0, 153]
abbrev dktX2_addRule_0 : List UInt8 := dkwX2_addRule_0 ++ dktX2_addRule_1
theorem dksX2_addRule_0 : cX2_addRule.data.toList.drop 0 = dktX2_addRule_0 := by decide +kernel
theorem dksX2_addRule_1 : cX2_addRule.data.toList.drop 22 = dktX2_addRule_1 := dk_seg dksX2_addRule_0 22 rfl rfl
theorem dX2_addRule_0 : decode cX2_addRule 0 = .ok (.aload_n 0, 1) := dk_42 (dk_at dksX2_addRule_0 0 rfl rfl)
theorem dX2_addRule_1 : decode cX2_addRule 1 = .ok (.iload_n 1, 1) := dk_27 (dk_at dksX2_addRule_0 1 rfl rfl)
theorem dX2_addRule_2 : decode cX2_addRule 2 = .ok (.invokestatic 149, 3) := dk_184 0 149 (dk_at dksX2_addRule_0 2 rfl rfl)
theorem dX2_addRule_5 : decode cX2_addRule 5 = .ok (.aload_n 0, 1) := dk_42 (dk_at dksX2_addRule_0 5 rfl rfl)
theorem dX2_addRule_6 : decode cX2_addRule 6 = .ok (.getfield 113, 3) := dk_180 0 113 (dk_at dksX2_addRule_0 6 rfl rfl)
theorem dX2_addRule_9 : decode cX2_addRule 9 = .ok (.bipush 48, 2) := dk_16 48 (dk_at dksX2_addRule_0 9 rfl rfl)
theorem dX2_addRule_11 : decode cX2_addRule 11 = .ok (.if_icmp .ge 7, 3) := dk_162 0 7 (dk_at dksX2_addRule_0 11 rfl rfl)
theorem dX2_addRule_14 : decode cX2_addRule 14 = .ok (.iconst 1, 1) := dk_4 (dk_at dksX2_addRule_0 14 rfl rfl)
theorem dX2_addRule_15 : decode cX2_addRule 15 = .ok (.goto 4, 3) := dk_167 0 4 (dk_at dksX2_addRule_0 15 rfl rfl)
theorem dX2_addRule_18 : decode cX2_addRule 18 = .ok (.iconst 0, 1) := dk_3 (dk_at dksX2_addRule_0 18 rfl rfl)
theorem dX2_addRule_19 : decode cX2_addRule 19 = .ok (.invokevirtual 153, 3) := dk_182 0 153 (dk_at dksX2_addRule_0 19 rfl rfl)
theorem dX2_addRule_22 : decode cX2_addRule 22 = .ok (.ifCond .ne 5, 3) := dk_154 0 5 (dk_at dksX2_addRule_1 0 rfl rfl)
theorem dX2_addRule_25 : decode cX2_addRule 25 = .ok (.iconst 0, 1) := dk_3 (dk_at dksX2_addRule_1 3 rfl rfl)
theorem dX2_addRule_26 : decode cX2_addRule 26 = .ok (.ireturn, 1) := dk_172 (dk_at dksX2_addRule_1 4 rfl rfl)
theorem dX2_addRule_27 : decode cX2_addRule 27 = .ok (.aload_n 0, 1) := dk_42 (dk_at dksX2_addRule_1 5 rfl rfl)
theorem dX2_addRule_28 : decode cX2_addRule 28 = .ok (.invokevirtual 157, 3) := dk_182 0 157 (dk_at dksX2_addRule_1 6 rfl rfl)
theorem dX2_addRule_31 : decode cX2_addRule 31 = .ok (.aload_n 0, 1) := dk_42 (dk_at dksX2_addRule_1 9 rfl rfl)
theorem dX2_addRule_32 : decode cX2_addRule 32 = .ok (.iload_n 1, 1) := dk_27 (dk_at dksX2_addRule_1 10 rfl rfl)
theorem dX2_addRule_33 : decode cX2_addRule 33 = .ok (.invokevirtual 160, 3) := dk_182 0 160 (dk_at dksX2_addRule_1 11 rfl rfl)
theorem dX2_addRule_36 : decode cX2_addRule 36 = .ok (.ireturn, 1) := dk_172 (dk_at dksX2_addRule_1 14 rfl rfl)
abbrev cX2_isNonterminal : ByteArray := prog_14_method_10_code
def yX2_isNonterminal : MethodName := ⟨RX2, "isNonterminal", "(I)Z"⟩
def dkwX2_isNonterminal_0 : List UInt8 := [26, 133, 20, 0, 107, 20, 0, 109, 184, 0, 103, 172]
abbrev dktX2_isNonterminal_0 : List UInt8 := dkwX2_isNonterminal_0 ++ []
theorem dksX2_isNonterminal_0 : cX2_isNonterminal.data.toList.drop 0 = dktX2_isNonterminal_0 := by decide +kernel
theorem dX2_isNonterminal_0 : decode cX2_isNonterminal 0 = .ok (.iload_n 0, 1) := dk_26 (dk_at dksX2_isNonterminal_0 0 rfl rfl)
theorem dX2_isNonterminal_1 : decode cX2_isNonterminal 1 = .ok (.i2l, 1) := dk_133 (dk_at dksX2_isNonterminal_0 1 rfl rfl)
theorem dX2_isNonterminal_2 : decode cX2_isNonterminal 2 = .ok (.ldc2_w 107, 3) := dk_20 0 107 (dk_at dksX2_isNonterminal_0 2 rfl rfl)
theorem dX2_isNonterminal_5 : decode cX2_isNonterminal 5 = .ok (.ldc2_w 109, 3) := dk_20 0 109 (dk_at dksX2_isNonterminal_0 5 rfl rfl)
theorem dX2_isNonterminal_8 : decode cX2_isNonterminal 8 = .ok (.invokestatic 103, 3) := dk_184 0 103 (dk_at dksX2_isNonterminal_0 8 rfl rfl)
theorem dX2_isNonterminal_11 : decode cX2_isNonterminal 11 = .ok (.ireturn, 1) := dk_172 (dk_at dksX2_isNonterminal_0 11 rfl rfl)
abbrev cX2_isIn : ByteArray := prog_14_method_3_code
def yX2_isIn : MethodName := ⟨RX2, "isIn", "(JJJ)Z"⟩
def dkwX2_isIn_0 : List UInt8 := [30, 32, 148, 155, 0, 14, 30, 22, 4, 148, 157, 0, 7, 4, 167, 0, 4, 3, 172]
abbrev dktX2_isIn_0 : List UInt8 := dkwX2_isIn_0 ++ []
theorem dksX2_isIn_0 : cX2_isIn.data.toList.drop 0 = dktX2_isIn_0 := by decide +kernel
theorem dX2_isIn_0 : decode cX2_isIn 0 = .ok (.lload_n 0, 1) := dk_30 (dk_at dksX2_isIn_0 0 rfl rfl)
theorem dX2_isIn_1 : decode cX2_isIn 1 = .ok (.lload_n 2, 1) := dk_32 (dk_at dksX2_isIn_0 1 rfl rfl)
theorem dX2_isIn_2 : decode cX2_isIn 2 = .ok (.lcmp, 1) := dk_148 (dk_at dksX2_isIn_0 2 rfl rfl)
theorem dX2_isIn_3 : decode cX2_isIn 3 = .ok (.ifCond .lt 14, 3) := dk_155 0 14 (dk_at dksX2_isIn_0 3 rfl rfl)
theorem dX2_isIn_6 : decode cX2_isIn 6 = .ok (.lload_n 0, 1) := dk_30 (dk_at dksX2_isIn_0 6 rfl rfl)
theorem dX2_isIn_7 : decode cX2_isIn 7 = .ok (.lload 4, 2) := dk_22 4 (dk_at dksX2_isIn_0 7 rfl rfl)
theorem dX2_isIn_9 : decode cX2_isIn 9 = .ok (.lcmp, 1) := dk_148 (dk_at dksX2_isIn_0 9 rfl rfl)
theorem dX2_isIn_10 : decode cX2_isIn 10 = .ok (.ifCond .gt 7, 3) := dk_157 0 7 (dk_at dksX2_isIn_0 10 rfl rfl)
theorem dX2_isIn_13 : decode cX2_isIn 13 = .ok (.iconst 1, 1) := dk_4 (dk_at dksX2_isIn_0 13 rfl rfl)
theorem dX2_isIn_14 : decode cX2_isIn 14 = .ok (.goto 4, 3) := dk_167 0 4 (dk_at dksX2_isIn_0 14 rfl rfl)
theorem dX2_isIn_17 : decode cX2_isIn 17 = .ok (.iconst 0, 1) := dk_3 (dk_at dksX2_isIn_0 17 rfl rfl)
theorem dX2_isIn_18 : decode cX2_isIn 18 = .ok (.ireturn, 1) := dk_172 (dk_at dksX2_isIn_0 18 rfl rfl)
abbrev cX2_goesBoth : ByteArray := prog_14_method_6_code
def yX2_goesBoth : MethodName := ⟨RX2, "goesBoth", "(ZZ)Z"⟩
def dkwX2_goesBoth_1 : List UInt8 := [180, 0, 93, 154, 0, 7, 4, 167, 0, 4, 3, 172]
abbrev dktX2_goesBoth_1 : List UInt8 := dkwX2_goesBoth_1 ++ []
def dkwX2_goesBoth_0 : List UInt8 := [42, 27, 154, 0, 7, 4, 167, 0, 12, 28, 154, 0, 7, 5, 167, 0, 4, 3, 181, 0, 93, 42]
abbrev dktX2_goesBoth_0 : List UInt8 := dkwX2_goesBoth_0 ++ dktX2_goesBoth_1
theorem dksX2_goesBoth_0 : cX2_goesBoth.data.toList.drop 0 = dktX2_goesBoth_0 := by decide +kernel
theorem dksX2_goesBoth_1 : cX2_goesBoth.data.toList.drop 22 = dktX2_goesBoth_1 := dk_seg dksX2_goesBoth_0 22 rfl rfl
theorem dX2_goesBoth_0 : decode cX2_goesBoth 0 = .ok (.aload_n 0, 1) := dk_42 (dk_at dksX2_goesBoth_0 0 rfl rfl)
theorem dX2_goesBoth_1 : decode cX2_goesBoth 1 = .ok (.iload_n 1, 1) := dk_27 (dk_at dksX2_goesBoth_0 1 rfl rfl)
theorem dX2_goesBoth_2 : decode cX2_goesBoth 2 = .ok (.ifCond .ne 7, 3) := dk_154 0 7 (dk_at dksX2_goesBoth_0 2 rfl rfl)
theorem dX2_goesBoth_5 : decode cX2_goesBoth 5 = .ok (.iconst 1, 1) := dk_4 (dk_at dksX2_goesBoth_0 5 rfl rfl)
theorem dX2_goesBoth_6 : decode cX2_goesBoth 6 = .ok (.goto 12, 3) := dk_167 0 12 (dk_at dksX2_goesBoth_0 6 rfl rfl)
theorem dX2_goesBoth_9 : decode cX2_goesBoth 9 = .ok (.iload_n 2, 1) := dk_28 (dk_at dksX2_goesBoth_0 9 rfl rfl)
theorem dX2_goesBoth_10 : decode cX2_goesBoth 10 = .ok (.ifCond .ne 7, 3) := dk_154 0 7 (dk_at dksX2_goesBoth_0 10 rfl rfl)
theorem dX2_goesBoth_13 : decode cX2_goesBoth 13 = .ok (.iconst 2, 1) := dk_5 (dk_at dksX2_goesBoth_0 13 rfl rfl)
theorem dX2_goesBoth_14 : decode cX2_goesBoth 14 = .ok (.goto 4, 3) := dk_167 0 4 (dk_at dksX2_goesBoth_0 14 rfl rfl)
theorem dX2_goesBoth_17 : decode cX2_goesBoth 17 = .ok (.iconst 0, 1) := dk_3 (dk_at dksX2_goesBoth_0 17 rfl rfl)
theorem dX2_goesBoth_18 : decode cX2_goesBoth 18 = .ok (.putfield 93, 3) := dk_181 0 93 (dk_at dksX2_goesBoth_0 18 rfl rfl)
theorem dX2_goesBoth_21 : decode cX2_goesBoth 21 = .ok (.aload_n 0, 1) := dk_42 (dk_at dksX2_goesBoth_0 21 rfl rfl)
theorem dX2_goesBoth_22 : decode cX2_goesBoth 22 = .ok (.getfield 93, 3) := dk_180 0 93 (dk_at dksX2_goesBoth_1 0 rfl rfl)
theorem dX2_goesBoth_25 : decode cX2_goesBoth 25 = .ok (.ifCond .ne 7, 3) := dk_154 0 7 (dk_at dksX2_goesBoth_1 3 rfl rfl)
theorem dX2_goesBoth_28 : decode cX2_goesBoth 28 = .ok (.iconst 1, 1) := dk_4 (dk_at dksX2_goesBoth_1 6 rfl rfl)
theorem dX2_goesBoth_29 : decode cX2_goesBoth 29 = .ok (.goto 4, 3) := dk_167 0 4 (dk_at dksX2_goesBoth_1 7 rfl rfl)
theorem dX2_goesBoth_32 : decode cX2_goesBoth 32 = .ok (.iconst 0, 1) := dk_3 (dk_at dksX2_goesBoth_1 10 rfl rfl)
theorem dX2_goesBoth_33 : decode cX2_goesBoth 33 = .ok (.ireturn, 1) := dk_172 (dk_at dksX2_goesBoth_1 11 rfl rfl)
abbrev cX2_changes : ByteArray := prog_14_method_23_code
def yX2_changes : MethodName := ⟨RX2, "changes", "()V"⟩
def dkwX2_changes_1 : List UInt8 := [181, 0, 140, 42, 3, 181, 0, 143, 42, 3, 181, 0, 146, 177]
abbrev dktX2_changes_1 : List UInt8 := dkwX2_changes_1 ++ []
def dkwX2_changes_0 : List UInt8 := [42, 3, 181, 0, 127, 42, 3, 181, 0, 131, 42, 3, 181, 0, 134, 42, 3, 181, 0, 137, 42, 3]
abbrev dktX2_changes_0 : List UInt8 := dkwX2_changes_0 ++ dktX2_changes_1
theorem dksX2_changes_0 : cX2_changes.data.toList.drop 0 = dktX2_changes_0 := by decide +kernel
theorem dksX2_changes_1 : cX2_changes.data.toList.drop 22 = dktX2_changes_1 := dk_seg dksX2_changes_0 22 rfl rfl
theorem dX2_changes_0 : decode cX2_changes 0 = .ok (.aload_n 0, 1) := dk_42 (dk_at dksX2_changes_0 0 rfl rfl)
theorem dX2_changes_1 : decode cX2_changes 1 = .ok (.iconst 0, 1) := dk_3 (dk_at dksX2_changes_0 1 rfl rfl)
theorem dX2_changes_2 : decode cX2_changes 2 = .ok (.putfield 127, 3) := dk_181 0 127 (dk_at dksX2_changes_0 2 rfl rfl)
theorem dX2_changes_5 : decode cX2_changes 5 = .ok (.aload_n 0, 1) := dk_42 (dk_at dksX2_changes_0 5 rfl rfl)
theorem dX2_changes_6 : decode cX2_changes 6 = .ok (.iconst 0, 1) := dk_3 (dk_at dksX2_changes_0 6 rfl rfl)
theorem dX2_changes_7 : decode cX2_changes 7 = .ok (.putfield 131, 3) := dk_181 0 131 (dk_at dksX2_changes_0 7 rfl rfl)
theorem dX2_changes_10 : decode cX2_changes 10 = .ok (.aload_n 0, 1) := dk_42 (dk_at dksX2_changes_0 10 rfl rfl)
theorem dX2_changes_11 : decode cX2_changes 11 = .ok (.iconst 0, 1) := dk_3 (dk_at dksX2_changes_0 11 rfl rfl)
theorem dX2_changes_12 : decode cX2_changes 12 = .ok (.putfield 134, 3) := dk_181 0 134 (dk_at dksX2_changes_0 12 rfl rfl)
theorem dX2_changes_15 : decode cX2_changes 15 = .ok (.aload_n 0, 1) := dk_42 (dk_at dksX2_changes_0 15 rfl rfl)
theorem dX2_changes_16 : decode cX2_changes 16 = .ok (.iconst 0, 1) := dk_3 (dk_at dksX2_changes_0 16 rfl rfl)
theorem dX2_changes_17 : decode cX2_changes 17 = .ok (.putfield 137, 3) := dk_181 0 137 (dk_at dksX2_changes_0 17 rfl rfl)
theorem dX2_changes_20 : decode cX2_changes 20 = .ok (.aload_n 0, 1) := dk_42 (dk_at dksX2_changes_0 20 rfl rfl)
theorem dX2_changes_21 : decode cX2_changes 21 = .ok (.iconst 0, 1) := dk_3 (dk_at dksX2_changes_0 21 rfl rfl)
theorem dX2_changes_22 : decode cX2_changes 22 = .ok (.putfield 140, 3) := dk_181 0 140 (dk_at dksX2_changes_1 0 rfl rfl)
theorem dX2_changes_25 : decode cX2_changes 25 = .ok (.aload_n 0, 1) := dk_42 (dk_at dksX2_changes_1 3 rfl rfl)
theorem dX2_changes_26 : decode cX2_changes 26 = .ok (.iconst 0, 1) := dk_3 (dk_at dksX2_changes_1 4 rfl rfl)
theorem dX2_changes_27 : decode cX2_changes 27 = .ok (.putfield 143, 3) := dk_181 0 143 (dk_at dksX2_changes_1 5 rfl rfl)
theorem dX2_changes_30 : decode cX2_changes 30 = .ok (.aload_n 0, 1) := dk_42 (dk_at dksX2_changes_1 8 rfl rfl)
theorem dX2_changes_31 : decode cX2_changes 31 = .ok (.iconst 0, 1) := dk_3 (dk_at dksX2_changes_1 9 rfl rfl)
theorem dX2_changes_32 : decode cX2_changes 32 = .ok (.putfield 146, 3) := dk_181 0 146 (dk_at dksX2_changes_1 10 rfl rfl)
theorem dX2_changes_35 : decode cX2_changes 35 = .ok (.return_, 1) := dk_177 (dk_at dksX2_changes_1 13 rfl rfl)
abbrev cX2_begins : ByteArray := prog_14_method_19_code
def yX2_begins : MethodName := ⟨RX2, "begins", "(I)I"⟩
def dkwX2_begins_1 : List UInt8 := [4, 100, 172]
abbrev dktX2_begins_1 : List UInt8 := dkwX2_begins_1 ++ []
def dkwX2_begins_0 : List UInt8 := [42, 42, 180, 0, 113, 182, 0, 120, 42, 180, 0, 7, 42, 180, 0, 113, 4, 100, 27, 79, 42, 180, 0, 113]
abbrev dktX2_begins_0 : List UInt8 := dkwX2_begins_0 ++ dktX2_begins_1
theorem dksX2_begins_0 : cX2_begins.data.toList.drop 0 = dktX2_begins_0 := by decide +kernel
theorem dksX2_begins_1 : cX2_begins.data.toList.drop 24 = dktX2_begins_1 := dk_seg dksX2_begins_0 24 rfl rfl
theorem dX2_begins_0 : decode cX2_begins 0 = .ok (.aload_n 0, 1) := dk_42 (dk_at dksX2_begins_0 0 rfl rfl)
theorem dX2_begins_1 : decode cX2_begins 1 = .ok (.aload_n 0, 1) := dk_42 (dk_at dksX2_begins_0 1 rfl rfl)
theorem dX2_begins_2 : decode cX2_begins 2 = .ok (.getfield 113, 3) := dk_180 0 113 (dk_at dksX2_begins_0 2 rfl rfl)
theorem dX2_begins_5 : decode cX2_begins 5 = .ok (.invokevirtual 120, 3) := dk_182 0 120 (dk_at dksX2_begins_0 5 rfl rfl)
theorem dX2_begins_8 : decode cX2_begins 8 = .ok (.aload_n 0, 1) := dk_42 (dk_at dksX2_begins_0 8 rfl rfl)
theorem dX2_begins_9 : decode cX2_begins 9 = .ok (.getfield 7, 3) := dk_180 0 7 (dk_at dksX2_begins_0 9 rfl rfl)
theorem dX2_begins_12 : decode cX2_begins 12 = .ok (.aload_n 0, 1) := dk_42 (dk_at dksX2_begins_0 12 rfl rfl)
theorem dX2_begins_13 : decode cX2_begins 13 = .ok (.getfield 113, 3) := dk_180 0 113 (dk_at dksX2_begins_0 13 rfl rfl)
theorem dX2_begins_16 : decode cX2_begins 16 = .ok (.iconst 1, 1) := dk_4 (dk_at dksX2_begins_0 16 rfl rfl)
theorem dX2_begins_17 : decode cX2_begins 17 = .ok (.isub, 1) := dk_100 (dk_at dksX2_begins_0 17 rfl rfl)
theorem dX2_begins_18 : decode cX2_begins 18 = .ok (.iload_n 1, 1) := dk_27 (dk_at dksX2_begins_0 18 rfl rfl)
theorem dX2_begins_19 : decode cX2_begins 19 = .ok (.iastore, 1) := dk_79 (dk_at dksX2_begins_0 19 rfl rfl)
theorem dX2_begins_20 : decode cX2_begins 20 = .ok (.aload_n 0, 1) := dk_42 (dk_at dksX2_begins_0 20 rfl rfl)
theorem dX2_begins_21 : decode cX2_begins 21 = .ok (.getfield 113, 3) := dk_180 0 113 (dk_at dksX2_begins_0 21 rfl rfl)
theorem dX2_begins_24 : decode cX2_begins 24 = .ok (.iconst 1, 1) := dk_4 (dk_at dksX2_begins_1 0 rfl rfl)
theorem dX2_begins_25 : decode cX2_begins 25 = .ok (.isub, 1) := dk_100 (dk_at dksX2_begins_1 1 rfl rfl)
theorem dX2_begins_26 : decode cX2_begins 26 = .ok (.ireturn, 1) := dk_172 (dk_at dksX2_begins_1 2 rfl rfl)
abbrev cX2_opens : ByteArray := prog_14_method_15_code
def yX2_opens : MethodName := ⟨RX2, "opens", "(I)V"⟩
def dkwX2_opens_1 : List UInt8 := [42, 89, 180, 0, 113, 4, 96, 181, 0, 113, 42, 180, 0, 13, 27, 3, 79, 177]
abbrev dktX2_opens_1 : List UInt8 := dkwX2_opens_1 ++ []
def dkwX2_opens_0 : List UInt8 := [42, 180, 0, 113, 61, 28, 27, 164, 0, 17, 42, 28, 4, 100, 28, 182, 0, 116, 132, 2, 255, 167, 255, 240]
abbrev dktX2_opens_0 : List UInt8 := dkwX2_opens_0 ++ dktX2_opens_1
theorem dksX2_opens_0 : cX2_opens.data.toList.drop 0 = dktX2_opens_0 := by decide +kernel
theorem dksX2_opens_1 : cX2_opens.data.toList.drop 24 = dktX2_opens_1 := dk_seg dksX2_opens_0 24 rfl rfl
theorem dX2_opens_0 : decode cX2_opens 0 = .ok (.aload_n 0, 1) := dk_42 (dk_at dksX2_opens_0 0 rfl rfl)
theorem dX2_opens_1 : decode cX2_opens 1 = .ok (.getfield 113, 3) := dk_180 0 113 (dk_at dksX2_opens_0 1 rfl rfl)
theorem dX2_opens_4 : decode cX2_opens 4 = .ok (.istore_n 2, 1) := dk_61 (dk_at dksX2_opens_0 4 rfl rfl)
theorem dX2_opens_5 : decode cX2_opens 5 = .ok (.iload_n 2, 1) := dk_28 (dk_at dksX2_opens_0 5 rfl rfl)
theorem dX2_opens_6 : decode cX2_opens 6 = .ok (.iload_n 1, 1) := dk_27 (dk_at dksX2_opens_0 6 rfl rfl)
theorem dX2_opens_7 : decode cX2_opens 7 = .ok (.if_icmp .le 17, 3) := dk_164 0 17 (dk_at dksX2_opens_0 7 rfl rfl)
theorem dX2_opens_10 : decode cX2_opens 10 = .ok (.aload_n 0, 1) := dk_42 (dk_at dksX2_opens_0 10 rfl rfl)
theorem dX2_opens_11 : decode cX2_opens 11 = .ok (.iload_n 2, 1) := dk_28 (dk_at dksX2_opens_0 11 rfl rfl)
theorem dX2_opens_12 : decode cX2_opens 12 = .ok (.iconst 1, 1) := dk_4 (dk_at dksX2_opens_0 12 rfl rfl)
theorem dX2_opens_13 : decode cX2_opens 13 = .ok (.isub, 1) := dk_100 (dk_at dksX2_opens_0 13 rfl rfl)
theorem dX2_opens_14 : decode cX2_opens 14 = .ok (.iload_n 2, 1) := dk_28 (dk_at dksX2_opens_0 14 rfl rfl)
theorem dX2_opens_15 : decode cX2_opens 15 = .ok (.invokevirtual 116, 3) := dk_182 0 116 (dk_at dksX2_opens_0 15 rfl rfl)
theorem dX2_opens_18 : decode cX2_opens 18 = .ok (.iinc 2 (-1), 3) := dk_132 2 255 (dk_at dksX2_opens_0 18 rfl rfl)
theorem dX2_opens_21 : decode cX2_opens 21 = .ok (.goto (-16), 3) := dk_167 255 240 (dk_at dksX2_opens_0 21 rfl rfl)
theorem dX2_opens_24 : decode cX2_opens 24 = .ok (.aload_n 0, 1) := dk_42 (dk_at dksX2_opens_1 0 rfl rfl)
theorem dX2_opens_25 : decode cX2_opens 25 = .ok (.dup, 1) := dk_89 (dk_at dksX2_opens_1 1 rfl rfl)
theorem dX2_opens_26 : decode cX2_opens 26 = .ok (.getfield 113, 3) := dk_180 0 113 (dk_at dksX2_opens_1 2 rfl rfl)
theorem dX2_opens_29 : decode cX2_opens 29 = .ok (.iconst 1, 1) := dk_4 (dk_at dksX2_opens_1 5 rfl rfl)
theorem dX2_opens_30 : decode cX2_opens 30 = .ok (.iadd, 1) := dk_96 (dk_at dksX2_opens_1 6 rfl rfl)
theorem dX2_opens_31 : decode cX2_opens 31 = .ok (.putfield 113, 3) := dk_181 0 113 (dk_at dksX2_opens_1 7 rfl rfl)
theorem dX2_opens_34 : decode cX2_opens 34 = .ok (.aload_n 0, 1) := dk_42 (dk_at dksX2_opens_1 10 rfl rfl)
theorem dX2_opens_35 : decode cX2_opens 35 = .ok (.getfield 13, 3) := dk_180 0 13 (dk_at dksX2_opens_1 11 rfl rfl)
theorem dX2_opens_38 : decode cX2_opens 38 = .ok (.iload_n 1, 1) := dk_27 (dk_at dksX2_opens_1 14 rfl rfl)
theorem dX2_opens_39 : decode cX2_opens 39 = .ok (.iconst 0, 1) := dk_3 (dk_at dksX2_opens_1 15 rfl rfl)
theorem dX2_opens_40 : decode cX2_opens 40 = .ok (.iastore, 1) := dk_79 (dk_at dksX2_opens_1 16 rfl rfl)
theorem dX2_opens_41 : decode cX2_opens 41 = .ok (.return_, 1) := dk_177 (dk_at dksX2_opens_1 17 rfl rfl)
abbrev cX2_copies : ByteArray := prog_14_method_16_code
def yX2_copies : MethodName := ⟨RX2, "copies", "(II)V"⟩
def dkwX2_copies_2 : List UInt8 := [27, 104, 29, 96, 46, 79, 132, 3, 1, 167, 255, 225, 177]
abbrev dktX2_copies_2 : List UInt8 := dkwX2_copies_2 ++ []
def dkwX2_copies_1 : List UInt8 := [3, 62, 29, 16, 20, 162, 0, 31, 42, 180, 0, 16, 16, 20, 28, 104, 29, 96, 42, 180, 0, 16, 16, 20]
abbrev dktX2_copies_1 : List UInt8 := dkwX2_copies_1 ++ dktX2_copies_2
def dkwX2_copies_0 : List UInt8 := [42, 180, 0, 7, 28, 42, 180, 0, 7, 27, 46, 79, 42, 180, 0, 13, 28, 42, 180, 0, 13, 27, 46, 79]
abbrev dktX2_copies_0 : List UInt8 := dkwX2_copies_0 ++ dktX2_copies_1
theorem dksX2_copies_0 : cX2_copies.data.toList.drop 0 = dktX2_copies_0 := by decide +kernel
theorem dksX2_copies_1 : cX2_copies.data.toList.drop 24 = dktX2_copies_1 := dk_seg dksX2_copies_0 24 rfl rfl
theorem dksX2_copies_2 : cX2_copies.data.toList.drop 48 = dktX2_copies_2 := dk_seg dksX2_copies_1 24 rfl rfl
theorem dX2_copies_0 : decode cX2_copies 0 = .ok (.aload_n 0, 1) := dk_42 (dk_at dksX2_copies_0 0 rfl rfl)
theorem dX2_copies_1 : decode cX2_copies 1 = .ok (.getfield 7, 3) := dk_180 0 7 (dk_at dksX2_copies_0 1 rfl rfl)
theorem dX2_copies_4 : decode cX2_copies 4 = .ok (.iload_n 2, 1) := dk_28 (dk_at dksX2_copies_0 4 rfl rfl)
theorem dX2_copies_5 : decode cX2_copies 5 = .ok (.aload_n 0, 1) := dk_42 (dk_at dksX2_copies_0 5 rfl rfl)
theorem dX2_copies_6 : decode cX2_copies 6 = .ok (.getfield 7, 3) := dk_180 0 7 (dk_at dksX2_copies_0 6 rfl rfl)
theorem dX2_copies_9 : decode cX2_copies 9 = .ok (.iload_n 1, 1) := dk_27 (dk_at dksX2_copies_0 9 rfl rfl)
theorem dX2_copies_10 : decode cX2_copies 10 = .ok (.iaload, 1) := dk_46 (dk_at dksX2_copies_0 10 rfl rfl)
theorem dX2_copies_11 : decode cX2_copies 11 = .ok (.iastore, 1) := dk_79 (dk_at dksX2_copies_0 11 rfl rfl)
theorem dX2_copies_12 : decode cX2_copies 12 = .ok (.aload_n 0, 1) := dk_42 (dk_at dksX2_copies_0 12 rfl rfl)
theorem dX2_copies_13 : decode cX2_copies 13 = .ok (.getfield 13, 3) := dk_180 0 13 (dk_at dksX2_copies_0 13 rfl rfl)
theorem dX2_copies_16 : decode cX2_copies 16 = .ok (.iload_n 2, 1) := dk_28 (dk_at dksX2_copies_0 16 rfl rfl)
theorem dX2_copies_17 : decode cX2_copies 17 = .ok (.aload_n 0, 1) := dk_42 (dk_at dksX2_copies_0 17 rfl rfl)
theorem dX2_copies_18 : decode cX2_copies 18 = .ok (.getfield 13, 3) := dk_180 0 13 (dk_at dksX2_copies_0 18 rfl rfl)
theorem dX2_copies_21 : decode cX2_copies 21 = .ok (.iload_n 1, 1) := dk_27 (dk_at dksX2_copies_0 21 rfl rfl)
theorem dX2_copies_22 : decode cX2_copies 22 = .ok (.iaload, 1) := dk_46 (dk_at dksX2_copies_0 22 rfl rfl)
theorem dX2_copies_23 : decode cX2_copies 23 = .ok (.iastore, 1) := dk_79 (dk_at dksX2_copies_0 23 rfl rfl)
theorem dX2_copies_24 : decode cX2_copies 24 = .ok (.iconst 0, 1) := dk_3 (dk_at dksX2_copies_1 0 rfl rfl)
theorem dX2_copies_25 : decode cX2_copies 25 = .ok (.istore_n 3, 1) := dk_62 (dk_at dksX2_copies_1 1 rfl rfl)
theorem dX2_copies_26 : decode cX2_copies 26 = .ok (.iload_n 3, 1) := dk_29 (dk_at dksX2_copies_1 2 rfl rfl)
theorem dX2_copies_27 : decode cX2_copies 27 = .ok (.bipush 20, 2) := dk_16 20 (dk_at dksX2_copies_1 3 rfl rfl)
theorem dX2_copies_29 : decode cX2_copies 29 = .ok (.if_icmp .ge 31, 3) := dk_162 0 31 (dk_at dksX2_copies_1 5 rfl rfl)
theorem dX2_copies_32 : decode cX2_copies 32 = .ok (.aload_n 0, 1) := dk_42 (dk_at dksX2_copies_1 8 rfl rfl)
theorem dX2_copies_33 : decode cX2_copies 33 = .ok (.getfield 16, 3) := dk_180 0 16 (dk_at dksX2_copies_1 9 rfl rfl)
theorem dX2_copies_36 : decode cX2_copies 36 = .ok (.bipush 20, 2) := dk_16 20 (dk_at dksX2_copies_1 12 rfl rfl)
theorem dX2_copies_38 : decode cX2_copies 38 = .ok (.iload_n 2, 1) := dk_28 (dk_at dksX2_copies_1 14 rfl rfl)
theorem dX2_copies_39 : decode cX2_copies 39 = .ok (.imul, 1) := dk_104 (dk_at dksX2_copies_1 15 rfl rfl)
theorem dX2_copies_40 : decode cX2_copies 40 = .ok (.iload_n 3, 1) := dk_29 (dk_at dksX2_copies_1 16 rfl rfl)
theorem dX2_copies_41 : decode cX2_copies 41 = .ok (.iadd, 1) := dk_96 (dk_at dksX2_copies_1 17 rfl rfl)
theorem dX2_copies_42 : decode cX2_copies 42 = .ok (.aload_n 0, 1) := dk_42 (dk_at dksX2_copies_1 18 rfl rfl)
theorem dX2_copies_43 : decode cX2_copies 43 = .ok (.getfield 16, 3) := dk_180 0 16 (dk_at dksX2_copies_1 19 rfl rfl)
theorem dX2_copies_46 : decode cX2_copies 46 = .ok (.bipush 20, 2) := dk_16 20 (dk_at dksX2_copies_1 22 rfl rfl)
theorem dX2_copies_48 : decode cX2_copies 48 = .ok (.iload_n 1, 1) := dk_27 (dk_at dksX2_copies_2 0 rfl rfl)
theorem dX2_copies_49 : decode cX2_copies 49 = .ok (.imul, 1) := dk_104 (dk_at dksX2_copies_2 1 rfl rfl)
theorem dX2_copies_50 : decode cX2_copies 50 = .ok (.iload_n 3, 1) := dk_29 (dk_at dksX2_copies_2 2 rfl rfl)
theorem dX2_copies_51 : decode cX2_copies 51 = .ok (.iadd, 1) := dk_96 (dk_at dksX2_copies_2 3 rfl rfl)
theorem dX2_copies_52 : decode cX2_copies 52 = .ok (.iaload, 1) := dk_46 (dk_at dksX2_copies_2 4 rfl rfl)
theorem dX2_copies_53 : decode cX2_copies 53 = .ok (.iastore, 1) := dk_79 (dk_at dksX2_copies_2 5 rfl rfl)
theorem dX2_copies_54 : decode cX2_copies 54 = .ok (.iinc 3 1, 3) := dk_132 3 1 (dk_at dksX2_copies_2 6 rfl rfl)
theorem dX2_copies_57 : decode cX2_copies 57 = .ok (.goto (-31), 3) := dk_167 255 225 (dk_at dksX2_copies_2 9 rfl rfl)
theorem dX2_copies_60 : decode cX2_copies 60 = .ok (.return_, 1) := dk_177 (dk_at dksX2_copies_2 12 rfl rfl)
abbrev cX2_append : ByteArray := prog_14_method_25_code
def yX2_append : MethodName := ⟨RX2, "append", "(II)I"⟩
def dkwX2_append_3 : List UInt8 := [46, 172]
abbrev dktX2_append_3 : List UInt8 := dkwX2_append_3 ++ []
def dkwX2_append_2 : List UInt8 := [3, 182, 0, 170, 154, 0, 5, 3, 172, 42, 182, 0, 157, 42, 27, 28, 182, 0, 174, 42, 180, 0, 13, 27]
abbrev dktX2_append_2 : List UInt8 := dkwX2_append_2 ++ dktX2_append_3
def dkwX2_append_1 : List UInt8 := [3, 42, 27, 182, 0, 164, 153, 0, 18, 42, 180, 0, 13, 27, 46, 16, 10, 162, 0, 7, 4, 167, 0, 4]
abbrev dktX2_append_1 : List UInt8 := dkwX2_append_1 ++ dktX2_append_2
def dkwX2_append_0 : List UInt8 := [42, 42, 27, 182, 0, 164, 28, 184, 0, 167, 154, 0, 10, 28, 184, 0, 149, 153, 0, 7, 4, 167, 0, 4]
abbrev dktX2_append_0 : List UInt8 := dkwX2_append_0 ++ dktX2_append_1
theorem dksX2_append_0 : cX2_append.data.toList.drop 0 = dktX2_append_0 := by decide +kernel
theorem dksX2_append_1 : cX2_append.data.toList.drop 24 = dktX2_append_1 := dk_seg dksX2_append_0 24 rfl rfl
theorem dksX2_append_2 : cX2_append.data.toList.drop 48 = dktX2_append_2 := dk_seg dksX2_append_1 24 rfl rfl
theorem dksX2_append_3 : cX2_append.data.toList.drop 72 = dktX2_append_3 := dk_seg dksX2_append_2 24 rfl rfl
theorem dX2_append_0 : decode cX2_append 0 = .ok (.aload_n 0, 1) := dk_42 (dk_at dksX2_append_0 0 rfl rfl)
theorem dX2_append_1 : decode cX2_append 1 = .ok (.aload_n 0, 1) := dk_42 (dk_at dksX2_append_0 1 rfl rfl)
theorem dX2_append_2 : decode cX2_append 2 = .ok (.iload_n 1, 1) := dk_27 (dk_at dksX2_append_0 2 rfl rfl)
theorem dX2_append_3 : decode cX2_append 3 = .ok (.invokevirtual 164, 3) := dk_182 0 164 (dk_at dksX2_append_0 3 rfl rfl)
theorem dX2_append_6 : decode cX2_append 6 = .ok (.iload_n 2, 1) := dk_28 (dk_at dksX2_append_0 6 rfl rfl)
theorem dX2_append_7 : decode cX2_append 7 = .ok (.invokestatic 167, 3) := dk_184 0 167 (dk_at dksX2_append_0 7 rfl rfl)
theorem dX2_append_10 : decode cX2_append 10 = .ok (.ifCond .ne 10, 3) := dk_154 0 10 (dk_at dksX2_append_0 10 rfl rfl)
theorem dX2_append_13 : decode cX2_append 13 = .ok (.iload_n 2, 1) := dk_28 (dk_at dksX2_append_0 13 rfl rfl)
theorem dX2_append_14 : decode cX2_append 14 = .ok (.invokestatic 149, 3) := dk_184 0 149 (dk_at dksX2_append_0 14 rfl rfl)
theorem dX2_append_17 : decode cX2_append 17 = .ok (.ifCond .eq 7, 3) := dk_153 0 7 (dk_at dksX2_append_0 17 rfl rfl)
theorem dX2_append_20 : decode cX2_append 20 = .ok (.iconst 1, 1) := dk_4 (dk_at dksX2_append_0 20 rfl rfl)
theorem dX2_append_21 : decode cX2_append 21 = .ok (.goto 4, 3) := dk_167 0 4 (dk_at dksX2_append_0 21 rfl rfl)
theorem dX2_append_24 : decode cX2_append 24 = .ok (.iconst 0, 1) := dk_3 (dk_at dksX2_append_1 0 rfl rfl)
theorem dX2_append_25 : decode cX2_append 25 = .ok (.aload_n 0, 1) := dk_42 (dk_at dksX2_append_1 1 rfl rfl)
theorem dX2_append_26 : decode cX2_append 26 = .ok (.iload_n 1, 1) := dk_27 (dk_at dksX2_append_1 2 rfl rfl)
theorem dX2_append_27 : decode cX2_append 27 = .ok (.invokevirtual 164, 3) := dk_182 0 164 (dk_at dksX2_append_1 3 rfl rfl)
theorem dX2_append_30 : decode cX2_append 30 = .ok (.ifCond .eq 18, 3) := dk_153 0 18 (dk_at dksX2_append_1 6 rfl rfl)
theorem dX2_append_33 : decode cX2_append 33 = .ok (.aload_n 0, 1) := dk_42 (dk_at dksX2_append_1 9 rfl rfl)
theorem dX2_append_34 : decode cX2_append 34 = .ok (.getfield 13, 3) := dk_180 0 13 (dk_at dksX2_append_1 10 rfl rfl)
theorem dX2_append_37 : decode cX2_append 37 = .ok (.iload_n 1, 1) := dk_27 (dk_at dksX2_append_1 13 rfl rfl)
theorem dX2_append_38 : decode cX2_append 38 = .ok (.iaload, 1) := dk_46 (dk_at dksX2_append_1 14 rfl rfl)
theorem dX2_append_39 : decode cX2_append 39 = .ok (.bipush 10, 2) := dk_16 10 (dk_at dksX2_append_1 15 rfl rfl)
theorem dX2_append_41 : decode cX2_append 41 = .ok (.if_icmp .ge 7, 3) := dk_162 0 7 (dk_at dksX2_append_1 17 rfl rfl)
theorem dX2_append_44 : decode cX2_append 44 = .ok (.iconst 1, 1) := dk_4 (dk_at dksX2_append_1 20 rfl rfl)
theorem dX2_append_45 : decode cX2_append 45 = .ok (.goto 4, 3) := dk_167 0 4 (dk_at dksX2_append_1 21 rfl rfl)
theorem dX2_append_48 : decode cX2_append 48 = .ok (.iconst 0, 1) := dk_3 (dk_at dksX2_append_2 0 rfl rfl)
theorem dX2_append_49 : decode cX2_append 49 = .ok (.invokevirtual 170, 3) := dk_182 0 170 (dk_at dksX2_append_2 1 rfl rfl)
theorem dX2_append_52 : decode cX2_append 52 = .ok (.ifCond .ne 5, 3) := dk_154 0 5 (dk_at dksX2_append_2 4 rfl rfl)
theorem dX2_append_55 : decode cX2_append 55 = .ok (.iconst 0, 1) := dk_3 (dk_at dksX2_append_2 7 rfl rfl)
theorem dX2_append_56 : decode cX2_append 56 = .ok (.ireturn, 1) := dk_172 (dk_at dksX2_append_2 8 rfl rfl)
theorem dX2_append_57 : decode cX2_append 57 = .ok (.aload_n 0, 1) := dk_42 (dk_at dksX2_append_2 9 rfl rfl)
theorem dX2_append_58 : decode cX2_append 58 = .ok (.invokevirtual 157, 3) := dk_182 0 157 (dk_at dksX2_append_2 10 rfl rfl)
theorem dX2_append_61 : decode cX2_append 61 = .ok (.aload_n 0, 1) := dk_42 (dk_at dksX2_append_2 13 rfl rfl)
theorem dX2_append_62 : decode cX2_append 62 = .ok (.iload_n 1, 1) := dk_27 (dk_at dksX2_append_2 14 rfl rfl)
theorem dX2_append_63 : decode cX2_append 63 = .ok (.iload_n 2, 1) := dk_28 (dk_at dksX2_append_2 15 rfl rfl)
theorem dX2_append_64 : decode cX2_append 64 = .ok (.invokevirtual 174, 3) := dk_182 0 174 (dk_at dksX2_append_2 16 rfl rfl)
theorem dX2_append_67 : decode cX2_append 67 = .ok (.aload_n 0, 1) := dk_42 (dk_at dksX2_append_2 19 rfl rfl)
theorem dX2_append_68 : decode cX2_append 68 = .ok (.getfield 13, 3) := dk_180 0 13 (dk_at dksX2_append_2 20 rfl rfl)
theorem dX2_append_71 : decode cX2_append 71 = .ok (.iload_n 1, 1) := dk_27 (dk_at dksX2_append_2 23 rfl rfl)
theorem dX2_append_72 : decode cX2_append 72 = .ok (.iaload, 1) := dk_46 (dk_at dksX2_append_3 0 rfl rfl)
theorem dX2_append_73 : decode cX2_append 73 = .ok (.ireturn, 1) := dk_172 (dk_at dksX2_append_3 1 rfl rfl)
abbrev cX2_isRule : ByteArray := prog_14_method_12_code
def yX2_isRule : MethodName := ⟨RX2, "isRule", "(I)Z"⟩
def dkwX2_isRule_0 : List UInt8 := [27, 133, 9, 42, 180, 0, 113, 4, 100, 133, 184, 0, 103, 172]
abbrev dktX2_isRule_0 : List UInt8 := dkwX2_isRule_0 ++ []
theorem dksX2_isRule_0 : cX2_isRule.data.toList.drop 0 = dktX2_isRule_0 := by decide +kernel
theorem dX2_isRule_0 : decode cX2_isRule 0 = .ok (.iload_n 1, 1) := dk_27 (dk_at dksX2_isRule_0 0 rfl rfl)
theorem dX2_isRule_1 : decode cX2_isRule 1 = .ok (.i2l, 1) := dk_133 (dk_at dksX2_isRule_0 1 rfl rfl)
theorem dX2_isRule_2 : decode cX2_isRule 2 = .ok (.lconst 0, 1) := dk_9 (dk_at dksX2_isRule_0 2 rfl rfl)
theorem dX2_isRule_3 : decode cX2_isRule 3 = .ok (.aload_n 0, 1) := dk_42 (dk_at dksX2_isRule_0 3 rfl rfl)
theorem dX2_isRule_4 : decode cX2_isRule 4 = .ok (.getfield 113, 3) := dk_180 0 113 (dk_at dksX2_isRule_0 4 rfl rfl)
theorem dX2_isRule_7 : decode cX2_isRule 7 = .ok (.iconst 1, 1) := dk_4 (dk_at dksX2_isRule_0 7 rfl rfl)
theorem dX2_isRule_8 : decode cX2_isRule 8 = .ok (.isub, 1) := dk_100 (dk_at dksX2_isRule_0 8 rfl rfl)
theorem dX2_isRule_9 : decode cX2_isRule 9 = .ok (.i2l, 1) := dk_133 (dk_at dksX2_isRule_0 9 rfl rfl)
theorem dX2_isRule_10 : decode cX2_isRule 10 = .ok (.invokestatic 103, 3) := dk_184 0 103 (dk_at dksX2_isRule_0 10 rfl rfl)
theorem dX2_isRule_13 : decode cX2_isRule 13 = .ok (.ireturn, 1) := dk_172 (dk_at dksX2_isRule_0 13 rfl rfl)
abbrev cX2_isTerminal : ByteArray := prog_14_method_9_code
def yX2_isTerminal : MethodName := ⟨RX2, "isTerminal", "(I)Z"⟩
def dkwX2_isTerminal_0 : List UInt8 := [26, 133, 9, 20, 0, 101, 184, 0, 103, 172]
abbrev dktX2_isTerminal_0 : List UInt8 := dkwX2_isTerminal_0 ++ []
theorem dksX2_isTerminal_0 : cX2_isTerminal.data.toList.drop 0 = dktX2_isTerminal_0 := by decide +kernel
theorem dX2_isTerminal_0 : decode cX2_isTerminal 0 = .ok (.iload_n 0, 1) := dk_26 (dk_at dksX2_isTerminal_0 0 rfl rfl)
theorem dX2_isTerminal_1 : decode cX2_isTerminal 1 = .ok (.i2l, 1) := dk_133 (dk_at dksX2_isTerminal_0 1 rfl rfl)
theorem dX2_isTerminal_2 : decode cX2_isTerminal 2 = .ok (.lconst 0, 1) := dk_9 (dk_at dksX2_isTerminal_0 2 rfl rfl)
theorem dX2_isTerminal_3 : decode cX2_isTerminal 3 = .ok (.ldc2_w 101, 3) := dk_20 0 101 (dk_at dksX2_isTerminal_0 3 rfl rfl)
theorem dX2_isTerminal_6 : decode cX2_isTerminal 6 = .ok (.invokestatic 103, 3) := dk_184 0 103 (dk_at dksX2_isTerminal_0 6 rfl rfl)
theorem dX2_isTerminal_9 : decode cX2_isTerminal 9 = .ok (.ireturn, 1) := dk_172 (dk_at dksX2_isTerminal_0 9 rfl rfl)
abbrev cX2_goesThree : ByteArray := prog_14_method_7_code
def yX2_goesThree : MethodName := ⟨RX2, "goesThree", "(ZZZ)Z"⟩
def dkwX2_goesThree_1 : List UInt8 := [167, 0, 4, 3, 181, 0, 93, 42, 180, 0, 93, 154, 0, 7, 4, 167, 0, 4, 3, 172]
abbrev dktX2_goesThree_1 : List UInt8 := dkwX2_goesThree_1 ++ []
def dkwX2_goesThree_0 : List UInt8 := [42, 27, 154, 0, 7, 4, 167, 0, 20, 28, 154, 0, 7, 5, 167, 0, 12, 29, 154, 0, 7, 6]
abbrev dktX2_goesThree_0 : List UInt8 := dkwX2_goesThree_0 ++ dktX2_goesThree_1
theorem dksX2_goesThree_0 : cX2_goesThree.data.toList.drop 0 = dktX2_goesThree_0 := by decide +kernel
theorem dksX2_goesThree_1 : cX2_goesThree.data.toList.drop 22 = dktX2_goesThree_1 := dk_seg dksX2_goesThree_0 22 rfl rfl
theorem dX2_goesThree_0 : decode cX2_goesThree 0 = .ok (.aload_n 0, 1) := dk_42 (dk_at dksX2_goesThree_0 0 rfl rfl)
theorem dX2_goesThree_1 : decode cX2_goesThree 1 = .ok (.iload_n 1, 1) := dk_27 (dk_at dksX2_goesThree_0 1 rfl rfl)
theorem dX2_goesThree_2 : decode cX2_goesThree 2 = .ok (.ifCond .ne 7, 3) := dk_154 0 7 (dk_at dksX2_goesThree_0 2 rfl rfl)
theorem dX2_goesThree_5 : decode cX2_goesThree 5 = .ok (.iconst 1, 1) := dk_4 (dk_at dksX2_goesThree_0 5 rfl rfl)
theorem dX2_goesThree_6 : decode cX2_goesThree 6 = .ok (.goto 20, 3) := dk_167 0 20 (dk_at dksX2_goesThree_0 6 rfl rfl)
theorem dX2_goesThree_9 : decode cX2_goesThree 9 = .ok (.iload_n 2, 1) := dk_28 (dk_at dksX2_goesThree_0 9 rfl rfl)
theorem dX2_goesThree_10 : decode cX2_goesThree 10 = .ok (.ifCond .ne 7, 3) := dk_154 0 7 (dk_at dksX2_goesThree_0 10 rfl rfl)
theorem dX2_goesThree_13 : decode cX2_goesThree 13 = .ok (.iconst 2, 1) := dk_5 (dk_at dksX2_goesThree_0 13 rfl rfl)
theorem dX2_goesThree_14 : decode cX2_goesThree 14 = .ok (.goto 12, 3) := dk_167 0 12 (dk_at dksX2_goesThree_0 14 rfl rfl)
theorem dX2_goesThree_17 : decode cX2_goesThree 17 = .ok (.iload_n 3, 1) := dk_29 (dk_at dksX2_goesThree_0 17 rfl rfl)
theorem dX2_goesThree_18 : decode cX2_goesThree 18 = .ok (.ifCond .ne 7, 3) := dk_154 0 7 (dk_at dksX2_goesThree_0 18 rfl rfl)
theorem dX2_goesThree_21 : decode cX2_goesThree 21 = .ok (.iconst 3, 1) := dk_6 (dk_at dksX2_goesThree_0 21 rfl rfl)
theorem dX2_goesThree_22 : decode cX2_goesThree 22 = .ok (.goto 4, 3) := dk_167 0 4 (dk_at dksX2_goesThree_1 0 rfl rfl)
theorem dX2_goesThree_25 : decode cX2_goesThree 25 = .ok (.iconst 0, 1) := dk_3 (dk_at dksX2_goesThree_1 3 rfl rfl)
theorem dX2_goesThree_26 : decode cX2_goesThree 26 = .ok (.putfield 93, 3) := dk_181 0 93 (dk_at dksX2_goesThree_1 4 rfl rfl)
theorem dX2_goesThree_29 : decode cX2_goesThree 29 = .ok (.aload_n 0, 1) := dk_42 (dk_at dksX2_goesThree_1 7 rfl rfl)
theorem dX2_goesThree_30 : decode cX2_goesThree 30 = .ok (.getfield 93, 3) := dk_180 0 93 (dk_at dksX2_goesThree_1 8 rfl rfl)
theorem dX2_goesThree_33 : decode cX2_goesThree 33 = .ok (.ifCond .ne 7, 3) := dk_154 0 7 (dk_at dksX2_goesThree_1 11 rfl rfl)
theorem dX2_goesThree_36 : decode cX2_goesThree 36 = .ok (.iconst 1, 1) := dk_4 (dk_at dksX2_goesThree_1 14 rfl rfl)
theorem dX2_goesThree_37 : decode cX2_goesThree 37 = .ok (.goto 4, 3) := dk_167 0 4 (dk_at dksX2_goesThree_1 15 rfl rfl)
theorem dX2_goesThree_40 : decode cX2_goesThree 40 = .ok (.iconst 0, 1) := dk_3 (dk_at dksX2_goesThree_1 18 rfl rfl)
theorem dX2_goesThree_41 : decode cX2_goesThree 41 = .ok (.ireturn, 1) := dk_172 (dk_at dksX2_goesThree_1 19 rfl rfl)
abbrev cX2_puts : ByteArray := prog_14_method_18_code
def yX2_puts : MethodName := ⟨RX2, "puts", "(II)V"⟩
def dkwX2_puts_1 : List UInt8 := [4, 96, 79, 177]
abbrev dktX2_puts_1 : List UInt8 := dkwX2_puts_1 ++ []
def dkwX2_puts_0 : List UInt8 := [42, 180, 0, 16, 16, 20, 27, 104, 42, 180, 0, 13, 27, 46, 96, 28, 79, 42, 180, 0, 13, 27, 92, 46]
abbrev dktX2_puts_0 : List UInt8 := dkwX2_puts_0 ++ dktX2_puts_1
theorem dksX2_puts_0 : cX2_puts.data.toList.drop 0 = dktX2_puts_0 := by decide +kernel
theorem dksX2_puts_1 : cX2_puts.data.toList.drop 24 = dktX2_puts_1 := dk_seg dksX2_puts_0 24 rfl rfl
theorem dX2_puts_0 : decode cX2_puts 0 = .ok (.aload_n 0, 1) := dk_42 (dk_at dksX2_puts_0 0 rfl rfl)
theorem dX2_puts_1 : decode cX2_puts 1 = .ok (.getfield 16, 3) := dk_180 0 16 (dk_at dksX2_puts_0 1 rfl rfl)
theorem dX2_puts_4 : decode cX2_puts 4 = .ok (.bipush 20, 2) := dk_16 20 (dk_at dksX2_puts_0 4 rfl rfl)
theorem dX2_puts_6 : decode cX2_puts 6 = .ok (.iload_n 1, 1) := dk_27 (dk_at dksX2_puts_0 6 rfl rfl)
theorem dX2_puts_7 : decode cX2_puts 7 = .ok (.imul, 1) := dk_104 (dk_at dksX2_puts_0 7 rfl rfl)
theorem dX2_puts_8 : decode cX2_puts 8 = .ok (.aload_n 0, 1) := dk_42 (dk_at dksX2_puts_0 8 rfl rfl)
theorem dX2_puts_9 : decode cX2_puts 9 = .ok (.getfield 13, 3) := dk_180 0 13 (dk_at dksX2_puts_0 9 rfl rfl)
theorem dX2_puts_12 : decode cX2_puts 12 = .ok (.iload_n 1, 1) := dk_27 (dk_at dksX2_puts_0 12 rfl rfl)
theorem dX2_puts_13 : decode cX2_puts 13 = .ok (.iaload, 1) := dk_46 (dk_at dksX2_puts_0 13 rfl rfl)
theorem dX2_puts_14 : decode cX2_puts 14 = .ok (.iadd, 1) := dk_96 (dk_at dksX2_puts_0 14 rfl rfl)
theorem dX2_puts_15 : decode cX2_puts 15 = .ok (.iload_n 2, 1) := dk_28 (dk_at dksX2_puts_0 15 rfl rfl)
theorem dX2_puts_16 : decode cX2_puts 16 = .ok (.iastore, 1) := dk_79 (dk_at dksX2_puts_0 16 rfl rfl)
theorem dX2_puts_17 : decode cX2_puts 17 = .ok (.aload_n 0, 1) := dk_42 (dk_at dksX2_puts_0 17 rfl rfl)
theorem dX2_puts_18 : decode cX2_puts 18 = .ok (.getfield 13, 3) := dk_180 0 13 (dk_at dksX2_puts_0 18 rfl rfl)
theorem dX2_puts_21 : decode cX2_puts 21 = .ok (.iload_n 1, 1) := dk_27 (dk_at dksX2_puts_0 21 rfl rfl)
theorem dX2_puts_22 : decode cX2_puts 22 = .ok (.dup2, 1) := dk_92 (dk_at dksX2_puts_0 22 rfl rfl)
theorem dX2_puts_23 : decode cX2_puts 23 = .ok (.iaload, 1) := dk_46 (dk_at dksX2_puts_0 23 rfl rfl)
theorem dX2_puts_24 : decode cX2_puts 24 = .ok (.iconst 1, 1) := dk_4 (dk_at dksX2_puts_1 0 rfl rfl)
theorem dX2_puts_25 : decode cX2_puts 25 = .ok (.iadd, 1) := dk_96 (dk_at dksX2_puts_1 1 rfl rfl)
theorem dX2_puts_26 : decode cX2_puts 26 = .ok (.iastore, 1) := dk_79 (dk_at dksX2_puts_1 2 rfl rfl)
theorem dX2_puts_27 : decode cX2_puts 27 = .ok (.return_, 1) := dk_177 (dk_at dksX2_puts_1 3 rfl rfl)
abbrev cX2_removeRule : ByteArray := prog_14_method_26_code
def yX2_removeRule : MethodName := ⟨RX2, "removeRule", "(I)I"⟩
def dkwX2_removeRule_1 : List UInt8 := [180, 0, 113, 172]
abbrev dktX2_removeRule_1 : List UInt8 := dkwX2_removeRule_1 ++ []
def dkwX2_removeRule_0 : List UInt8 := [42, 42, 27, 182, 0, 164, 182, 0, 177, 154, 0, 5, 3, 172, 42, 182, 0, 157, 42, 27, 182, 0, 181, 42]
abbrev dktX2_removeRule_0 : List UInt8 := dkwX2_removeRule_0 ++ dktX2_removeRule_1
theorem dksX2_removeRule_0 : cX2_removeRule.data.toList.drop 0 = dktX2_removeRule_0 := by decide +kernel
theorem dksX2_removeRule_1 : cX2_removeRule.data.toList.drop 24 = dktX2_removeRule_1 := dk_seg dksX2_removeRule_0 24 rfl rfl
theorem dX2_removeRule_0 : decode cX2_removeRule 0 = .ok (.aload_n 0, 1) := dk_42 (dk_at dksX2_removeRule_0 0 rfl rfl)
theorem dX2_removeRule_1 : decode cX2_removeRule 1 = .ok (.aload_n 0, 1) := dk_42 (dk_at dksX2_removeRule_0 1 rfl rfl)
theorem dX2_removeRule_2 : decode cX2_removeRule 2 = .ok (.iload_n 1, 1) := dk_27 (dk_at dksX2_removeRule_0 2 rfl rfl)
theorem dX2_removeRule_3 : decode cX2_removeRule 3 = .ok (.invokevirtual 164, 3) := dk_182 0 164 (dk_at dksX2_removeRule_0 3 rfl rfl)
theorem dX2_removeRule_6 : decode cX2_removeRule 6 = .ok (.invokevirtual 177, 3) := dk_182 0 177 (dk_at dksX2_removeRule_0 6 rfl rfl)
theorem dX2_removeRule_9 : decode cX2_removeRule 9 = .ok (.ifCond .ne 5, 3) := dk_154 0 5 (dk_at dksX2_removeRule_0 9 rfl rfl)
theorem dX2_removeRule_12 : decode cX2_removeRule 12 = .ok (.iconst 0, 1) := dk_3 (dk_at dksX2_removeRule_0 12 rfl rfl)
theorem dX2_removeRule_13 : decode cX2_removeRule 13 = .ok (.ireturn, 1) := dk_172 (dk_at dksX2_removeRule_0 13 rfl rfl)
theorem dX2_removeRule_14 : decode cX2_removeRule 14 = .ok (.aload_n 0, 1) := dk_42 (dk_at dksX2_removeRule_0 14 rfl rfl)
theorem dX2_removeRule_15 : decode cX2_removeRule 15 = .ok (.invokevirtual 157, 3) := dk_182 0 157 (dk_at dksX2_removeRule_0 15 rfl rfl)
theorem dX2_removeRule_18 : decode cX2_removeRule 18 = .ok (.aload_n 0, 1) := dk_42 (dk_at dksX2_removeRule_0 18 rfl rfl)
theorem dX2_removeRule_19 : decode cX2_removeRule 19 = .ok (.iload_n 1, 1) := dk_27 (dk_at dksX2_removeRule_0 19 rfl rfl)
theorem dX2_removeRule_20 : decode cX2_removeRule 20 = .ok (.invokevirtual 181, 3) := dk_182 0 181 (dk_at dksX2_removeRule_0 20 rfl rfl)
theorem dX2_removeRule_23 : decode cX2_removeRule 23 = .ok (.aload_n 0, 1) := dk_42 (dk_at dksX2_removeRule_0 23 rfl rfl)
theorem dX2_removeRule_24 : decode cX2_removeRule 24 = .ok (.getfield 113, 3) := dk_180 0 113 (dk_at dksX2_removeRule_1 0 rfl rfl)
theorem dX2_removeRule_27 : decode cX2_removeRule 27 = .ok (.ireturn, 1) := dk_172 (dk_at dksX2_removeRule_1 3 rfl rfl)
abbrev cX2_goes : ByteArray := prog_14_method_5_code
def yX2_goes : MethodName := ⟨RX2, "goes", "(Z)Z"⟩
def dkwX2_goes_0 : List UInt8 := [42, 27, 154, 0, 7, 4, 167, 0, 4, 3, 184, 0, 97, 181, 0, 93, 27, 172]
abbrev dktX2_goes_0 : List UInt8 := dkwX2_goes_0 ++ []
theorem dksX2_goes_0 : cX2_goes.data.toList.drop 0 = dktX2_goes_0 := by decide +kernel
theorem dX2_goes_0 : decode cX2_goes 0 = .ok (.aload_n 0, 1) := dk_42 (dk_at dksX2_goes_0 0 rfl rfl)
theorem dX2_goes_1 : decode cX2_goes 1 = .ok (.iload_n 1, 1) := dk_27 (dk_at dksX2_goes_0 1 rfl rfl)
theorem dX2_goes_2 : decode cX2_goes 2 = .ok (.ifCond .ne 7, 3) := dk_154 0 7 (dk_at dksX2_goes_0 2 rfl rfl)
theorem dX2_goes_5 : decode cX2_goes 5 = .ok (.iconst 1, 1) := dk_4 (dk_at dksX2_goes_0 5 rfl rfl)
theorem dX2_goes_6 : decode cX2_goes 6 = .ok (.goto 4, 3) := dk_167 0 4 (dk_at dksX2_goes_0 6 rfl rfl)
theorem dX2_goes_9 : decode cX2_goes 9 = .ok (.iconst 0, 1) := dk_3 (dk_at dksX2_goes_0 9 rfl rfl)
theorem dX2_goes_10 : decode cX2_goes 10 = .ok (.invokestatic 97, 3) := dk_184 0 97 (dk_at dksX2_goes_0 10 rfl rfl)
theorem dX2_goes_13 : decode cX2_goes 13 = .ok (.putfield 93, 3) := dk_181 0 93 (dk_at dksX2_goes_0 13 rfl rfl)
theorem dX2_goes_16 : decode cX2_goes 16 = .ok (.iload_n 1, 1) := dk_27 (dk_at dksX2_goes_0 16 rfl rfl)
theorem dX2_goes_17 : decode cX2_goes 17 = .ok (.ireturn, 1) := dk_172 (dk_at dksX2_goes_0 17 rfl rfl)
abbrev cX2_truth : ByteArray := prog_14_method_4_code
def yX2_truth : MethodName := ⟨RX2, "truth", "(Z)I"⟩
def dkwX2_truth_0 : List UInt8 := [26, 153, 0, 7, 4, 167, 0, 4, 3, 172]
abbrev dktX2_truth_0 : List UInt8 := dkwX2_truth_0 ++ []
theorem dksX2_truth_0 : cX2_truth.data.toList.drop 0 = dktX2_truth_0 := by decide +kernel
theorem dX2_truth_0 : decode cX2_truth 0 = .ok (.iload_n 0, 1) := dk_26 (dk_at dksX2_truth_0 0 rfl rfl)
theorem dX2_truth_1 : decode cX2_truth 1 = .ok (.ifCond .eq 7, 3) := dk_153 0 7 (dk_at dksX2_truth_0 1 rfl rfl)
theorem dX2_truth_4 : decode cX2_truth 4 = .ok (.iconst 1, 1) := dk_4 (dk_at dksX2_truth_0 4 rfl rfl)
theorem dX2_truth_5 : decode cX2_truth 5 = .ok (.goto 4, 3) := dk_167 0 4 (dk_at dksX2_truth_0 5 rfl rfl)
theorem dX2_truth_8 : decode cX2_truth 8 = .ok (.iconst 0, 1) := dk_3 (dk_at dksX2_truth_0 8 rfl rfl)
theorem dX2_truth_9 : decode cX2_truth 9 = .ok (.ireturn, 1) := dk_172 (dk_at dksX2_truth_0 9 rfl rfl)
abbrev cX2_closes : ByteArray := prog_14_method_17_code
def yX2_closes : MethodName := ⟨RX2, "closes", "(I)V"⟩
def dkwX2_closes_1 : List UInt8 := [28, 182, 0, 116, 132, 2, 1, 167, 255, 237, 177]
abbrev dktX2_closes_1 : List UInt8 := dkwX2_closes_1 ++ []
def dkwX2_closes_0 : List UInt8 := [42, 89, 180, 0, 113, 4, 100, 181, 0, 113, 27, 61, 28, 42, 180, 0, 113, 162, 0, 17, 42, 28, 4, 96]
abbrev dktX2_closes_0 : List UInt8 := dkwX2_closes_0 ++ dktX2_closes_1
theorem dksX2_closes_0 : cX2_closes.data.toList.drop 0 = dktX2_closes_0 := by decide +kernel
theorem dksX2_closes_1 : cX2_closes.data.toList.drop 24 = dktX2_closes_1 := dk_seg dksX2_closes_0 24 rfl rfl
theorem dX2_closes_0 : decode cX2_closes 0 = .ok (.aload_n 0, 1) := dk_42 (dk_at dksX2_closes_0 0 rfl rfl)
theorem dX2_closes_1 : decode cX2_closes 1 = .ok (.dup, 1) := dk_89 (dk_at dksX2_closes_0 1 rfl rfl)
theorem dX2_closes_2 : decode cX2_closes 2 = .ok (.getfield 113, 3) := dk_180 0 113 (dk_at dksX2_closes_0 2 rfl rfl)
theorem dX2_closes_5 : decode cX2_closes 5 = .ok (.iconst 1, 1) := dk_4 (dk_at dksX2_closes_0 5 rfl rfl)
theorem dX2_closes_6 : decode cX2_closes 6 = .ok (.isub, 1) := dk_100 (dk_at dksX2_closes_0 6 rfl rfl)
theorem dX2_closes_7 : decode cX2_closes 7 = .ok (.putfield 113, 3) := dk_181 0 113 (dk_at dksX2_closes_0 7 rfl rfl)
theorem dX2_closes_10 : decode cX2_closes 10 = .ok (.iload_n 1, 1) := dk_27 (dk_at dksX2_closes_0 10 rfl rfl)
theorem dX2_closes_11 : decode cX2_closes 11 = .ok (.istore_n 2, 1) := dk_61 (dk_at dksX2_closes_0 11 rfl rfl)
theorem dX2_closes_12 : decode cX2_closes 12 = .ok (.iload_n 2, 1) := dk_28 (dk_at dksX2_closes_0 12 rfl rfl)
theorem dX2_closes_13 : decode cX2_closes 13 = .ok (.aload_n 0, 1) := dk_42 (dk_at dksX2_closes_0 13 rfl rfl)
theorem dX2_closes_14 : decode cX2_closes 14 = .ok (.getfield 113, 3) := dk_180 0 113 (dk_at dksX2_closes_0 14 rfl rfl)
theorem dX2_closes_17 : decode cX2_closes 17 = .ok (.if_icmp .ge 17, 3) := dk_162 0 17 (dk_at dksX2_closes_0 17 rfl rfl)
theorem dX2_closes_20 : decode cX2_closes 20 = .ok (.aload_n 0, 1) := dk_42 (dk_at dksX2_closes_0 20 rfl rfl)
theorem dX2_closes_21 : decode cX2_closes 21 = .ok (.iload_n 2, 1) := dk_28 (dk_at dksX2_closes_0 21 rfl rfl)
theorem dX2_closes_22 : decode cX2_closes 22 = .ok (.iconst 1, 1) := dk_4 (dk_at dksX2_closes_0 22 rfl rfl)
theorem dX2_closes_23 : decode cX2_closes 23 = .ok (.iadd, 1) := dk_96 (dk_at dksX2_closes_0 23 rfl rfl)
theorem dX2_closes_24 : decode cX2_closes 24 = .ok (.iload_n 2, 1) := dk_28 (dk_at dksX2_closes_1 0 rfl rfl)
theorem dX2_closes_25 : decode cX2_closes 25 = .ok (.invokevirtual 116, 3) := dk_182 0 116 (dk_at dksX2_closes_1 1 rfl rfl)
theorem dX2_closes_28 : decode cX2_closes 28 = .ok (.iinc 2 1, 3) := dk_132 2 1 (dk_at dksX2_closes_1 4 rfl rfl)
theorem dX2_closes_31 : decode cX2_closes 31 = .ok (.goto (-19), 3) := dk_167 255 237 (dk_at dksX2_closes_1 7 rfl rfl)
theorem dX2_closes_34 : decode cX2_closes 34 = .ok (.return_, 1) := dk_177 (dk_at dksX2_closes_1 10 rfl rfl)
abbrev cX2_ruleCount : ByteArray := prog_14_method_27_code
def yX2_ruleCount : MethodName := ⟨RX2, "ruleCount", "()I"⟩
def dkwX2_ruleCount_0 : List UInt8 := [42, 42, 180, 0, 113, 182, 0, 184, 172]
abbrev dktX2_ruleCount_0 : List UInt8 := dkwX2_ruleCount_0 ++ []
theorem dksX2_ruleCount_0 : cX2_ruleCount.data.toList.drop 0 = dktX2_ruleCount_0 := by decide +kernel
theorem dX2_ruleCount_0 : decode cX2_ruleCount 0 = .ok (.aload_n 0, 1) := dk_42 (dk_at dksX2_ruleCount_0 0 rfl rfl)
theorem dX2_ruleCount_1 : decode cX2_ruleCount 1 = .ok (.aload_n 0, 1) := dk_42 (dk_at dksX2_ruleCount_0 1 rfl rfl)
theorem dX2_ruleCount_2 : decode cX2_ruleCount 2 = .ok (.getfield 113, 3) := dk_180 0 113 (dk_at dksX2_ruleCount_0 2 rfl rfl)
theorem dX2_ruleCount_5 : decode cX2_ruleCount 5 = .ok (.invokevirtual 184, 3) := dk_182 0 184 (dk_at dksX2_ruleCount_0 5 rfl rfl)
theorem dX2_ruleCount_8 : decode cX2_ruleCount 8 = .ok (.ireturn, 1) := dk_172 (dk_at dksX2_ruleCount_0 8 rfl rfl)
abbrev cX2_tellsOf : ByteArray := prog_14_method_8_code
def yX2_tellsOf : MethodName := ⟨RX2, "tellsOf", "(I)I"⟩
def dkwX2_tellsOf_0 : List UInt8 := [42, 3, 181, 0, 93, 27, 172]
abbrev dktX2_tellsOf_0 : List UInt8 := dkwX2_tellsOf_0 ++ []
theorem dksX2_tellsOf_0 : cX2_tellsOf.data.toList.drop 0 = dktX2_tellsOf_0 := by decide +kernel
theorem dX2_tellsOf_0 : decode cX2_tellsOf 0 = .ok (.aload_n 0, 1) := dk_42 (dk_at dksX2_tellsOf_0 0 rfl rfl)
theorem dX2_tellsOf_1 : decode cX2_tellsOf 1 = .ok (.iconst 0, 1) := dk_3 (dk_at dksX2_tellsOf_0 1 rfl rfl)
theorem dX2_tellsOf_2 : decode cX2_tellsOf 2 = .ok (.putfield 93, 3) := dk_181 0 93 (dk_at dksX2_tellsOf_0 2 rfl rfl)
theorem dX2_tellsOf_5 : decode cX2_tellsOf 5 = .ok (.iload_n 1, 1) := dk_27 (dk_at dksX2_tellsOf_0 5 rfl rfl)
theorem dX2_tellsOf_6 : decode cX2_tellsOf 6 = .ok (.ireturn, 1) := dk_172 (dk_at dksX2_tellsOf_0 6 rfl rfl)
abbrev cX2_leftOf : ByteArray := prog_14_method_28_code
def yX2_leftOf : MethodName := ⟨RX2, "leftOf", "(I)I"⟩
def dkwX2_leftOf_0 : List UInt8 := [42, 42, 27, 182, 0, 164, 182, 0, 177, 153, 0, 12, 42, 180, 0, 7, 27, 46, 167, 0, 4, 3, 172]
abbrev dktX2_leftOf_0 : List UInt8 := dkwX2_leftOf_0 ++ []
theorem dksX2_leftOf_0 : cX2_leftOf.data.toList.drop 0 = dktX2_leftOf_0 := by decide +kernel
theorem dX2_leftOf_0 : decode cX2_leftOf 0 = .ok (.aload_n 0, 1) := dk_42 (dk_at dksX2_leftOf_0 0 rfl rfl)
theorem dX2_leftOf_1 : decode cX2_leftOf 1 = .ok (.aload_n 0, 1) := dk_42 (dk_at dksX2_leftOf_0 1 rfl rfl)
theorem dX2_leftOf_2 : decode cX2_leftOf 2 = .ok (.iload_n 1, 1) := dk_27 (dk_at dksX2_leftOf_0 2 rfl rfl)
theorem dX2_leftOf_3 : decode cX2_leftOf 3 = .ok (.invokevirtual 164, 3) := dk_182 0 164 (dk_at dksX2_leftOf_0 3 rfl rfl)
theorem dX2_leftOf_6 : decode cX2_leftOf 6 = .ok (.invokevirtual 177, 3) := dk_182 0 177 (dk_at dksX2_leftOf_0 6 rfl rfl)
theorem dX2_leftOf_9 : decode cX2_leftOf 9 = .ok (.ifCond .eq 12, 3) := dk_153 0 12 (dk_at dksX2_leftOf_0 9 rfl rfl)
theorem dX2_leftOf_12 : decode cX2_leftOf 12 = .ok (.aload_n 0, 1) := dk_42 (dk_at dksX2_leftOf_0 12 rfl rfl)
theorem dX2_leftOf_13 : decode cX2_leftOf 13 = .ok (.getfield 7, 3) := dk_180 0 7 (dk_at dksX2_leftOf_0 13 rfl rfl)
theorem dX2_leftOf_16 : decode cX2_leftOf 16 = .ok (.iload_n 1, 1) := dk_27 (dk_at dksX2_leftOf_0 16 rfl rfl)
theorem dX2_leftOf_17 : decode cX2_leftOf 17 = .ok (.iaload, 1) := dk_46 (dk_at dksX2_leftOf_0 17 rfl rfl)
theorem dX2_leftOf_18 : decode cX2_leftOf 18 = .ok (.goto 4, 3) := dk_167 0 4 (dk_at dksX2_leftOf_0 18 rfl rfl)
theorem dX2_leftOf_21 : decode cX2_leftOf 21 = .ok (.iconst 0, 1) := dk_3 (dk_at dksX2_leftOf_0 21 rfl rfl)
theorem dX2_leftOf_22 : decode cX2_leftOf 22 = .ok (.ireturn, 1) := dk_172 (dk_at dksX2_leftOf_0 22 rfl rfl)
abbrev cX2_lengthOf : ByteArray := prog_14_method_29_code
def yX2_lengthOf : MethodName := ⟨RX2, "lengthOf", "(I)I"⟩
def dkwX2_lengthOf_0 : List UInt8 := [42, 42, 27, 182, 0, 164, 182, 0, 177, 153, 0, 12, 42, 180, 0, 13, 27, 46, 167, 0, 4, 3, 172]
abbrev dktX2_lengthOf_0 : List UInt8 := dkwX2_lengthOf_0 ++ []
theorem dksX2_lengthOf_0 : cX2_lengthOf.data.toList.drop 0 = dktX2_lengthOf_0 := by decide +kernel
theorem dX2_lengthOf_0 : decode cX2_lengthOf 0 = .ok (.aload_n 0, 1) := dk_42 (dk_at dksX2_lengthOf_0 0 rfl rfl)
theorem dX2_lengthOf_1 : decode cX2_lengthOf 1 = .ok (.aload_n 0, 1) := dk_42 (dk_at dksX2_lengthOf_0 1 rfl rfl)
theorem dX2_lengthOf_2 : decode cX2_lengthOf 2 = .ok (.iload_n 1, 1) := dk_27 (dk_at dksX2_lengthOf_0 2 rfl rfl)
theorem dX2_lengthOf_3 : decode cX2_lengthOf 3 = .ok (.invokevirtual 164, 3) := dk_182 0 164 (dk_at dksX2_lengthOf_0 3 rfl rfl)
theorem dX2_lengthOf_6 : decode cX2_lengthOf 6 = .ok (.invokevirtual 177, 3) := dk_182 0 177 (dk_at dksX2_lengthOf_0 6 rfl rfl)
theorem dX2_lengthOf_9 : decode cX2_lengthOf 9 = .ok (.ifCond .eq 12, 3) := dk_153 0 12 (dk_at dksX2_lengthOf_0 9 rfl rfl)
theorem dX2_lengthOf_12 : decode cX2_lengthOf 12 = .ok (.aload_n 0, 1) := dk_42 (dk_at dksX2_lengthOf_0 12 rfl rfl)
theorem dX2_lengthOf_13 : decode cX2_lengthOf 13 = .ok (.getfield 13, 3) := dk_180 0 13 (dk_at dksX2_lengthOf_0 13 rfl rfl)
theorem dX2_lengthOf_16 : decode cX2_lengthOf 16 = .ok (.iload_n 1, 1) := dk_27 (dk_at dksX2_lengthOf_0 16 rfl rfl)
theorem dX2_lengthOf_17 : decode cX2_lengthOf 17 = .ok (.iaload, 1) := dk_46 (dk_at dksX2_lengthOf_0 17 rfl rfl)
theorem dX2_lengthOf_18 : decode cX2_lengthOf 18 = .ok (.goto 4, 3) := dk_167 0 4 (dk_at dksX2_lengthOf_0 18 rfl rfl)
theorem dX2_lengthOf_21 : decode cX2_lengthOf 21 = .ok (.iconst 0, 1) := dk_3 (dk_at dksX2_lengthOf_0 21 rfl rfl)
theorem dX2_lengthOf_22 : decode cX2_lengthOf 22 = .ok (.ireturn, 1) := dk_172 (dk_at dksX2_lengthOf_0 22 rfl rfl)
abbrev cX2_symbolAt : ByteArray := prog_14_method_30_code
def yX2_symbolAt : MethodName := ⟨RX2, "symbolAt", "(II)I"⟩
def dkwX2_symbolAt_1 : List UInt8 := [100, 133, 184, 0, 103, 153, 0, 12, 42, 27, 28, 182, 0, 187, 167, 0, 4, 2, 172]
abbrev dktX2_symbolAt_1 : List UInt8 := dkwX2_symbolAt_1 ++ []
def dkwX2_symbolAt_0 : List UInt8 := [42, 42, 27, 182, 0, 164, 182, 0, 177, 154, 0, 5, 3, 172, 28, 133, 9, 42, 180, 0, 13, 27, 46, 4]
abbrev dktX2_symbolAt_0 : List UInt8 := dkwX2_symbolAt_0 ++ dktX2_symbolAt_1
theorem dksX2_symbolAt_0 : cX2_symbolAt.data.toList.drop 0 = dktX2_symbolAt_0 := by decide +kernel
theorem dksX2_symbolAt_1 : cX2_symbolAt.data.toList.drop 24 = dktX2_symbolAt_1 := dk_seg dksX2_symbolAt_0 24 rfl rfl
theorem dX2_symbolAt_0 : decode cX2_symbolAt 0 = .ok (.aload_n 0, 1) := dk_42 (dk_at dksX2_symbolAt_0 0 rfl rfl)
theorem dX2_symbolAt_1 : decode cX2_symbolAt 1 = .ok (.aload_n 0, 1) := dk_42 (dk_at dksX2_symbolAt_0 1 rfl rfl)
theorem dX2_symbolAt_2 : decode cX2_symbolAt 2 = .ok (.iload_n 1, 1) := dk_27 (dk_at dksX2_symbolAt_0 2 rfl rfl)
theorem dX2_symbolAt_3 : decode cX2_symbolAt 3 = .ok (.invokevirtual 164, 3) := dk_182 0 164 (dk_at dksX2_symbolAt_0 3 rfl rfl)
theorem dX2_symbolAt_6 : decode cX2_symbolAt 6 = .ok (.invokevirtual 177, 3) := dk_182 0 177 (dk_at dksX2_symbolAt_0 6 rfl rfl)
theorem dX2_symbolAt_9 : decode cX2_symbolAt 9 = .ok (.ifCond .ne 5, 3) := dk_154 0 5 (dk_at dksX2_symbolAt_0 9 rfl rfl)
theorem dX2_symbolAt_12 : decode cX2_symbolAt 12 = .ok (.iconst 0, 1) := dk_3 (dk_at dksX2_symbolAt_0 12 rfl rfl)
theorem dX2_symbolAt_13 : decode cX2_symbolAt 13 = .ok (.ireturn, 1) := dk_172 (dk_at dksX2_symbolAt_0 13 rfl rfl)
theorem dX2_symbolAt_14 : decode cX2_symbolAt 14 = .ok (.iload_n 2, 1) := dk_28 (dk_at dksX2_symbolAt_0 14 rfl rfl)
theorem dX2_symbolAt_15 : decode cX2_symbolAt 15 = .ok (.i2l, 1) := dk_133 (dk_at dksX2_symbolAt_0 15 rfl rfl)
theorem dX2_symbolAt_16 : decode cX2_symbolAt 16 = .ok (.lconst 0, 1) := dk_9 (dk_at dksX2_symbolAt_0 16 rfl rfl)
theorem dX2_symbolAt_17 : decode cX2_symbolAt 17 = .ok (.aload_n 0, 1) := dk_42 (dk_at dksX2_symbolAt_0 17 rfl rfl)
theorem dX2_symbolAt_18 : decode cX2_symbolAt 18 = .ok (.getfield 13, 3) := dk_180 0 13 (dk_at dksX2_symbolAt_0 18 rfl rfl)
theorem dX2_symbolAt_21 : decode cX2_symbolAt 21 = .ok (.iload_n 1, 1) := dk_27 (dk_at dksX2_symbolAt_0 21 rfl rfl)
theorem dX2_symbolAt_22 : decode cX2_symbolAt 22 = .ok (.iaload, 1) := dk_46 (dk_at dksX2_symbolAt_0 22 rfl rfl)
theorem dX2_symbolAt_23 : decode cX2_symbolAt 23 = .ok (.iconst 1, 1) := dk_4 (dk_at dksX2_symbolAt_0 23 rfl rfl)
theorem dX2_symbolAt_24 : decode cX2_symbolAt 24 = .ok (.isub, 1) := dk_100 (dk_at dksX2_symbolAt_1 0 rfl rfl)
theorem dX2_symbolAt_25 : decode cX2_symbolAt 25 = .ok (.i2l, 1) := dk_133 (dk_at dksX2_symbolAt_1 1 rfl rfl)
theorem dX2_symbolAt_26 : decode cX2_symbolAt 26 = .ok (.invokestatic 103, 3) := dk_184 0 103 (dk_at dksX2_symbolAt_1 2 rfl rfl)
theorem dX2_symbolAt_29 : decode cX2_symbolAt 29 = .ok (.ifCond .eq 12, 3) := dk_153 0 12 (dk_at dksX2_symbolAt_1 5 rfl rfl)
theorem dX2_symbolAt_32 : decode cX2_symbolAt 32 = .ok (.aload_n 0, 1) := dk_42 (dk_at dksX2_symbolAt_1 8 rfl rfl)
theorem dX2_symbolAt_33 : decode cX2_symbolAt 33 = .ok (.iload_n 1, 1) := dk_27 (dk_at dksX2_symbolAt_1 9 rfl rfl)
theorem dX2_symbolAt_34 : decode cX2_symbolAt 34 = .ok (.iload_n 2, 1) := dk_28 (dk_at dksX2_symbolAt_1 10 rfl rfl)
theorem dX2_symbolAt_35 : decode cX2_symbolAt 35 = .ok (.invokevirtual 187, 3) := dk_182 0 187 (dk_at dksX2_symbolAt_1 11 rfl rfl)
theorem dX2_symbolAt_38 : decode cX2_symbolAt 38 = .ok (.goto 4, 3) := dk_167 0 4 (dk_at dksX2_symbolAt_1 14 rfl rfl)
theorem dX2_symbolAt_41 : decode cX2_symbolAt 41 = .ok (.iconst (-1), 1) := dk_2 (dk_at dksX2_symbolAt_1 17 rfl rfl)
theorem dX2_symbolAt_42 : decode cX2_symbolAt 42 = .ok (.ireturn, 1) := dk_172 (dk_at dksX2_symbolAt_1 18 rfl rfl)
abbrev cX2_at : ByteArray := prog_14_method_13_code
def yX2_at : MethodName := ⟨RX2, "at", "(II)I"⟩
def dkwX2_at_0 : List UInt8 := [42, 180, 0, 16, 16, 20, 27, 104, 28, 96, 46, 172]
abbrev dktX2_at_0 : List UInt8 := dkwX2_at_0 ++ []
theorem dksX2_at_0 : cX2_at.data.toList.drop 0 = dktX2_at_0 := by decide +kernel
theorem dX2_at_0 : decode cX2_at 0 = .ok (.aload_n 0, 1) := dk_42 (dk_at dksX2_at_0 0 rfl rfl)
theorem dX2_at_1 : decode cX2_at 1 = .ok (.getfield 16, 3) := dk_180 0 16 (dk_at dksX2_at_0 1 rfl rfl)
theorem dX2_at_4 : decode cX2_at 4 = .ok (.bipush 20, 2) := dk_16 20 (dk_at dksX2_at_0 4 rfl rfl)
theorem dX2_at_6 : decode cX2_at 6 = .ok (.iload_n 1, 1) := dk_27 (dk_at dksX2_at_0 6 rfl rfl)
theorem dX2_at_7 : decode cX2_at 7 = .ok (.imul, 1) := dk_104 (dk_at dksX2_at_0 7 rfl rfl)
theorem dX2_at_8 : decode cX2_at 8 = .ok (.iload_n 2, 1) := dk_28 (dk_at dksX2_at_0 8 rfl rfl)
theorem dX2_at_9 : decode cX2_at 9 = .ok (.iadd, 1) := dk_96 (dk_at dksX2_at_0 9 rfl rfl)
theorem dX2_at_10 : decode cX2_at 10 = .ok (.iaload, 1) := dk_46 (dk_at dksX2_at_0 10 rfl rfl)
theorem dX2_at_11 : decode cX2_at 11 = .ok (.ireturn, 1) := dk_172 (dk_at dksX2_at_0 11 rfl rfl)
abbrev cX2_usedNonterminals : ByteArray := prog_14_method_32_code
def yX2_usedNonterminals : MethodName := ⟨RX2, "usedNonterminals", "()I"⟩
def dkwX2_usedNonterminals_0 : List UInt8 := [42, 42, 182, 0, 191, 182, 0, 184, 172]
abbrev dktX2_usedNonterminals_0 : List UInt8 := dkwX2_usedNonterminals_0 ++ []
theorem dksX2_usedNonterminals_0 : cX2_usedNonterminals.data.toList.drop 0 = dktX2_usedNonterminals_0 := by decide +kernel
theorem dX2_usedNonterminals_0 : decode cX2_usedNonterminals 0 = .ok (.aload_n 0, 1) := dk_42 (dk_at dksX2_usedNonterminals_0 0 rfl rfl)
theorem dX2_usedNonterminals_1 : decode cX2_usedNonterminals 1 = .ok (.aload_n 0, 1) := dk_42 (dk_at dksX2_usedNonterminals_0 1 rfl rfl)
theorem dX2_usedNonterminals_2 : decode cX2_usedNonterminals 2 = .ok (.invokevirtual 191, 3) := dk_182 0 191 (dk_at dksX2_usedNonterminals_0 2 rfl rfl)
theorem dX2_usedNonterminals_5 : decode cX2_usedNonterminals 5 = .ok (.invokevirtual 184, 3) := dk_182 0 184 (dk_at dksX2_usedNonterminals_0 5 rfl rfl)
theorem dX2_usedNonterminals_8 : decode cX2_usedNonterminals 8 = .ok (.ireturn, 1) := dk_172 (dk_at dksX2_usedNonterminals_0 8 rfl rfl)
abbrev cX2_used : ByteArray := prog_14_method_31_code
def yX2_used : MethodName := ⟨RX2, "used", "()I"⟩
def dkwX2_used_3 : List UInt8 := [167, 255, 213, 132, 2, 1, 167, 255, 183, 27, 172]
abbrev dktX2_used_3 : List UInt8 := dkwX2_used_3 ++ []
def dkwX2_used_2 : List UInt8 := [153, 0, 17, 4, 42, 28, 29, 182, 0, 187, 16, 20, 100, 120, 167, 0, 4, 3, 128, 60, 132, 3, 1]
abbrev dktX2_used_2 : List UInt8 := dkwX2_used_2 ++ dktX2_used_3
def dkwX2_used_1 : List UInt8 := [128, 60, 3, 62, 29, 42, 180, 0, 13, 28, 46, 162, 0, 39, 27, 42, 28, 29, 182, 0, 187, 184, 0, 149]
abbrev dktX2_used_1 : List UInt8 := dkwX2_used_1 ++ dktX2_used_2
def dkwX2_used_0 : List UInt8 := [4, 60, 3, 61, 28, 42, 180, 0, 113, 162, 0, 71, 27, 4, 42, 180, 0, 7, 28, 46, 16, 20, 100, 120]
abbrev dktX2_used_0 : List UInt8 := dkwX2_used_0 ++ dktX2_used_1
theorem dksX2_used_0 : cX2_used.data.toList.drop 0 = dktX2_used_0 := by decide +kernel
theorem dksX2_used_1 : cX2_used.data.toList.drop 24 = dktX2_used_1 := dk_seg dksX2_used_0 24 rfl rfl
theorem dksX2_used_2 : cX2_used.data.toList.drop 48 = dktX2_used_2 := dk_seg dksX2_used_1 24 rfl rfl
theorem dksX2_used_3 : cX2_used.data.toList.drop 71 = dktX2_used_3 := dk_seg dksX2_used_2 23 rfl rfl
theorem dX2_used_0 : decode cX2_used 0 = .ok (.iconst 1, 1) := dk_4 (dk_at dksX2_used_0 0 rfl rfl)
theorem dX2_used_1 : decode cX2_used 1 = .ok (.istore_n 1, 1) := dk_60 (dk_at dksX2_used_0 1 rfl rfl)
theorem dX2_used_2 : decode cX2_used 2 = .ok (.iconst 0, 1) := dk_3 (dk_at dksX2_used_0 2 rfl rfl)
theorem dX2_used_3 : decode cX2_used 3 = .ok (.istore_n 2, 1) := dk_61 (dk_at dksX2_used_0 3 rfl rfl)
theorem dX2_used_4 : decode cX2_used 4 = .ok (.iload_n 2, 1) := dk_28 (dk_at dksX2_used_0 4 rfl rfl)
theorem dX2_used_5 : decode cX2_used 5 = .ok (.aload_n 0, 1) := dk_42 (dk_at dksX2_used_0 5 rfl rfl)
theorem dX2_used_6 : decode cX2_used 6 = .ok (.getfield 113, 3) := dk_180 0 113 (dk_at dksX2_used_0 6 rfl rfl)
theorem dX2_used_9 : decode cX2_used 9 = .ok (.if_icmp .ge 71, 3) := dk_162 0 71 (dk_at dksX2_used_0 9 rfl rfl)
theorem dX2_used_12 : decode cX2_used 12 = .ok (.iload_n 1, 1) := dk_27 (dk_at dksX2_used_0 12 rfl rfl)
theorem dX2_used_13 : decode cX2_used 13 = .ok (.iconst 1, 1) := dk_4 (dk_at dksX2_used_0 13 rfl rfl)
theorem dX2_used_14 : decode cX2_used 14 = .ok (.aload_n 0, 1) := dk_42 (dk_at dksX2_used_0 14 rfl rfl)
theorem dX2_used_15 : decode cX2_used 15 = .ok (.getfield 7, 3) := dk_180 0 7 (dk_at dksX2_used_0 15 rfl rfl)
theorem dX2_used_18 : decode cX2_used 18 = .ok (.iload_n 2, 1) := dk_28 (dk_at dksX2_used_0 18 rfl rfl)
theorem dX2_used_19 : decode cX2_used 19 = .ok (.iaload, 1) := dk_46 (dk_at dksX2_used_0 19 rfl rfl)
theorem dX2_used_20 : decode cX2_used 20 = .ok (.bipush 20, 2) := dk_16 20 (dk_at dksX2_used_0 20 rfl rfl)
theorem dX2_used_22 : decode cX2_used 22 = .ok (.isub, 1) := dk_100 (dk_at dksX2_used_0 22 rfl rfl)
theorem dX2_used_23 : decode cX2_used 23 = .ok (.ishl, 1) := dk_120 (dk_at dksX2_used_0 23 rfl rfl)
theorem dX2_used_24 : decode cX2_used 24 = .ok (.ior, 1) := dk_128 (dk_at dksX2_used_1 0 rfl rfl)
theorem dX2_used_25 : decode cX2_used 25 = .ok (.istore_n 1, 1) := dk_60 (dk_at dksX2_used_1 1 rfl rfl)
theorem dX2_used_26 : decode cX2_used 26 = .ok (.iconst 0, 1) := dk_3 (dk_at dksX2_used_1 2 rfl rfl)
theorem dX2_used_27 : decode cX2_used 27 = .ok (.istore_n 3, 1) := dk_62 (dk_at dksX2_used_1 3 rfl rfl)
theorem dX2_used_28 : decode cX2_used 28 = .ok (.iload_n 3, 1) := dk_29 (dk_at dksX2_used_1 4 rfl rfl)
theorem dX2_used_29 : decode cX2_used 29 = .ok (.aload_n 0, 1) := dk_42 (dk_at dksX2_used_1 5 rfl rfl)
theorem dX2_used_30 : decode cX2_used 30 = .ok (.getfield 13, 3) := dk_180 0 13 (dk_at dksX2_used_1 6 rfl rfl)
theorem dX2_used_33 : decode cX2_used 33 = .ok (.iload_n 2, 1) := dk_28 (dk_at dksX2_used_1 9 rfl rfl)
theorem dX2_used_34 : decode cX2_used 34 = .ok (.iaload, 1) := dk_46 (dk_at dksX2_used_1 10 rfl rfl)
theorem dX2_used_35 : decode cX2_used 35 = .ok (.if_icmp .ge 39, 3) := dk_162 0 39 (dk_at dksX2_used_1 11 rfl rfl)
theorem dX2_used_38 : decode cX2_used 38 = .ok (.iload_n 1, 1) := dk_27 (dk_at dksX2_used_1 14 rfl rfl)
theorem dX2_used_39 : decode cX2_used 39 = .ok (.aload_n 0, 1) := dk_42 (dk_at dksX2_used_1 15 rfl rfl)
theorem dX2_used_40 : decode cX2_used 40 = .ok (.iload_n 2, 1) := dk_28 (dk_at dksX2_used_1 16 rfl rfl)
theorem dX2_used_41 : decode cX2_used 41 = .ok (.iload_n 3, 1) := dk_29 (dk_at dksX2_used_1 17 rfl rfl)
theorem dX2_used_42 : decode cX2_used 42 = .ok (.invokevirtual 187, 3) := dk_182 0 187 (dk_at dksX2_used_1 18 rfl rfl)
theorem dX2_used_45 : decode cX2_used 45 = .ok (.invokestatic 149, 3) := dk_184 0 149 (dk_at dksX2_used_1 21 rfl rfl)
theorem dX2_used_48 : decode cX2_used 48 = .ok (.ifCond .eq 17, 3) := dk_153 0 17 (dk_at dksX2_used_2 0 rfl rfl)
theorem dX2_used_51 : decode cX2_used 51 = .ok (.iconst 1, 1) := dk_4 (dk_at dksX2_used_2 3 rfl rfl)
theorem dX2_used_52 : decode cX2_used 52 = .ok (.aload_n 0, 1) := dk_42 (dk_at dksX2_used_2 4 rfl rfl)
theorem dX2_used_53 : decode cX2_used 53 = .ok (.iload_n 2, 1) := dk_28 (dk_at dksX2_used_2 5 rfl rfl)
theorem dX2_used_54 : decode cX2_used 54 = .ok (.iload_n 3, 1) := dk_29 (dk_at dksX2_used_2 6 rfl rfl)
theorem dX2_used_55 : decode cX2_used 55 = .ok (.invokevirtual 187, 3) := dk_182 0 187 (dk_at dksX2_used_2 7 rfl rfl)
theorem dX2_used_58 : decode cX2_used 58 = .ok (.bipush 20, 2) := dk_16 20 (dk_at dksX2_used_2 10 rfl rfl)
theorem dX2_used_60 : decode cX2_used 60 = .ok (.isub, 1) := dk_100 (dk_at dksX2_used_2 12 rfl rfl)
theorem dX2_used_61 : decode cX2_used 61 = .ok (.ishl, 1) := dk_120 (dk_at dksX2_used_2 13 rfl rfl)
theorem dX2_used_62 : decode cX2_used 62 = .ok (.goto 4, 3) := dk_167 0 4 (dk_at dksX2_used_2 14 rfl rfl)
theorem dX2_used_65 : decode cX2_used 65 = .ok (.iconst 0, 1) := dk_3 (dk_at dksX2_used_2 17 rfl rfl)
theorem dX2_used_66 : decode cX2_used 66 = .ok (.ior, 1) := dk_128 (dk_at dksX2_used_2 18 rfl rfl)
theorem dX2_used_67 : decode cX2_used 67 = .ok (.istore_n 1, 1) := dk_60 (dk_at dksX2_used_2 19 rfl rfl)
theorem dX2_used_68 : decode cX2_used 68 = .ok (.iinc 3 1, 3) := dk_132 3 1 (dk_at dksX2_used_2 20 rfl rfl)
theorem dX2_used_71 : decode cX2_used 71 = .ok (.goto (-43), 3) := dk_167 255 213 (dk_at dksX2_used_3 0 rfl rfl)
theorem dX2_used_74 : decode cX2_used 74 = .ok (.iinc 2 1, 3) := dk_132 2 1 (dk_at dksX2_used_3 3 rfl rfl)
theorem dX2_used_77 : decode cX2_used 77 = .ok (.goto (-73), 3) := dk_167 255 183 (dk_at dksX2_used_3 6 rfl rfl)
theorem dX2_used_80 : decode cX2_used 80 = .ok (.iload_n 1, 1) := dk_27 (dk_at dksX2_used_3 9 rfl rfl)
theorem dX2_used_81 : decode cX2_used 81 = .ok (.ireturn, 1) := dk_172 (dk_at dksX2_used_3 10 rfl rfl)
abbrev cX2_isNullable : ByteArray := prog_14_method_41_code
def yX2_isNullable : MethodName := ⟨RX2, "isNullable", "(I)Z"⟩
def dkwX2_isNullable_0 : List UInt8 := [42, 27, 184, 0, 149, 182, 0, 177, 154, 0, 5, 3, 172, 42, 182, 0, 227, 42, 27, 182, 0, 202, 172]
abbrev dktX2_isNullable_0 : List UInt8 := dkwX2_isNullable_0 ++ []
theorem dksX2_isNullable_0 : cX2_isNullable.data.toList.drop 0 = dktX2_isNullable_0 := by decide +kernel
theorem dX2_isNullable_0 : decode cX2_isNullable 0 = .ok (.aload_n 0, 1) := dk_42 (dk_at dksX2_isNullable_0 0 rfl rfl)
theorem dX2_isNullable_1 : decode cX2_isNullable 1 = .ok (.iload_n 1, 1) := dk_27 (dk_at dksX2_isNullable_0 1 rfl rfl)
theorem dX2_isNullable_2 : decode cX2_isNullable 2 = .ok (.invokestatic 149, 3) := dk_184 0 149 (dk_at dksX2_isNullable_0 2 rfl rfl)
theorem dX2_isNullable_5 : decode cX2_isNullable 5 = .ok (.invokevirtual 177, 3) := dk_182 0 177 (dk_at dksX2_isNullable_0 5 rfl rfl)
theorem dX2_isNullable_8 : decode cX2_isNullable 8 = .ok (.ifCond .ne 5, 3) := dk_154 0 5 (dk_at dksX2_isNullable_0 8 rfl rfl)
theorem dX2_isNullable_11 : decode cX2_isNullable 11 = .ok (.iconst 0, 1) := dk_3 (dk_at dksX2_isNullable_0 11 rfl rfl)
theorem dX2_isNullable_12 : decode cX2_isNullable 12 = .ok (.ireturn, 1) := dk_172 (dk_at dksX2_isNullable_0 12 rfl rfl)
theorem dX2_isNullable_13 : decode cX2_isNullable 13 = .ok (.aload_n 0, 1) := dk_42 (dk_at dksX2_isNullable_0 13 rfl rfl)
theorem dX2_isNullable_14 : decode cX2_isNullable 14 = .ok (.invokevirtual 227, 3) := dk_182 0 227 (dk_at dksX2_isNullable_0 14 rfl rfl)
theorem dX2_isNullable_17 : decode cX2_isNullable 17 = .ok (.aload_n 0, 1) := dk_42 (dk_at dksX2_isNullable_0 17 rfl rfl)
theorem dX2_isNullable_18 : decode cX2_isNullable 18 = .ok (.iload_n 1, 1) := dk_27 (dk_at dksX2_isNullable_0 18 rfl rfl)
theorem dX2_isNullable_19 : decode cX2_isNullable 19 = .ok (.invokevirtual 202, 3) := dk_182 0 202 (dk_at dksX2_isNullable_0 19 rfl rfl)
theorem dX2_isNullable_22 : decode cX2_isNullable 22 = .ok (.ireturn, 1) := dk_172 (dk_at dksX2_isNullable_0 22 rfl rfl)
abbrev cX2_knows : ByteArray := prog_14_method_40_code
def yX2_knows : MethodName := ⟨RX2, "knows", "()V"⟩
def dkwX2_knows_4 : List UInt8 := [4, 96, 181, 0, 218, 167, 255, 237, 4, 60, 27, 153, 0, 11, 42, 182, 0, 224, 60, 167, 255, 247, 177]
abbrev dktX2_knows_4 : List UInt8 := dkwX2_knows_4 ++ []
def dkwX2_knows_3 : List UInt8 := [167, 255, 247, 42, 3, 181, 0, 218, 4, 60, 27, 153, 0, 21, 42, 182, 0, 221, 60, 42, 89, 180, 0, 218]
abbrev dktX2_knows_3 : List UInt8 := dkwX2_knows_3 ++ dktX2_knows_4
def dkwX2_knows_2 : List UInt8 := [167, 0, 4, 3, 79, 132, 1, 1, 167, 255, 223, 4, 60, 27, 153, 0, 11, 42, 182, 0, 214, 60]
abbrev dktX2_knows_2 : List UInt8 := dkwX2_knows_2 ++ dktX2_knows_3
def dkwX2_knows_1 : List UInt8 := [162, 0, 33, 42, 180, 0, 28, 27, 3, 79, 42, 180, 0, 31, 27, 27, 154, 0, 9, 17, 16, 0]
abbrev dktX2_knows_1 : List UInt8 := dkwX2_knows_1 ++ dktX2_knows_2
def dkwX2_knows_0 : List UInt8 := [42, 180, 0, 127, 153, 0, 4, 177, 42, 4, 181, 0, 127, 42, 3, 181, 0, 195, 3, 60, 27, 16, 12]
abbrev dktX2_knows_0 : List UInt8 := dkwX2_knows_0 ++ dktX2_knows_1
theorem dksX2_knows_0 : cX2_knows.data.toList.drop 0 = dktX2_knows_0 := by decide +kernel
theorem dksX2_knows_1 : cX2_knows.data.toList.drop 23 = dktX2_knows_1 := dk_seg dksX2_knows_0 23 rfl rfl
theorem dksX2_knows_2 : cX2_knows.data.toList.drop 45 = dktX2_knows_2 := dk_seg dksX2_knows_1 22 rfl rfl
theorem dksX2_knows_3 : cX2_knows.data.toList.drop 67 = dktX2_knows_3 := dk_seg dksX2_knows_2 22 rfl rfl
theorem dksX2_knows_4 : cX2_knows.data.toList.drop 91 = dktX2_knows_4 := dk_seg dksX2_knows_3 24 rfl rfl
theorem dX2_knows_0 : decode cX2_knows 0 = .ok (.aload_n 0, 1) := dk_42 (dk_at dksX2_knows_0 0 rfl rfl)
theorem dX2_knows_1 : decode cX2_knows 1 = .ok (.getfield 127, 3) := dk_180 0 127 (dk_at dksX2_knows_0 1 rfl rfl)
theorem dX2_knows_4 : decode cX2_knows 4 = .ok (.ifCond .eq 4, 3) := dk_153 0 4 (dk_at dksX2_knows_0 4 rfl rfl)
theorem dX2_knows_7 : decode cX2_knows 7 = .ok (.return_, 1) := dk_177 (dk_at dksX2_knows_0 7 rfl rfl)
theorem dX2_knows_8 : decode cX2_knows 8 = .ok (.aload_n 0, 1) := dk_42 (dk_at dksX2_knows_0 8 rfl rfl)
theorem dX2_knows_9 : decode cX2_knows 9 = .ok (.iconst 1, 1) := dk_4 (dk_at dksX2_knows_0 9 rfl rfl)
theorem dX2_knows_10 : decode cX2_knows 10 = .ok (.putfield 127, 3) := dk_181 0 127 (dk_at dksX2_knows_0 10 rfl rfl)
theorem dX2_knows_13 : decode cX2_knows 13 = .ok (.aload_n 0, 1) := dk_42 (dk_at dksX2_knows_0 13 rfl rfl)
theorem dX2_knows_14 : decode cX2_knows 14 = .ok (.iconst 0, 1) := dk_3 (dk_at dksX2_knows_0 14 rfl rfl)
theorem dX2_knows_15 : decode cX2_knows 15 = .ok (.putfield 195, 3) := dk_181 0 195 (dk_at dksX2_knows_0 15 rfl rfl)
theorem dX2_knows_18 : decode cX2_knows 18 = .ok (.iconst 0, 1) := dk_3 (dk_at dksX2_knows_0 18 rfl rfl)
theorem dX2_knows_19 : decode cX2_knows 19 = .ok (.istore_n 1, 1) := dk_60 (dk_at dksX2_knows_0 19 rfl rfl)
theorem dX2_knows_20 : decode cX2_knows 20 = .ok (.iload_n 1, 1) := dk_27 (dk_at dksX2_knows_0 20 rfl rfl)
theorem dX2_knows_21 : decode cX2_knows 21 = .ok (.bipush 12, 2) := dk_16 12 (dk_at dksX2_knows_0 21 rfl rfl)
theorem dX2_knows_23 : decode cX2_knows 23 = .ok (.if_icmp .ge 33, 3) := dk_162 0 33 (dk_at dksX2_knows_1 0 rfl rfl)
theorem dX2_knows_26 : decode cX2_knows 26 = .ok (.aload_n 0, 1) := dk_42 (dk_at dksX2_knows_1 3 rfl rfl)
theorem dX2_knows_27 : decode cX2_knows 27 = .ok (.getfield 28, 3) := dk_180 0 28 (dk_at dksX2_knows_1 4 rfl rfl)
theorem dX2_knows_30 : decode cX2_knows 30 = .ok (.iload_n 1, 1) := dk_27 (dk_at dksX2_knows_1 7 rfl rfl)
theorem dX2_knows_31 : decode cX2_knows 31 = .ok (.iconst 0, 1) := dk_3 (dk_at dksX2_knows_1 8 rfl rfl)
theorem dX2_knows_32 : decode cX2_knows 32 = .ok (.iastore, 1) := dk_79 (dk_at dksX2_knows_1 9 rfl rfl)
theorem dX2_knows_33 : decode cX2_knows 33 = .ok (.aload_n 0, 1) := dk_42 (dk_at dksX2_knows_1 10 rfl rfl)
theorem dX2_knows_34 : decode cX2_knows 34 = .ok (.getfield 31, 3) := dk_180 0 31 (dk_at dksX2_knows_1 11 rfl rfl)
theorem dX2_knows_37 : decode cX2_knows 37 = .ok (.iload_n 1, 1) := dk_27 (dk_at dksX2_knows_1 14 rfl rfl)
theorem dX2_knows_38 : decode cX2_knows 38 = .ok (.iload_n 1, 1) := dk_27 (dk_at dksX2_knows_1 15 rfl rfl)
theorem dX2_knows_39 : decode cX2_knows 39 = .ok (.ifCond .ne 9, 3) := dk_154 0 9 (dk_at dksX2_knows_1 16 rfl rfl)
theorem dX2_knows_42 : decode cX2_knows 42 = .ok (.sipush 4096, 3) := dk_17 16 0 (dk_at dksX2_knows_1 19 rfl rfl)
theorem dX2_knows_45 : decode cX2_knows 45 = .ok (.goto 4, 3) := dk_167 0 4 (dk_at dksX2_knows_2 0 rfl rfl)
theorem dX2_knows_48 : decode cX2_knows 48 = .ok (.iconst 0, 1) := dk_3 (dk_at dksX2_knows_2 3 rfl rfl)
theorem dX2_knows_49 : decode cX2_knows 49 = .ok (.iastore, 1) := dk_79 (dk_at dksX2_knows_2 4 rfl rfl)
theorem dX2_knows_50 : decode cX2_knows 50 = .ok (.iinc 1 1, 3) := dk_132 1 1 (dk_at dksX2_knows_2 5 rfl rfl)
theorem dX2_knows_53 : decode cX2_knows 53 = .ok (.goto (-33), 3) := dk_167 255 223 (dk_at dksX2_knows_2 8 rfl rfl)
theorem dX2_knows_56 : decode cX2_knows 56 = .ok (.iconst 1, 1) := dk_4 (dk_at dksX2_knows_2 11 rfl rfl)
theorem dX2_knows_57 : decode cX2_knows 57 = .ok (.istore_n 1, 1) := dk_60 (dk_at dksX2_knows_2 12 rfl rfl)
theorem dX2_knows_58 : decode cX2_knows 58 = .ok (.iload_n 1, 1) := dk_27 (dk_at dksX2_knows_2 13 rfl rfl)
theorem dX2_knows_59 : decode cX2_knows 59 = .ok (.ifCond .eq 11, 3) := dk_153 0 11 (dk_at dksX2_knows_2 14 rfl rfl)
theorem dX2_knows_62 : decode cX2_knows 62 = .ok (.aload_n 0, 1) := dk_42 (dk_at dksX2_knows_2 17 rfl rfl)
theorem dX2_knows_63 : decode cX2_knows 63 = .ok (.invokevirtual 214, 3) := dk_182 0 214 (dk_at dksX2_knows_2 18 rfl rfl)
theorem dX2_knows_66 : decode cX2_knows 66 = .ok (.istore_n 1, 1) := dk_60 (dk_at dksX2_knows_2 21 rfl rfl)
theorem dX2_knows_67 : decode cX2_knows 67 = .ok (.goto (-9), 3) := dk_167 255 247 (dk_at dksX2_knows_3 0 rfl rfl)
theorem dX2_knows_70 : decode cX2_knows 70 = .ok (.aload_n 0, 1) := dk_42 (dk_at dksX2_knows_3 3 rfl rfl)
theorem dX2_knows_71 : decode cX2_knows 71 = .ok (.iconst 0, 1) := dk_3 (dk_at dksX2_knows_3 4 rfl rfl)
theorem dX2_knows_72 : decode cX2_knows 72 = .ok (.putfield 218, 3) := dk_181 0 218 (dk_at dksX2_knows_3 5 rfl rfl)
theorem dX2_knows_75 : decode cX2_knows 75 = .ok (.iconst 1, 1) := dk_4 (dk_at dksX2_knows_3 8 rfl rfl)
theorem dX2_knows_76 : decode cX2_knows 76 = .ok (.istore_n 1, 1) := dk_60 (dk_at dksX2_knows_3 9 rfl rfl)
theorem dX2_knows_77 : decode cX2_knows 77 = .ok (.iload_n 1, 1) := dk_27 (dk_at dksX2_knows_3 10 rfl rfl)
theorem dX2_knows_78 : decode cX2_knows 78 = .ok (.ifCond .eq 21, 3) := dk_153 0 21 (dk_at dksX2_knows_3 11 rfl rfl)
theorem dX2_knows_81 : decode cX2_knows 81 = .ok (.aload_n 0, 1) := dk_42 (dk_at dksX2_knows_3 14 rfl rfl)
theorem dX2_knows_82 : decode cX2_knows 82 = .ok (.invokevirtual 221, 3) := dk_182 0 221 (dk_at dksX2_knows_3 15 rfl rfl)
theorem dX2_knows_85 : decode cX2_knows 85 = .ok (.istore_n 1, 1) := dk_60 (dk_at dksX2_knows_3 18 rfl rfl)
theorem dX2_knows_86 : decode cX2_knows 86 = .ok (.aload_n 0, 1) := dk_42 (dk_at dksX2_knows_3 19 rfl rfl)
theorem dX2_knows_87 : decode cX2_knows 87 = .ok (.dup, 1) := dk_89 (dk_at dksX2_knows_3 20 rfl rfl)
theorem dX2_knows_88 : decode cX2_knows 88 = .ok (.getfield 218, 3) := dk_180 0 218 (dk_at dksX2_knows_3 21 rfl rfl)
theorem dX2_knows_91 : decode cX2_knows 91 = .ok (.iconst 1, 1) := dk_4 (dk_at dksX2_knows_4 0 rfl rfl)
theorem dX2_knows_92 : decode cX2_knows 92 = .ok (.iadd, 1) := dk_96 (dk_at dksX2_knows_4 1 rfl rfl)
theorem dX2_knows_93 : decode cX2_knows 93 = .ok (.putfield 218, 3) := dk_181 0 218 (dk_at dksX2_knows_4 2 rfl rfl)
theorem dX2_knows_96 : decode cX2_knows 96 = .ok (.goto (-19), 3) := dk_167 255 237 (dk_at dksX2_knows_4 5 rfl rfl)
theorem dX2_knows_99 : decode cX2_knows 99 = .ok (.iconst 1, 1) := dk_4 (dk_at dksX2_knows_4 8 rfl rfl)
theorem dX2_knows_100 : decode cX2_knows 100 = .ok (.istore_n 1, 1) := dk_60 (dk_at dksX2_knows_4 9 rfl rfl)
theorem dX2_knows_101 : decode cX2_knows 101 = .ok (.iload_n 1, 1) := dk_27 (dk_at dksX2_knows_4 10 rfl rfl)
theorem dX2_knows_102 : decode cX2_knows 102 = .ok (.ifCond .eq 11, 3) := dk_153 0 11 (dk_at dksX2_knows_4 11 rfl rfl)
theorem dX2_knows_105 : decode cX2_knows 105 = .ok (.aload_n 0, 1) := dk_42 (dk_at dksX2_knows_4 14 rfl rfl)
theorem dX2_knows_106 : decode cX2_knows 106 = .ok (.invokevirtual 224, 3) := dk_182 0 224 (dk_at dksX2_knows_4 15 rfl rfl)
theorem dX2_knows_109 : decode cX2_knows 109 = .ok (.istore_n 1, 1) := dk_60 (dk_at dksX2_knows_4 18 rfl rfl)
theorem dX2_knows_110 : decode cX2_knows 110 = .ok (.goto (-9), 3) := dk_167 255 247 (dk_at dksX2_knows_4 19 rfl rfl)
theorem dX2_knows_113 : decode cX2_knows 113 = .ok (.return_, 1) := dk_177 (dk_at dksX2_knows_4 22 rfl rfl)
abbrev cX2_addsNullable : ByteArray := prog_14_method_39_code
def yX2_addsNullable : MethodName := ⟨RX2, "addsNullable", "()Z"⟩
def dkwX2_addsNullable_2 : List UInt8 := [167, 255, 216, 42, 180, 0, 195, 27, 159, 0, 7, 4, 167, 0, 4, 3, 172]
abbrev dktX2_addsNullable_2 : List UInt8 := dkwX2_addsNullable_2 ++ []
def dkwX2_addsNullable_1 : List UInt8 := [42, 89, 180, 0, 195, 4, 42, 180, 0, 7, 28, 46, 16, 20, 100, 120, 128, 181, 0, 195, 132, 2, 1]
abbrev dktX2_addsNullable_1 : List UInt8 := dkwX2_addsNullable_1 ++ dktX2_addsNullable_2
def dkwX2_addsNullable_0 : List UInt8 := [42, 180, 0, 195, 60, 3, 61, 28, 42, 180, 0, 113, 162, 0, 38, 42, 28, 3, 182, 0, 208, 153, 0, 23]
abbrev dktX2_addsNullable_0 : List UInt8 := dkwX2_addsNullable_0 ++ dktX2_addsNullable_1
theorem dksX2_addsNullable_0 : cX2_addsNullable.data.toList.drop 0 = dktX2_addsNullable_0 := by decide +kernel
theorem dksX2_addsNullable_1 : cX2_addsNullable.data.toList.drop 24 = dktX2_addsNullable_1 := dk_seg dksX2_addsNullable_0 24 rfl rfl
theorem dksX2_addsNullable_2 : cX2_addsNullable.data.toList.drop 47 = dktX2_addsNullable_2 := dk_seg dksX2_addsNullable_1 23 rfl rfl
theorem dX2_addsNullable_0 : decode cX2_addsNullable 0 = .ok (.aload_n 0, 1) := dk_42 (dk_at dksX2_addsNullable_0 0 rfl rfl)
theorem dX2_addsNullable_1 : decode cX2_addsNullable 1 = .ok (.getfield 195, 3) := dk_180 0 195 (dk_at dksX2_addsNullable_0 1 rfl rfl)
theorem dX2_addsNullable_4 : decode cX2_addsNullable 4 = .ok (.istore_n 1, 1) := dk_60 (dk_at dksX2_addsNullable_0 4 rfl rfl)
theorem dX2_addsNullable_5 : decode cX2_addsNullable 5 = .ok (.iconst 0, 1) := dk_3 (dk_at dksX2_addsNullable_0 5 rfl rfl)
theorem dX2_addsNullable_6 : decode cX2_addsNullable 6 = .ok (.istore_n 2, 1) := dk_61 (dk_at dksX2_addsNullable_0 6 rfl rfl)
theorem dX2_addsNullable_7 : decode cX2_addsNullable 7 = .ok (.iload_n 2, 1) := dk_28 (dk_at dksX2_addsNullable_0 7 rfl rfl)
theorem dX2_addsNullable_8 : decode cX2_addsNullable 8 = .ok (.aload_n 0, 1) := dk_42 (dk_at dksX2_addsNullable_0 8 rfl rfl)
theorem dX2_addsNullable_9 : decode cX2_addsNullable 9 = .ok (.getfield 113, 3) := dk_180 0 113 (dk_at dksX2_addsNullable_0 9 rfl rfl)
theorem dX2_addsNullable_12 : decode cX2_addsNullable 12 = .ok (.if_icmp .ge 38, 3) := dk_162 0 38 (dk_at dksX2_addsNullable_0 12 rfl rfl)
theorem dX2_addsNullable_15 : decode cX2_addsNullable 15 = .ok (.aload_n 0, 1) := dk_42 (dk_at dksX2_addsNullable_0 15 rfl rfl)
theorem dX2_addsNullable_16 : decode cX2_addsNullable 16 = .ok (.iload_n 2, 1) := dk_28 (dk_at dksX2_addsNullable_0 16 rfl rfl)
theorem dX2_addsNullable_17 : decode cX2_addsNullable 17 = .ok (.iconst 0, 1) := dk_3 (dk_at dksX2_addsNullable_0 17 rfl rfl)
theorem dX2_addsNullable_18 : decode cX2_addsNullable 18 = .ok (.invokevirtual 208, 3) := dk_182 0 208 (dk_at dksX2_addsNullable_0 18 rfl rfl)
theorem dX2_addsNullable_21 : decode cX2_addsNullable 21 = .ok (.ifCond .eq 23, 3) := dk_153 0 23 (dk_at dksX2_addsNullable_0 21 rfl rfl)
theorem dX2_addsNullable_24 : decode cX2_addsNullable 24 = .ok (.aload_n 0, 1) := dk_42 (dk_at dksX2_addsNullable_1 0 rfl rfl)
theorem dX2_addsNullable_25 : decode cX2_addsNullable 25 = .ok (.dup, 1) := dk_89 (dk_at dksX2_addsNullable_1 1 rfl rfl)
theorem dX2_addsNullable_26 : decode cX2_addsNullable 26 = .ok (.getfield 195, 3) := dk_180 0 195 (dk_at dksX2_addsNullable_1 2 rfl rfl)
theorem dX2_addsNullable_29 : decode cX2_addsNullable 29 = .ok (.iconst 1, 1) := dk_4 (dk_at dksX2_addsNullable_1 5 rfl rfl)
theorem dX2_addsNullable_30 : decode cX2_addsNullable 30 = .ok (.aload_n 0, 1) := dk_42 (dk_at dksX2_addsNullable_1 6 rfl rfl)
theorem dX2_addsNullable_31 : decode cX2_addsNullable 31 = .ok (.getfield 7, 3) := dk_180 0 7 (dk_at dksX2_addsNullable_1 7 rfl rfl)
theorem dX2_addsNullable_34 : decode cX2_addsNullable 34 = .ok (.iload_n 2, 1) := dk_28 (dk_at dksX2_addsNullable_1 10 rfl rfl)
theorem dX2_addsNullable_35 : decode cX2_addsNullable 35 = .ok (.iaload, 1) := dk_46 (dk_at dksX2_addsNullable_1 11 rfl rfl)
theorem dX2_addsNullable_36 : decode cX2_addsNullable 36 = .ok (.bipush 20, 2) := dk_16 20 (dk_at dksX2_addsNullable_1 12 rfl rfl)
theorem dX2_addsNullable_38 : decode cX2_addsNullable 38 = .ok (.isub, 1) := dk_100 (dk_at dksX2_addsNullable_1 14 rfl rfl)
theorem dX2_addsNullable_39 : decode cX2_addsNullable 39 = .ok (.ishl, 1) := dk_120 (dk_at dksX2_addsNullable_1 15 rfl rfl)
theorem dX2_addsNullable_40 : decode cX2_addsNullable 40 = .ok (.ior, 1) := dk_128 (dk_at dksX2_addsNullable_1 16 rfl rfl)
theorem dX2_addsNullable_41 : decode cX2_addsNullable 41 = .ok (.putfield 195, 3) := dk_181 0 195 (dk_at dksX2_addsNullable_1 17 rfl rfl)
theorem dX2_addsNullable_44 : decode cX2_addsNullable 44 = .ok (.iinc 2 1, 3) := dk_132 2 1 (dk_at dksX2_addsNullable_1 20 rfl rfl)
theorem dX2_addsNullable_47 : decode cX2_addsNullable 47 = .ok (.goto (-40), 3) := dk_167 255 216 (dk_at dksX2_addsNullable_2 0 rfl rfl)
theorem dX2_addsNullable_50 : decode cX2_addsNullable 50 = .ok (.aload_n 0, 1) := dk_42 (dk_at dksX2_addsNullable_2 3 rfl rfl)
theorem dX2_addsNullable_51 : decode cX2_addsNullable 51 = .ok (.getfield 195, 3) := dk_180 0 195 (dk_at dksX2_addsNullable_2 4 rfl rfl)
theorem dX2_addsNullable_54 : decode cX2_addsNullable 54 = .ok (.iload_n 1, 1) := dk_27 (dk_at dksX2_addsNullable_2 7 rfl rfl)
theorem dX2_addsNullable_55 : decode cX2_addsNullable 55 = .ok (.if_icmp .eq 7, 3) := dk_159 0 7 (dk_at dksX2_addsNullable_2 8 rfl rfl)
theorem dX2_addsNullable_58 : decode cX2_addsNullable 58 = .ok (.iconst 1, 1) := dk_4 (dk_at dksX2_addsNullable_2 11 rfl rfl)
theorem dX2_addsNullable_59 : decode cX2_addsNullable 59 = .ok (.goto 4, 3) := dk_167 0 4 (dk_at dksX2_addsNullable_2 12 rfl rfl)
theorem dX2_addsNullable_62 : decode cX2_addsNullable 62 = .ok (.iconst 0, 1) := dk_3 (dk_at dksX2_addsNullable_2 15 rfl rfl)
theorem dX2_addsNullable_63 : decode cX2_addsNullable 63 = .ok (.ireturn, 1) := dk_172 (dk_at dksX2_addsNullable_2 16 rfl rfl)
abbrev cX2_areEmptyable : ByteArray := prog_14_method_34_code
def yX2_areEmptyable : MethodName := ⟨RX2, "areEmptyable", "(II)Z"⟩
def dkwX2_areEmptyable_1 : List UInt8 := [154, 0, 5, 3, 172, 132, 3, 1, 167, 255, 228, 4, 172]
abbrev dktX2_areEmptyable_1 : List UInt8 := dkwX2_areEmptyable_1 ++ []
def dkwX2_areEmptyable_0 : List UInt8 := [28, 62, 29, 42, 180, 0, 13, 27, 46, 162, 0, 24, 42, 42, 27, 29, 182, 0, 187, 182, 0, 202]
abbrev dktX2_areEmptyable_0 : List UInt8 := dkwX2_areEmptyable_0 ++ dktX2_areEmptyable_1
theorem dksX2_areEmptyable_0 : cX2_areEmptyable.data.toList.drop 0 = dktX2_areEmptyable_0 := by decide +kernel
theorem dksX2_areEmptyable_1 : cX2_areEmptyable.data.toList.drop 22 = dktX2_areEmptyable_1 := dk_seg dksX2_areEmptyable_0 22 rfl rfl
theorem dX2_areEmptyable_0 : decode cX2_areEmptyable 0 = .ok (.iload_n 2, 1) := dk_28 (dk_at dksX2_areEmptyable_0 0 rfl rfl)
theorem dX2_areEmptyable_1 : decode cX2_areEmptyable 1 = .ok (.istore_n 3, 1) := dk_62 (dk_at dksX2_areEmptyable_0 1 rfl rfl)
theorem dX2_areEmptyable_2 : decode cX2_areEmptyable 2 = .ok (.iload_n 3, 1) := dk_29 (dk_at dksX2_areEmptyable_0 2 rfl rfl)
theorem dX2_areEmptyable_3 : decode cX2_areEmptyable 3 = .ok (.aload_n 0, 1) := dk_42 (dk_at dksX2_areEmptyable_0 3 rfl rfl)
theorem dX2_areEmptyable_4 : decode cX2_areEmptyable 4 = .ok (.getfield 13, 3) := dk_180 0 13 (dk_at dksX2_areEmptyable_0 4 rfl rfl)
theorem dX2_areEmptyable_7 : decode cX2_areEmptyable 7 = .ok (.iload_n 1, 1) := dk_27 (dk_at dksX2_areEmptyable_0 7 rfl rfl)
theorem dX2_areEmptyable_8 : decode cX2_areEmptyable 8 = .ok (.iaload, 1) := dk_46 (dk_at dksX2_areEmptyable_0 8 rfl rfl)
theorem dX2_areEmptyable_9 : decode cX2_areEmptyable 9 = .ok (.if_icmp .ge 24, 3) := dk_162 0 24 (dk_at dksX2_areEmptyable_0 9 rfl rfl)
theorem dX2_areEmptyable_12 : decode cX2_areEmptyable 12 = .ok (.aload_n 0, 1) := dk_42 (dk_at dksX2_areEmptyable_0 12 rfl rfl)
theorem dX2_areEmptyable_13 : decode cX2_areEmptyable 13 = .ok (.aload_n 0, 1) := dk_42 (dk_at dksX2_areEmptyable_0 13 rfl rfl)
theorem dX2_areEmptyable_14 : decode cX2_areEmptyable 14 = .ok (.iload_n 1, 1) := dk_27 (dk_at dksX2_areEmptyable_0 14 rfl rfl)
theorem dX2_areEmptyable_15 : decode cX2_areEmptyable 15 = .ok (.iload_n 3, 1) := dk_29 (dk_at dksX2_areEmptyable_0 15 rfl rfl)
theorem dX2_areEmptyable_16 : decode cX2_areEmptyable 16 = .ok (.invokevirtual 187, 3) := dk_182 0 187 (dk_at dksX2_areEmptyable_0 16 rfl rfl)
theorem dX2_areEmptyable_19 : decode cX2_areEmptyable 19 = .ok (.invokevirtual 202, 3) := dk_182 0 202 (dk_at dksX2_areEmptyable_0 19 rfl rfl)
theorem dX2_areEmptyable_22 : decode cX2_areEmptyable 22 = .ok (.ifCond .ne 5, 3) := dk_154 0 5 (dk_at dksX2_areEmptyable_1 0 rfl rfl)
theorem dX2_areEmptyable_25 : decode cX2_areEmptyable 25 = .ok (.iconst 0, 1) := dk_3 (dk_at dksX2_areEmptyable_1 3 rfl rfl)
theorem dX2_areEmptyable_26 : decode cX2_areEmptyable 26 = .ok (.ireturn, 1) := dk_172 (dk_at dksX2_areEmptyable_1 4 rfl rfl)
theorem dX2_areEmptyable_27 : decode cX2_areEmptyable 27 = .ok (.iinc 3 1, 3) := dk_132 3 1 (dk_at dksX2_areEmptyable_1 5 rfl rfl)
theorem dX2_areEmptyable_30 : decode cX2_areEmptyable 30 = .ok (.goto (-28), 3) := dk_167 255 228 (dk_at dksX2_areEmptyable_1 8 rfl rfl)
theorem dX2_areEmptyable_33 : decode cX2_areEmptyable 33 = .ok (.iconst 1, 1) := dk_4 (dk_at dksX2_areEmptyable_1 11 rfl rfl)
theorem dX2_areEmptyable_34 : decode cX2_areEmptyable 34 = .ok (.ireturn, 1) := dk_172 (dk_at dksX2_areEmptyable_1 12 rfl rfl)
abbrev cX2_isEmptyable : ByteArray := prog_14_method_33_code
def yX2_isEmptyable : MethodName := ⟨RX2, "isEmptyable", "(I)Z"⟩
def dkwX2_isEmptyable_1 : List UInt8 := [167, 0, 4, 3, 172]
abbrev dktX2_isEmptyable_1 : List UInt8 := dkwX2_isEmptyable_1 ++ []
def dkwX2_isEmptyable_0 : List UInt8 := [27, 184, 0, 149, 153, 0, 21, 42, 180, 0, 195, 27, 16, 20, 100, 184, 0, 198, 153, 0, 7, 4]
abbrev dktX2_isEmptyable_0 : List UInt8 := dkwX2_isEmptyable_0 ++ dktX2_isEmptyable_1
theorem dksX2_isEmptyable_0 : cX2_isEmptyable.data.toList.drop 0 = dktX2_isEmptyable_0 := by decide +kernel
theorem dksX2_isEmptyable_1 : cX2_isEmptyable.data.toList.drop 22 = dktX2_isEmptyable_1 := dk_seg dksX2_isEmptyable_0 22 rfl rfl
theorem dX2_isEmptyable_0 : decode cX2_isEmptyable 0 = .ok (.iload_n 1, 1) := dk_27 (dk_at dksX2_isEmptyable_0 0 rfl rfl)
theorem dX2_isEmptyable_1 : decode cX2_isEmptyable 1 = .ok (.invokestatic 149, 3) := dk_184 0 149 (dk_at dksX2_isEmptyable_0 1 rfl rfl)
theorem dX2_isEmptyable_4 : decode cX2_isEmptyable 4 = .ok (.ifCond .eq 21, 3) := dk_153 0 21 (dk_at dksX2_isEmptyable_0 4 rfl rfl)
theorem dX2_isEmptyable_7 : decode cX2_isEmptyable 7 = .ok (.aload_n 0, 1) := dk_42 (dk_at dksX2_isEmptyable_0 7 rfl rfl)
theorem dX2_isEmptyable_8 : decode cX2_isEmptyable 8 = .ok (.getfield 195, 3) := dk_180 0 195 (dk_at dksX2_isEmptyable_0 8 rfl rfl)
theorem dX2_isEmptyable_11 : decode cX2_isEmptyable 11 = .ok (.iload_n 1, 1) := dk_27 (dk_at dksX2_isEmptyable_0 11 rfl rfl)
theorem dX2_isEmptyable_12 : decode cX2_isEmptyable 12 = .ok (.bipush 20, 2) := dk_16 20 (dk_at dksX2_isEmptyable_0 12 rfl rfl)
theorem dX2_isEmptyable_14 : decode cX2_isEmptyable 14 = .ok (.isub, 1) := dk_100 (dk_at dksX2_isEmptyable_0 14 rfl rfl)
theorem dX2_isEmptyable_15 : decode cX2_isEmptyable 15 = .ok (.invokestatic 198, 3) := dk_184 0 198 (dk_at dksX2_isEmptyable_0 15 rfl rfl)
theorem dX2_isEmptyable_18 : decode cX2_isEmptyable 18 = .ok (.ifCond .eq 7, 3) := dk_153 0 7 (dk_at dksX2_isEmptyable_0 18 rfl rfl)
theorem dX2_isEmptyable_21 : decode cX2_isEmptyable 21 = .ok (.iconst 1, 1) := dk_4 (dk_at dksX2_isEmptyable_0 21 rfl rfl)
theorem dX2_isEmptyable_22 : decode cX2_isEmptyable 22 = .ok (.goto 4, 3) := dk_167 0 4 (dk_at dksX2_isEmptyable_1 0 rfl rfl)
theorem dX2_isEmptyable_25 : decode cX2_isEmptyable 25 = .ok (.iconst 0, 1) := dk_3 (dk_at dksX2_isEmptyable_1 3 rfl rfl)
theorem dX2_isEmptyable_26 : decode cX2_isEmptyable 26 = .ok (.ireturn, 1) := dk_172 (dk_at dksX2_isEmptyable_1 4 rfl rfl)
abbrev cX2_has : ByteArray := prog_14_method_14_code
def yX2_has : MethodName := ⟨RX2, "has", "(II)Z"⟩
def dkwX2_has_0 : List UInt8 := [26, 27, 122, 4, 126, 4, 160, 0, 7, 4, 167, 0, 4, 3, 172]
abbrev dktX2_has_0 : List UInt8 := dkwX2_has_0 ++ []
theorem dksX2_has_0 : cX2_has.data.toList.drop 0 = dktX2_has_0 := by decide +kernel
theorem dX2_has_0 : decode cX2_has 0 = .ok (.iload_n 0, 1) := dk_26 (dk_at dksX2_has_0 0 rfl rfl)
theorem dX2_has_1 : decode cX2_has 1 = .ok (.iload_n 1, 1) := dk_27 (dk_at dksX2_has_0 1 rfl rfl)
theorem dX2_has_2 : decode cX2_has 2 = .ok (.ishr, 1) := dk_122 (dk_at dksX2_has_0 2 rfl rfl)
theorem dX2_has_3 : decode cX2_has 3 = .ok (.iconst 1, 1) := dk_4 (dk_at dksX2_has_0 3 rfl rfl)
theorem dX2_has_4 : decode cX2_has 4 = .ok (.iand, 1) := dk_126 (dk_at dksX2_has_0 4 rfl rfl)
theorem dX2_has_5 : decode cX2_has 5 = .ok (.iconst 1, 1) := dk_4 (dk_at dksX2_has_0 5 rfl rfl)
theorem dX2_has_6 : decode cX2_has 6 = .ok (.if_icmp .ne 7, 3) := dk_160 0 7 (dk_at dksX2_has_0 6 rfl rfl)
theorem dX2_has_9 : decode cX2_has 9 = .ok (.iconst 1, 1) := dk_4 (dk_at dksX2_has_0 9 rfl rfl)
theorem dX2_has_10 : decode cX2_has 10 = .ok (.goto 4, 3) := dk_167 0 4 (dk_at dksX2_has_0 10 rfl rfl)
theorem dX2_has_13 : decode cX2_has 13 = .ok (.iconst 0, 1) := dk_3 (dk_at dksX2_has_0 13 rfl rfl)
theorem dX2_has_14 : decode cX2_has 14 = .ok (.ireturn, 1) := dk_172 (dk_at dksX2_has_0 14 rfl rfl)
abbrev cX2_addsFirst : ByteArray := prog_14_method_36_code
def yX2_addsFirst : MethodName := ⟨RX2, "addsFirst", "()Z"⟩
def dkwX2_addsFirst_3 : List UInt8 := [167, 255, 191, 27, 172]
abbrev dktX2_addsFirst_3 : List UInt8 := dkwX2_addsFirst_3 ++ []
def dkwX2_addsFirst_2 : List UInt8 := [29, 46, 159, 0, 7, 4, 167, 0, 4, 3, 60, 42, 180, 0, 28, 29, 21, 4, 79, 132, 2, 1]
abbrev dktX2_addsFirst_2 : List UInt8 := dkwX2_addsFirst_2 ++ dktX2_addsFirst_3
def dkwX2_addsFirst_1 : List UInt8 := [180, 0, 28, 29, 46, 42, 28, 3, 182, 0, 205, 128, 54, 4, 27, 154, 0, 14, 21, 4, 42, 180, 0, 28]
abbrev dktX2_addsFirst_1 : List UInt8 := dkwX2_addsFirst_1 ++ dktX2_addsFirst_2
def dkwX2_addsFirst_0 : List UInt8 := [3, 60, 3, 61, 28, 42, 180, 0, 113, 162, 0, 63, 42, 180, 0, 7, 28, 46, 16, 20, 100, 62, 42]
abbrev dktX2_addsFirst_0 : List UInt8 := dkwX2_addsFirst_0 ++ dktX2_addsFirst_1
theorem dksX2_addsFirst_0 : cX2_addsFirst.data.toList.drop 0 = dktX2_addsFirst_0 := by decide +kernel
theorem dksX2_addsFirst_1 : cX2_addsFirst.data.toList.drop 23 = dktX2_addsFirst_1 := dk_seg dksX2_addsFirst_0 23 rfl rfl
theorem dksX2_addsFirst_2 : cX2_addsFirst.data.toList.drop 47 = dktX2_addsFirst_2 := dk_seg dksX2_addsFirst_1 24 rfl rfl
theorem dksX2_addsFirst_3 : cX2_addsFirst.data.toList.drop 69 = dktX2_addsFirst_3 := dk_seg dksX2_addsFirst_2 22 rfl rfl
theorem dX2_addsFirst_0 : decode cX2_addsFirst 0 = .ok (.iconst 0, 1) := dk_3 (dk_at dksX2_addsFirst_0 0 rfl rfl)
theorem dX2_addsFirst_1 : decode cX2_addsFirst 1 = .ok (.istore_n 1, 1) := dk_60 (dk_at dksX2_addsFirst_0 1 rfl rfl)
theorem dX2_addsFirst_2 : decode cX2_addsFirst 2 = .ok (.iconst 0, 1) := dk_3 (dk_at dksX2_addsFirst_0 2 rfl rfl)
theorem dX2_addsFirst_3 : decode cX2_addsFirst 3 = .ok (.istore_n 2, 1) := dk_61 (dk_at dksX2_addsFirst_0 3 rfl rfl)
theorem dX2_addsFirst_4 : decode cX2_addsFirst 4 = .ok (.iload_n 2, 1) := dk_28 (dk_at dksX2_addsFirst_0 4 rfl rfl)
theorem dX2_addsFirst_5 : decode cX2_addsFirst 5 = .ok (.aload_n 0, 1) := dk_42 (dk_at dksX2_addsFirst_0 5 rfl rfl)
theorem dX2_addsFirst_6 : decode cX2_addsFirst 6 = .ok (.getfield 113, 3) := dk_180 0 113 (dk_at dksX2_addsFirst_0 6 rfl rfl)
theorem dX2_addsFirst_9 : decode cX2_addsFirst 9 = .ok (.if_icmp .ge 63, 3) := dk_162 0 63 (dk_at dksX2_addsFirst_0 9 rfl rfl)
theorem dX2_addsFirst_12 : decode cX2_addsFirst 12 = .ok (.aload_n 0, 1) := dk_42 (dk_at dksX2_addsFirst_0 12 rfl rfl)
theorem dX2_addsFirst_13 : decode cX2_addsFirst 13 = .ok (.getfield 7, 3) := dk_180 0 7 (dk_at dksX2_addsFirst_0 13 rfl rfl)
theorem dX2_addsFirst_16 : decode cX2_addsFirst 16 = .ok (.iload_n 2, 1) := dk_28 (dk_at dksX2_addsFirst_0 16 rfl rfl)
theorem dX2_addsFirst_17 : decode cX2_addsFirst 17 = .ok (.iaload, 1) := dk_46 (dk_at dksX2_addsFirst_0 17 rfl rfl)
theorem dX2_addsFirst_18 : decode cX2_addsFirst 18 = .ok (.bipush 20, 2) := dk_16 20 (dk_at dksX2_addsFirst_0 18 rfl rfl)
theorem dX2_addsFirst_20 : decode cX2_addsFirst 20 = .ok (.isub, 1) := dk_100 (dk_at dksX2_addsFirst_0 20 rfl rfl)
theorem dX2_addsFirst_21 : decode cX2_addsFirst 21 = .ok (.istore_n 3, 1) := dk_62 (dk_at dksX2_addsFirst_0 21 rfl rfl)
theorem dX2_addsFirst_22 : decode cX2_addsFirst 22 = .ok (.aload_n 0, 1) := dk_42 (dk_at dksX2_addsFirst_0 22 rfl rfl)
theorem dX2_addsFirst_23 : decode cX2_addsFirst 23 = .ok (.getfield 28, 3) := dk_180 0 28 (dk_at dksX2_addsFirst_1 0 rfl rfl)
theorem dX2_addsFirst_26 : decode cX2_addsFirst 26 = .ok (.iload_n 3, 1) := dk_29 (dk_at dksX2_addsFirst_1 3 rfl rfl)
theorem dX2_addsFirst_27 : decode cX2_addsFirst 27 = .ok (.iaload, 1) := dk_46 (dk_at dksX2_addsFirst_1 4 rfl rfl)
theorem dX2_addsFirst_28 : decode cX2_addsFirst 28 = .ok (.aload_n 0, 1) := dk_42 (dk_at dksX2_addsFirst_1 5 rfl rfl)
theorem dX2_addsFirst_29 : decode cX2_addsFirst 29 = .ok (.iload_n 2, 1) := dk_28 (dk_at dksX2_addsFirst_1 6 rfl rfl)
theorem dX2_addsFirst_30 : decode cX2_addsFirst 30 = .ok (.iconst 0, 1) := dk_3 (dk_at dksX2_addsFirst_1 7 rfl rfl)
theorem dX2_addsFirst_31 : decode cX2_addsFirst 31 = .ok (.invokevirtual 205, 3) := dk_182 0 205 (dk_at dksX2_addsFirst_1 8 rfl rfl)
theorem dX2_addsFirst_34 : decode cX2_addsFirst 34 = .ok (.ior, 1) := dk_128 (dk_at dksX2_addsFirst_1 11 rfl rfl)
theorem dX2_addsFirst_35 : decode cX2_addsFirst 35 = .ok (.istore 4, 2) := dk_54 4 (dk_at dksX2_addsFirst_1 12 rfl rfl)
theorem dX2_addsFirst_37 : decode cX2_addsFirst 37 = .ok (.iload_n 1, 1) := dk_27 (dk_at dksX2_addsFirst_1 14 rfl rfl)
theorem dX2_addsFirst_38 : decode cX2_addsFirst 38 = .ok (.ifCond .ne 14, 3) := dk_154 0 14 (dk_at dksX2_addsFirst_1 15 rfl rfl)
theorem dX2_addsFirst_41 : decode cX2_addsFirst 41 = .ok (.iload 4, 2) := dk_21 4 (dk_at dksX2_addsFirst_1 18 rfl rfl)
theorem dX2_addsFirst_43 : decode cX2_addsFirst 43 = .ok (.aload_n 0, 1) := dk_42 (dk_at dksX2_addsFirst_1 20 rfl rfl)
theorem dX2_addsFirst_44 : decode cX2_addsFirst 44 = .ok (.getfield 28, 3) := dk_180 0 28 (dk_at dksX2_addsFirst_1 21 rfl rfl)
theorem dX2_addsFirst_47 : decode cX2_addsFirst 47 = .ok (.iload_n 3, 1) := dk_29 (dk_at dksX2_addsFirst_2 0 rfl rfl)
theorem dX2_addsFirst_48 : decode cX2_addsFirst 48 = .ok (.iaload, 1) := dk_46 (dk_at dksX2_addsFirst_2 1 rfl rfl)
theorem dX2_addsFirst_49 : decode cX2_addsFirst 49 = .ok (.if_icmp .eq 7, 3) := dk_159 0 7 (dk_at dksX2_addsFirst_2 2 rfl rfl)
theorem dX2_addsFirst_52 : decode cX2_addsFirst 52 = .ok (.iconst 1, 1) := dk_4 (dk_at dksX2_addsFirst_2 5 rfl rfl)
theorem dX2_addsFirst_53 : decode cX2_addsFirst 53 = .ok (.goto 4, 3) := dk_167 0 4 (dk_at dksX2_addsFirst_2 6 rfl rfl)
theorem dX2_addsFirst_56 : decode cX2_addsFirst 56 = .ok (.iconst 0, 1) := dk_3 (dk_at dksX2_addsFirst_2 9 rfl rfl)
theorem dX2_addsFirst_57 : decode cX2_addsFirst 57 = .ok (.istore_n 1, 1) := dk_60 (dk_at dksX2_addsFirst_2 10 rfl rfl)
theorem dX2_addsFirst_58 : decode cX2_addsFirst 58 = .ok (.aload_n 0, 1) := dk_42 (dk_at dksX2_addsFirst_2 11 rfl rfl)
theorem dX2_addsFirst_59 : decode cX2_addsFirst 59 = .ok (.getfield 28, 3) := dk_180 0 28 (dk_at dksX2_addsFirst_2 12 rfl rfl)
theorem dX2_addsFirst_62 : decode cX2_addsFirst 62 = .ok (.iload_n 3, 1) := dk_29 (dk_at dksX2_addsFirst_2 15 rfl rfl)
theorem dX2_addsFirst_63 : decode cX2_addsFirst 63 = .ok (.iload 4, 2) := dk_21 4 (dk_at dksX2_addsFirst_2 16 rfl rfl)
theorem dX2_addsFirst_65 : decode cX2_addsFirst 65 = .ok (.iastore, 1) := dk_79 (dk_at dksX2_addsFirst_2 18 rfl rfl)
theorem dX2_addsFirst_66 : decode cX2_addsFirst 66 = .ok (.iinc 2 1, 3) := dk_132 2 1 (dk_at dksX2_addsFirst_2 19 rfl rfl)
theorem dX2_addsFirst_69 : decode cX2_addsFirst 69 = .ok (.goto (-65), 3) := dk_167 255 191 (dk_at dksX2_addsFirst_3 0 rfl rfl)
theorem dX2_addsFirst_72 : decode cX2_addsFirst 72 = .ok (.iload_n 1, 1) := dk_27 (dk_at dksX2_addsFirst_3 3 rfl rfl)
theorem dX2_addsFirst_73 : decode cX2_addsFirst 73 = .ok (.ireturn, 1) := dk_172 (dk_at dksX2_addsFirst_3 4 rfl rfl)
abbrev cX2_firstFrom : ByteArray := prog_14_method_35_code
def yX2_firstFrom : MethodName := ⟨RX2, "firstFrom", "(II)I"⟩
def dkwX2_firstFrom_3 : List UInt8 := [172]
abbrev dktX2_firstFrom_3 : List UInt8 := dkwX2_firstFrom_3 ++ []
def dkwX2_firstFrom_2 : List UInt8 := [16, 20, 100, 46, 128, 62, 42, 21, 5, 182, 0, 202, 154, 0, 5, 29, 172, 132, 4, 1, 167, 255, 194, 29]
abbrev dktX2_firstFrom_2 : List UInt8 := dkwX2_firstFrom_2 ++ dktX2_firstFrom_3
def dkwX2_firstFrom_1 : List UInt8 := [54, 5, 29, 21, 5, 184, 0, 167, 153, 0, 10, 4, 21, 5, 120, 167, 0, 13, 42, 180, 0, 28, 21, 5]
abbrev dktX2_firstFrom_1 : List UInt8 := dkwX2_firstFrom_1 ++ dktX2_firstFrom_2
def dkwX2_firstFrom_0 : List UInt8 := [3, 62, 28, 54, 4, 21, 4, 42, 180, 0, 13, 27, 46, 162, 0, 57, 42, 27, 21, 4, 182, 0, 187]
abbrev dktX2_firstFrom_0 : List UInt8 := dkwX2_firstFrom_0 ++ dktX2_firstFrom_1
theorem dksX2_firstFrom_0 : cX2_firstFrom.data.toList.drop 0 = dktX2_firstFrom_0 := by decide +kernel
theorem dksX2_firstFrom_1 : cX2_firstFrom.data.toList.drop 23 = dktX2_firstFrom_1 := dk_seg dksX2_firstFrom_0 23 rfl rfl
theorem dksX2_firstFrom_2 : cX2_firstFrom.data.toList.drop 47 = dktX2_firstFrom_2 := dk_seg dksX2_firstFrom_1 24 rfl rfl
theorem dksX2_firstFrom_3 : cX2_firstFrom.data.toList.drop 71 = dktX2_firstFrom_3 := dk_seg dksX2_firstFrom_2 24 rfl rfl
theorem dX2_firstFrom_0 : decode cX2_firstFrom 0 = .ok (.iconst 0, 1) := dk_3 (dk_at dksX2_firstFrom_0 0 rfl rfl)
theorem dX2_firstFrom_1 : decode cX2_firstFrom 1 = .ok (.istore_n 3, 1) := dk_62 (dk_at dksX2_firstFrom_0 1 rfl rfl)
theorem dX2_firstFrom_2 : decode cX2_firstFrom 2 = .ok (.iload_n 2, 1) := dk_28 (dk_at dksX2_firstFrom_0 2 rfl rfl)
theorem dX2_firstFrom_3 : decode cX2_firstFrom 3 = .ok (.istore 4, 2) := dk_54 4 (dk_at dksX2_firstFrom_0 3 rfl rfl)
theorem dX2_firstFrom_5 : decode cX2_firstFrom 5 = .ok (.iload 4, 2) := dk_21 4 (dk_at dksX2_firstFrom_0 5 rfl rfl)
theorem dX2_firstFrom_7 : decode cX2_firstFrom 7 = .ok (.aload_n 0, 1) := dk_42 (dk_at dksX2_firstFrom_0 7 rfl rfl)
theorem dX2_firstFrom_8 : decode cX2_firstFrom 8 = .ok (.getfield 13, 3) := dk_180 0 13 (dk_at dksX2_firstFrom_0 8 rfl rfl)
theorem dX2_firstFrom_11 : decode cX2_firstFrom 11 = .ok (.iload_n 1, 1) := dk_27 (dk_at dksX2_firstFrom_0 11 rfl rfl)
theorem dX2_firstFrom_12 : decode cX2_firstFrom 12 = .ok (.iaload, 1) := dk_46 (dk_at dksX2_firstFrom_0 12 rfl rfl)
theorem dX2_firstFrom_13 : decode cX2_firstFrom 13 = .ok (.if_icmp .ge 57, 3) := dk_162 0 57 (dk_at dksX2_firstFrom_0 13 rfl rfl)
theorem dX2_firstFrom_16 : decode cX2_firstFrom 16 = .ok (.aload_n 0, 1) := dk_42 (dk_at dksX2_firstFrom_0 16 rfl rfl)
theorem dX2_firstFrom_17 : decode cX2_firstFrom 17 = .ok (.iload_n 1, 1) := dk_27 (dk_at dksX2_firstFrom_0 17 rfl rfl)
theorem dX2_firstFrom_18 : decode cX2_firstFrom 18 = .ok (.iload 4, 2) := dk_21 4 (dk_at dksX2_firstFrom_0 18 rfl rfl)
theorem dX2_firstFrom_20 : decode cX2_firstFrom 20 = .ok (.invokevirtual 187, 3) := dk_182 0 187 (dk_at dksX2_firstFrom_0 20 rfl rfl)
theorem dX2_firstFrom_23 : decode cX2_firstFrom 23 = .ok (.istore 5, 2) := dk_54 5 (dk_at dksX2_firstFrom_1 0 rfl rfl)
theorem dX2_firstFrom_25 : decode cX2_firstFrom 25 = .ok (.iload_n 3, 1) := dk_29 (dk_at dksX2_firstFrom_1 2 rfl rfl)
theorem dX2_firstFrom_26 : decode cX2_firstFrom 26 = .ok (.iload 5, 2) := dk_21 5 (dk_at dksX2_firstFrom_1 3 rfl rfl)
theorem dX2_firstFrom_28 : decode cX2_firstFrom 28 = .ok (.invokestatic 167, 3) := dk_184 0 167 (dk_at dksX2_firstFrom_1 5 rfl rfl)
theorem dX2_firstFrom_31 : decode cX2_firstFrom 31 = .ok (.ifCond .eq 10, 3) := dk_153 0 10 (dk_at dksX2_firstFrom_1 8 rfl rfl)
theorem dX2_firstFrom_34 : decode cX2_firstFrom 34 = .ok (.iconst 1, 1) := dk_4 (dk_at dksX2_firstFrom_1 11 rfl rfl)
theorem dX2_firstFrom_35 : decode cX2_firstFrom 35 = .ok (.iload 5, 2) := dk_21 5 (dk_at dksX2_firstFrom_1 12 rfl rfl)
theorem dX2_firstFrom_37 : decode cX2_firstFrom 37 = .ok (.ishl, 1) := dk_120 (dk_at dksX2_firstFrom_1 14 rfl rfl)
theorem dX2_firstFrom_38 : decode cX2_firstFrom 38 = .ok (.goto 13, 3) := dk_167 0 13 (dk_at dksX2_firstFrom_1 15 rfl rfl)
theorem dX2_firstFrom_41 : decode cX2_firstFrom 41 = .ok (.aload_n 0, 1) := dk_42 (dk_at dksX2_firstFrom_1 18 rfl rfl)
theorem dX2_firstFrom_42 : decode cX2_firstFrom 42 = .ok (.getfield 28, 3) := dk_180 0 28 (dk_at dksX2_firstFrom_1 19 rfl rfl)
theorem dX2_firstFrom_45 : decode cX2_firstFrom 45 = .ok (.iload 5, 2) := dk_21 5 (dk_at dksX2_firstFrom_1 22 rfl rfl)
theorem dX2_firstFrom_47 : decode cX2_firstFrom 47 = .ok (.bipush 20, 2) := dk_16 20 (dk_at dksX2_firstFrom_2 0 rfl rfl)
theorem dX2_firstFrom_49 : decode cX2_firstFrom 49 = .ok (.isub, 1) := dk_100 (dk_at dksX2_firstFrom_2 2 rfl rfl)
theorem dX2_firstFrom_50 : decode cX2_firstFrom 50 = .ok (.iaload, 1) := dk_46 (dk_at dksX2_firstFrom_2 3 rfl rfl)
theorem dX2_firstFrom_51 : decode cX2_firstFrom 51 = .ok (.ior, 1) := dk_128 (dk_at dksX2_firstFrom_2 4 rfl rfl)
theorem dX2_firstFrom_52 : decode cX2_firstFrom 52 = .ok (.istore_n 3, 1) := dk_62 (dk_at dksX2_firstFrom_2 5 rfl rfl)
theorem dX2_firstFrom_53 : decode cX2_firstFrom 53 = .ok (.aload_n 0, 1) := dk_42 (dk_at dksX2_firstFrom_2 6 rfl rfl)
theorem dX2_firstFrom_54 : decode cX2_firstFrom 54 = .ok (.iload 5, 2) := dk_21 5 (dk_at dksX2_firstFrom_2 7 rfl rfl)
theorem dX2_firstFrom_56 : decode cX2_firstFrom 56 = .ok (.invokevirtual 202, 3) := dk_182 0 202 (dk_at dksX2_firstFrom_2 9 rfl rfl)
theorem dX2_firstFrom_59 : decode cX2_firstFrom 59 = .ok (.ifCond .ne 5, 3) := dk_154 0 5 (dk_at dksX2_firstFrom_2 12 rfl rfl)
theorem dX2_firstFrom_62 : decode cX2_firstFrom 62 = .ok (.iload_n 3, 1) := dk_29 (dk_at dksX2_firstFrom_2 15 rfl rfl)
theorem dX2_firstFrom_63 : decode cX2_firstFrom 63 = .ok (.ireturn, 1) := dk_172 (dk_at dksX2_firstFrom_2 16 rfl rfl)
theorem dX2_firstFrom_64 : decode cX2_firstFrom 64 = .ok (.iinc 4 1, 3) := dk_132 4 1 (dk_at dksX2_firstFrom_2 17 rfl rfl)
theorem dX2_firstFrom_67 : decode cX2_firstFrom 67 = .ok (.goto (-62), 3) := dk_167 255 194 (dk_at dksX2_firstFrom_2 20 rfl rfl)
theorem dX2_firstFrom_70 : decode cX2_firstFrom 70 = .ok (.iload_n 3, 1) := dk_29 (dk_at dksX2_firstFrom_2 23 rfl rfl)
theorem dX2_firstFrom_71 : decode cX2_firstFrom 71 = .ok (.ireturn, 1) := dk_172 (dk_at dksX2_firstFrom_3 0 rfl rfl)
abbrev cX2_addsFollow : ByteArray := prog_14_method_38_code
def yX2_addsFollow : MethodName := ⟨RX2, "addsFollow", "()Z"⟩
def dkwX2_addsFollow_4 : List UInt8 := [79, 132, 3, 1, 167, 255, 170, 132, 2, 1, 167, 255, 154, 27, 172]
abbrev dktX2_addsFollow_4 : List UInt8 := dkwX2_addsFollow_4 ++ []
def dkwX2_addsFollow_3 : List UInt8 := [42, 180, 0, 31, 21, 4, 46, 159, 0, 7, 4, 167, 0, 4, 3, 60, 42, 180, 0, 31, 21, 4, 21, 5]
abbrev dktX2_addsFollow_3 : List UInt8 := dkwX2_addsFollow_3 ++ dktX2_addsFollow_4
def dkwX2_addsFollow_2 : List UInt8 := [54, 4, 42, 180, 0, 31, 21, 4, 46, 42, 28, 29, 182, 0, 211, 128, 54, 5, 27, 154, 0, 15, 21, 5]
abbrev dktX2_addsFollow_2 : List UInt8 := dkwX2_addsFollow_2 ++ dktX2_addsFollow_3
def dkwX2_addsFollow_1 : List UInt8 := [42, 28, 29, 182, 0, 187, 184, 0, 167, 153, 0, 6, 167, 0, 61, 42, 28, 29, 182, 0, 187, 16, 20, 100]
abbrev dktX2_addsFollow_1 : List UInt8 := dkwX2_addsFollow_1 ++ dktX2_addsFollow_2
def dkwX2_addsFollow_0 : List UInt8 := [3, 60, 3, 61, 28, 42, 180, 0, 113, 162, 0, 100, 3, 62, 29, 42, 180, 0, 13, 28, 46, 162, 0, 82]
abbrev dktX2_addsFollow_0 : List UInt8 := dkwX2_addsFollow_0 ++ dktX2_addsFollow_1
theorem dksX2_addsFollow_0 : cX2_addsFollow.data.toList.drop 0 = dktX2_addsFollow_0 := by decide +kernel
theorem dksX2_addsFollow_1 : cX2_addsFollow.data.toList.drop 24 = dktX2_addsFollow_1 := dk_seg dksX2_addsFollow_0 24 rfl rfl
theorem dksX2_addsFollow_2 : cX2_addsFollow.data.toList.drop 48 = dktX2_addsFollow_2 := dk_seg dksX2_addsFollow_1 24 rfl rfl
theorem dksX2_addsFollow_3 : cX2_addsFollow.data.toList.drop 72 = dktX2_addsFollow_3 := dk_seg dksX2_addsFollow_2 24 rfl rfl
theorem dksX2_addsFollow_4 : cX2_addsFollow.data.toList.drop 96 = dktX2_addsFollow_4 := dk_seg dksX2_addsFollow_3 24 rfl rfl
theorem dX2_addsFollow_0 : decode cX2_addsFollow 0 = .ok (.iconst 0, 1) := dk_3 (dk_at dksX2_addsFollow_0 0 rfl rfl)
theorem dX2_addsFollow_1 : decode cX2_addsFollow 1 = .ok (.istore_n 1, 1) := dk_60 (dk_at dksX2_addsFollow_0 1 rfl rfl)
theorem dX2_addsFollow_2 : decode cX2_addsFollow 2 = .ok (.iconst 0, 1) := dk_3 (dk_at dksX2_addsFollow_0 2 rfl rfl)
theorem dX2_addsFollow_3 : decode cX2_addsFollow 3 = .ok (.istore_n 2, 1) := dk_61 (dk_at dksX2_addsFollow_0 3 rfl rfl)
theorem dX2_addsFollow_4 : decode cX2_addsFollow 4 = .ok (.iload_n 2, 1) := dk_28 (dk_at dksX2_addsFollow_0 4 rfl rfl)
theorem dX2_addsFollow_5 : decode cX2_addsFollow 5 = .ok (.aload_n 0, 1) := dk_42 (dk_at dksX2_addsFollow_0 5 rfl rfl)
theorem dX2_addsFollow_6 : decode cX2_addsFollow 6 = .ok (.getfield 113, 3) := dk_180 0 113 (dk_at dksX2_addsFollow_0 6 rfl rfl)
theorem dX2_addsFollow_9 : decode cX2_addsFollow 9 = .ok (.if_icmp .ge 100, 3) := dk_162 0 100 (dk_at dksX2_addsFollow_0 9 rfl rfl)
theorem dX2_addsFollow_12 : decode cX2_addsFollow 12 = .ok (.iconst 0, 1) := dk_3 (dk_at dksX2_addsFollow_0 12 rfl rfl)
theorem dX2_addsFollow_13 : decode cX2_addsFollow 13 = .ok (.istore_n 3, 1) := dk_62 (dk_at dksX2_addsFollow_0 13 rfl rfl)
theorem dX2_addsFollow_14 : decode cX2_addsFollow 14 = .ok (.iload_n 3, 1) := dk_29 (dk_at dksX2_addsFollow_0 14 rfl rfl)
theorem dX2_addsFollow_15 : decode cX2_addsFollow 15 = .ok (.aload_n 0, 1) := dk_42 (dk_at dksX2_addsFollow_0 15 rfl rfl)
theorem dX2_addsFollow_16 : decode cX2_addsFollow 16 = .ok (.getfield 13, 3) := dk_180 0 13 (dk_at dksX2_addsFollow_0 16 rfl rfl)
theorem dX2_addsFollow_19 : decode cX2_addsFollow 19 = .ok (.iload_n 2, 1) := dk_28 (dk_at dksX2_addsFollow_0 19 rfl rfl)
theorem dX2_addsFollow_20 : decode cX2_addsFollow 20 = .ok (.iaload, 1) := dk_46 (dk_at dksX2_addsFollow_0 20 rfl rfl)
theorem dX2_addsFollow_21 : decode cX2_addsFollow 21 = .ok (.if_icmp .ge 82, 3) := dk_162 0 82 (dk_at dksX2_addsFollow_0 21 rfl rfl)
theorem dX2_addsFollow_24 : decode cX2_addsFollow 24 = .ok (.aload_n 0, 1) := dk_42 (dk_at dksX2_addsFollow_1 0 rfl rfl)
theorem dX2_addsFollow_25 : decode cX2_addsFollow 25 = .ok (.iload_n 2, 1) := dk_28 (dk_at dksX2_addsFollow_1 1 rfl rfl)
theorem dX2_addsFollow_26 : decode cX2_addsFollow 26 = .ok (.iload_n 3, 1) := dk_29 (dk_at dksX2_addsFollow_1 2 rfl rfl)
theorem dX2_addsFollow_27 : decode cX2_addsFollow 27 = .ok (.invokevirtual 187, 3) := dk_182 0 187 (dk_at dksX2_addsFollow_1 3 rfl rfl)
theorem dX2_addsFollow_30 : decode cX2_addsFollow 30 = .ok (.invokestatic 167, 3) := dk_184 0 167 (dk_at dksX2_addsFollow_1 6 rfl rfl)
theorem dX2_addsFollow_33 : decode cX2_addsFollow 33 = .ok (.ifCond .eq 6, 3) := dk_153 0 6 (dk_at dksX2_addsFollow_1 9 rfl rfl)
theorem dX2_addsFollow_36 : decode cX2_addsFollow 36 = .ok (.goto 61, 3) := dk_167 0 61 (dk_at dksX2_addsFollow_1 12 rfl rfl)
theorem dX2_addsFollow_39 : decode cX2_addsFollow 39 = .ok (.aload_n 0, 1) := dk_42 (dk_at dksX2_addsFollow_1 15 rfl rfl)
theorem dX2_addsFollow_40 : decode cX2_addsFollow 40 = .ok (.iload_n 2, 1) := dk_28 (dk_at dksX2_addsFollow_1 16 rfl rfl)
theorem dX2_addsFollow_41 : decode cX2_addsFollow 41 = .ok (.iload_n 3, 1) := dk_29 (dk_at dksX2_addsFollow_1 17 rfl rfl)
theorem dX2_addsFollow_42 : decode cX2_addsFollow 42 = .ok (.invokevirtual 187, 3) := dk_182 0 187 (dk_at dksX2_addsFollow_1 18 rfl rfl)
theorem dX2_addsFollow_45 : decode cX2_addsFollow 45 = .ok (.bipush 20, 2) := dk_16 20 (dk_at dksX2_addsFollow_1 21 rfl rfl)
theorem dX2_addsFollow_47 : decode cX2_addsFollow 47 = .ok (.isub, 1) := dk_100 (dk_at dksX2_addsFollow_1 23 rfl rfl)
theorem dX2_addsFollow_48 : decode cX2_addsFollow 48 = .ok (.istore 4, 2) := dk_54 4 (dk_at dksX2_addsFollow_2 0 rfl rfl)
theorem dX2_addsFollow_50 : decode cX2_addsFollow 50 = .ok (.aload_n 0, 1) := dk_42 (dk_at dksX2_addsFollow_2 2 rfl rfl)
theorem dX2_addsFollow_51 : decode cX2_addsFollow 51 = .ok (.getfield 31, 3) := dk_180 0 31 (dk_at dksX2_addsFollow_2 3 rfl rfl)
theorem dX2_addsFollow_54 : decode cX2_addsFollow 54 = .ok (.iload 4, 2) := dk_21 4 (dk_at dksX2_addsFollow_2 6 rfl rfl)
theorem dX2_addsFollow_56 : decode cX2_addsFollow 56 = .ok (.iaload, 1) := dk_46 (dk_at dksX2_addsFollow_2 8 rfl rfl)
theorem dX2_addsFollow_57 : decode cX2_addsFollow 57 = .ok (.aload_n 0, 1) := dk_42 (dk_at dksX2_addsFollow_2 9 rfl rfl)
theorem dX2_addsFollow_58 : decode cX2_addsFollow 58 = .ok (.iload_n 2, 1) := dk_28 (dk_at dksX2_addsFollow_2 10 rfl rfl)
theorem dX2_addsFollow_59 : decode cX2_addsFollow 59 = .ok (.iload_n 3, 1) := dk_29 (dk_at dksX2_addsFollow_2 11 rfl rfl)
theorem dX2_addsFollow_60 : decode cX2_addsFollow 60 = .ok (.invokevirtual 211, 3) := dk_182 0 211 (dk_at dksX2_addsFollow_2 12 rfl rfl)
theorem dX2_addsFollow_63 : decode cX2_addsFollow 63 = .ok (.ior, 1) := dk_128 (dk_at dksX2_addsFollow_2 15 rfl rfl)
theorem dX2_addsFollow_64 : decode cX2_addsFollow 64 = .ok (.istore 5, 2) := dk_54 5 (dk_at dksX2_addsFollow_2 16 rfl rfl)
theorem dX2_addsFollow_66 : decode cX2_addsFollow 66 = .ok (.iload_n 1, 1) := dk_27 (dk_at dksX2_addsFollow_2 18 rfl rfl)
theorem dX2_addsFollow_67 : decode cX2_addsFollow 67 = .ok (.ifCond .ne 15, 3) := dk_154 0 15 (dk_at dksX2_addsFollow_2 19 rfl rfl)
theorem dX2_addsFollow_70 : decode cX2_addsFollow 70 = .ok (.iload 5, 2) := dk_21 5 (dk_at dksX2_addsFollow_2 22 rfl rfl)
theorem dX2_addsFollow_72 : decode cX2_addsFollow 72 = .ok (.aload_n 0, 1) := dk_42 (dk_at dksX2_addsFollow_3 0 rfl rfl)
theorem dX2_addsFollow_73 : decode cX2_addsFollow 73 = .ok (.getfield 31, 3) := dk_180 0 31 (dk_at dksX2_addsFollow_3 1 rfl rfl)
theorem dX2_addsFollow_76 : decode cX2_addsFollow 76 = .ok (.iload 4, 2) := dk_21 4 (dk_at dksX2_addsFollow_3 4 rfl rfl)
theorem dX2_addsFollow_78 : decode cX2_addsFollow 78 = .ok (.iaload, 1) := dk_46 (dk_at dksX2_addsFollow_3 6 rfl rfl)
theorem dX2_addsFollow_79 : decode cX2_addsFollow 79 = .ok (.if_icmp .eq 7, 3) := dk_159 0 7 (dk_at dksX2_addsFollow_3 7 rfl rfl)
theorem dX2_addsFollow_82 : decode cX2_addsFollow 82 = .ok (.iconst 1, 1) := dk_4 (dk_at dksX2_addsFollow_3 10 rfl rfl)
theorem dX2_addsFollow_83 : decode cX2_addsFollow 83 = .ok (.goto 4, 3) := dk_167 0 4 (dk_at dksX2_addsFollow_3 11 rfl rfl)
theorem dX2_addsFollow_86 : decode cX2_addsFollow 86 = .ok (.iconst 0, 1) := dk_3 (dk_at dksX2_addsFollow_3 14 rfl rfl)
theorem dX2_addsFollow_87 : decode cX2_addsFollow 87 = .ok (.istore_n 1, 1) := dk_60 (dk_at dksX2_addsFollow_3 15 rfl rfl)
theorem dX2_addsFollow_88 : decode cX2_addsFollow 88 = .ok (.aload_n 0, 1) := dk_42 (dk_at dksX2_addsFollow_3 16 rfl rfl)
theorem dX2_addsFollow_89 : decode cX2_addsFollow 89 = .ok (.getfield 31, 3) := dk_180 0 31 (dk_at dksX2_addsFollow_3 17 rfl rfl)
theorem dX2_addsFollow_92 : decode cX2_addsFollow 92 = .ok (.iload 4, 2) := dk_21 4 (dk_at dksX2_addsFollow_3 20 rfl rfl)
theorem dX2_addsFollow_94 : decode cX2_addsFollow 94 = .ok (.iload 5, 2) := dk_21 5 (dk_at dksX2_addsFollow_3 22 rfl rfl)
theorem dX2_addsFollow_96 : decode cX2_addsFollow 96 = .ok (.iastore, 1) := dk_79 (dk_at dksX2_addsFollow_4 0 rfl rfl)
theorem dX2_addsFollow_97 : decode cX2_addsFollow 97 = .ok (.iinc 3 1, 3) := dk_132 3 1 (dk_at dksX2_addsFollow_4 1 rfl rfl)
theorem dX2_addsFollow_100 : decode cX2_addsFollow 100 = .ok (.goto (-86), 3) := dk_167 255 170 (dk_at dksX2_addsFollow_4 4 rfl rfl)
theorem dX2_addsFollow_103 : decode cX2_addsFollow 103 = .ok (.iinc 2 1, 3) := dk_132 2 1 (dk_at dksX2_addsFollow_4 7 rfl rfl)
theorem dX2_addsFollow_106 : decode cX2_addsFollow 106 = .ok (.goto (-102), 3) := dk_167 255 154 (dk_at dksX2_addsFollow_4 10 rfl rfl)
theorem dX2_addsFollow_109 : decode cX2_addsFollow 109 = .ok (.iload_n 1, 1) := dk_27 (dk_at dksX2_addsFollow_4 13 rfl rfl)
theorem dX2_addsFollow_110 : decode cX2_addsFollow 110 = .ok (.ireturn, 1) := dk_172 (dk_at dksX2_addsFollow_4 14 rfl rfl)
abbrev cX2_followBy : ByteArray := prog_14_method_37_code
def yX2_followBy : MethodName := ⟨RX2, "followBy", "(II)I"⟩
def dkwX2_followBy_1 : List UInt8 := [180, 0, 7, 27, 46, 16, 20, 100, 46, 167, 0, 4, 3, 128, 172]
abbrev dktX2_followBy_1 : List UInt8 := dkwX2_followBy_1 ++ []
def dkwX2_followBy_0 : List UInt8 := [42, 27, 28, 4, 96, 182, 0, 205, 42, 27, 28, 4, 96, 182, 0, 208, 153, 0, 20, 42, 180, 0, 31, 42]
abbrev dktX2_followBy_0 : List UInt8 := dkwX2_followBy_0 ++ dktX2_followBy_1
theorem dksX2_followBy_0 : cX2_followBy.data.toList.drop 0 = dktX2_followBy_0 := by decide +kernel
theorem dksX2_followBy_1 : cX2_followBy.data.toList.drop 24 = dktX2_followBy_1 := dk_seg dksX2_followBy_0 24 rfl rfl
theorem dX2_followBy_0 : decode cX2_followBy 0 = .ok (.aload_n 0, 1) := dk_42 (dk_at dksX2_followBy_0 0 rfl rfl)
theorem dX2_followBy_1 : decode cX2_followBy 1 = .ok (.iload_n 1, 1) := dk_27 (dk_at dksX2_followBy_0 1 rfl rfl)
theorem dX2_followBy_2 : decode cX2_followBy 2 = .ok (.iload_n 2, 1) := dk_28 (dk_at dksX2_followBy_0 2 rfl rfl)
theorem dX2_followBy_3 : decode cX2_followBy 3 = .ok (.iconst 1, 1) := dk_4 (dk_at dksX2_followBy_0 3 rfl rfl)
theorem dX2_followBy_4 : decode cX2_followBy 4 = .ok (.iadd, 1) := dk_96 (dk_at dksX2_followBy_0 4 rfl rfl)
theorem dX2_followBy_5 : decode cX2_followBy 5 = .ok (.invokevirtual 205, 3) := dk_182 0 205 (dk_at dksX2_followBy_0 5 rfl rfl)
theorem dX2_followBy_8 : decode cX2_followBy 8 = .ok (.aload_n 0, 1) := dk_42 (dk_at dksX2_followBy_0 8 rfl rfl)
theorem dX2_followBy_9 : decode cX2_followBy 9 = .ok (.iload_n 1, 1) := dk_27 (dk_at dksX2_followBy_0 9 rfl rfl)
theorem dX2_followBy_10 : decode cX2_followBy 10 = .ok (.iload_n 2, 1) := dk_28 (dk_at dksX2_followBy_0 10 rfl rfl)
theorem dX2_followBy_11 : decode cX2_followBy 11 = .ok (.iconst 1, 1) := dk_4 (dk_at dksX2_followBy_0 11 rfl rfl)
theorem dX2_followBy_12 : decode cX2_followBy 12 = .ok (.iadd, 1) := dk_96 (dk_at dksX2_followBy_0 12 rfl rfl)
theorem dX2_followBy_13 : decode cX2_followBy 13 = .ok (.invokevirtual 208, 3) := dk_182 0 208 (dk_at dksX2_followBy_0 13 rfl rfl)
theorem dX2_followBy_16 : decode cX2_followBy 16 = .ok (.ifCond .eq 20, 3) := dk_153 0 20 (dk_at dksX2_followBy_0 16 rfl rfl)
theorem dX2_followBy_19 : decode cX2_followBy 19 = .ok (.aload_n 0, 1) := dk_42 (dk_at dksX2_followBy_0 19 rfl rfl)
theorem dX2_followBy_20 : decode cX2_followBy 20 = .ok (.getfield 31, 3) := dk_180 0 31 (dk_at dksX2_followBy_0 20 rfl rfl)
theorem dX2_followBy_23 : decode cX2_followBy 23 = .ok (.aload_n 0, 1) := dk_42 (dk_at dksX2_followBy_0 23 rfl rfl)
theorem dX2_followBy_24 : decode cX2_followBy 24 = .ok (.getfield 7, 3) := dk_180 0 7 (dk_at dksX2_followBy_1 0 rfl rfl)
theorem dX2_followBy_27 : decode cX2_followBy 27 = .ok (.iload_n 1, 1) := dk_27 (dk_at dksX2_followBy_1 3 rfl rfl)
theorem dX2_followBy_28 : decode cX2_followBy 28 = .ok (.iaload, 1) := dk_46 (dk_at dksX2_followBy_1 4 rfl rfl)
theorem dX2_followBy_29 : decode cX2_followBy 29 = .ok (.bipush 20, 2) := dk_16 20 (dk_at dksX2_followBy_1 5 rfl rfl)
theorem dX2_followBy_31 : decode cX2_followBy 31 = .ok (.isub, 1) := dk_100 (dk_at dksX2_followBy_1 7 rfl rfl)
theorem dX2_followBy_32 : decode cX2_followBy 32 = .ok (.iaload, 1) := dk_46 (dk_at dksX2_followBy_1 8 rfl rfl)
theorem dX2_followBy_33 : decode cX2_followBy 33 = .ok (.goto 4, 3) := dk_167 0 4 (dk_at dksX2_followBy_1 9 rfl rfl)
theorem dX2_followBy_36 : decode cX2_followBy 36 = .ok (.iconst 0, 1) := dk_3 (dk_at dksX2_followBy_1 12 rfl rfl)
theorem dX2_followBy_37 : decode cX2_followBy 37 = .ok (.ior, 1) := dk_128 (dk_at dksX2_followBy_1 13 rfl rfl)
theorem dX2_followBy_38 : decode cX2_followBy 38 = .ok (.ireturn, 1) := dk_172 (dk_at dksX2_followBy_1 14 rfl rfl)
abbrev cX2_firstOf : ByteArray := prog_14_method_42_code
def yX2_firstOf : MethodName := ⟨RX2, "firstOf", "(I)I"⟩
def dkwX2_firstOf_1 : List UInt8 := [100, 46, 172]
abbrev dktX2_firstOf_1 : List UInt8 := dkwX2_firstOf_1 ++ []
def dkwX2_firstOf_0 : List UInt8 := [42, 27, 184, 0, 149, 182, 0, 177, 154, 0, 5, 3, 172, 42, 182, 0, 227, 42, 180, 0, 28, 27, 16, 20]
abbrev dktX2_firstOf_0 : List UInt8 := dkwX2_firstOf_0 ++ dktX2_firstOf_1
theorem dksX2_firstOf_0 : cX2_firstOf.data.toList.drop 0 = dktX2_firstOf_0 := by decide +kernel
theorem dksX2_firstOf_1 : cX2_firstOf.data.toList.drop 24 = dktX2_firstOf_1 := dk_seg dksX2_firstOf_0 24 rfl rfl
theorem dX2_firstOf_0 : decode cX2_firstOf 0 = .ok (.aload_n 0, 1) := dk_42 (dk_at dksX2_firstOf_0 0 rfl rfl)
theorem dX2_firstOf_1 : decode cX2_firstOf 1 = .ok (.iload_n 1, 1) := dk_27 (dk_at dksX2_firstOf_0 1 rfl rfl)
theorem dX2_firstOf_2 : decode cX2_firstOf 2 = .ok (.invokestatic 149, 3) := dk_184 0 149 (dk_at dksX2_firstOf_0 2 rfl rfl)
theorem dX2_firstOf_5 : decode cX2_firstOf 5 = .ok (.invokevirtual 177, 3) := dk_182 0 177 (dk_at dksX2_firstOf_0 5 rfl rfl)
theorem dX2_firstOf_8 : decode cX2_firstOf 8 = .ok (.ifCond .ne 5, 3) := dk_154 0 5 (dk_at dksX2_firstOf_0 8 rfl rfl)
theorem dX2_firstOf_11 : decode cX2_firstOf 11 = .ok (.iconst 0, 1) := dk_3 (dk_at dksX2_firstOf_0 11 rfl rfl)
theorem dX2_firstOf_12 : decode cX2_firstOf 12 = .ok (.ireturn, 1) := dk_172 (dk_at dksX2_firstOf_0 12 rfl rfl)
theorem dX2_firstOf_13 : decode cX2_firstOf 13 = .ok (.aload_n 0, 1) := dk_42 (dk_at dksX2_firstOf_0 13 rfl rfl)
theorem dX2_firstOf_14 : decode cX2_firstOf 14 = .ok (.invokevirtual 227, 3) := dk_182 0 227 (dk_at dksX2_firstOf_0 14 rfl rfl)
theorem dX2_firstOf_17 : decode cX2_firstOf 17 = .ok (.aload_n 0, 1) := dk_42 (dk_at dksX2_firstOf_0 17 rfl rfl)
theorem dX2_firstOf_18 : decode cX2_firstOf 18 = .ok (.getfield 28, 3) := dk_180 0 28 (dk_at dksX2_firstOf_0 18 rfl rfl)
theorem dX2_firstOf_21 : decode cX2_firstOf 21 = .ok (.iload_n 1, 1) := dk_27 (dk_at dksX2_firstOf_0 21 rfl rfl)
theorem dX2_firstOf_22 : decode cX2_firstOf 22 = .ok (.bipush 20, 2) := dk_16 20 (dk_at dksX2_firstOf_0 22 rfl rfl)
theorem dX2_firstOf_24 : decode cX2_firstOf 24 = .ok (.isub, 1) := dk_100 (dk_at dksX2_firstOf_1 0 rfl rfl)
theorem dX2_firstOf_25 : decode cX2_firstOf 25 = .ok (.iaload, 1) := dk_46 (dk_at dksX2_firstOf_1 1 rfl rfl)
theorem dX2_firstOf_26 : decode cX2_firstOf 26 = .ok (.ireturn, 1) := dk_172 (dk_at dksX2_firstOf_1 2 rfl rfl)
abbrev cX2_followOf : ByteArray := prog_14_method_43_code
def yX2_followOf : MethodName := ⟨RX2, "followOf", "(I)I"⟩
def dkwX2_followOf_1 : List UInt8 := [100, 46, 172]
abbrev dktX2_followOf_1 : List UInt8 := dkwX2_followOf_1 ++ []
def dkwX2_followOf_0 : List UInt8 := [42, 27, 184, 0, 149, 182, 0, 177, 154, 0, 5, 3, 172, 42, 182, 0, 227, 42, 180, 0, 31, 27, 16, 20]
abbrev dktX2_followOf_0 : List UInt8 := dkwX2_followOf_0 ++ dktX2_followOf_1
theorem dksX2_followOf_0 : cX2_followOf.data.toList.drop 0 = dktX2_followOf_0 := by decide +kernel
theorem dksX2_followOf_1 : cX2_followOf.data.toList.drop 24 = dktX2_followOf_1 := dk_seg dksX2_followOf_0 24 rfl rfl
theorem dX2_followOf_0 : decode cX2_followOf 0 = .ok (.aload_n 0, 1) := dk_42 (dk_at dksX2_followOf_0 0 rfl rfl)
theorem dX2_followOf_1 : decode cX2_followOf 1 = .ok (.iload_n 1, 1) := dk_27 (dk_at dksX2_followOf_0 1 rfl rfl)
theorem dX2_followOf_2 : decode cX2_followOf 2 = .ok (.invokestatic 149, 3) := dk_184 0 149 (dk_at dksX2_followOf_0 2 rfl rfl)
theorem dX2_followOf_5 : decode cX2_followOf 5 = .ok (.invokevirtual 177, 3) := dk_182 0 177 (dk_at dksX2_followOf_0 5 rfl rfl)
theorem dX2_followOf_8 : decode cX2_followOf 8 = .ok (.ifCond .ne 5, 3) := dk_154 0 5 (dk_at dksX2_followOf_0 8 rfl rfl)
theorem dX2_followOf_11 : decode cX2_followOf 11 = .ok (.iconst 0, 1) := dk_3 (dk_at dksX2_followOf_0 11 rfl rfl)
theorem dX2_followOf_12 : decode cX2_followOf 12 = .ok (.ireturn, 1) := dk_172 (dk_at dksX2_followOf_0 12 rfl rfl)
theorem dX2_followOf_13 : decode cX2_followOf 13 = .ok (.aload_n 0, 1) := dk_42 (dk_at dksX2_followOf_0 13 rfl rfl)
theorem dX2_followOf_14 : decode cX2_followOf 14 = .ok (.invokevirtual 227, 3) := dk_182 0 227 (dk_at dksX2_followOf_0 14 rfl rfl)
theorem dX2_followOf_17 : decode cX2_followOf 17 = .ok (.aload_n 0, 1) := dk_42 (dk_at dksX2_followOf_0 17 rfl rfl)
theorem dX2_followOf_18 : decode cX2_followOf 18 = .ok (.getfield 31, 3) := dk_180 0 31 (dk_at dksX2_followOf_0 18 rfl rfl)
theorem dX2_followOf_21 : decode cX2_followOf 21 = .ok (.iload_n 1, 1) := dk_27 (dk_at dksX2_followOf_0 21 rfl rfl)
theorem dX2_followOf_22 : decode cX2_followOf 22 = .ok (.bipush 20, 2) := dk_16 20 (dk_at dksX2_followOf_0 22 rfl rfl)
theorem dX2_followOf_24 : decode cX2_followOf 24 = .ok (.isub, 1) := dk_100 (dk_at dksX2_followOf_1 0 rfl rfl)
theorem dX2_followOf_25 : decode cX2_followOf 25 = .ok (.iaload, 1) := dk_46 (dk_at dksX2_followOf_1 1 rfl rfl)
theorem dX2_followOf_26 : decode cX2_followOf 26 = .ok (.ireturn, 1) := dk_172 (dk_at dksX2_followOf_1 2 rfl rfl)
abbrev cX2_firstRounds : ByteArray := prog_14_method_44_code
def yX2_firstRounds : MethodName := ⟨RX2, "firstRounds", "()I"⟩
def dkwX2_firstRounds_0 : List UInt8 := [42, 182, 0, 227, 42, 42, 180, 0, 218, 182, 0, 184, 172]
abbrev dktX2_firstRounds_0 : List UInt8 := dkwX2_firstRounds_0 ++ []
theorem dksX2_firstRounds_0 : cX2_firstRounds.data.toList.drop 0 = dktX2_firstRounds_0 := by decide +kernel
theorem dX2_firstRounds_0 : decode cX2_firstRounds 0 = .ok (.aload_n 0, 1) := dk_42 (dk_at dksX2_firstRounds_0 0 rfl rfl)
theorem dX2_firstRounds_1 : decode cX2_firstRounds 1 = .ok (.invokevirtual 227, 3) := dk_182 0 227 (dk_at dksX2_firstRounds_0 1 rfl rfl)
theorem dX2_firstRounds_4 : decode cX2_firstRounds 4 = .ok (.aload_n 0, 1) := dk_42 (dk_at dksX2_firstRounds_0 4 rfl rfl)
theorem dX2_firstRounds_5 : decode cX2_firstRounds 5 = .ok (.aload_n 0, 1) := dk_42 (dk_at dksX2_firstRounds_0 5 rfl rfl)
theorem dX2_firstRounds_6 : decode cX2_firstRounds 6 = .ok (.getfield 218, 3) := dk_180 0 218 (dk_at dksX2_firstRounds_0 6 rfl rfl)
theorem dX2_firstRounds_9 : decode cX2_firstRounds 9 = .ok (.invokevirtual 184, 3) := dk_182 0 184 (dk_at dksX2_firstRounds_0 9 rfl rfl)
theorem dX2_firstRounds_12 : decode cX2_firstRounds 12 = .ok (.ireturn, 1) := dk_172 (dk_at dksX2_firstRounds_0 12 rfl rfl)
abbrev cX2_shortestOf : ByteArray := prog_14_method_46_code
def yX2_shortestOf : MethodName := ⟨RX2, "shortestOf", "(I)I"⟩
def dkwX2_shortestOf_5 : List UInt8 := [167, 255, 184, 167, 255, 173, 42, 180, 0, 34, 27, 16, 20, 100, 46, 172]
abbrev dktX2_shortestOf_5 : List UInt8 := dkwX2_shortestOf_5 ++ []
def dkwX2_shortestOf_4 : List UInt8 := [21, 4, 163, 0, 6, 167, 0, 14, 42, 180, 0, 34, 21, 5, 21, 4, 79, 4, 61, 132, 3, 1]
abbrev dktX2_shortestOf_4 : List UInt8 := dkwX2_shortestOf_4 ++ dktX2_shortestOf_5
def dkwX2_shortestOf_3 : List UInt8 := [21, 4, 2, 159, 0, 40, 42, 180, 0, 34, 21, 5, 46, 2, 159, 0, 18, 42, 180, 0, 34, 21, 5, 46]
abbrev dktX2_shortestOf_3 : List UInt8 := dkwX2_shortestOf_3 ++ dktX2_shortestOf_4
def dkwX2_shortestOf_2 : List UInt8 := [180, 0, 113, 162, 0, 70, 42, 29, 182, 0, 231, 54, 4, 42, 180, 0, 7, 29, 46, 16, 20, 100, 54, 5]
abbrev dktX2_shortestOf_2 : List UInt8 := dkwX2_shortestOf_2 ++ dktX2_shortestOf_3
def dkwX2_shortestOf_1 : List UInt8 := [180, 0, 34, 28, 2, 79, 132, 2, 1, 167, 255, 240, 4, 61, 28, 153, 0, 85, 3, 61, 3, 62, 29, 42]
abbrev dktX2_shortestOf_1 : List UInt8 := dkwX2_shortestOf_1 ++ dktX2_shortestOf_2
def dkwX2_shortestOf_0 : List UInt8 := [42, 27, 184, 0, 149, 182, 0, 177, 154, 0, 5, 3, 172, 3, 61, 28, 16, 12, 162, 0, 16, 42]
abbrev dktX2_shortestOf_0 : List UInt8 := dkwX2_shortestOf_0 ++ dktX2_shortestOf_1
theorem dksX2_shortestOf_0 : cX2_shortestOf.data.toList.drop 0 = dktX2_shortestOf_0 := by decide +kernel
theorem dksX2_shortestOf_1 : cX2_shortestOf.data.toList.drop 22 = dktX2_shortestOf_1 := dk_seg dksX2_shortestOf_0 22 rfl rfl
theorem dksX2_shortestOf_2 : cX2_shortestOf.data.toList.drop 46 = dktX2_shortestOf_2 := dk_seg dksX2_shortestOf_1 24 rfl rfl
theorem dksX2_shortestOf_3 : cX2_shortestOf.data.toList.drop 70 = dktX2_shortestOf_3 := dk_seg dksX2_shortestOf_2 24 rfl rfl
theorem dksX2_shortestOf_4 : cX2_shortestOf.data.toList.drop 94 = dktX2_shortestOf_4 := dk_seg dksX2_shortestOf_3 24 rfl rfl
theorem dksX2_shortestOf_5 : cX2_shortestOf.data.toList.drop 116 = dktX2_shortestOf_5 := dk_seg dksX2_shortestOf_4 22 rfl rfl
theorem dX2_shortestOf_0 : decode cX2_shortestOf 0 = .ok (.aload_n 0, 1) := dk_42 (dk_at dksX2_shortestOf_0 0 rfl rfl)
theorem dX2_shortestOf_1 : decode cX2_shortestOf 1 = .ok (.iload_n 1, 1) := dk_27 (dk_at dksX2_shortestOf_0 1 rfl rfl)
theorem dX2_shortestOf_2 : decode cX2_shortestOf 2 = .ok (.invokestatic 149, 3) := dk_184 0 149 (dk_at dksX2_shortestOf_0 2 rfl rfl)
theorem dX2_shortestOf_5 : decode cX2_shortestOf 5 = .ok (.invokevirtual 177, 3) := dk_182 0 177 (dk_at dksX2_shortestOf_0 5 rfl rfl)
theorem dX2_shortestOf_8 : decode cX2_shortestOf 8 = .ok (.ifCond .ne 5, 3) := dk_154 0 5 (dk_at dksX2_shortestOf_0 8 rfl rfl)
theorem dX2_shortestOf_11 : decode cX2_shortestOf 11 = .ok (.iconst 0, 1) := dk_3 (dk_at dksX2_shortestOf_0 11 rfl rfl)
theorem dX2_shortestOf_12 : decode cX2_shortestOf 12 = .ok (.ireturn, 1) := dk_172 (dk_at dksX2_shortestOf_0 12 rfl rfl)
theorem dX2_shortestOf_13 : decode cX2_shortestOf 13 = .ok (.iconst 0, 1) := dk_3 (dk_at dksX2_shortestOf_0 13 rfl rfl)
theorem dX2_shortestOf_14 : decode cX2_shortestOf 14 = .ok (.istore_n 2, 1) := dk_61 (dk_at dksX2_shortestOf_0 14 rfl rfl)
theorem dX2_shortestOf_15 : decode cX2_shortestOf 15 = .ok (.iload_n 2, 1) := dk_28 (dk_at dksX2_shortestOf_0 15 rfl rfl)
theorem dX2_shortestOf_16 : decode cX2_shortestOf 16 = .ok (.bipush 12, 2) := dk_16 12 (dk_at dksX2_shortestOf_0 16 rfl rfl)
theorem dX2_shortestOf_18 : decode cX2_shortestOf 18 = .ok (.if_icmp .ge 16, 3) := dk_162 0 16 (dk_at dksX2_shortestOf_0 18 rfl rfl)
theorem dX2_shortestOf_21 : decode cX2_shortestOf 21 = .ok (.aload_n 0, 1) := dk_42 (dk_at dksX2_shortestOf_0 21 rfl rfl)
theorem dX2_shortestOf_22 : decode cX2_shortestOf 22 = .ok (.getfield 34, 3) := dk_180 0 34 (dk_at dksX2_shortestOf_1 0 rfl rfl)
theorem dX2_shortestOf_25 : decode cX2_shortestOf 25 = .ok (.iload_n 2, 1) := dk_28 (dk_at dksX2_shortestOf_1 3 rfl rfl)
theorem dX2_shortestOf_26 : decode cX2_shortestOf 26 = .ok (.iconst (-1), 1) := dk_2 (dk_at dksX2_shortestOf_1 4 rfl rfl)
theorem dX2_shortestOf_27 : decode cX2_shortestOf 27 = .ok (.iastore, 1) := dk_79 (dk_at dksX2_shortestOf_1 5 rfl rfl)
theorem dX2_shortestOf_28 : decode cX2_shortestOf 28 = .ok (.iinc 2 1, 3) := dk_132 2 1 (dk_at dksX2_shortestOf_1 6 rfl rfl)
theorem dX2_shortestOf_31 : decode cX2_shortestOf 31 = .ok (.goto (-16), 3) := dk_167 255 240 (dk_at dksX2_shortestOf_1 9 rfl rfl)
theorem dX2_shortestOf_34 : decode cX2_shortestOf 34 = .ok (.iconst 1, 1) := dk_4 (dk_at dksX2_shortestOf_1 12 rfl rfl)
theorem dX2_shortestOf_35 : decode cX2_shortestOf 35 = .ok (.istore_n 2, 1) := dk_61 (dk_at dksX2_shortestOf_1 13 rfl rfl)
theorem dX2_shortestOf_36 : decode cX2_shortestOf 36 = .ok (.iload_n 2, 1) := dk_28 (dk_at dksX2_shortestOf_1 14 rfl rfl)
theorem dX2_shortestOf_37 : decode cX2_shortestOf 37 = .ok (.ifCond .eq 85, 3) := dk_153 0 85 (dk_at dksX2_shortestOf_1 15 rfl rfl)
theorem dX2_shortestOf_40 : decode cX2_shortestOf 40 = .ok (.iconst 0, 1) := dk_3 (dk_at dksX2_shortestOf_1 18 rfl rfl)
theorem dX2_shortestOf_41 : decode cX2_shortestOf 41 = .ok (.istore_n 2, 1) := dk_61 (dk_at dksX2_shortestOf_1 19 rfl rfl)
theorem dX2_shortestOf_42 : decode cX2_shortestOf 42 = .ok (.iconst 0, 1) := dk_3 (dk_at dksX2_shortestOf_1 20 rfl rfl)
theorem dX2_shortestOf_43 : decode cX2_shortestOf 43 = .ok (.istore_n 3, 1) := dk_62 (dk_at dksX2_shortestOf_1 21 rfl rfl)
theorem dX2_shortestOf_44 : decode cX2_shortestOf 44 = .ok (.iload_n 3, 1) := dk_29 (dk_at dksX2_shortestOf_1 22 rfl rfl)
theorem dX2_shortestOf_45 : decode cX2_shortestOf 45 = .ok (.aload_n 0, 1) := dk_42 (dk_at dksX2_shortestOf_1 23 rfl rfl)
theorem dX2_shortestOf_46 : decode cX2_shortestOf 46 = .ok (.getfield 113, 3) := dk_180 0 113 (dk_at dksX2_shortestOf_2 0 rfl rfl)
theorem dX2_shortestOf_49 : decode cX2_shortestOf 49 = .ok (.if_icmp .ge 70, 3) := dk_162 0 70 (dk_at dksX2_shortestOf_2 3 rfl rfl)
theorem dX2_shortestOf_52 : decode cX2_shortestOf 52 = .ok (.aload_n 0, 1) := dk_42 (dk_at dksX2_shortestOf_2 6 rfl rfl)
theorem dX2_shortestOf_53 : decode cX2_shortestOf 53 = .ok (.iload_n 3, 1) := dk_29 (dk_at dksX2_shortestOf_2 7 rfl rfl)
theorem dX2_shortestOf_54 : decode cX2_shortestOf 54 = .ok (.invokevirtual 231, 3) := dk_182 0 231 (dk_at dksX2_shortestOf_2 8 rfl rfl)
theorem dX2_shortestOf_57 : decode cX2_shortestOf 57 = .ok (.istore 4, 2) := dk_54 4 (dk_at dksX2_shortestOf_2 11 rfl rfl)
theorem dX2_shortestOf_59 : decode cX2_shortestOf 59 = .ok (.aload_n 0, 1) := dk_42 (dk_at dksX2_shortestOf_2 13 rfl rfl)
theorem dX2_shortestOf_60 : decode cX2_shortestOf 60 = .ok (.getfield 7, 3) := dk_180 0 7 (dk_at dksX2_shortestOf_2 14 rfl rfl)
theorem dX2_shortestOf_63 : decode cX2_shortestOf 63 = .ok (.iload_n 3, 1) := dk_29 (dk_at dksX2_shortestOf_2 17 rfl rfl)
theorem dX2_shortestOf_64 : decode cX2_shortestOf 64 = .ok (.iaload, 1) := dk_46 (dk_at dksX2_shortestOf_2 18 rfl rfl)
theorem dX2_shortestOf_65 : decode cX2_shortestOf 65 = .ok (.bipush 20, 2) := dk_16 20 (dk_at dksX2_shortestOf_2 19 rfl rfl)
theorem dX2_shortestOf_67 : decode cX2_shortestOf 67 = .ok (.isub, 1) := dk_100 (dk_at dksX2_shortestOf_2 21 rfl rfl)
theorem dX2_shortestOf_68 : decode cX2_shortestOf 68 = .ok (.istore 5, 2) := dk_54 5 (dk_at dksX2_shortestOf_2 22 rfl rfl)
theorem dX2_shortestOf_70 : decode cX2_shortestOf 70 = .ok (.iload 4, 2) := dk_21 4 (dk_at dksX2_shortestOf_3 0 rfl rfl)
theorem dX2_shortestOf_72 : decode cX2_shortestOf 72 = .ok (.iconst (-1), 1) := dk_2 (dk_at dksX2_shortestOf_3 2 rfl rfl)
theorem dX2_shortestOf_73 : decode cX2_shortestOf 73 = .ok (.if_icmp .eq 40, 3) := dk_159 0 40 (dk_at dksX2_shortestOf_3 3 rfl rfl)
theorem dX2_shortestOf_76 : decode cX2_shortestOf 76 = .ok (.aload_n 0, 1) := dk_42 (dk_at dksX2_shortestOf_3 6 rfl rfl)
theorem dX2_shortestOf_77 : decode cX2_shortestOf 77 = .ok (.getfield 34, 3) := dk_180 0 34 (dk_at dksX2_shortestOf_3 7 rfl rfl)
theorem dX2_shortestOf_80 : decode cX2_shortestOf 80 = .ok (.iload 5, 2) := dk_21 5 (dk_at dksX2_shortestOf_3 10 rfl rfl)
theorem dX2_shortestOf_82 : decode cX2_shortestOf 82 = .ok (.iaload, 1) := dk_46 (dk_at dksX2_shortestOf_3 12 rfl rfl)
theorem dX2_shortestOf_83 : decode cX2_shortestOf 83 = .ok (.iconst (-1), 1) := dk_2 (dk_at dksX2_shortestOf_3 13 rfl rfl)
theorem dX2_shortestOf_84 : decode cX2_shortestOf 84 = .ok (.if_icmp .eq 18, 3) := dk_159 0 18 (dk_at dksX2_shortestOf_3 14 rfl rfl)
theorem dX2_shortestOf_87 : decode cX2_shortestOf 87 = .ok (.aload_n 0, 1) := dk_42 (dk_at dksX2_shortestOf_3 17 rfl rfl)
theorem dX2_shortestOf_88 : decode cX2_shortestOf 88 = .ok (.getfield 34, 3) := dk_180 0 34 (dk_at dksX2_shortestOf_3 18 rfl rfl)
theorem dX2_shortestOf_91 : decode cX2_shortestOf 91 = .ok (.iload 5, 2) := dk_21 5 (dk_at dksX2_shortestOf_3 21 rfl rfl)
theorem dX2_shortestOf_93 : decode cX2_shortestOf 93 = .ok (.iaload, 1) := dk_46 (dk_at dksX2_shortestOf_3 23 rfl rfl)
theorem dX2_shortestOf_94 : decode cX2_shortestOf 94 = .ok (.iload 4, 2) := dk_21 4 (dk_at dksX2_shortestOf_4 0 rfl rfl)
theorem dX2_shortestOf_96 : decode cX2_shortestOf 96 = .ok (.if_icmp .gt 6, 3) := dk_163 0 6 (dk_at dksX2_shortestOf_4 2 rfl rfl)
theorem dX2_shortestOf_99 : decode cX2_shortestOf 99 = .ok (.goto 14, 3) := dk_167 0 14 (dk_at dksX2_shortestOf_4 5 rfl rfl)
theorem dX2_shortestOf_102 : decode cX2_shortestOf 102 = .ok (.aload_n 0, 1) := dk_42 (dk_at dksX2_shortestOf_4 8 rfl rfl)
theorem dX2_shortestOf_103 : decode cX2_shortestOf 103 = .ok (.getfield 34, 3) := dk_180 0 34 (dk_at dksX2_shortestOf_4 9 rfl rfl)
theorem dX2_shortestOf_106 : decode cX2_shortestOf 106 = .ok (.iload 5, 2) := dk_21 5 (dk_at dksX2_shortestOf_4 12 rfl rfl)
theorem dX2_shortestOf_108 : decode cX2_shortestOf 108 = .ok (.iload 4, 2) := dk_21 4 (dk_at dksX2_shortestOf_4 14 rfl rfl)
theorem dX2_shortestOf_110 : decode cX2_shortestOf 110 = .ok (.iastore, 1) := dk_79 (dk_at dksX2_shortestOf_4 16 rfl rfl)
theorem dX2_shortestOf_111 : decode cX2_shortestOf 111 = .ok (.iconst 1, 1) := dk_4 (dk_at dksX2_shortestOf_4 17 rfl rfl)
theorem dX2_shortestOf_112 : decode cX2_shortestOf 112 = .ok (.istore_n 2, 1) := dk_61 (dk_at dksX2_shortestOf_4 18 rfl rfl)
theorem dX2_shortestOf_113 : decode cX2_shortestOf 113 = .ok (.iinc 3 1, 3) := dk_132 3 1 (dk_at dksX2_shortestOf_4 19 rfl rfl)
theorem dX2_shortestOf_116 : decode cX2_shortestOf 116 = .ok (.goto (-72), 3) := dk_167 255 184 (dk_at dksX2_shortestOf_5 0 rfl rfl)
theorem dX2_shortestOf_119 : decode cX2_shortestOf 119 = .ok (.goto (-83), 3) := dk_167 255 173 (dk_at dksX2_shortestOf_5 3 rfl rfl)
theorem dX2_shortestOf_122 : decode cX2_shortestOf 122 = .ok (.aload_n 0, 1) := dk_42 (dk_at dksX2_shortestOf_5 6 rfl rfl)
theorem dX2_shortestOf_123 : decode cX2_shortestOf 123 = .ok (.getfield 34, 3) := dk_180 0 34 (dk_at dksX2_shortestOf_5 7 rfl rfl)
theorem dX2_shortestOf_126 : decode cX2_shortestOf 126 = .ok (.iload_n 1, 1) := dk_27 (dk_at dksX2_shortestOf_5 10 rfl rfl)
theorem dX2_shortestOf_127 : decode cX2_shortestOf 127 = .ok (.bipush 20, 2) := dk_16 20 (dk_at dksX2_shortestOf_5 11 rfl rfl)
theorem dX2_shortestOf_129 : decode cX2_shortestOf 129 = .ok (.isub, 1) := dk_100 (dk_at dksX2_shortestOf_5 13 rfl rfl)
theorem dX2_shortestOf_130 : decode cX2_shortestOf 130 = .ok (.iaload, 1) := dk_46 (dk_at dksX2_shortestOf_5 14 rfl rfl)
theorem dX2_shortestOf_131 : decode cX2_shortestOf 131 = .ok (.ireturn, 1) := dk_172 (dk_at dksX2_shortestOf_5 15 rfl rfl)
abbrev cX2_shortestBy : ByteArray := prog_14_method_45_code
def yX2_shortestBy : MethodName := ⟨RX2, "shortestBy", "(I)I"⟩
def dkwX2_shortestBy_3 : List UInt8 := [21, 4, 96, 61, 132, 3, 1, 167, 255, 184, 28, 172]
abbrev dktX2_shortestBy_3 : List UInt8 := dkwX2_shortestBy_3 ++ []
def dkwX2_shortestBy_2 : List UInt8 := [21, 4, 2, 160, 0, 5, 2, 172, 28, 21, 4, 96, 18, 230, 164, 0, 8, 18, 230, 167, 0, 7, 28]
abbrev dktX2_shortestBy_2 : List UInt8 := dkwX2_shortestBy_2 ++ dktX2_shortestBy_3
def dkwX2_shortestBy_1 : List UInt8 := [153, 0, 7, 4, 167, 0, 17, 42, 180, 0, 34, 42, 27, 29, 182, 0, 187, 16, 20, 100, 46, 54, 4]
abbrev dktX2_shortestBy_1 : List UInt8 := dkwX2_shortestBy_1 ++ dktX2_shortestBy_2
def dkwX2_shortestBy_0 : List UInt8 := [3, 61, 3, 62, 29, 42, 180, 0, 13, 27, 46, 162, 0, 68, 42, 27, 29, 182, 0, 187, 184, 0, 167]
abbrev dktX2_shortestBy_0 : List UInt8 := dkwX2_shortestBy_0 ++ dktX2_shortestBy_1
theorem dksX2_shortestBy_0 : cX2_shortestBy.data.toList.drop 0 = dktX2_shortestBy_0 := by decide +kernel
theorem dksX2_shortestBy_1 : cX2_shortestBy.data.toList.drop 23 = dktX2_shortestBy_1 := dk_seg dksX2_shortestBy_0 23 rfl rfl
theorem dksX2_shortestBy_2 : cX2_shortestBy.data.toList.drop 46 = dktX2_shortestBy_2 := dk_seg dksX2_shortestBy_1 23 rfl rfl
theorem dksX2_shortestBy_3 : cX2_shortestBy.data.toList.drop 69 = dktX2_shortestBy_3 := dk_seg dksX2_shortestBy_2 23 rfl rfl
theorem dX2_shortestBy_0 : decode cX2_shortestBy 0 = .ok (.iconst 0, 1) := dk_3 (dk_at dksX2_shortestBy_0 0 rfl rfl)
theorem dX2_shortestBy_1 : decode cX2_shortestBy 1 = .ok (.istore_n 2, 1) := dk_61 (dk_at dksX2_shortestBy_0 1 rfl rfl)
theorem dX2_shortestBy_2 : decode cX2_shortestBy 2 = .ok (.iconst 0, 1) := dk_3 (dk_at dksX2_shortestBy_0 2 rfl rfl)
theorem dX2_shortestBy_3 : decode cX2_shortestBy 3 = .ok (.istore_n 3, 1) := dk_62 (dk_at dksX2_shortestBy_0 3 rfl rfl)
theorem dX2_shortestBy_4 : decode cX2_shortestBy 4 = .ok (.iload_n 3, 1) := dk_29 (dk_at dksX2_shortestBy_0 4 rfl rfl)
theorem dX2_shortestBy_5 : decode cX2_shortestBy 5 = .ok (.aload_n 0, 1) := dk_42 (dk_at dksX2_shortestBy_0 5 rfl rfl)
theorem dX2_shortestBy_6 : decode cX2_shortestBy 6 = .ok (.getfield 13, 3) := dk_180 0 13 (dk_at dksX2_shortestBy_0 6 rfl rfl)
theorem dX2_shortestBy_9 : decode cX2_shortestBy 9 = .ok (.iload_n 1, 1) := dk_27 (dk_at dksX2_shortestBy_0 9 rfl rfl)
theorem dX2_shortestBy_10 : decode cX2_shortestBy 10 = .ok (.iaload, 1) := dk_46 (dk_at dksX2_shortestBy_0 10 rfl rfl)
theorem dX2_shortestBy_11 : decode cX2_shortestBy 11 = .ok (.if_icmp .ge 68, 3) := dk_162 0 68 (dk_at dksX2_shortestBy_0 11 rfl rfl)
theorem dX2_shortestBy_14 : decode cX2_shortestBy 14 = .ok (.aload_n 0, 1) := dk_42 (dk_at dksX2_shortestBy_0 14 rfl rfl)
theorem dX2_shortestBy_15 : decode cX2_shortestBy 15 = .ok (.iload_n 1, 1) := dk_27 (dk_at dksX2_shortestBy_0 15 rfl rfl)
theorem dX2_shortestBy_16 : decode cX2_shortestBy 16 = .ok (.iload_n 3, 1) := dk_29 (dk_at dksX2_shortestBy_0 16 rfl rfl)
theorem dX2_shortestBy_17 : decode cX2_shortestBy 17 = .ok (.invokevirtual 187, 3) := dk_182 0 187 (dk_at dksX2_shortestBy_0 17 rfl rfl)
theorem dX2_shortestBy_20 : decode cX2_shortestBy 20 = .ok (.invokestatic 167, 3) := dk_184 0 167 (dk_at dksX2_shortestBy_0 20 rfl rfl)
theorem dX2_shortestBy_23 : decode cX2_shortestBy 23 = .ok (.ifCond .eq 7, 3) := dk_153 0 7 (dk_at dksX2_shortestBy_1 0 rfl rfl)
theorem dX2_shortestBy_26 : decode cX2_shortestBy 26 = .ok (.iconst 1, 1) := dk_4 (dk_at dksX2_shortestBy_1 3 rfl rfl)
theorem dX2_shortestBy_27 : decode cX2_shortestBy 27 = .ok (.goto 17, 3) := dk_167 0 17 (dk_at dksX2_shortestBy_1 4 rfl rfl)
theorem dX2_shortestBy_30 : decode cX2_shortestBy 30 = .ok (.aload_n 0, 1) := dk_42 (dk_at dksX2_shortestBy_1 7 rfl rfl)
theorem dX2_shortestBy_31 : decode cX2_shortestBy 31 = .ok (.getfield 34, 3) := dk_180 0 34 (dk_at dksX2_shortestBy_1 8 rfl rfl)
theorem dX2_shortestBy_34 : decode cX2_shortestBy 34 = .ok (.aload_n 0, 1) := dk_42 (dk_at dksX2_shortestBy_1 11 rfl rfl)
theorem dX2_shortestBy_35 : decode cX2_shortestBy 35 = .ok (.iload_n 1, 1) := dk_27 (dk_at dksX2_shortestBy_1 12 rfl rfl)
theorem dX2_shortestBy_36 : decode cX2_shortestBy 36 = .ok (.iload_n 3, 1) := dk_29 (dk_at dksX2_shortestBy_1 13 rfl rfl)
theorem dX2_shortestBy_37 : decode cX2_shortestBy 37 = .ok (.invokevirtual 187, 3) := dk_182 0 187 (dk_at dksX2_shortestBy_1 14 rfl rfl)
theorem dX2_shortestBy_40 : decode cX2_shortestBy 40 = .ok (.bipush 20, 2) := dk_16 20 (dk_at dksX2_shortestBy_1 17 rfl rfl)
theorem dX2_shortestBy_42 : decode cX2_shortestBy 42 = .ok (.isub, 1) := dk_100 (dk_at dksX2_shortestBy_1 19 rfl rfl)
theorem dX2_shortestBy_43 : decode cX2_shortestBy 43 = .ok (.iaload, 1) := dk_46 (dk_at dksX2_shortestBy_1 20 rfl rfl)
theorem dX2_shortestBy_44 : decode cX2_shortestBy 44 = .ok (.istore 4, 2) := dk_54 4 (dk_at dksX2_shortestBy_1 21 rfl rfl)
theorem dX2_shortestBy_46 : decode cX2_shortestBy 46 = .ok (.iload 4, 2) := dk_21 4 (dk_at dksX2_shortestBy_2 0 rfl rfl)
theorem dX2_shortestBy_48 : decode cX2_shortestBy 48 = .ok (.iconst (-1), 1) := dk_2 (dk_at dksX2_shortestBy_2 2 rfl rfl)
theorem dX2_shortestBy_49 : decode cX2_shortestBy 49 = .ok (.if_icmp .ne 5, 3) := dk_160 0 5 (dk_at dksX2_shortestBy_2 3 rfl rfl)
theorem dX2_shortestBy_52 : decode cX2_shortestBy 52 = .ok (.iconst (-1), 1) := dk_2 (dk_at dksX2_shortestBy_2 6 rfl rfl)
theorem dX2_shortestBy_53 : decode cX2_shortestBy 53 = .ok (.ireturn, 1) := dk_172 (dk_at dksX2_shortestBy_2 7 rfl rfl)
theorem dX2_shortestBy_54 : decode cX2_shortestBy 54 = .ok (.iload_n 2, 1) := dk_28 (dk_at dksX2_shortestBy_2 8 rfl rfl)
theorem dX2_shortestBy_55 : decode cX2_shortestBy 55 = .ok (.iload 4, 2) := dk_21 4 (dk_at dksX2_shortestBy_2 9 rfl rfl)
theorem dX2_shortestBy_57 : decode cX2_shortestBy 57 = .ok (.iadd, 1) := dk_96 (dk_at dksX2_shortestBy_2 11 rfl rfl)
theorem dX2_shortestBy_58 : decode cX2_shortestBy 58 = .ok (.ldc 230, 2) := dk_18 230 (dk_at dksX2_shortestBy_2 12 rfl rfl)
theorem dX2_shortestBy_60 : decode cX2_shortestBy 60 = .ok (.if_icmp .le 8, 3) := dk_164 0 8 (dk_at dksX2_shortestBy_2 14 rfl rfl)
theorem dX2_shortestBy_63 : decode cX2_shortestBy 63 = .ok (.ldc 230, 2) := dk_18 230 (dk_at dksX2_shortestBy_2 17 rfl rfl)
theorem dX2_shortestBy_65 : decode cX2_shortestBy 65 = .ok (.goto 7, 3) := dk_167 0 7 (dk_at dksX2_shortestBy_2 19 rfl rfl)
theorem dX2_shortestBy_68 : decode cX2_shortestBy 68 = .ok (.iload_n 2, 1) := dk_28 (dk_at dksX2_shortestBy_2 22 rfl rfl)
theorem dX2_shortestBy_69 : decode cX2_shortestBy 69 = .ok (.iload 4, 2) := dk_21 4 (dk_at dksX2_shortestBy_3 0 rfl rfl)
theorem dX2_shortestBy_71 : decode cX2_shortestBy 71 = .ok (.iadd, 1) := dk_96 (dk_at dksX2_shortestBy_3 2 rfl rfl)
theorem dX2_shortestBy_72 : decode cX2_shortestBy 72 = .ok (.istore_n 2, 1) := dk_61 (dk_at dksX2_shortestBy_3 3 rfl rfl)
theorem dX2_shortestBy_73 : decode cX2_shortestBy 73 = .ok (.iinc 3 1, 3) := dk_132 3 1 (dk_at dksX2_shortestBy_3 4 rfl rfl)
theorem dX2_shortestBy_76 : decode cX2_shortestBy 76 = .ok (.goto (-72), 3) := dk_167 255 184 (dk_at dksX2_shortestBy_3 7 rfl rfl)
theorem dX2_shortestBy_79 : decode cX2_shortestBy 79 = .ok (.iload_n 2, 1) := dk_28 (dk_at dksX2_shortestBy_3 10 rfl rfl)
theorem dX2_shortestBy_80 : decode cX2_shortestBy 80 = .ok (.ireturn, 1) := dk_172 (dk_at dksX2_shortestBy_3 11 rfl rfl)
abbrev cX2_predictionOf : ByteArray := prog_14_method_48_code
def yX2_predictionOf : MethodName := ⟨RX2, "predictionOf", "(I)I"⟩
def dkwX2_predictionOf_0 : List UInt8 := [42, 42, 27, 182, 0, 164, 182, 0, 177, 154, 0, 5, 3, 172, 42, 182, 0, 227, 42, 27, 182, 0, 234, 172]
abbrev dktX2_predictionOf_0 : List UInt8 := dkwX2_predictionOf_0 ++ []
theorem dksX2_predictionOf_0 : cX2_predictionOf.data.toList.drop 0 = dktX2_predictionOf_0 := by decide +kernel
theorem dX2_predictionOf_0 : decode cX2_predictionOf 0 = .ok (.aload_n 0, 1) := dk_42 (dk_at dksX2_predictionOf_0 0 rfl rfl)
theorem dX2_predictionOf_1 : decode cX2_predictionOf 1 = .ok (.aload_n 0, 1) := dk_42 (dk_at dksX2_predictionOf_0 1 rfl rfl)
theorem dX2_predictionOf_2 : decode cX2_predictionOf 2 = .ok (.iload_n 1, 1) := dk_27 (dk_at dksX2_predictionOf_0 2 rfl rfl)
theorem dX2_predictionOf_3 : decode cX2_predictionOf 3 = .ok (.invokevirtual 164, 3) := dk_182 0 164 (dk_at dksX2_predictionOf_0 3 rfl rfl)
theorem dX2_predictionOf_6 : decode cX2_predictionOf 6 = .ok (.invokevirtual 177, 3) := dk_182 0 177 (dk_at dksX2_predictionOf_0 6 rfl rfl)
theorem dX2_predictionOf_9 : decode cX2_predictionOf 9 = .ok (.ifCond .ne 5, 3) := dk_154 0 5 (dk_at dksX2_predictionOf_0 9 rfl rfl)
theorem dX2_predictionOf_12 : decode cX2_predictionOf 12 = .ok (.iconst 0, 1) := dk_3 (dk_at dksX2_predictionOf_0 12 rfl rfl)
theorem dX2_predictionOf_13 : decode cX2_predictionOf 13 = .ok (.ireturn, 1) := dk_172 (dk_at dksX2_predictionOf_0 13 rfl rfl)
theorem dX2_predictionOf_14 : decode cX2_predictionOf 14 = .ok (.aload_n 0, 1) := dk_42 (dk_at dksX2_predictionOf_0 14 rfl rfl)
theorem dX2_predictionOf_15 : decode cX2_predictionOf 15 = .ok (.invokevirtual 227, 3) := dk_182 0 227 (dk_at dksX2_predictionOf_0 15 rfl rfl)
theorem dX2_predictionOf_18 : decode cX2_predictionOf 18 = .ok (.aload_n 0, 1) := dk_42 (dk_at dksX2_predictionOf_0 18 rfl rfl)
theorem dX2_predictionOf_19 : decode cX2_predictionOf 19 = .ok (.iload_n 1, 1) := dk_27 (dk_at dksX2_predictionOf_0 19 rfl rfl)
theorem dX2_predictionOf_20 : decode cX2_predictionOf 20 = .ok (.invokevirtual 234, 3) := dk_182 0 234 (dk_at dksX2_predictionOf_0 20 rfl rfl)
theorem dX2_predictionOf_23 : decode cX2_predictionOf 23 = .ok (.ireturn, 1) := dk_172 (dk_at dksX2_predictionOf_0 23 rfl rfl)
abbrev cX2_prediction : ByteArray := prog_14_method_47_code
def yX2_prediction : MethodName := ⟨RX2, "prediction", "(I)I"⟩
def dkwX2_prediction_1 : List UInt8 := [46, 16, 20, 100, 46, 167, 0, 4, 3, 128, 172]
abbrev dktX2_prediction_1 : List UInt8 := dkwX2_prediction_1 ++ []
def dkwX2_prediction_0 : List UInt8 := [42, 27, 3, 182, 0, 205, 42, 27, 3, 182, 0, 208, 153, 0, 20, 42, 180, 0, 31, 42, 180, 0, 7, 27]
abbrev dktX2_prediction_0 : List UInt8 := dkwX2_prediction_0 ++ dktX2_prediction_1
theorem dksX2_prediction_0 : cX2_prediction.data.toList.drop 0 = dktX2_prediction_0 := by decide +kernel
theorem dksX2_prediction_1 : cX2_prediction.data.toList.drop 24 = dktX2_prediction_1 := dk_seg dksX2_prediction_0 24 rfl rfl
theorem dX2_prediction_0 : decode cX2_prediction 0 = .ok (.aload_n 0, 1) := dk_42 (dk_at dksX2_prediction_0 0 rfl rfl)
theorem dX2_prediction_1 : decode cX2_prediction 1 = .ok (.iload_n 1, 1) := dk_27 (dk_at dksX2_prediction_0 1 rfl rfl)
theorem dX2_prediction_2 : decode cX2_prediction 2 = .ok (.iconst 0, 1) := dk_3 (dk_at dksX2_prediction_0 2 rfl rfl)
theorem dX2_prediction_3 : decode cX2_prediction 3 = .ok (.invokevirtual 205, 3) := dk_182 0 205 (dk_at dksX2_prediction_0 3 rfl rfl)
theorem dX2_prediction_6 : decode cX2_prediction 6 = .ok (.aload_n 0, 1) := dk_42 (dk_at dksX2_prediction_0 6 rfl rfl)
theorem dX2_prediction_7 : decode cX2_prediction 7 = .ok (.iload_n 1, 1) := dk_27 (dk_at dksX2_prediction_0 7 rfl rfl)
theorem dX2_prediction_8 : decode cX2_prediction 8 = .ok (.iconst 0, 1) := dk_3 (dk_at dksX2_prediction_0 8 rfl rfl)
theorem dX2_prediction_9 : decode cX2_prediction 9 = .ok (.invokevirtual 208, 3) := dk_182 0 208 (dk_at dksX2_prediction_0 9 rfl rfl)
theorem dX2_prediction_12 : decode cX2_prediction 12 = .ok (.ifCond .eq 20, 3) := dk_153 0 20 (dk_at dksX2_prediction_0 12 rfl rfl)
theorem dX2_prediction_15 : decode cX2_prediction 15 = .ok (.aload_n 0, 1) := dk_42 (dk_at dksX2_prediction_0 15 rfl rfl)
theorem dX2_prediction_16 : decode cX2_prediction 16 = .ok (.getfield 31, 3) := dk_180 0 31 (dk_at dksX2_prediction_0 16 rfl rfl)
theorem dX2_prediction_19 : decode cX2_prediction 19 = .ok (.aload_n 0, 1) := dk_42 (dk_at dksX2_prediction_0 19 rfl rfl)
theorem dX2_prediction_20 : decode cX2_prediction 20 = .ok (.getfield 7, 3) := dk_180 0 7 (dk_at dksX2_prediction_0 20 rfl rfl)
theorem dX2_prediction_23 : decode cX2_prediction 23 = .ok (.iload_n 1, 1) := dk_27 (dk_at dksX2_prediction_0 23 rfl rfl)
theorem dX2_prediction_24 : decode cX2_prediction 24 = .ok (.iaload, 1) := dk_46 (dk_at dksX2_prediction_1 0 rfl rfl)
theorem dX2_prediction_25 : decode cX2_prediction 25 = .ok (.bipush 20, 2) := dk_16 20 (dk_at dksX2_prediction_1 1 rfl rfl)
theorem dX2_prediction_27 : decode cX2_prediction 27 = .ok (.isub, 1) := dk_100 (dk_at dksX2_prediction_1 3 rfl rfl)
theorem dX2_prediction_28 : decode cX2_prediction 28 = .ok (.iaload, 1) := dk_46 (dk_at dksX2_prediction_1 4 rfl rfl)
theorem dX2_prediction_29 : decode cX2_prediction 29 = .ok (.goto 4, 3) := dk_167 0 4 (dk_at dksX2_prediction_1 5 rfl rfl)
theorem dX2_prediction_32 : decode cX2_prediction 32 = .ok (.iconst 0, 1) := dk_3 (dk_at dksX2_prediction_1 8 rfl rfl)
theorem dX2_prediction_33 : decode cX2_prediction 33 = .ok (.ior, 1) := dk_128 (dk_at dksX2_prediction_1 9 rfl rfl)
theorem dX2_prediction_34 : decode cX2_prediction 34 = .ok (.ireturn, 1) := dk_172 (dk_at dksX2_prediction_1 10 rfl rfl)
abbrev cX2_predicted : ByteArray := prog_14_method_50_code
def yX2_predicted : MethodName := ⟨RX2, "predicted", "(II)I"⟩
def dkwX2_predicted_1 : List UInt8 := [154, 0, 5, 3, 172, 42, 182, 0, 227, 42, 27, 28, 182, 0, 240, 172]
abbrev dktX2_predicted_1 : List UInt8 := dkwX2_predicted_1 ++ []
def dkwX2_predicted_0 : List UInt8 := [42, 27, 184, 0, 149, 153, 0, 14, 28, 184, 0, 237, 153, 0, 7, 4, 167, 0, 4, 3, 182, 0, 177]
abbrev dktX2_predicted_0 : List UInt8 := dkwX2_predicted_0 ++ dktX2_predicted_1
theorem dksX2_predicted_0 : cX2_predicted.data.toList.drop 0 = dktX2_predicted_0 := by decide +kernel
theorem dksX2_predicted_1 : cX2_predicted.data.toList.drop 23 = dktX2_predicted_1 := dk_seg dksX2_predicted_0 23 rfl rfl
theorem dX2_predicted_0 : decode cX2_predicted 0 = .ok (.aload_n 0, 1) := dk_42 (dk_at dksX2_predicted_0 0 rfl rfl)
theorem dX2_predicted_1 : decode cX2_predicted 1 = .ok (.iload_n 1, 1) := dk_27 (dk_at dksX2_predicted_0 1 rfl rfl)
theorem dX2_predicted_2 : decode cX2_predicted 2 = .ok (.invokestatic 149, 3) := dk_184 0 149 (dk_at dksX2_predicted_0 2 rfl rfl)
theorem dX2_predicted_5 : decode cX2_predicted 5 = .ok (.ifCond .eq 14, 3) := dk_153 0 14 (dk_at dksX2_predicted_0 5 rfl rfl)
theorem dX2_predicted_8 : decode cX2_predicted 8 = .ok (.iload_n 2, 1) := dk_28 (dk_at dksX2_predicted_0 8 rfl rfl)
theorem dX2_predicted_9 : decode cX2_predicted 9 = .ok (.invokestatic 237, 3) := dk_184 0 237 (dk_at dksX2_predicted_0 9 rfl rfl)
theorem dX2_predicted_12 : decode cX2_predicted 12 = .ok (.ifCond .eq 7, 3) := dk_153 0 7 (dk_at dksX2_predicted_0 12 rfl rfl)
theorem dX2_predicted_15 : decode cX2_predicted 15 = .ok (.iconst 1, 1) := dk_4 (dk_at dksX2_predicted_0 15 rfl rfl)
theorem dX2_predicted_16 : decode cX2_predicted 16 = .ok (.goto 4, 3) := dk_167 0 4 (dk_at dksX2_predicted_0 16 rfl rfl)
theorem dX2_predicted_19 : decode cX2_predicted 19 = .ok (.iconst 0, 1) := dk_3 (dk_at dksX2_predicted_0 19 rfl rfl)
theorem dX2_predicted_20 : decode cX2_predicted 20 = .ok (.invokevirtual 177, 3) := dk_182 0 177 (dk_at dksX2_predicted_0 20 rfl rfl)
theorem dX2_predicted_23 : decode cX2_predicted 23 = .ok (.ifCond .ne 5, 3) := dk_154 0 5 (dk_at dksX2_predicted_1 0 rfl rfl)
theorem dX2_predicted_26 : decode cX2_predicted 26 = .ok (.iconst 0, 1) := dk_3 (dk_at dksX2_predicted_1 3 rfl rfl)
theorem dX2_predicted_27 : decode cX2_predicted 27 = .ok (.ireturn, 1) := dk_172 (dk_at dksX2_predicted_1 4 rfl rfl)
theorem dX2_predicted_28 : decode cX2_predicted 28 = .ok (.aload_n 0, 1) := dk_42 (dk_at dksX2_predicted_1 5 rfl rfl)
theorem dX2_predicted_29 : decode cX2_predicted 29 = .ok (.invokevirtual 227, 3) := dk_182 0 227 (dk_at dksX2_predicted_1 6 rfl rfl)
theorem dX2_predicted_32 : decode cX2_predicted 32 = .ok (.aload_n 0, 1) := dk_42 (dk_at dksX2_predicted_1 9 rfl rfl)
theorem dX2_predicted_33 : decode cX2_predicted 33 = .ok (.iload_n 1, 1) := dk_27 (dk_at dksX2_predicted_1 10 rfl rfl)
theorem dX2_predicted_34 : decode cX2_predicted 34 = .ok (.iload_n 2, 1) := dk_28 (dk_at dksX2_predicted_1 11 rfl rfl)
theorem dX2_predicted_35 : decode cX2_predicted 35 = .ok (.invokevirtual 240, 3) := dk_182 0 240 (dk_at dksX2_predicted_1 12 rfl rfl)
theorem dX2_predicted_38 : decode cX2_predicted 38 = .ok (.ireturn, 1) := dk_172 (dk_at dksX2_predicted_1 15 rfl rfl)
abbrev cX2_isToken : ByteArray := prog_14_method_11_code
def yX2_isToken : MethodName := ⟨RX2, "isToken", "(I)Z"⟩
def dkwX2_isToken_0 : List UInt8 := [26, 133, 9, 20, 0, 111, 184, 0, 103, 172]
abbrev dktX2_isToken_0 : List UInt8 := dkwX2_isToken_0 ++ []
theorem dksX2_isToken_0 : cX2_isToken.data.toList.drop 0 = dktX2_isToken_0 := by decide +kernel
theorem dX2_isToken_0 : decode cX2_isToken 0 = .ok (.iload_n 0, 1) := dk_26 (dk_at dksX2_isToken_0 0 rfl rfl)
theorem dX2_isToken_1 : decode cX2_isToken 1 = .ok (.i2l, 1) := dk_133 (dk_at dksX2_isToken_0 1 rfl rfl)
theorem dX2_isToken_2 : decode cX2_isToken 2 = .ok (.lconst 0, 1) := dk_9 (dk_at dksX2_isToken_0 2 rfl rfl)
theorem dX2_isToken_3 : decode cX2_isToken 3 = .ok (.ldc2_w 111, 3) := dk_20 0 111 (dk_at dksX2_isToken_0 3 rfl rfl)
theorem dX2_isToken_6 : decode cX2_isToken 6 = .ok (.invokestatic 103, 3) := dk_184 0 103 (dk_at dksX2_isToken_0 6 rfl rfl)
theorem dX2_isToken_9 : decode cX2_isToken 9 = .ok (.ireturn, 1) := dk_172 (dk_at dksX2_isToken_0 9 rfl rfl)
abbrev cX2_predictedRule : ByteArray := prog_14_method_49_code
def yX2_predictedRule : MethodName := ⟨RX2, "predictedRule", "(II)I"⟩
def dkwX2_predictedRule_2 : List UInt8 := [167, 0, 5, 16, 254, 62, 132, 4, 1, 167, 255, 207, 29, 172]
abbrev dktX2_predictedRule_2 : List UInt8 := dkwX2_predictedRule_2 ++ []
def dkwX2_predictedRule_1 : List UInt8 := [160, 0, 29, 42, 21, 4, 182, 0, 234, 28, 184, 0, 198, 153, 0, 16, 29, 2, 160, 0, 8, 21, 4]
abbrev dktX2_predictedRule_1 : List UInt8 := dkwX2_predictedRule_1 ++ dktX2_predictedRule_2
def dkwX2_predictedRule_0 : List UInt8 := [2, 62, 3, 54, 4, 21, 4, 42, 180, 0, 113, 162, 0, 46, 42, 180, 0, 7, 21, 4, 46, 27]
abbrev dktX2_predictedRule_0 : List UInt8 := dkwX2_predictedRule_0 ++ dktX2_predictedRule_1
theorem dksX2_predictedRule_0 : cX2_predictedRule.data.toList.drop 0 = dktX2_predictedRule_0 := by decide +kernel
theorem dksX2_predictedRule_1 : cX2_predictedRule.data.toList.drop 22 = dktX2_predictedRule_1 := dk_seg dksX2_predictedRule_0 22 rfl rfl
theorem dksX2_predictedRule_2 : cX2_predictedRule.data.toList.drop 45 = dktX2_predictedRule_2 := dk_seg dksX2_predictedRule_1 23 rfl rfl
theorem dX2_predictedRule_0 : decode cX2_predictedRule 0 = .ok (.iconst (-1), 1) := dk_2 (dk_at dksX2_predictedRule_0 0 rfl rfl)
theorem dX2_predictedRule_1 : decode cX2_predictedRule 1 = .ok (.istore_n 3, 1) := dk_62 (dk_at dksX2_predictedRule_0 1 rfl rfl)
theorem dX2_predictedRule_2 : decode cX2_predictedRule 2 = .ok (.iconst 0, 1) := dk_3 (dk_at dksX2_predictedRule_0 2 rfl rfl)
theorem dX2_predictedRule_3 : decode cX2_predictedRule 3 = .ok (.istore 4, 2) := dk_54 4 (dk_at dksX2_predictedRule_0 3 rfl rfl)
theorem dX2_predictedRule_5 : decode cX2_predictedRule 5 = .ok (.iload 4, 2) := dk_21 4 (dk_at dksX2_predictedRule_0 5 rfl rfl)
theorem dX2_predictedRule_7 : decode cX2_predictedRule 7 = .ok (.aload_n 0, 1) := dk_42 (dk_at dksX2_predictedRule_0 7 rfl rfl)
theorem dX2_predictedRule_8 : decode cX2_predictedRule 8 = .ok (.getfield 113, 3) := dk_180 0 113 (dk_at dksX2_predictedRule_0 8 rfl rfl)
theorem dX2_predictedRule_11 : decode cX2_predictedRule 11 = .ok (.if_icmp .ge 46, 3) := dk_162 0 46 (dk_at dksX2_predictedRule_0 11 rfl rfl)
theorem dX2_predictedRule_14 : decode cX2_predictedRule 14 = .ok (.aload_n 0, 1) := dk_42 (dk_at dksX2_predictedRule_0 14 rfl rfl)
theorem dX2_predictedRule_15 : decode cX2_predictedRule 15 = .ok (.getfield 7, 3) := dk_180 0 7 (dk_at dksX2_predictedRule_0 15 rfl rfl)
theorem dX2_predictedRule_18 : decode cX2_predictedRule 18 = .ok (.iload 4, 2) := dk_21 4 (dk_at dksX2_predictedRule_0 18 rfl rfl)
theorem dX2_predictedRule_20 : decode cX2_predictedRule 20 = .ok (.iaload, 1) := dk_46 (dk_at dksX2_predictedRule_0 20 rfl rfl)
theorem dX2_predictedRule_21 : decode cX2_predictedRule 21 = .ok (.iload_n 1, 1) := dk_27 (dk_at dksX2_predictedRule_0 21 rfl rfl)
theorem dX2_predictedRule_22 : decode cX2_predictedRule 22 = .ok (.if_icmp .ne 29, 3) := dk_160 0 29 (dk_at dksX2_predictedRule_1 0 rfl rfl)
theorem dX2_predictedRule_25 : decode cX2_predictedRule 25 = .ok (.aload_n 0, 1) := dk_42 (dk_at dksX2_predictedRule_1 3 rfl rfl)
theorem dX2_predictedRule_26 : decode cX2_predictedRule 26 = .ok (.iload 4, 2) := dk_21 4 (dk_at dksX2_predictedRule_1 4 rfl rfl)
theorem dX2_predictedRule_28 : decode cX2_predictedRule 28 = .ok (.invokevirtual 234, 3) := dk_182 0 234 (dk_at dksX2_predictedRule_1 6 rfl rfl)
theorem dX2_predictedRule_31 : decode cX2_predictedRule 31 = .ok (.iload_n 2, 1) := dk_28 (dk_at dksX2_predictedRule_1 9 rfl rfl)
theorem dX2_predictedRule_32 : decode cX2_predictedRule 32 = .ok (.invokestatic 198, 3) := dk_184 0 198 (dk_at dksX2_predictedRule_1 10 rfl rfl)
theorem dX2_predictedRule_35 : decode cX2_predictedRule 35 = .ok (.ifCond .eq 16, 3) := dk_153 0 16 (dk_at dksX2_predictedRule_1 13 rfl rfl)
theorem dX2_predictedRule_38 : decode cX2_predictedRule 38 = .ok (.iload_n 3, 1) := dk_29 (dk_at dksX2_predictedRule_1 16 rfl rfl)
theorem dX2_predictedRule_39 : decode cX2_predictedRule 39 = .ok (.iconst (-1), 1) := dk_2 (dk_at dksX2_predictedRule_1 17 rfl rfl)
theorem dX2_predictedRule_40 : decode cX2_predictedRule 40 = .ok (.if_icmp .ne 8, 3) := dk_160 0 8 (dk_at dksX2_predictedRule_1 18 rfl rfl)
theorem dX2_predictedRule_43 : decode cX2_predictedRule 43 = .ok (.iload 4, 2) := dk_21 4 (dk_at dksX2_predictedRule_1 21 rfl rfl)
theorem dX2_predictedRule_45 : decode cX2_predictedRule 45 = .ok (.goto 5, 3) := dk_167 0 5 (dk_at dksX2_predictedRule_2 0 rfl rfl)
theorem dX2_predictedRule_48 : decode cX2_predictedRule 48 = .ok (.bipush (-2), 2) := dk_16 254 (dk_at dksX2_predictedRule_2 3 rfl rfl)
theorem dX2_predictedRule_50 : decode cX2_predictedRule 50 = .ok (.istore_n 3, 1) := dk_62 (dk_at dksX2_predictedRule_2 5 rfl rfl)
theorem dX2_predictedRule_51 : decode cX2_predictedRule 51 = .ok (.iinc 4 1, 3) := dk_132 4 1 (dk_at dksX2_predictedRule_2 6 rfl rfl)
theorem dX2_predictedRule_54 : decode cX2_predictedRule 54 = .ok (.goto (-49), 3) := dk_167 255 207 (dk_at dksX2_predictedRule_2 9 rfl rfl)
theorem dX2_predictedRule_57 : decode cX2_predictedRule 57 = .ok (.iload_n 3, 1) := dk_29 (dk_at dksX2_predictedRule_2 12 rfl rfl)
theorem dX2_predictedRule_58 : decode cX2_predictedRule 58 = .ok (.ireturn, 1) := dk_172 (dk_at dksX2_predictedRule_2 13 rfl rfl)
abbrev cX2_conflicts : ByteArray := prog_14_method_52_code
def yX2_conflicts : MethodName := ⟨RX2, "conflicts", "()I"⟩
def dkwX2_conflicts_0 : List UInt8 := [42, 42, 4, 182, 0, 243, 182, 0, 184, 172]
abbrev dktX2_conflicts_0 : List UInt8 := dkwX2_conflicts_0 ++ []
theorem dksX2_conflicts_0 : cX2_conflicts.data.toList.drop 0 = dktX2_conflicts_0 := by decide +kernel
theorem dX2_conflicts_0 : decode cX2_conflicts 0 = .ok (.aload_n 0, 1) := dk_42 (dk_at dksX2_conflicts_0 0 rfl rfl)
theorem dX2_conflicts_1 : decode cX2_conflicts 1 = .ok (.aload_n 0, 1) := dk_42 (dk_at dksX2_conflicts_0 1 rfl rfl)
theorem dX2_conflicts_2 : decode cX2_conflicts 2 = .ok (.iconst 1, 1) := dk_4 (dk_at dksX2_conflicts_0 2 rfl rfl)
theorem dX2_conflicts_3 : decode cX2_conflicts 3 = .ok (.invokevirtual 243, 3) := dk_182 0 243 (dk_at dksX2_conflicts_0 3 rfl rfl)
theorem dX2_conflicts_6 : decode cX2_conflicts 6 = .ok (.invokevirtual 184, 3) := dk_182 0 184 (dk_at dksX2_conflicts_0 6 rfl rfl)
theorem dX2_conflicts_9 : decode cX2_conflicts 9 = .ok (.ireturn, 1) := dk_172 (dk_at dksX2_conflicts_0 9 rfl rfl)
abbrev cX2_cells : ByteArray := prog_14_method_51_code
def yX2_cells : MethodName := ⟨RX2, "cells", "(Z)I"⟩
def dkwX2_cells_3 : List UInt8 := [184, 0, 97, 96, 61, 132, 4, 1, 167, 255, 194, 132, 3, 1, 167, 255, 179, 28, 172]
abbrev dktX2_cells_3 : List UInt8 := dkwX2_cells_3 ++ []
def dkwX2_cells_2 : List UInt8 := [3, 167, 0, 22, 42, 16, 20, 29, 96, 21, 4, 182, 0, 240, 2, 159, 0, 7, 4, 167, 0, 4, 3]
abbrev dktX2_cells_2 : List UInt8 := dkwX2_cells_2 ++ dktX2_cells_3
def dkwX2_cells_1 : List UInt8 := [28, 27, 153, 0, 26, 42, 16, 20, 29, 96, 21, 4, 182, 0, 240, 16, 254, 160, 0, 7, 4, 167, 0, 26]
abbrev dktX2_cells_1 : List UInt8 := dkwX2_cells_1 ++ dktX2_cells_2
def dkwX2_cells_0 : List UInt8 := [42, 182, 0, 227, 3, 61, 3, 62, 29, 16, 12, 162, 0, 77, 3, 54, 4, 21, 4, 16, 13, 162, 0, 61]
abbrev dktX2_cells_0 : List UInt8 := dkwX2_cells_0 ++ dktX2_cells_1
theorem dksX2_cells_0 : cX2_cells.data.toList.drop 0 = dktX2_cells_0 := by decide +kernel
theorem dksX2_cells_1 : cX2_cells.data.toList.drop 24 = dktX2_cells_1 := dk_seg dksX2_cells_0 24 rfl rfl
theorem dksX2_cells_2 : cX2_cells.data.toList.drop 48 = dktX2_cells_2 := dk_seg dksX2_cells_1 24 rfl rfl
theorem dksX2_cells_3 : cX2_cells.data.toList.drop 71 = dktX2_cells_3 := dk_seg dksX2_cells_2 23 rfl rfl
theorem dX2_cells_0 : decode cX2_cells 0 = .ok (.aload_n 0, 1) := dk_42 (dk_at dksX2_cells_0 0 rfl rfl)
theorem dX2_cells_1 : decode cX2_cells 1 = .ok (.invokevirtual 227, 3) := dk_182 0 227 (dk_at dksX2_cells_0 1 rfl rfl)
theorem dX2_cells_4 : decode cX2_cells 4 = .ok (.iconst 0, 1) := dk_3 (dk_at dksX2_cells_0 4 rfl rfl)
theorem dX2_cells_5 : decode cX2_cells 5 = .ok (.istore_n 2, 1) := dk_61 (dk_at dksX2_cells_0 5 rfl rfl)
theorem dX2_cells_6 : decode cX2_cells 6 = .ok (.iconst 0, 1) := dk_3 (dk_at dksX2_cells_0 6 rfl rfl)
theorem dX2_cells_7 : decode cX2_cells 7 = .ok (.istore_n 3, 1) := dk_62 (dk_at dksX2_cells_0 7 rfl rfl)
theorem dX2_cells_8 : decode cX2_cells 8 = .ok (.iload_n 3, 1) := dk_29 (dk_at dksX2_cells_0 8 rfl rfl)
theorem dX2_cells_9 : decode cX2_cells 9 = .ok (.bipush 12, 2) := dk_16 12 (dk_at dksX2_cells_0 9 rfl rfl)
theorem dX2_cells_11 : decode cX2_cells 11 = .ok (.if_icmp .ge 77, 3) := dk_162 0 77 (dk_at dksX2_cells_0 11 rfl rfl)
theorem dX2_cells_14 : decode cX2_cells 14 = .ok (.iconst 0, 1) := dk_3 (dk_at dksX2_cells_0 14 rfl rfl)
theorem dX2_cells_15 : decode cX2_cells 15 = .ok (.istore 4, 2) := dk_54 4 (dk_at dksX2_cells_0 15 rfl rfl)
theorem dX2_cells_17 : decode cX2_cells 17 = .ok (.iload 4, 2) := dk_21 4 (dk_at dksX2_cells_0 17 rfl rfl)
theorem dX2_cells_19 : decode cX2_cells 19 = .ok (.bipush 13, 2) := dk_16 13 (dk_at dksX2_cells_0 19 rfl rfl)
theorem dX2_cells_21 : decode cX2_cells 21 = .ok (.if_icmp .ge 61, 3) := dk_162 0 61 (dk_at dksX2_cells_0 21 rfl rfl)
theorem dX2_cells_24 : decode cX2_cells 24 = .ok (.iload_n 2, 1) := dk_28 (dk_at dksX2_cells_1 0 rfl rfl)
theorem dX2_cells_25 : decode cX2_cells 25 = .ok (.iload_n 1, 1) := dk_27 (dk_at dksX2_cells_1 1 rfl rfl)
theorem dX2_cells_26 : decode cX2_cells 26 = .ok (.ifCond .eq 26, 3) := dk_153 0 26 (dk_at dksX2_cells_1 2 rfl rfl)
theorem dX2_cells_29 : decode cX2_cells 29 = .ok (.aload_n 0, 1) := dk_42 (dk_at dksX2_cells_1 5 rfl rfl)
theorem dX2_cells_30 : decode cX2_cells 30 = .ok (.bipush 20, 2) := dk_16 20 (dk_at dksX2_cells_1 6 rfl rfl)
theorem dX2_cells_32 : decode cX2_cells 32 = .ok (.iload_n 3, 1) := dk_29 (dk_at dksX2_cells_1 8 rfl rfl)
theorem dX2_cells_33 : decode cX2_cells 33 = .ok (.iadd, 1) := dk_96 (dk_at dksX2_cells_1 9 rfl rfl)
theorem dX2_cells_34 : decode cX2_cells 34 = .ok (.iload 4, 2) := dk_21 4 (dk_at dksX2_cells_1 10 rfl rfl)
theorem dX2_cells_36 : decode cX2_cells 36 = .ok (.invokevirtual 240, 3) := dk_182 0 240 (dk_at dksX2_cells_1 12 rfl rfl)
theorem dX2_cells_39 : decode cX2_cells 39 = .ok (.bipush (-2), 2) := dk_16 254 (dk_at dksX2_cells_1 15 rfl rfl)
theorem dX2_cells_41 : decode cX2_cells 41 = .ok (.if_icmp .ne 7, 3) := dk_160 0 7 (dk_at dksX2_cells_1 17 rfl rfl)
theorem dX2_cells_44 : decode cX2_cells 44 = .ok (.iconst 1, 1) := dk_4 (dk_at dksX2_cells_1 20 rfl rfl)
theorem dX2_cells_45 : decode cX2_cells 45 = .ok (.goto 26, 3) := dk_167 0 26 (dk_at dksX2_cells_1 21 rfl rfl)
theorem dX2_cells_48 : decode cX2_cells 48 = .ok (.iconst 0, 1) := dk_3 (dk_at dksX2_cells_2 0 rfl rfl)
theorem dX2_cells_49 : decode cX2_cells 49 = .ok (.goto 22, 3) := dk_167 0 22 (dk_at dksX2_cells_2 1 rfl rfl)
theorem dX2_cells_52 : decode cX2_cells 52 = .ok (.aload_n 0, 1) := dk_42 (dk_at dksX2_cells_2 4 rfl rfl)
theorem dX2_cells_53 : decode cX2_cells 53 = .ok (.bipush 20, 2) := dk_16 20 (dk_at dksX2_cells_2 5 rfl rfl)
theorem dX2_cells_55 : decode cX2_cells 55 = .ok (.iload_n 3, 1) := dk_29 (dk_at dksX2_cells_2 7 rfl rfl)
theorem dX2_cells_56 : decode cX2_cells 56 = .ok (.iadd, 1) := dk_96 (dk_at dksX2_cells_2 8 rfl rfl)
theorem dX2_cells_57 : decode cX2_cells 57 = .ok (.iload 4, 2) := dk_21 4 (dk_at dksX2_cells_2 9 rfl rfl)
theorem dX2_cells_59 : decode cX2_cells 59 = .ok (.invokevirtual 240, 3) := dk_182 0 240 (dk_at dksX2_cells_2 11 rfl rfl)
theorem dX2_cells_62 : decode cX2_cells 62 = .ok (.iconst (-1), 1) := dk_2 (dk_at dksX2_cells_2 14 rfl rfl)
theorem dX2_cells_63 : decode cX2_cells 63 = .ok (.if_icmp .eq 7, 3) := dk_159 0 7 (dk_at dksX2_cells_2 15 rfl rfl)
theorem dX2_cells_66 : decode cX2_cells 66 = .ok (.iconst 1, 1) := dk_4 (dk_at dksX2_cells_2 18 rfl rfl)
theorem dX2_cells_67 : decode cX2_cells 67 = .ok (.goto 4, 3) := dk_167 0 4 (dk_at dksX2_cells_2 19 rfl rfl)
theorem dX2_cells_70 : decode cX2_cells 70 = .ok (.iconst 0, 1) := dk_3 (dk_at dksX2_cells_2 22 rfl rfl)
theorem dX2_cells_71 : decode cX2_cells 71 = .ok (.invokestatic 97, 3) := dk_184 0 97 (dk_at dksX2_cells_3 0 rfl rfl)
theorem dX2_cells_74 : decode cX2_cells 74 = .ok (.iadd, 1) := dk_96 (dk_at dksX2_cells_3 3 rfl rfl)
theorem dX2_cells_75 : decode cX2_cells 75 = .ok (.istore_n 2, 1) := dk_61 (dk_at dksX2_cells_3 4 rfl rfl)
theorem dX2_cells_76 : decode cX2_cells 76 = .ok (.iinc 4 1, 3) := dk_132 4 1 (dk_at dksX2_cells_3 5 rfl rfl)
theorem dX2_cells_79 : decode cX2_cells 79 = .ok (.goto (-62), 3) := dk_167 255 194 (dk_at dksX2_cells_3 8 rfl rfl)
theorem dX2_cells_82 : decode cX2_cells 82 = .ok (.iinc 3 1, 3) := dk_132 3 1 (dk_at dksX2_cells_3 11 rfl rfl)
theorem dX2_cells_85 : decode cX2_cells 85 = .ok (.goto (-77), 3) := dk_167 255 179 (dk_at dksX2_cells_3 14 rfl rfl)
theorem dX2_cells_88 : decode cX2_cells 88 = .ok (.iload_n 2, 1) := dk_28 (dk_at dksX2_cells_3 17 rfl rfl)
theorem dX2_cells_89 : decode cX2_cells 89 = .ok (.ireturn, 1) := dk_172 (dk_at dksX2_cells_3 18 rfl rfl)
abbrev cX2_isLL1 : ByteArray := prog_14_method_53_code
def yX2_isLL1 : MethodName := ⟨RX2, "isLL1", "()Z"⟩
def dkwX2_isLL1_0 : List UInt8 := [42, 42, 4, 182, 0, 243, 182, 0, 184, 154, 0, 7, 4, 167, 0, 4, 3, 172]
abbrev dktX2_isLL1_0 : List UInt8 := dkwX2_isLL1_0 ++ []
theorem dksX2_isLL1_0 : cX2_isLL1.data.toList.drop 0 = dktX2_isLL1_0 := by decide +kernel
theorem dX2_isLL1_0 : decode cX2_isLL1 0 = .ok (.aload_n 0, 1) := dk_42 (dk_at dksX2_isLL1_0 0 rfl rfl)
theorem dX2_isLL1_1 : decode cX2_isLL1 1 = .ok (.aload_n 0, 1) := dk_42 (dk_at dksX2_isLL1_0 1 rfl rfl)
theorem dX2_isLL1_2 : decode cX2_isLL1 2 = .ok (.iconst 1, 1) := dk_4 (dk_at dksX2_isLL1_0 2 rfl rfl)
theorem dX2_isLL1_3 : decode cX2_isLL1 3 = .ok (.invokevirtual 243, 3) := dk_182 0 243 (dk_at dksX2_isLL1_0 3 rfl rfl)
theorem dX2_isLL1_6 : decode cX2_isLL1 6 = .ok (.invokevirtual 184, 3) := dk_182 0 184 (dk_at dksX2_isLL1_0 6 rfl rfl)
theorem dX2_isLL1_9 : decode cX2_isLL1 9 = .ok (.ifCond .ne 7, 3) := dk_154 0 7 (dk_at dksX2_isLL1_0 9 rfl rfl)
theorem dX2_isLL1_12 : decode cX2_isLL1 12 = .ok (.iconst 1, 1) := dk_4 (dk_at dksX2_isLL1_0 12 rfl rfl)
theorem dX2_isLL1_13 : decode cX2_isLL1 13 = .ok (.goto 4, 3) := dk_167 0 4 (dk_at dksX2_isLL1_0 13 rfl rfl)
theorem dX2_isLL1_16 : decode cX2_isLL1 16 = .ok (.iconst 0, 1) := dk_3 (dk_at dksX2_isLL1_0 16 rfl rfl)
theorem dX2_isLL1_17 : decode cX2_isLL1 17 = .ok (.ireturn, 1) := dk_172 (dk_at dksX2_isLL1_0 17 rfl rfl)
abbrev cX2_pairCount : ByteArray := prog_14_method_64_code
def yX2_pairCount : MethodName := ⟨RX2, "pairCount", "(I)I"⟩
def dkwX2_pairCount_2 : List UInt8 := [132, 3, 1, 167, 255, 228, 28, 172]
abbrev dktX2_pairCount_2 : List UInt8 := dkwX2_pairCount_2 ++ []
def dkwX2_pairCount_1 : List UInt8 := [17, 0, 183, 162, 0, 27, 28, 42, 180, 0, 50, 17, 0, 183, 27, 104, 29, 96, 51, 184, 0, 97, 96, 61]
abbrev dktX2_pairCount_1 : List UInt8 := dkwX2_pairCount_1 ++ dktX2_pairCount_2
def dkwX2_pairCount_0 : List UInt8 := [42, 42, 27, 182, 0, 164, 182, 0, 177, 154, 0, 5, 3, 172, 42, 182, 1, 19, 3, 61, 16, 14, 62, 29]
abbrev dktX2_pairCount_0 : List UInt8 := dkwX2_pairCount_0 ++ dktX2_pairCount_1
theorem dksX2_pairCount_0 : cX2_pairCount.data.toList.drop 0 = dktX2_pairCount_0 := by decide +kernel
theorem dksX2_pairCount_1 : cX2_pairCount.data.toList.drop 24 = dktX2_pairCount_1 := dk_seg dksX2_pairCount_0 24 rfl rfl
theorem dksX2_pairCount_2 : cX2_pairCount.data.toList.drop 48 = dktX2_pairCount_2 := dk_seg dksX2_pairCount_1 24 rfl rfl
theorem dX2_pairCount_0 : decode cX2_pairCount 0 = .ok (.aload_n 0, 1) := dk_42 (dk_at dksX2_pairCount_0 0 rfl rfl)
theorem dX2_pairCount_1 : decode cX2_pairCount 1 = .ok (.aload_n 0, 1) := dk_42 (dk_at dksX2_pairCount_0 1 rfl rfl)
theorem dX2_pairCount_2 : decode cX2_pairCount 2 = .ok (.iload_n 1, 1) := dk_27 (dk_at dksX2_pairCount_0 2 rfl rfl)
theorem dX2_pairCount_3 : decode cX2_pairCount 3 = .ok (.invokevirtual 164, 3) := dk_182 0 164 (dk_at dksX2_pairCount_0 3 rfl rfl)
theorem dX2_pairCount_6 : decode cX2_pairCount 6 = .ok (.invokevirtual 177, 3) := dk_182 0 177 (dk_at dksX2_pairCount_0 6 rfl rfl)
theorem dX2_pairCount_9 : decode cX2_pairCount 9 = .ok (.ifCond .ne 5, 3) := dk_154 0 5 (dk_at dksX2_pairCount_0 9 rfl rfl)
theorem dX2_pairCount_12 : decode cX2_pairCount 12 = .ok (.iconst 0, 1) := dk_3 (dk_at dksX2_pairCount_0 12 rfl rfl)
theorem dX2_pairCount_13 : decode cX2_pairCount 13 = .ok (.ireturn, 1) := dk_172 (dk_at dksX2_pairCount_0 13 rfl rfl)
theorem dX2_pairCount_14 : decode cX2_pairCount 14 = .ok (.aload_n 0, 1) := dk_42 (dk_at dksX2_pairCount_0 14 rfl rfl)
theorem dX2_pairCount_15 : decode cX2_pairCount 15 = .ok (.invokevirtual 275, 3) := dk_182 1 19 (dk_at dksX2_pairCount_0 15 rfl rfl)
theorem dX2_pairCount_18 : decode cX2_pairCount 18 = .ok (.iconst 0, 1) := dk_3 (dk_at dksX2_pairCount_0 18 rfl rfl)
theorem dX2_pairCount_19 : decode cX2_pairCount 19 = .ok (.istore_n 2, 1) := dk_61 (dk_at dksX2_pairCount_0 19 rfl rfl)
theorem dX2_pairCount_20 : decode cX2_pairCount 20 = .ok (.bipush 14, 2) := dk_16 14 (dk_at dksX2_pairCount_0 20 rfl rfl)
theorem dX2_pairCount_22 : decode cX2_pairCount 22 = .ok (.istore_n 3, 1) := dk_62 (dk_at dksX2_pairCount_0 22 rfl rfl)
theorem dX2_pairCount_23 : decode cX2_pairCount 23 = .ok (.iload_n 3, 1) := dk_29 (dk_at dksX2_pairCount_0 23 rfl rfl)
theorem dX2_pairCount_24 : decode cX2_pairCount 24 = .ok (.sipush 183, 3) := dk_17 0 183 (dk_at dksX2_pairCount_1 0 rfl rfl)
theorem dX2_pairCount_27 : decode cX2_pairCount 27 = .ok (.if_icmp .ge 27, 3) := dk_162 0 27 (dk_at dksX2_pairCount_1 3 rfl rfl)
theorem dX2_pairCount_30 : decode cX2_pairCount 30 = .ok (.iload_n 2, 1) := dk_28 (dk_at dksX2_pairCount_1 6 rfl rfl)
theorem dX2_pairCount_31 : decode cX2_pairCount 31 = .ok (.aload_n 0, 1) := dk_42 (dk_at dksX2_pairCount_1 7 rfl rfl)
theorem dX2_pairCount_32 : decode cX2_pairCount 32 = .ok (.getfield 50, 3) := dk_180 0 50 (dk_at dksX2_pairCount_1 8 rfl rfl)
theorem dX2_pairCount_35 : decode cX2_pairCount 35 = .ok (.sipush 183, 3) := dk_17 0 183 (dk_at dksX2_pairCount_1 11 rfl rfl)
theorem dX2_pairCount_38 : decode cX2_pairCount 38 = .ok (.iload_n 1, 1) := dk_27 (dk_at dksX2_pairCount_1 14 rfl rfl)
theorem dX2_pairCount_39 : decode cX2_pairCount 39 = .ok (.imul, 1) := dk_104 (dk_at dksX2_pairCount_1 15 rfl rfl)
theorem dX2_pairCount_40 : decode cX2_pairCount 40 = .ok (.iload_n 3, 1) := dk_29 (dk_at dksX2_pairCount_1 16 rfl rfl)
theorem dX2_pairCount_41 : decode cX2_pairCount 41 = .ok (.iadd, 1) := dk_96 (dk_at dksX2_pairCount_1 17 rfl rfl)
theorem dX2_pairCount_42 : decode cX2_pairCount 42 = .ok (.baload, 1) := dk_51 (dk_at dksX2_pairCount_1 18 rfl rfl)
theorem dX2_pairCount_43 : decode cX2_pairCount 43 = .ok (.invokestatic 97, 3) := dk_184 0 97 (dk_at dksX2_pairCount_1 19 rfl rfl)
theorem dX2_pairCount_46 : decode cX2_pairCount 46 = .ok (.iadd, 1) := dk_96 (dk_at dksX2_pairCount_1 22 rfl rfl)
theorem dX2_pairCount_47 : decode cX2_pairCount 47 = .ok (.istore_n 2, 1) := dk_61 (dk_at dksX2_pairCount_1 23 rfl rfl)
theorem dX2_pairCount_48 : decode cX2_pairCount 48 = .ok (.iinc 3 1, 3) := dk_132 3 1 (dk_at dksX2_pairCount_2 0 rfl rfl)
theorem dX2_pairCount_51 : decode cX2_pairCount 51 = .ok (.goto (-28), 3) := dk_167 255 228 (dk_at dksX2_pairCount_2 3 rfl rfl)
theorem dX2_pairCount_54 : decode cX2_pairCount 54 = .ok (.iload_n 2, 1) := dk_28 (dk_at dksX2_pairCount_2 6 rfl rfl)
theorem dX2_pairCount_55 : decode cX2_pairCount 55 = .ok (.ireturn, 1) := dk_172 (dk_at dksX2_pairCount_2 7 rfl rfl)
abbrev cX2_knowsPairs : ByteArray := prog_14_method_63_code
def yX2_knowsPairs : MethodName := ⟨RX2, "knowsPairs", "()V"⟩
def dkwX2_knowsPairs_5 : List UInt8 := [29, 96, 42, 180, 0, 44, 29, 51, 84, 132, 3, 1, 167, 255, 228, 132, 2, 1, 167, 255, 205, 177]
abbrev dktX2_knowsPairs_5 : List UInt8 := dkwX2_knowsPairs_5 ++ []
def dkwX2_knowsPairs_4 : List UInt8 := [28, 3, 182, 1, 10, 16, 14, 62, 29, 17, 0, 183, 162, 0, 27, 42, 180, 0, 50, 17, 0, 183, 28, 104]
abbrev dktX2_knowsPairs_4 : List UInt8 := dkwX2_knowsPairs_4 ++ dktX2_knowsPairs_5
def dkwX2_knowsPairs_3 : List UInt8 := [60, 27, 153, 0, 11, 42, 182, 1, 16, 60, 167, 255, 247, 3, 61, 28, 42, 180, 0, 113, 162, 0, 49, 42]
abbrev dktX2_knowsPairs_3 : List UInt8 := dkwX2_knowsPairs_3 ++ dktX2_knowsPairs_4
def dkwX2_knowsPairs_2 : List UInt8 := [16, 12, 16, 12, 184, 0, 246, 4, 84, 4, 60, 27, 153, 0, 11, 42, 182, 1, 13, 60, 167, 255, 247, 4]
abbrev dktX2_knowsPairs_2 : List UInt8 := dkwX2_knowsPairs_2 ++ dktX2_knowsPairs_3
def dkwX2_knowsPairs_1 : List UInt8 := [180, 0, 37, 27, 3, 84, 42, 180, 0, 41, 27, 3, 84, 132, 1, 1, 167, 255, 232, 42, 180, 0, 41]
abbrev dktX2_knowsPairs_1 : List UInt8 := dkwX2_knowsPairs_1 ++ dktX2_knowsPairs_2
def dkwX2_knowsPairs_0 : List UInt8 := [42, 180, 0, 131, 153, 0, 4, 177, 42, 4, 181, 0, 131, 3, 60, 27, 17, 8, 148, 162, 0, 23, 42]
abbrev dktX2_knowsPairs_0 : List UInt8 := dkwX2_knowsPairs_0 ++ dktX2_knowsPairs_1
theorem dksX2_knowsPairs_0 : cX2_knowsPairs.data.toList.drop 0 = dktX2_knowsPairs_0 := by decide +kernel
theorem dksX2_knowsPairs_1 : cX2_knowsPairs.data.toList.drop 23 = dktX2_knowsPairs_1 := dk_seg dksX2_knowsPairs_0 23 rfl rfl
theorem dksX2_knowsPairs_2 : cX2_knowsPairs.data.toList.drop 46 = dktX2_knowsPairs_2 := dk_seg dksX2_knowsPairs_1 23 rfl rfl
theorem dksX2_knowsPairs_3 : cX2_knowsPairs.data.toList.drop 70 = dktX2_knowsPairs_3 := dk_seg dksX2_knowsPairs_2 24 rfl rfl
theorem dksX2_knowsPairs_4 : cX2_knowsPairs.data.toList.drop 94 = dktX2_knowsPairs_4 := dk_seg dksX2_knowsPairs_3 24 rfl rfl
theorem dksX2_knowsPairs_5 : cX2_knowsPairs.data.toList.drop 118 = dktX2_knowsPairs_5 := dk_seg dksX2_knowsPairs_4 24 rfl rfl
theorem dX2_knowsPairs_0 : decode cX2_knowsPairs 0 = .ok (.aload_n 0, 1) := dk_42 (dk_at dksX2_knowsPairs_0 0 rfl rfl)
theorem dX2_knowsPairs_1 : decode cX2_knowsPairs 1 = .ok (.getfield 131, 3) := dk_180 0 131 (dk_at dksX2_knowsPairs_0 1 rfl rfl)
theorem dX2_knowsPairs_4 : decode cX2_knowsPairs 4 = .ok (.ifCond .eq 4, 3) := dk_153 0 4 (dk_at dksX2_knowsPairs_0 4 rfl rfl)
theorem dX2_knowsPairs_7 : decode cX2_knowsPairs 7 = .ok (.return_, 1) := dk_177 (dk_at dksX2_knowsPairs_0 7 rfl rfl)
theorem dX2_knowsPairs_8 : decode cX2_knowsPairs 8 = .ok (.aload_n 0, 1) := dk_42 (dk_at dksX2_knowsPairs_0 8 rfl rfl)
theorem dX2_knowsPairs_9 : decode cX2_knowsPairs 9 = .ok (.iconst 1, 1) := dk_4 (dk_at dksX2_knowsPairs_0 9 rfl rfl)
theorem dX2_knowsPairs_10 : decode cX2_knowsPairs 10 = .ok (.putfield 131, 3) := dk_181 0 131 (dk_at dksX2_knowsPairs_0 10 rfl rfl)
theorem dX2_knowsPairs_13 : decode cX2_knowsPairs 13 = .ok (.iconst 0, 1) := dk_3 (dk_at dksX2_knowsPairs_0 13 rfl rfl)
theorem dX2_knowsPairs_14 : decode cX2_knowsPairs 14 = .ok (.istore_n 1, 1) := dk_60 (dk_at dksX2_knowsPairs_0 14 rfl rfl)
theorem dX2_knowsPairs_15 : decode cX2_knowsPairs 15 = .ok (.iload_n 1, 1) := dk_27 (dk_at dksX2_knowsPairs_0 15 rfl rfl)
theorem dX2_knowsPairs_16 : decode cX2_knowsPairs 16 = .ok (.sipush 2196, 3) := dk_17 8 148 (dk_at dksX2_knowsPairs_0 16 rfl rfl)
theorem dX2_knowsPairs_19 : decode cX2_knowsPairs 19 = .ok (.if_icmp .ge 23, 3) := dk_162 0 23 (dk_at dksX2_knowsPairs_0 19 rfl rfl)
theorem dX2_knowsPairs_22 : decode cX2_knowsPairs 22 = .ok (.aload_n 0, 1) := dk_42 (dk_at dksX2_knowsPairs_0 22 rfl rfl)
theorem dX2_knowsPairs_23 : decode cX2_knowsPairs 23 = .ok (.getfield 37, 3) := dk_180 0 37 (dk_at dksX2_knowsPairs_1 0 rfl rfl)
theorem dX2_knowsPairs_26 : decode cX2_knowsPairs 26 = .ok (.iload_n 1, 1) := dk_27 (dk_at dksX2_knowsPairs_1 3 rfl rfl)
theorem dX2_knowsPairs_27 : decode cX2_knowsPairs 27 = .ok (.iconst 0, 1) := dk_3 (dk_at dksX2_knowsPairs_1 4 rfl rfl)
theorem dX2_knowsPairs_28 : decode cX2_knowsPairs 28 = .ok (.bastore, 1) := dk_84 (dk_at dksX2_knowsPairs_1 5 rfl rfl)
theorem dX2_knowsPairs_29 : decode cX2_knowsPairs 29 = .ok (.aload_n 0, 1) := dk_42 (dk_at dksX2_knowsPairs_1 6 rfl rfl)
theorem dX2_knowsPairs_30 : decode cX2_knowsPairs 30 = .ok (.getfield 41, 3) := dk_180 0 41 (dk_at dksX2_knowsPairs_1 7 rfl rfl)
theorem dX2_knowsPairs_33 : decode cX2_knowsPairs 33 = .ok (.iload_n 1, 1) := dk_27 (dk_at dksX2_knowsPairs_1 10 rfl rfl)
theorem dX2_knowsPairs_34 : decode cX2_knowsPairs 34 = .ok (.iconst 0, 1) := dk_3 (dk_at dksX2_knowsPairs_1 11 rfl rfl)
theorem dX2_knowsPairs_35 : decode cX2_knowsPairs 35 = .ok (.bastore, 1) := dk_84 (dk_at dksX2_knowsPairs_1 12 rfl rfl)
theorem dX2_knowsPairs_36 : decode cX2_knowsPairs 36 = .ok (.iinc 1 1, 3) := dk_132 1 1 (dk_at dksX2_knowsPairs_1 13 rfl rfl)
theorem dX2_knowsPairs_39 : decode cX2_knowsPairs 39 = .ok (.goto (-24), 3) := dk_167 255 232 (dk_at dksX2_knowsPairs_1 16 rfl rfl)
theorem dX2_knowsPairs_42 : decode cX2_knowsPairs 42 = .ok (.aload_n 0, 1) := dk_42 (dk_at dksX2_knowsPairs_1 19 rfl rfl)
theorem dX2_knowsPairs_43 : decode cX2_knowsPairs 43 = .ok (.getfield 41, 3) := dk_180 0 41 (dk_at dksX2_knowsPairs_1 20 rfl rfl)
theorem dX2_knowsPairs_46 : decode cX2_knowsPairs 46 = .ok (.bipush 12, 2) := dk_16 12 (dk_at dksX2_knowsPairs_2 0 rfl rfl)
theorem dX2_knowsPairs_48 : decode cX2_knowsPairs 48 = .ok (.bipush 12, 2) := dk_16 12 (dk_at dksX2_knowsPairs_2 2 rfl rfl)
theorem dX2_knowsPairs_50 : decode cX2_knowsPairs 50 = .ok (.invokestatic 246, 3) := dk_184 0 246 (dk_at dksX2_knowsPairs_2 4 rfl rfl)
theorem dX2_knowsPairs_53 : decode cX2_knowsPairs 53 = .ok (.iconst 1, 1) := dk_4 (dk_at dksX2_knowsPairs_2 7 rfl rfl)
theorem dX2_knowsPairs_54 : decode cX2_knowsPairs 54 = .ok (.bastore, 1) := dk_84 (dk_at dksX2_knowsPairs_2 8 rfl rfl)
theorem dX2_knowsPairs_55 : decode cX2_knowsPairs 55 = .ok (.iconst 1, 1) := dk_4 (dk_at dksX2_knowsPairs_2 9 rfl rfl)
theorem dX2_knowsPairs_56 : decode cX2_knowsPairs 56 = .ok (.istore_n 1, 1) := dk_60 (dk_at dksX2_knowsPairs_2 10 rfl rfl)
theorem dX2_knowsPairs_57 : decode cX2_knowsPairs 57 = .ok (.iload_n 1, 1) := dk_27 (dk_at dksX2_knowsPairs_2 11 rfl rfl)
theorem dX2_knowsPairs_58 : decode cX2_knowsPairs 58 = .ok (.ifCond .eq 11, 3) := dk_153 0 11 (dk_at dksX2_knowsPairs_2 12 rfl rfl)
theorem dX2_knowsPairs_61 : decode cX2_knowsPairs 61 = .ok (.aload_n 0, 1) := dk_42 (dk_at dksX2_knowsPairs_2 15 rfl rfl)
theorem dX2_knowsPairs_62 : decode cX2_knowsPairs 62 = .ok (.invokevirtual 269, 3) := dk_182 1 13 (dk_at dksX2_knowsPairs_2 16 rfl rfl)
theorem dX2_knowsPairs_65 : decode cX2_knowsPairs 65 = .ok (.istore_n 1, 1) := dk_60 (dk_at dksX2_knowsPairs_2 19 rfl rfl)
theorem dX2_knowsPairs_66 : decode cX2_knowsPairs 66 = .ok (.goto (-9), 3) := dk_167 255 247 (dk_at dksX2_knowsPairs_2 20 rfl rfl)
theorem dX2_knowsPairs_69 : decode cX2_knowsPairs 69 = .ok (.iconst 1, 1) := dk_4 (dk_at dksX2_knowsPairs_2 23 rfl rfl)
theorem dX2_knowsPairs_70 : decode cX2_knowsPairs 70 = .ok (.istore_n 1, 1) := dk_60 (dk_at dksX2_knowsPairs_3 0 rfl rfl)
theorem dX2_knowsPairs_71 : decode cX2_knowsPairs 71 = .ok (.iload_n 1, 1) := dk_27 (dk_at dksX2_knowsPairs_3 1 rfl rfl)
theorem dX2_knowsPairs_72 : decode cX2_knowsPairs 72 = .ok (.ifCond .eq 11, 3) := dk_153 0 11 (dk_at dksX2_knowsPairs_3 2 rfl rfl)
theorem dX2_knowsPairs_75 : decode cX2_knowsPairs 75 = .ok (.aload_n 0, 1) := dk_42 (dk_at dksX2_knowsPairs_3 5 rfl rfl)
theorem dX2_knowsPairs_76 : decode cX2_knowsPairs 76 = .ok (.invokevirtual 272, 3) := dk_182 1 16 (dk_at dksX2_knowsPairs_3 6 rfl rfl)
theorem dX2_knowsPairs_79 : decode cX2_knowsPairs 79 = .ok (.istore_n 1, 1) := dk_60 (dk_at dksX2_knowsPairs_3 9 rfl rfl)
theorem dX2_knowsPairs_80 : decode cX2_knowsPairs 80 = .ok (.goto (-9), 3) := dk_167 255 247 (dk_at dksX2_knowsPairs_3 10 rfl rfl)
theorem dX2_knowsPairs_83 : decode cX2_knowsPairs 83 = .ok (.iconst 0, 1) := dk_3 (dk_at dksX2_knowsPairs_3 13 rfl rfl)
theorem dX2_knowsPairs_84 : decode cX2_knowsPairs 84 = .ok (.istore_n 2, 1) := dk_61 (dk_at dksX2_knowsPairs_3 14 rfl rfl)
theorem dX2_knowsPairs_85 : decode cX2_knowsPairs 85 = .ok (.iload_n 2, 1) := dk_28 (dk_at dksX2_knowsPairs_3 15 rfl rfl)
theorem dX2_knowsPairs_86 : decode cX2_knowsPairs 86 = .ok (.aload_n 0, 1) := dk_42 (dk_at dksX2_knowsPairs_3 16 rfl rfl)
theorem dX2_knowsPairs_87 : decode cX2_knowsPairs 87 = .ok (.getfield 113, 3) := dk_180 0 113 (dk_at dksX2_knowsPairs_3 17 rfl rfl)
theorem dX2_knowsPairs_90 : decode cX2_knowsPairs 90 = .ok (.if_icmp .ge 49, 3) := dk_162 0 49 (dk_at dksX2_knowsPairs_3 20 rfl rfl)
theorem dX2_knowsPairs_93 : decode cX2_knowsPairs 93 = .ok (.aload_n 0, 1) := dk_42 (dk_at dksX2_knowsPairs_3 23 rfl rfl)
theorem dX2_knowsPairs_94 : decode cX2_knowsPairs 94 = .ok (.iload_n 2, 1) := dk_28 (dk_at dksX2_knowsPairs_4 0 rfl rfl)
theorem dX2_knowsPairs_95 : decode cX2_knowsPairs 95 = .ok (.iconst 0, 1) := dk_3 (dk_at dksX2_knowsPairs_4 1 rfl rfl)
theorem dX2_knowsPairs_96 : decode cX2_knowsPairs 96 = .ok (.invokevirtual 266, 3) := dk_182 1 10 (dk_at dksX2_knowsPairs_4 2 rfl rfl)
theorem dX2_knowsPairs_99 : decode cX2_knowsPairs 99 = .ok (.bipush 14, 2) := dk_16 14 (dk_at dksX2_knowsPairs_4 5 rfl rfl)
theorem dX2_knowsPairs_101 : decode cX2_knowsPairs 101 = .ok (.istore_n 3, 1) := dk_62 (dk_at dksX2_knowsPairs_4 7 rfl rfl)
theorem dX2_knowsPairs_102 : decode cX2_knowsPairs 102 = .ok (.iload_n 3, 1) := dk_29 (dk_at dksX2_knowsPairs_4 8 rfl rfl)
theorem dX2_knowsPairs_103 : decode cX2_knowsPairs 103 = .ok (.sipush 183, 3) := dk_17 0 183 (dk_at dksX2_knowsPairs_4 9 rfl rfl)
theorem dX2_knowsPairs_106 : decode cX2_knowsPairs 106 = .ok (.if_icmp .ge 27, 3) := dk_162 0 27 (dk_at dksX2_knowsPairs_4 12 rfl rfl)
theorem dX2_knowsPairs_109 : decode cX2_knowsPairs 109 = .ok (.aload_n 0, 1) := dk_42 (dk_at dksX2_knowsPairs_4 15 rfl rfl)
theorem dX2_knowsPairs_110 : decode cX2_knowsPairs 110 = .ok (.getfield 50, 3) := dk_180 0 50 (dk_at dksX2_knowsPairs_4 16 rfl rfl)
theorem dX2_knowsPairs_113 : decode cX2_knowsPairs 113 = .ok (.sipush 183, 3) := dk_17 0 183 (dk_at dksX2_knowsPairs_4 19 rfl rfl)
theorem dX2_knowsPairs_116 : decode cX2_knowsPairs 116 = .ok (.iload_n 2, 1) := dk_28 (dk_at dksX2_knowsPairs_4 22 rfl rfl)
theorem dX2_knowsPairs_117 : decode cX2_knowsPairs 117 = .ok (.imul, 1) := dk_104 (dk_at dksX2_knowsPairs_4 23 rfl rfl)
theorem dX2_knowsPairs_118 : decode cX2_knowsPairs 118 = .ok (.iload_n 3, 1) := dk_29 (dk_at dksX2_knowsPairs_5 0 rfl rfl)
theorem dX2_knowsPairs_119 : decode cX2_knowsPairs 119 = .ok (.iadd, 1) := dk_96 (dk_at dksX2_knowsPairs_5 1 rfl rfl)
theorem dX2_knowsPairs_120 : decode cX2_knowsPairs 120 = .ok (.aload_n 0, 1) := dk_42 (dk_at dksX2_knowsPairs_5 2 rfl rfl)
theorem dX2_knowsPairs_121 : decode cX2_knowsPairs 121 = .ok (.getfield 44, 3) := dk_180 0 44 (dk_at dksX2_knowsPairs_5 3 rfl rfl)
theorem dX2_knowsPairs_124 : decode cX2_knowsPairs 124 = .ok (.iload_n 3, 1) := dk_29 (dk_at dksX2_knowsPairs_5 6 rfl rfl)
theorem dX2_knowsPairs_125 : decode cX2_knowsPairs 125 = .ok (.baload, 1) := dk_51 (dk_at dksX2_knowsPairs_5 7 rfl rfl)
theorem dX2_knowsPairs_126 : decode cX2_knowsPairs 126 = .ok (.bastore, 1) := dk_84 (dk_at dksX2_knowsPairs_5 8 rfl rfl)
theorem dX2_knowsPairs_127 : decode cX2_knowsPairs 127 = .ok (.iinc 3 1, 3) := dk_132 3 1 (dk_at dksX2_knowsPairs_5 9 rfl rfl)
theorem dX2_knowsPairs_130 : decode cX2_knowsPairs 130 = .ok (.goto (-28), 3) := dk_167 255 228 (dk_at dksX2_knowsPairs_5 12 rfl rfl)
theorem dX2_knowsPairs_133 : decode cX2_knowsPairs 133 = .ok (.iinc 2 1, 3) := dk_132 2 1 (dk_at dksX2_knowsPairs_5 15 rfl rfl)
theorem dX2_knowsPairs_136 : decode cX2_knowsPairs 136 = .ok (.goto (-51), 3) := dk_167 255 205 (dk_at dksX2_knowsPairs_5 18 rfl rfl)
theorem dX2_knowsPairs_139 : decode cX2_knowsPairs 139 = .ok (.return_, 1) := dk_177 (dk_at dksX2_knowsPairs_5 21 rfl rfl)
abbrev cX2_pair : ByteArray := prog_14_method_54_code
def yX2_pair : MethodName := ⟨RX2, "pair", "(II)I"⟩
def dkwX2_pair_0 : List UInt8 := [16, 14, 16, 13, 26, 104, 96, 27, 96, 172]
abbrev dktX2_pair_0 : List UInt8 := dkwX2_pair_0 ++ []
theorem dksX2_pair_0 : cX2_pair.data.toList.drop 0 = dktX2_pair_0 := by decide +kernel
theorem dX2_pair_0 : decode cX2_pair 0 = .ok (.bipush 14, 2) := dk_16 14 (dk_at dksX2_pair_0 0 rfl rfl)
theorem dX2_pair_2 : decode cX2_pair 2 = .ok (.bipush 13, 2) := dk_16 13 (dk_at dksX2_pair_0 2 rfl rfl)
theorem dX2_pair_4 : decode cX2_pair 4 = .ok (.iload_n 0, 1) := dk_26 (dk_at dksX2_pair_0 4 rfl rfl)
theorem dX2_pair_5 : decode cX2_pair 5 = .ok (.imul, 1) := dk_104 (dk_at dksX2_pair_0 5 rfl rfl)
theorem dX2_pair_6 : decode cX2_pair 6 = .ok (.iadd, 1) := dk_96 (dk_at dksX2_pair_0 6 rfl rfl)
theorem dX2_pair_7 : decode cX2_pair 7 = .ok (.iload_n 1, 1) := dk_27 (dk_at dksX2_pair_0 7 rfl rfl)
theorem dX2_pair_8 : decode cX2_pair 8 = .ok (.iadd, 1) := dk_96 (dk_at dksX2_pair_0 8 rfl rfl)
theorem dX2_pair_9 : decode cX2_pair 9 = .ok (.ireturn, 1) := dk_172 (dk_at dksX2_pair_0 9 rfl rfl)
abbrev cX2_addsFirsts : ByteArray := prog_14_method_61_code
def yX2_addsFirsts : MethodName := ⟨RX2, "addsFirsts", "()Z"⟩
def dkwX2_addsFirsts_2 : List UInt8 := [153, 0, 7, 4, 167, 0, 4, 3, 60, 132, 2, 1, 167, 255, 202, 27, 172]
abbrev dktX2_addsFirsts_2 : List UInt8 := dkwX2_addsFirsts_2 ++ []
def dkwX2_addsFirsts_1 : List UInt8 := [17, 0, 183, 42, 180, 0, 7, 28, 46, 16, 20, 100, 104, 3, 182, 1, 6, 62, 27, 154, 0, 7, 29]
abbrev dktX2_addsFirsts_1 : List UInt8 := dkwX2_addsFirsts_1 ++ dktX2_addsFirsts_2
def dkwX2_addsFirsts_0 : List UInt8 := [3, 60, 3, 61, 28, 42, 180, 0, 113, 162, 0, 52, 42, 28, 3, 182, 1, 3, 42, 42, 180, 0, 37]
abbrev dktX2_addsFirsts_0 : List UInt8 := dkwX2_addsFirsts_0 ++ dktX2_addsFirsts_1
theorem dksX2_addsFirsts_0 : cX2_addsFirsts.data.toList.drop 0 = dktX2_addsFirsts_0 := by decide +kernel
theorem dksX2_addsFirsts_1 : cX2_addsFirsts.data.toList.drop 23 = dktX2_addsFirsts_1 := dk_seg dksX2_addsFirsts_0 23 rfl rfl
theorem dksX2_addsFirsts_2 : cX2_addsFirsts.data.toList.drop 46 = dktX2_addsFirsts_2 := dk_seg dksX2_addsFirsts_1 23 rfl rfl
theorem dX2_addsFirsts_0 : decode cX2_addsFirsts 0 = .ok (.iconst 0, 1) := dk_3 (dk_at dksX2_addsFirsts_0 0 rfl rfl)
theorem dX2_addsFirsts_1 : decode cX2_addsFirsts 1 = .ok (.istore_n 1, 1) := dk_60 (dk_at dksX2_addsFirsts_0 1 rfl rfl)
theorem dX2_addsFirsts_2 : decode cX2_addsFirsts 2 = .ok (.iconst 0, 1) := dk_3 (dk_at dksX2_addsFirsts_0 2 rfl rfl)
theorem dX2_addsFirsts_3 : decode cX2_addsFirsts 3 = .ok (.istore_n 2, 1) := dk_61 (dk_at dksX2_addsFirsts_0 3 rfl rfl)
theorem dX2_addsFirsts_4 : decode cX2_addsFirsts 4 = .ok (.iload_n 2, 1) := dk_28 (dk_at dksX2_addsFirsts_0 4 rfl rfl)
theorem dX2_addsFirsts_5 : decode cX2_addsFirsts 5 = .ok (.aload_n 0, 1) := dk_42 (dk_at dksX2_addsFirsts_0 5 rfl rfl)
theorem dX2_addsFirsts_6 : decode cX2_addsFirsts 6 = .ok (.getfield 113, 3) := dk_180 0 113 (dk_at dksX2_addsFirsts_0 6 rfl rfl)
theorem dX2_addsFirsts_9 : decode cX2_addsFirsts 9 = .ok (.if_icmp .ge 52, 3) := dk_162 0 52 (dk_at dksX2_addsFirsts_0 9 rfl rfl)
theorem dX2_addsFirsts_12 : decode cX2_addsFirsts 12 = .ok (.aload_n 0, 1) := dk_42 (dk_at dksX2_addsFirsts_0 12 rfl rfl)
theorem dX2_addsFirsts_13 : decode cX2_addsFirsts 13 = .ok (.iload_n 2, 1) := dk_28 (dk_at dksX2_addsFirsts_0 13 rfl rfl)
theorem dX2_addsFirsts_14 : decode cX2_addsFirsts 14 = .ok (.iconst 0, 1) := dk_3 (dk_at dksX2_addsFirsts_0 14 rfl rfl)
theorem dX2_addsFirsts_15 : decode cX2_addsFirsts 15 = .ok (.invokevirtual 259, 3) := dk_182 1 3 (dk_at dksX2_addsFirsts_0 15 rfl rfl)
theorem dX2_addsFirsts_18 : decode cX2_addsFirsts 18 = .ok (.aload_n 0, 1) := dk_42 (dk_at dksX2_addsFirsts_0 18 rfl rfl)
theorem dX2_addsFirsts_19 : decode cX2_addsFirsts 19 = .ok (.aload_n 0, 1) := dk_42 (dk_at dksX2_addsFirsts_0 19 rfl rfl)
theorem dX2_addsFirsts_20 : decode cX2_addsFirsts 20 = .ok (.getfield 37, 3) := dk_180 0 37 (dk_at dksX2_addsFirsts_0 20 rfl rfl)
theorem dX2_addsFirsts_23 : decode cX2_addsFirsts 23 = .ok (.sipush 183, 3) := dk_17 0 183 (dk_at dksX2_addsFirsts_1 0 rfl rfl)
theorem dX2_addsFirsts_26 : decode cX2_addsFirsts 26 = .ok (.aload_n 0, 1) := dk_42 (dk_at dksX2_addsFirsts_1 3 rfl rfl)
theorem dX2_addsFirsts_27 : decode cX2_addsFirsts 27 = .ok (.getfield 7, 3) := dk_180 0 7 (dk_at dksX2_addsFirsts_1 4 rfl rfl)
theorem dX2_addsFirsts_30 : decode cX2_addsFirsts 30 = .ok (.iload_n 2, 1) := dk_28 (dk_at dksX2_addsFirsts_1 7 rfl rfl)
theorem dX2_addsFirsts_31 : decode cX2_addsFirsts 31 = .ok (.iaload, 1) := dk_46 (dk_at dksX2_addsFirsts_1 8 rfl rfl)
theorem dX2_addsFirsts_32 : decode cX2_addsFirsts 32 = .ok (.bipush 20, 2) := dk_16 20 (dk_at dksX2_addsFirsts_1 9 rfl rfl)
theorem dX2_addsFirsts_34 : decode cX2_addsFirsts 34 = .ok (.isub, 1) := dk_100 (dk_at dksX2_addsFirsts_1 11 rfl rfl)
theorem dX2_addsFirsts_35 : decode cX2_addsFirsts 35 = .ok (.imul, 1) := dk_104 (dk_at dksX2_addsFirsts_1 12 rfl rfl)
theorem dX2_addsFirsts_36 : decode cX2_addsFirsts 36 = .ok (.iconst 0, 1) := dk_3 (dk_at dksX2_addsFirsts_1 13 rfl rfl)
theorem dX2_addsFirsts_37 : decode cX2_addsFirsts 37 = .ok (.invokevirtual 262, 3) := dk_182 1 6 (dk_at dksX2_addsFirsts_1 14 rfl rfl)
theorem dX2_addsFirsts_40 : decode cX2_addsFirsts 40 = .ok (.istore_n 3, 1) := dk_62 (dk_at dksX2_addsFirsts_1 17 rfl rfl)
theorem dX2_addsFirsts_41 : decode cX2_addsFirsts 41 = .ok (.iload_n 1, 1) := dk_27 (dk_at dksX2_addsFirsts_1 18 rfl rfl)
theorem dX2_addsFirsts_42 : decode cX2_addsFirsts 42 = .ok (.ifCond .ne 7, 3) := dk_154 0 7 (dk_at dksX2_addsFirsts_1 19 rfl rfl)
theorem dX2_addsFirsts_45 : decode cX2_addsFirsts 45 = .ok (.iload_n 3, 1) := dk_29 (dk_at dksX2_addsFirsts_1 22 rfl rfl)
theorem dX2_addsFirsts_46 : decode cX2_addsFirsts 46 = .ok (.ifCond .eq 7, 3) := dk_153 0 7 (dk_at dksX2_addsFirsts_2 0 rfl rfl)
theorem dX2_addsFirsts_49 : decode cX2_addsFirsts 49 = .ok (.iconst 1, 1) := dk_4 (dk_at dksX2_addsFirsts_2 3 rfl rfl)
theorem dX2_addsFirsts_50 : decode cX2_addsFirsts 50 = .ok (.goto 4, 3) := dk_167 0 4 (dk_at dksX2_addsFirsts_2 4 rfl rfl)
theorem dX2_addsFirsts_53 : decode cX2_addsFirsts 53 = .ok (.iconst 0, 1) := dk_3 (dk_at dksX2_addsFirsts_2 7 rfl rfl)
theorem dX2_addsFirsts_54 : decode cX2_addsFirsts 54 = .ok (.istore_n 1, 1) := dk_60 (dk_at dksX2_addsFirsts_2 8 rfl rfl)
theorem dX2_addsFirsts_55 : decode cX2_addsFirsts 55 = .ok (.iinc 2 1, 3) := dk_132 2 1 (dk_at dksX2_addsFirsts_2 9 rfl rfl)
theorem dX2_addsFirsts_58 : decode cX2_addsFirsts 58 = .ok (.goto (-54), 3) := dk_167 255 202 (dk_at dksX2_addsFirsts_2 12 rfl rfl)
theorem dX2_addsFirsts_61 : decode cX2_addsFirsts 61 = .ok (.iload_n 1, 1) := dk_27 (dk_at dksX2_addsFirsts_2 15 rfl rfl)
theorem dX2_addsFirsts_62 : decode cX2_addsFirsts 62 = .ok (.ireturn, 1) := dk_172 (dk_at dksX2_addsFirsts_2 16 rfl rfl)
abbrev cX2_firstsFrom : ByteArray := prog_14_method_58_code
def yX2_firstsFrom : MethodName := ⟨RX2, "firstsFrom", "(II)V"⟩
def dkwX2_firstsFrom_3 : List UInt8 := [17, 0, 183, 21, 4, 16, 20, 100, 104, 182, 0, 255, 132, 3, 1, 167, 255, 201, 177]
abbrev dktX2_firstsFrom_3 : List UInt8 := dkwX2_firstsFrom_3 ++ []
def dkwX2_firstsFrom_2 : List UInt8 := [54, 4, 21, 4, 184, 0, 167, 153, 0, 12, 42, 21, 4, 182, 0, 252, 167, 0, 20, 42, 42, 180, 0, 37]
abbrev dktX2_firstsFrom_2 : List UInt8 := dkwX2_firstsFrom_2 ++ dktX2_firstsFrom_3
def dkwX2_firstsFrom_1 : List UInt8 := [132, 3, 1, 167, 255, 231, 28, 62, 29, 42, 180, 0, 13, 27, 46, 162, 0, 51, 42, 27, 29, 182, 0, 187]
abbrev dktX2_firstsFrom_1 : List UInt8 := dkwX2_firstsFrom_1 ++ dktX2_firstsFrom_2
def dkwX2_firstsFrom_0 : List UInt8 := [3, 62, 29, 17, 0, 183, 162, 0, 24, 42, 180, 0, 44, 29, 29, 154, 0, 7, 4, 167, 0, 4, 3, 84]
abbrev dktX2_firstsFrom_0 : List UInt8 := dkwX2_firstsFrom_0 ++ dktX2_firstsFrom_1
theorem dksX2_firstsFrom_0 : cX2_firstsFrom.data.toList.drop 0 = dktX2_firstsFrom_0 := by decide +kernel
theorem dksX2_firstsFrom_1 : cX2_firstsFrom.data.toList.drop 24 = dktX2_firstsFrom_1 := dk_seg dksX2_firstsFrom_0 24 rfl rfl
theorem dksX2_firstsFrom_2 : cX2_firstsFrom.data.toList.drop 48 = dktX2_firstsFrom_2 := dk_seg dksX2_firstsFrom_1 24 rfl rfl
theorem dksX2_firstsFrom_3 : cX2_firstsFrom.data.toList.drop 72 = dktX2_firstsFrom_3 := dk_seg dksX2_firstsFrom_2 24 rfl rfl
theorem dX2_firstsFrom_0 : decode cX2_firstsFrom 0 = .ok (.iconst 0, 1) := dk_3 (dk_at dksX2_firstsFrom_0 0 rfl rfl)
theorem dX2_firstsFrom_1 : decode cX2_firstsFrom 1 = .ok (.istore_n 3, 1) := dk_62 (dk_at dksX2_firstsFrom_0 1 rfl rfl)
theorem dX2_firstsFrom_2 : decode cX2_firstsFrom 2 = .ok (.iload_n 3, 1) := dk_29 (dk_at dksX2_firstsFrom_0 2 rfl rfl)
theorem dX2_firstsFrom_3 : decode cX2_firstsFrom 3 = .ok (.sipush 183, 3) := dk_17 0 183 (dk_at dksX2_firstsFrom_0 3 rfl rfl)
theorem dX2_firstsFrom_6 : decode cX2_firstsFrom 6 = .ok (.if_icmp .ge 24, 3) := dk_162 0 24 (dk_at dksX2_firstsFrom_0 6 rfl rfl)
theorem dX2_firstsFrom_9 : decode cX2_firstsFrom 9 = .ok (.aload_n 0, 1) := dk_42 (dk_at dksX2_firstsFrom_0 9 rfl rfl)
theorem dX2_firstsFrom_10 : decode cX2_firstsFrom 10 = .ok (.getfield 44, 3) := dk_180 0 44 (dk_at dksX2_firstsFrom_0 10 rfl rfl)
theorem dX2_firstsFrom_13 : decode cX2_firstsFrom 13 = .ok (.iload_n 3, 1) := dk_29 (dk_at dksX2_firstsFrom_0 13 rfl rfl)
theorem dX2_firstsFrom_14 : decode cX2_firstsFrom 14 = .ok (.iload_n 3, 1) := dk_29 (dk_at dksX2_firstsFrom_0 14 rfl rfl)
theorem dX2_firstsFrom_15 : decode cX2_firstsFrom 15 = .ok (.ifCond .ne 7, 3) := dk_154 0 7 (dk_at dksX2_firstsFrom_0 15 rfl rfl)
theorem dX2_firstsFrom_18 : decode cX2_firstsFrom 18 = .ok (.iconst 1, 1) := dk_4 (dk_at dksX2_firstsFrom_0 18 rfl rfl)
theorem dX2_firstsFrom_19 : decode cX2_firstsFrom 19 = .ok (.goto 4, 3) := dk_167 0 4 (dk_at dksX2_firstsFrom_0 19 rfl rfl)
theorem dX2_firstsFrom_22 : decode cX2_firstsFrom 22 = .ok (.iconst 0, 1) := dk_3 (dk_at dksX2_firstsFrom_0 22 rfl rfl)
theorem dX2_firstsFrom_23 : decode cX2_firstsFrom 23 = .ok (.bastore, 1) := dk_84 (dk_at dksX2_firstsFrom_0 23 rfl rfl)
theorem dX2_firstsFrom_24 : decode cX2_firstsFrom 24 = .ok (.iinc 3 1, 3) := dk_132 3 1 (dk_at dksX2_firstsFrom_1 0 rfl rfl)
theorem dX2_firstsFrom_27 : decode cX2_firstsFrom 27 = .ok (.goto (-25), 3) := dk_167 255 231 (dk_at dksX2_firstsFrom_1 3 rfl rfl)
theorem dX2_firstsFrom_30 : decode cX2_firstsFrom 30 = .ok (.iload_n 2, 1) := dk_28 (dk_at dksX2_firstsFrom_1 6 rfl rfl)
theorem dX2_firstsFrom_31 : decode cX2_firstsFrom 31 = .ok (.istore_n 3, 1) := dk_62 (dk_at dksX2_firstsFrom_1 7 rfl rfl)
theorem dX2_firstsFrom_32 : decode cX2_firstsFrom 32 = .ok (.iload_n 3, 1) := dk_29 (dk_at dksX2_firstsFrom_1 8 rfl rfl)
theorem dX2_firstsFrom_33 : decode cX2_firstsFrom 33 = .ok (.aload_n 0, 1) := dk_42 (dk_at dksX2_firstsFrom_1 9 rfl rfl)
theorem dX2_firstsFrom_34 : decode cX2_firstsFrom 34 = .ok (.getfield 13, 3) := dk_180 0 13 (dk_at dksX2_firstsFrom_1 10 rfl rfl)
theorem dX2_firstsFrom_37 : decode cX2_firstsFrom 37 = .ok (.iload_n 1, 1) := dk_27 (dk_at dksX2_firstsFrom_1 13 rfl rfl)
theorem dX2_firstsFrom_38 : decode cX2_firstsFrom 38 = .ok (.iaload, 1) := dk_46 (dk_at dksX2_firstsFrom_1 14 rfl rfl)
theorem dX2_firstsFrom_39 : decode cX2_firstsFrom 39 = .ok (.if_icmp .ge 51, 3) := dk_162 0 51 (dk_at dksX2_firstsFrom_1 15 rfl rfl)
theorem dX2_firstsFrom_42 : decode cX2_firstsFrom 42 = .ok (.aload_n 0, 1) := dk_42 (dk_at dksX2_firstsFrom_1 18 rfl rfl)
theorem dX2_firstsFrom_43 : decode cX2_firstsFrom 43 = .ok (.iload_n 1, 1) := dk_27 (dk_at dksX2_firstsFrom_1 19 rfl rfl)
theorem dX2_firstsFrom_44 : decode cX2_firstsFrom 44 = .ok (.iload_n 3, 1) := dk_29 (dk_at dksX2_firstsFrom_1 20 rfl rfl)
theorem dX2_firstsFrom_45 : decode cX2_firstsFrom 45 = .ok (.invokevirtual 187, 3) := dk_182 0 187 (dk_at dksX2_firstsFrom_1 21 rfl rfl)
theorem dX2_firstsFrom_48 : decode cX2_firstsFrom 48 = .ok (.istore 4, 2) := dk_54 4 (dk_at dksX2_firstsFrom_2 0 rfl rfl)
theorem dX2_firstsFrom_50 : decode cX2_firstsFrom 50 = .ok (.iload 4, 2) := dk_21 4 (dk_at dksX2_firstsFrom_2 2 rfl rfl)
theorem dX2_firstsFrom_52 : decode cX2_firstsFrom 52 = .ok (.invokestatic 167, 3) := dk_184 0 167 (dk_at dksX2_firstsFrom_2 4 rfl rfl)
theorem dX2_firstsFrom_55 : decode cX2_firstsFrom 55 = .ok (.ifCond .eq 12, 3) := dk_153 0 12 (dk_at dksX2_firstsFrom_2 7 rfl rfl)
theorem dX2_firstsFrom_58 : decode cX2_firstsFrom 58 = .ok (.aload_n 0, 1) := dk_42 (dk_at dksX2_firstsFrom_2 10 rfl rfl)
theorem dX2_firstsFrom_59 : decode cX2_firstsFrom 59 = .ok (.iload 4, 2) := dk_21 4 (dk_at dksX2_firstsFrom_2 11 rfl rfl)
theorem dX2_firstsFrom_61 : decode cX2_firstsFrom 61 = .ok (.invokevirtual 252, 3) := dk_182 0 252 (dk_at dksX2_firstsFrom_2 13 rfl rfl)
theorem dX2_firstsFrom_64 : decode cX2_firstsFrom 64 = .ok (.goto 20, 3) := dk_167 0 20 (dk_at dksX2_firstsFrom_2 16 rfl rfl)
theorem dX2_firstsFrom_67 : decode cX2_firstsFrom 67 = .ok (.aload_n 0, 1) := dk_42 (dk_at dksX2_firstsFrom_2 19 rfl rfl)
theorem dX2_firstsFrom_68 : decode cX2_firstsFrom 68 = .ok (.aload_n 0, 1) := dk_42 (dk_at dksX2_firstsFrom_2 20 rfl rfl)
theorem dX2_firstsFrom_69 : decode cX2_firstsFrom 69 = .ok (.getfield 37, 3) := dk_180 0 37 (dk_at dksX2_firstsFrom_2 21 rfl rfl)
theorem dX2_firstsFrom_72 : decode cX2_firstsFrom 72 = .ok (.sipush 183, 3) := dk_17 0 183 (dk_at dksX2_firstsFrom_3 0 rfl rfl)
theorem dX2_firstsFrom_75 : decode cX2_firstsFrom 75 = .ok (.iload 4, 2) := dk_21 4 (dk_at dksX2_firstsFrom_3 3 rfl rfl)
theorem dX2_firstsFrom_77 : decode cX2_firstsFrom 77 = .ok (.bipush 20, 2) := dk_16 20 (dk_at dksX2_firstsFrom_3 5 rfl rfl)
theorem dX2_firstsFrom_79 : decode cX2_firstsFrom 79 = .ok (.isub, 1) := dk_100 (dk_at dksX2_firstsFrom_3 7 rfl rfl)
theorem dX2_firstsFrom_80 : decode cX2_firstsFrom 80 = .ok (.imul, 1) := dk_104 (dk_at dksX2_firstsFrom_3 8 rfl rfl)
theorem dX2_firstsFrom_81 : decode cX2_firstsFrom 81 = .ok (.invokevirtual 255, 3) := dk_182 0 255 (dk_at dksX2_firstsFrom_3 9 rfl rfl)
theorem dX2_firstsFrom_84 : decode cX2_firstsFrom 84 = .ok (.iinc 3 1, 3) := dk_132 3 1 (dk_at dksX2_firstsFrom_3 12 rfl rfl)
theorem dX2_firstsFrom_87 : decode cX2_firstsFrom 87 = .ok (.goto (-55), 3) := dk_167 255 201 (dk_at dksX2_firstsFrom_3 15 rfl rfl)
theorem dX2_firstsFrom_90 : decode cX2_firstsFrom 90 = .ok (.return_, 1) := dk_177 (dk_at dksX2_firstsFrom_3 18 rfl rfl)
abbrev cX2_continuesByToken : ByteArray := prog_14_method_57_code
def yX2_continuesByToken : MethodName := ⟨RX2, "continuesByToken", "(I)V"⟩
def dkwX2_continuesByToken_4 : List UInt8 := [180, 0, 47, 28, 51, 84, 132, 2, 1, 167, 255, 234, 177]
abbrev dktX2_continuesByToken_4 : List UInt8 := dkwX2_continuesByToken_4 ++ []
def dkwX2_continuesByToken_3 : List UInt8 := [84, 132, 2, 1, 167, 255, 225, 3, 61, 28, 17, 0, 183, 162, 0, 21, 42, 180, 0, 44, 28, 42]
abbrev dktX2_continuesByToken_3 : List UInt8 := dkwX2_continuesByToken_3 ++ dktX2_continuesByToken_4
def dkwX2_continuesByToken_2 : List UInt8 := [162, 0, 31, 42, 180, 0, 44, 28, 51, 153, 0, 16, 42, 180, 0, 47, 28, 4, 27, 96, 184, 0, 249, 4]
abbrev dktX2_continuesByToken_2 : List UInt8 := dkwX2_continuesByToken_2 ++ dktX2_continuesByToken_3
def dkwX2_continuesByToken_1 : List UInt8 := [28, 51, 153, 0, 7, 4, 167, 0, 4, 3, 84, 132, 2, 1, 167, 255, 220, 3, 61, 28, 16, 14]
abbrev dktX2_continuesByToken_1 : List UInt8 := dkwX2_continuesByToken_1 ++ dktX2_continuesByToken_2
def dkwX2_continuesByToken_0 : List UInt8 := [3, 61, 28, 17, 0, 183, 162, 0, 35, 42, 180, 0, 47, 28, 28, 16, 14, 161, 0, 16, 42, 180, 0, 44]
abbrev dktX2_continuesByToken_0 : List UInt8 := dkwX2_continuesByToken_0 ++ dktX2_continuesByToken_1
theorem dksX2_continuesByToken_0 : cX2_continuesByToken.data.toList.drop 0 = dktX2_continuesByToken_0 := by decide +kernel
theorem dksX2_continuesByToken_1 : cX2_continuesByToken.data.toList.drop 24 = dktX2_continuesByToken_1 := dk_seg dksX2_continuesByToken_0 24 rfl rfl
theorem dksX2_continuesByToken_2 : cX2_continuesByToken.data.toList.drop 46 = dktX2_continuesByToken_2 := dk_seg dksX2_continuesByToken_1 22 rfl rfl
theorem dksX2_continuesByToken_3 : cX2_continuesByToken.data.toList.drop 70 = dktX2_continuesByToken_3 := dk_seg dksX2_continuesByToken_2 24 rfl rfl
theorem dksX2_continuesByToken_4 : cX2_continuesByToken.data.toList.drop 92 = dktX2_continuesByToken_4 := dk_seg dksX2_continuesByToken_3 22 rfl rfl
theorem dX2_continuesByToken_0 : decode cX2_continuesByToken 0 = .ok (.iconst 0, 1) := dk_3 (dk_at dksX2_continuesByToken_0 0 rfl rfl)
theorem dX2_continuesByToken_1 : decode cX2_continuesByToken 1 = .ok (.istore_n 2, 1) := dk_61 (dk_at dksX2_continuesByToken_0 1 rfl rfl)
theorem dX2_continuesByToken_2 : decode cX2_continuesByToken 2 = .ok (.iload_n 2, 1) := dk_28 (dk_at dksX2_continuesByToken_0 2 rfl rfl)
theorem dX2_continuesByToken_3 : decode cX2_continuesByToken 3 = .ok (.sipush 183, 3) := dk_17 0 183 (dk_at dksX2_continuesByToken_0 3 rfl rfl)
theorem dX2_continuesByToken_6 : decode cX2_continuesByToken 6 = .ok (.if_icmp .ge 35, 3) := dk_162 0 35 (dk_at dksX2_continuesByToken_0 6 rfl rfl)
theorem dX2_continuesByToken_9 : decode cX2_continuesByToken 9 = .ok (.aload_n 0, 1) := dk_42 (dk_at dksX2_continuesByToken_0 9 rfl rfl)
theorem dX2_continuesByToken_10 : decode cX2_continuesByToken 10 = .ok (.getfield 47, 3) := dk_180 0 47 (dk_at dksX2_continuesByToken_0 10 rfl rfl)
theorem dX2_continuesByToken_13 : decode cX2_continuesByToken 13 = .ok (.iload_n 2, 1) := dk_28 (dk_at dksX2_continuesByToken_0 13 rfl rfl)
theorem dX2_continuesByToken_14 : decode cX2_continuesByToken 14 = .ok (.iload_n 2, 1) := dk_28 (dk_at dksX2_continuesByToken_0 14 rfl rfl)
theorem dX2_continuesByToken_15 : decode cX2_continuesByToken 15 = .ok (.bipush 14, 2) := dk_16 14 (dk_at dksX2_continuesByToken_0 15 rfl rfl)
theorem dX2_continuesByToken_17 : decode cX2_continuesByToken 17 = .ok (.if_icmp .lt 16, 3) := dk_161 0 16 (dk_at dksX2_continuesByToken_0 17 rfl rfl)
theorem dX2_continuesByToken_20 : decode cX2_continuesByToken 20 = .ok (.aload_n 0, 1) := dk_42 (dk_at dksX2_continuesByToken_0 20 rfl rfl)
theorem dX2_continuesByToken_21 : decode cX2_continuesByToken 21 = .ok (.getfield 44, 3) := dk_180 0 44 (dk_at dksX2_continuesByToken_0 21 rfl rfl)
theorem dX2_continuesByToken_24 : decode cX2_continuesByToken 24 = .ok (.iload_n 2, 1) := dk_28 (dk_at dksX2_continuesByToken_1 0 rfl rfl)
theorem dX2_continuesByToken_25 : decode cX2_continuesByToken 25 = .ok (.baload, 1) := dk_51 (dk_at dksX2_continuesByToken_1 1 rfl rfl)
theorem dX2_continuesByToken_26 : decode cX2_continuesByToken 26 = .ok (.ifCond .eq 7, 3) := dk_153 0 7 (dk_at dksX2_continuesByToken_1 2 rfl rfl)
theorem dX2_continuesByToken_29 : decode cX2_continuesByToken 29 = .ok (.iconst 1, 1) := dk_4 (dk_at dksX2_continuesByToken_1 5 rfl rfl)
theorem dX2_continuesByToken_30 : decode cX2_continuesByToken 30 = .ok (.goto 4, 3) := dk_167 0 4 (dk_at dksX2_continuesByToken_1 6 rfl rfl)
theorem dX2_continuesByToken_33 : decode cX2_continuesByToken 33 = .ok (.iconst 0, 1) := dk_3 (dk_at dksX2_continuesByToken_1 9 rfl rfl)
theorem dX2_continuesByToken_34 : decode cX2_continuesByToken 34 = .ok (.bastore, 1) := dk_84 (dk_at dksX2_continuesByToken_1 10 rfl rfl)
theorem dX2_continuesByToken_35 : decode cX2_continuesByToken 35 = .ok (.iinc 2 1, 3) := dk_132 2 1 (dk_at dksX2_continuesByToken_1 11 rfl rfl)
theorem dX2_continuesByToken_38 : decode cX2_continuesByToken 38 = .ok (.goto (-36), 3) := dk_167 255 220 (dk_at dksX2_continuesByToken_1 14 rfl rfl)
theorem dX2_continuesByToken_41 : decode cX2_continuesByToken 41 = .ok (.iconst 0, 1) := dk_3 (dk_at dksX2_continuesByToken_1 17 rfl rfl)
theorem dX2_continuesByToken_42 : decode cX2_continuesByToken 42 = .ok (.istore_n 2, 1) := dk_61 (dk_at dksX2_continuesByToken_1 18 rfl rfl)
theorem dX2_continuesByToken_43 : decode cX2_continuesByToken 43 = .ok (.iload_n 2, 1) := dk_28 (dk_at dksX2_continuesByToken_1 19 rfl rfl)
theorem dX2_continuesByToken_44 : decode cX2_continuesByToken 44 = .ok (.bipush 14, 2) := dk_16 14 (dk_at dksX2_continuesByToken_1 20 rfl rfl)
theorem dX2_continuesByToken_46 : decode cX2_continuesByToken 46 = .ok (.if_icmp .ge 31, 3) := dk_162 0 31 (dk_at dksX2_continuesByToken_2 0 rfl rfl)
theorem dX2_continuesByToken_49 : decode cX2_continuesByToken 49 = .ok (.aload_n 0, 1) := dk_42 (dk_at dksX2_continuesByToken_2 3 rfl rfl)
theorem dX2_continuesByToken_50 : decode cX2_continuesByToken 50 = .ok (.getfield 44, 3) := dk_180 0 44 (dk_at dksX2_continuesByToken_2 4 rfl rfl)
theorem dX2_continuesByToken_53 : decode cX2_continuesByToken 53 = .ok (.iload_n 2, 1) := dk_28 (dk_at dksX2_continuesByToken_2 7 rfl rfl)
theorem dX2_continuesByToken_54 : decode cX2_continuesByToken 54 = .ok (.baload, 1) := dk_51 (dk_at dksX2_continuesByToken_2 8 rfl rfl)
theorem dX2_continuesByToken_55 : decode cX2_continuesByToken 55 = .ok (.ifCond .eq 16, 3) := dk_153 0 16 (dk_at dksX2_continuesByToken_2 9 rfl rfl)
theorem dX2_continuesByToken_58 : decode cX2_continuesByToken 58 = .ok (.aload_n 0, 1) := dk_42 (dk_at dksX2_continuesByToken_2 12 rfl rfl)
theorem dX2_continuesByToken_59 : decode cX2_continuesByToken 59 = .ok (.getfield 47, 3) := dk_180 0 47 (dk_at dksX2_continuesByToken_2 13 rfl rfl)
theorem dX2_continuesByToken_62 : decode cX2_continuesByToken 62 = .ok (.iload_n 2, 1) := dk_28 (dk_at dksX2_continuesByToken_2 16 rfl rfl)
theorem dX2_continuesByToken_63 : decode cX2_continuesByToken 63 = .ok (.iconst 1, 1) := dk_4 (dk_at dksX2_continuesByToken_2 17 rfl rfl)
theorem dX2_continuesByToken_64 : decode cX2_continuesByToken 64 = .ok (.iload_n 1, 1) := dk_27 (dk_at dksX2_continuesByToken_2 18 rfl rfl)
theorem dX2_continuesByToken_65 : decode cX2_continuesByToken 65 = .ok (.iadd, 1) := dk_96 (dk_at dksX2_continuesByToken_2 19 rfl rfl)
theorem dX2_continuesByToken_66 : decode cX2_continuesByToken 66 = .ok (.invokestatic 249, 3) := dk_184 0 249 (dk_at dksX2_continuesByToken_2 20 rfl rfl)
theorem dX2_continuesByToken_69 : decode cX2_continuesByToken 69 = .ok (.iconst 1, 1) := dk_4 (dk_at dksX2_continuesByToken_2 23 rfl rfl)
theorem dX2_continuesByToken_70 : decode cX2_continuesByToken 70 = .ok (.bastore, 1) := dk_84 (dk_at dksX2_continuesByToken_3 0 rfl rfl)
theorem dX2_continuesByToken_71 : decode cX2_continuesByToken 71 = .ok (.iinc 2 1, 3) := dk_132 2 1 (dk_at dksX2_continuesByToken_3 1 rfl rfl)
theorem dX2_continuesByToken_74 : decode cX2_continuesByToken 74 = .ok (.goto (-31), 3) := dk_167 255 225 (dk_at dksX2_continuesByToken_3 4 rfl rfl)
theorem dX2_continuesByToken_77 : decode cX2_continuesByToken 77 = .ok (.iconst 0, 1) := dk_3 (dk_at dksX2_continuesByToken_3 7 rfl rfl)
theorem dX2_continuesByToken_78 : decode cX2_continuesByToken 78 = .ok (.istore_n 2, 1) := dk_61 (dk_at dksX2_continuesByToken_3 8 rfl rfl)
theorem dX2_continuesByToken_79 : decode cX2_continuesByToken 79 = .ok (.iload_n 2, 1) := dk_28 (dk_at dksX2_continuesByToken_3 9 rfl rfl)
theorem dX2_continuesByToken_80 : decode cX2_continuesByToken 80 = .ok (.sipush 183, 3) := dk_17 0 183 (dk_at dksX2_continuesByToken_3 10 rfl rfl)
theorem dX2_continuesByToken_83 : decode cX2_continuesByToken 83 = .ok (.if_icmp .ge 21, 3) := dk_162 0 21 (dk_at dksX2_continuesByToken_3 13 rfl rfl)
theorem dX2_continuesByToken_86 : decode cX2_continuesByToken 86 = .ok (.aload_n 0, 1) := dk_42 (dk_at dksX2_continuesByToken_3 16 rfl rfl)
theorem dX2_continuesByToken_87 : decode cX2_continuesByToken 87 = .ok (.getfield 44, 3) := dk_180 0 44 (dk_at dksX2_continuesByToken_3 17 rfl rfl)
theorem dX2_continuesByToken_90 : decode cX2_continuesByToken 90 = .ok (.iload_n 2, 1) := dk_28 (dk_at dksX2_continuesByToken_3 20 rfl rfl)
theorem dX2_continuesByToken_91 : decode cX2_continuesByToken 91 = .ok (.aload_n 0, 1) := dk_42 (dk_at dksX2_continuesByToken_3 21 rfl rfl)
theorem dX2_continuesByToken_92 : decode cX2_continuesByToken 92 = .ok (.getfield 47, 3) := dk_180 0 47 (dk_at dksX2_continuesByToken_4 0 rfl rfl)
theorem dX2_continuesByToken_95 : decode cX2_continuesByToken 95 = .ok (.iload_n 2, 1) := dk_28 (dk_at dksX2_continuesByToken_4 3 rfl rfl)
theorem dX2_continuesByToken_96 : decode cX2_continuesByToken 96 = .ok (.baload, 1) := dk_51 (dk_at dksX2_continuesByToken_4 4 rfl rfl)
theorem dX2_continuesByToken_97 : decode cX2_continuesByToken 97 = .ok (.bastore, 1) := dk_84 (dk_at dksX2_continuesByToken_4 5 rfl rfl)
theorem dX2_continuesByToken_98 : decode cX2_continuesByToken 98 = .ok (.iinc 2 1, 3) := dk_132 2 1 (dk_at dksX2_continuesByToken_4 6 rfl rfl)
theorem dX2_continuesByToken_101 : decode cX2_continuesByToken 101 = .ok (.goto (-22), 3) := dk_167 255 234 (dk_at dksX2_continuesByToken_4 9 rfl rfl)
theorem dX2_continuesByToken_104 : decode cX2_continuesByToken 104 = .ok (.return_, 1) := dk_177 (dk_at dksX2_continuesByToken_4 12 rfl rfl)
abbrev cX2_joined : ByteArray := prog_14_method_55_code
def yX2_joined : MethodName := ⟨RX2, "joined", "(II)I"⟩
def dkwX2_joined_1 : List UInt8 := [167, 0, 10, 27, 16, 14, 100, 16, 13, 108, 184, 0, 246, 172]
abbrev dktX2_joined_1 : List UInt8 := dkwX2_joined_1 ++ []
def dkwX2_joined_0 : List UInt8 := [26, 154, 0, 5, 27, 172, 27, 154, 0, 5, 26, 172, 26, 4, 100, 27, 16, 14, 162, 0, 9, 27, 4, 100]
abbrev dktX2_joined_0 : List UInt8 := dkwX2_joined_0 ++ dktX2_joined_1
theorem dksX2_joined_0 : cX2_joined.data.toList.drop 0 = dktX2_joined_0 := by decide +kernel
theorem dksX2_joined_1 : cX2_joined.data.toList.drop 24 = dktX2_joined_1 := dk_seg dksX2_joined_0 24 rfl rfl
theorem dX2_joined_0 : decode cX2_joined 0 = .ok (.iload_n 0, 1) := dk_26 (dk_at dksX2_joined_0 0 rfl rfl)
theorem dX2_joined_1 : decode cX2_joined 1 = .ok (.ifCond .ne 5, 3) := dk_154 0 5 (dk_at dksX2_joined_0 1 rfl rfl)
theorem dX2_joined_4 : decode cX2_joined 4 = .ok (.iload_n 1, 1) := dk_27 (dk_at dksX2_joined_0 4 rfl rfl)
theorem dX2_joined_5 : decode cX2_joined 5 = .ok (.ireturn, 1) := dk_172 (dk_at dksX2_joined_0 5 rfl rfl)
theorem dX2_joined_6 : decode cX2_joined 6 = .ok (.iload_n 1, 1) := dk_27 (dk_at dksX2_joined_0 6 rfl rfl)
theorem dX2_joined_7 : decode cX2_joined 7 = .ok (.ifCond .ne 5, 3) := dk_154 0 5 (dk_at dksX2_joined_0 7 rfl rfl)
theorem dX2_joined_10 : decode cX2_joined 10 = .ok (.iload_n 0, 1) := dk_26 (dk_at dksX2_joined_0 10 rfl rfl)
theorem dX2_joined_11 : decode cX2_joined 11 = .ok (.ireturn, 1) := dk_172 (dk_at dksX2_joined_0 11 rfl rfl)
theorem dX2_joined_12 : decode cX2_joined 12 = .ok (.iload_n 0, 1) := dk_26 (dk_at dksX2_joined_0 12 rfl rfl)
theorem dX2_joined_13 : decode cX2_joined 13 = .ok (.iconst 1, 1) := dk_4 (dk_at dksX2_joined_0 13 rfl rfl)
theorem dX2_joined_14 : decode cX2_joined 14 = .ok (.isub, 1) := dk_100 (dk_at dksX2_joined_0 14 rfl rfl)
theorem dX2_joined_15 : decode cX2_joined 15 = .ok (.iload_n 1, 1) := dk_27 (dk_at dksX2_joined_0 15 rfl rfl)
theorem dX2_joined_16 : decode cX2_joined 16 = .ok (.bipush 14, 2) := dk_16 14 (dk_at dksX2_joined_0 16 rfl rfl)
theorem dX2_joined_18 : decode cX2_joined 18 = .ok (.if_icmp .ge 9, 3) := dk_162 0 9 (dk_at dksX2_joined_0 18 rfl rfl)
theorem dX2_joined_21 : decode cX2_joined 21 = .ok (.iload_n 1, 1) := dk_27 (dk_at dksX2_joined_0 21 rfl rfl)
theorem dX2_joined_22 : decode cX2_joined 22 = .ok (.iconst 1, 1) := dk_4 (dk_at dksX2_joined_0 22 rfl rfl)
theorem dX2_joined_23 : decode cX2_joined 23 = .ok (.isub, 1) := dk_100 (dk_at dksX2_joined_0 23 rfl rfl)
theorem dX2_joined_24 : decode cX2_joined 24 = .ok (.goto 10, 3) := dk_167 0 10 (dk_at dksX2_joined_1 0 rfl rfl)
theorem dX2_joined_27 : decode cX2_joined 27 = .ok (.iload_n 1, 1) := dk_27 (dk_at dksX2_joined_1 3 rfl rfl)
theorem dX2_joined_28 : decode cX2_joined 28 = .ok (.bipush 14, 2) := dk_16 14 (dk_at dksX2_joined_1 4 rfl rfl)
theorem dX2_joined_30 : decode cX2_joined 30 = .ok (.isub, 1) := dk_100 (dk_at dksX2_joined_1 6 rfl rfl)
theorem dX2_joined_31 : decode cX2_joined 31 = .ok (.bipush 13, 2) := dk_16 13 (dk_at dksX2_joined_1 7 rfl rfl)
theorem dX2_joined_33 : decode cX2_joined 33 = .ok (.idiv, 1) := dk_108 (dk_at dksX2_joined_1 9 rfl rfl)
theorem dX2_joined_34 : decode cX2_joined 34 = .ok (.invokestatic 246, 3) := dk_184 0 246 (dk_at dksX2_joined_1 10 rfl rfl)
theorem dX2_joined_37 : decode cX2_joined 37 = .ok (.ireturn, 1) := dk_172 (dk_at dksX2_joined_1 13 rfl rfl)
abbrev cX2_continues : ByteArray := prog_14_method_56_code
def yX2_continues : MethodName := ⟨RX2, "continues", "([ZI)V"⟩
def dkwX2_continues_5 : List UInt8 := [180, 0, 44, 29, 42, 180, 0, 47, 29, 51, 84, 132, 3, 1, 167, 255, 234, 177]
abbrev dktX2_continues_5 : List UInt8 := dkwX2_continues_5 ++ []
def dkwX2_continues_4 : List UInt8 := [132, 4, 1, 167, 255, 224, 132, 3, 1, 167, 255, 197, 3, 62, 29, 17, 0, 183, 162, 0, 21, 42]
abbrev dktX2_continues_4 : List UInt8 := dkwX2_continues_4 ++ dktX2_continues_5
def dkwX2_continues_3 : List UInt8 := [162, 0, 30, 43, 28, 21, 4, 96, 51, 153, 0, 15, 42, 180, 0, 47, 29, 21, 4, 184, 0, 249, 4, 84]
abbrev dktX2_continues_3 : List UInt8 := dkwX2_continues_3 ++ dktX2_continues_4
def dkwX2_continues_2 : List UInt8 := [162, 0, 59, 42, 180, 0, 44, 29, 51, 154, 0, 6, 167, 0, 41, 3, 54, 4, 21, 4, 17, 0, 183]
abbrev dktX2_continues_2 : List UInt8 := dkwX2_continues_2 ++ dktX2_continues_3
def dkwX2_continues_1 : List UInt8 := [29, 51, 153, 0, 7, 4, 167, 0, 4, 3, 84, 132, 3, 1, 167, 255, 220, 3, 62, 29, 16, 14]
abbrev dktX2_continues_1 : List UInt8 := dkwX2_continues_1 ++ dktX2_continues_2
def dkwX2_continues_0 : List UInt8 := [3, 62, 29, 17, 0, 183, 162, 0, 35, 42, 180, 0, 47, 29, 29, 16, 14, 161, 0, 16, 42, 180, 0, 44]
abbrev dktX2_continues_0 : List UInt8 := dkwX2_continues_0 ++ dktX2_continues_1
theorem dksX2_continues_0 : cX2_continues.data.toList.drop 0 = dktX2_continues_0 := by decide +kernel
theorem dksX2_continues_1 : cX2_continues.data.toList.drop 24 = dktX2_continues_1 := dk_seg dksX2_continues_0 24 rfl rfl
theorem dksX2_continues_2 : cX2_continues.data.toList.drop 46 = dktX2_continues_2 := dk_seg dksX2_continues_1 22 rfl rfl
theorem dksX2_continues_3 : cX2_continues.data.toList.drop 69 = dktX2_continues_3 := dk_seg dksX2_continues_2 23 rfl rfl
theorem dksX2_continues_4 : cX2_continues.data.toList.drop 93 = dktX2_continues_4 := dk_seg dksX2_continues_3 24 rfl rfl
theorem dksX2_continues_5 : cX2_continues.data.toList.drop 115 = dktX2_continues_5 := dk_seg dksX2_continues_4 22 rfl rfl
theorem dX2_continues_0 : decode cX2_continues 0 = .ok (.iconst 0, 1) := dk_3 (dk_at dksX2_continues_0 0 rfl rfl)
theorem dX2_continues_1 : decode cX2_continues 1 = .ok (.istore_n 3, 1) := dk_62 (dk_at dksX2_continues_0 1 rfl rfl)
theorem dX2_continues_2 : decode cX2_continues 2 = .ok (.iload_n 3, 1) := dk_29 (dk_at dksX2_continues_0 2 rfl rfl)
theorem dX2_continues_3 : decode cX2_continues 3 = .ok (.sipush 183, 3) := dk_17 0 183 (dk_at dksX2_continues_0 3 rfl rfl)
theorem dX2_continues_6 : decode cX2_continues 6 = .ok (.if_icmp .ge 35, 3) := dk_162 0 35 (dk_at dksX2_continues_0 6 rfl rfl)
theorem dX2_continues_9 : decode cX2_continues 9 = .ok (.aload_n 0, 1) := dk_42 (dk_at dksX2_continues_0 9 rfl rfl)
theorem dX2_continues_10 : decode cX2_continues 10 = .ok (.getfield 47, 3) := dk_180 0 47 (dk_at dksX2_continues_0 10 rfl rfl)
theorem dX2_continues_13 : decode cX2_continues 13 = .ok (.iload_n 3, 1) := dk_29 (dk_at dksX2_continues_0 13 rfl rfl)
theorem dX2_continues_14 : decode cX2_continues 14 = .ok (.iload_n 3, 1) := dk_29 (dk_at dksX2_continues_0 14 rfl rfl)
theorem dX2_continues_15 : decode cX2_continues 15 = .ok (.bipush 14, 2) := dk_16 14 (dk_at dksX2_continues_0 15 rfl rfl)
theorem dX2_continues_17 : decode cX2_continues 17 = .ok (.if_icmp .lt 16, 3) := dk_161 0 16 (dk_at dksX2_continues_0 17 rfl rfl)
theorem dX2_continues_20 : decode cX2_continues 20 = .ok (.aload_n 0, 1) := dk_42 (dk_at dksX2_continues_0 20 rfl rfl)
theorem dX2_continues_21 : decode cX2_continues 21 = .ok (.getfield 44, 3) := dk_180 0 44 (dk_at dksX2_continues_0 21 rfl rfl)
theorem dX2_continues_24 : decode cX2_continues 24 = .ok (.iload_n 3, 1) := dk_29 (dk_at dksX2_continues_1 0 rfl rfl)
theorem dX2_continues_25 : decode cX2_continues 25 = .ok (.baload, 1) := dk_51 (dk_at dksX2_continues_1 1 rfl rfl)
theorem dX2_continues_26 : decode cX2_continues 26 = .ok (.ifCond .eq 7, 3) := dk_153 0 7 (dk_at dksX2_continues_1 2 rfl rfl)
theorem dX2_continues_29 : decode cX2_continues 29 = .ok (.iconst 1, 1) := dk_4 (dk_at dksX2_continues_1 5 rfl rfl)
theorem dX2_continues_30 : decode cX2_continues 30 = .ok (.goto 4, 3) := dk_167 0 4 (dk_at dksX2_continues_1 6 rfl rfl)
theorem dX2_continues_33 : decode cX2_continues 33 = .ok (.iconst 0, 1) := dk_3 (dk_at dksX2_continues_1 9 rfl rfl)
theorem dX2_continues_34 : decode cX2_continues 34 = .ok (.bastore, 1) := dk_84 (dk_at dksX2_continues_1 10 rfl rfl)
theorem dX2_continues_35 : decode cX2_continues 35 = .ok (.iinc 3 1, 3) := dk_132 3 1 (dk_at dksX2_continues_1 11 rfl rfl)
theorem dX2_continues_38 : decode cX2_continues 38 = .ok (.goto (-36), 3) := dk_167 255 220 (dk_at dksX2_continues_1 14 rfl rfl)
theorem dX2_continues_41 : decode cX2_continues 41 = .ok (.iconst 0, 1) := dk_3 (dk_at dksX2_continues_1 17 rfl rfl)
theorem dX2_continues_42 : decode cX2_continues 42 = .ok (.istore_n 3, 1) := dk_62 (dk_at dksX2_continues_1 18 rfl rfl)
theorem dX2_continues_43 : decode cX2_continues 43 = .ok (.iload_n 3, 1) := dk_29 (dk_at dksX2_continues_1 19 rfl rfl)
theorem dX2_continues_44 : decode cX2_continues 44 = .ok (.bipush 14, 2) := dk_16 14 (dk_at dksX2_continues_1 20 rfl rfl)
theorem dX2_continues_46 : decode cX2_continues 46 = .ok (.if_icmp .ge 59, 3) := dk_162 0 59 (dk_at dksX2_continues_2 0 rfl rfl)
theorem dX2_continues_49 : decode cX2_continues 49 = .ok (.aload_n 0, 1) := dk_42 (dk_at dksX2_continues_2 3 rfl rfl)
theorem dX2_continues_50 : decode cX2_continues 50 = .ok (.getfield 44, 3) := dk_180 0 44 (dk_at dksX2_continues_2 4 rfl rfl)
theorem dX2_continues_53 : decode cX2_continues 53 = .ok (.iload_n 3, 1) := dk_29 (dk_at dksX2_continues_2 7 rfl rfl)
theorem dX2_continues_54 : decode cX2_continues 54 = .ok (.baload, 1) := dk_51 (dk_at dksX2_continues_2 8 rfl rfl)
theorem dX2_continues_55 : decode cX2_continues 55 = .ok (.ifCond .ne 6, 3) := dk_154 0 6 (dk_at dksX2_continues_2 9 rfl rfl)
theorem dX2_continues_58 : decode cX2_continues 58 = .ok (.goto 41, 3) := dk_167 0 41 (dk_at dksX2_continues_2 12 rfl rfl)
theorem dX2_continues_61 : decode cX2_continues 61 = .ok (.iconst 0, 1) := dk_3 (dk_at dksX2_continues_2 15 rfl rfl)
theorem dX2_continues_62 : decode cX2_continues 62 = .ok (.istore 4, 2) := dk_54 4 (dk_at dksX2_continues_2 16 rfl rfl)
theorem dX2_continues_64 : decode cX2_continues 64 = .ok (.iload 4, 2) := dk_21 4 (dk_at dksX2_continues_2 18 rfl rfl)
theorem dX2_continues_66 : decode cX2_continues 66 = .ok (.sipush 183, 3) := dk_17 0 183 (dk_at dksX2_continues_2 20 rfl rfl)
theorem dX2_continues_69 : decode cX2_continues 69 = .ok (.if_icmp .ge 30, 3) := dk_162 0 30 (dk_at dksX2_continues_3 0 rfl rfl)
theorem dX2_continues_72 : decode cX2_continues 72 = .ok (.aload_n 1, 1) := dk_43 (dk_at dksX2_continues_3 3 rfl rfl)
theorem dX2_continues_73 : decode cX2_continues 73 = .ok (.iload_n 2, 1) := dk_28 (dk_at dksX2_continues_3 4 rfl rfl)
theorem dX2_continues_74 : decode cX2_continues 74 = .ok (.iload 4, 2) := dk_21 4 (dk_at dksX2_continues_3 5 rfl rfl)
theorem dX2_continues_76 : decode cX2_continues 76 = .ok (.iadd, 1) := dk_96 (dk_at dksX2_continues_3 7 rfl rfl)
theorem dX2_continues_77 : decode cX2_continues 77 = .ok (.baload, 1) := dk_51 (dk_at dksX2_continues_3 8 rfl rfl)
theorem dX2_continues_78 : decode cX2_continues 78 = .ok (.ifCond .eq 15, 3) := dk_153 0 15 (dk_at dksX2_continues_3 9 rfl rfl)
theorem dX2_continues_81 : decode cX2_continues 81 = .ok (.aload_n 0, 1) := dk_42 (dk_at dksX2_continues_3 12 rfl rfl)
theorem dX2_continues_82 : decode cX2_continues 82 = .ok (.getfield 47, 3) := dk_180 0 47 (dk_at dksX2_continues_3 13 rfl rfl)
theorem dX2_continues_85 : decode cX2_continues 85 = .ok (.iload_n 3, 1) := dk_29 (dk_at dksX2_continues_3 16 rfl rfl)
theorem dX2_continues_86 : decode cX2_continues 86 = .ok (.iload 4, 2) := dk_21 4 (dk_at dksX2_continues_3 17 rfl rfl)
theorem dX2_continues_88 : decode cX2_continues 88 = .ok (.invokestatic 249, 3) := dk_184 0 249 (dk_at dksX2_continues_3 19 rfl rfl)
theorem dX2_continues_91 : decode cX2_continues 91 = .ok (.iconst 1, 1) := dk_4 (dk_at dksX2_continues_3 22 rfl rfl)
theorem dX2_continues_92 : decode cX2_continues 92 = .ok (.bastore, 1) := dk_84 (dk_at dksX2_continues_3 23 rfl rfl)
theorem dX2_continues_93 : decode cX2_continues 93 = .ok (.iinc 4 1, 3) := dk_132 4 1 (dk_at dksX2_continues_4 0 rfl rfl)
theorem dX2_continues_96 : decode cX2_continues 96 = .ok (.goto (-32), 3) := dk_167 255 224 (dk_at dksX2_continues_4 3 rfl rfl)
theorem dX2_continues_99 : decode cX2_continues 99 = .ok (.iinc 3 1, 3) := dk_132 3 1 (dk_at dksX2_continues_4 6 rfl rfl)
theorem dX2_continues_102 : decode cX2_continues 102 = .ok (.goto (-59), 3) := dk_167 255 197 (dk_at dksX2_continues_4 9 rfl rfl)
theorem dX2_continues_105 : decode cX2_continues 105 = .ok (.iconst 0, 1) := dk_3 (dk_at dksX2_continues_4 12 rfl rfl)
theorem dX2_continues_106 : decode cX2_continues 106 = .ok (.istore_n 3, 1) := dk_62 (dk_at dksX2_continues_4 13 rfl rfl)
theorem dX2_continues_107 : decode cX2_continues 107 = .ok (.iload_n 3, 1) := dk_29 (dk_at dksX2_continues_4 14 rfl rfl)
theorem dX2_continues_108 : decode cX2_continues 108 = .ok (.sipush 183, 3) := dk_17 0 183 (dk_at dksX2_continues_4 15 rfl rfl)
theorem dX2_continues_111 : decode cX2_continues 111 = .ok (.if_icmp .ge 21, 3) := dk_162 0 21 (dk_at dksX2_continues_4 18 rfl rfl)
theorem dX2_continues_114 : decode cX2_continues 114 = .ok (.aload_n 0, 1) := dk_42 (dk_at dksX2_continues_4 21 rfl rfl)
theorem dX2_continues_115 : decode cX2_continues 115 = .ok (.getfield 44, 3) := dk_180 0 44 (dk_at dksX2_continues_5 0 rfl rfl)
theorem dX2_continues_118 : decode cX2_continues 118 = .ok (.iload_n 3, 1) := dk_29 (dk_at dksX2_continues_5 3 rfl rfl)
theorem dX2_continues_119 : decode cX2_continues 119 = .ok (.aload_n 0, 1) := dk_42 (dk_at dksX2_continues_5 4 rfl rfl)
theorem dX2_continues_120 : decode cX2_continues 120 = .ok (.getfield 47, 3) := dk_180 0 47 (dk_at dksX2_continues_5 5 rfl rfl)
theorem dX2_continues_123 : decode cX2_continues 123 = .ok (.iload_n 3, 1) := dk_29 (dk_at dksX2_continues_5 8 rfl rfl)
theorem dX2_continues_124 : decode cX2_continues 124 = .ok (.baload, 1) := dk_51 (dk_at dksX2_continues_5 9 rfl rfl)
theorem dX2_continues_125 : decode cX2_continues 125 = .ok (.bastore, 1) := dk_84 (dk_at dksX2_continues_5 10 rfl rfl)
theorem dX2_continues_126 : decode cX2_continues 126 = .ok (.iinc 3 1, 3) := dk_132 3 1 (dk_at dksX2_continues_5 11 rfl rfl)
theorem dX2_continues_129 : decode cX2_continues 129 = .ok (.goto (-22), 3) := dk_167 255 234 (dk_at dksX2_continues_5 14 rfl rfl)
theorem dX2_continues_132 : decode cX2_continues 132 = .ok (.return_, 1) := dk_177 (dk_at dksX2_continues_5 17 rfl rfl)
abbrev cX2_adds : ByteArray := prog_14_method_59_code
def yX2_adds : MethodName := ⟨RX2, "adds", "([ZII)Z"⟩
def dkwX2_adds_3 : List UInt8 := [167, 0, 4, 3, 84, 132, 5, 1, 167, 255, 184, 21, 4, 172]
abbrev dktX2_adds_3 : List UInt8 := dkwX2_adds_3 ++ []
def dkwX2_adds_2 : List UInt8 := [21, 5, 96, 43, 28, 21, 5, 96, 51, 154, 0, 13, 42, 180, 0, 44, 21, 5, 51, 153, 0, 7, 4]
abbrev dktX2_adds_2 : List UInt8 := dkwX2_adds_2 ++ dktX2_adds_3
def dkwX2_adds_1 : List UInt8 := [21, 5, 51, 153, 0, 16, 43, 28, 21, 5, 96, 51, 154, 0, 7, 4, 167, 0, 4, 3, 54, 4, 43, 28]
abbrev dktX2_adds_1 : List UInt8 := dkwX2_adds_1 ++ dktX2_adds_2
def dkwX2_adds_0 : List UInt8 := [3, 54, 4, 29, 54, 5, 21, 5, 17, 0, 183, 162, 0, 70, 21, 4, 154, 0, 22, 42, 180, 0, 44]
abbrev dktX2_adds_0 : List UInt8 := dkwX2_adds_0 ++ dktX2_adds_1
theorem dksX2_adds_0 : cX2_adds.data.toList.drop 0 = dktX2_adds_0 := by decide +kernel
theorem dksX2_adds_1 : cX2_adds.data.toList.drop 23 = dktX2_adds_1 := dk_seg dksX2_adds_0 23 rfl rfl
theorem dksX2_adds_2 : cX2_adds.data.toList.drop 47 = dktX2_adds_2 := dk_seg dksX2_adds_1 24 rfl rfl
theorem dksX2_adds_3 : cX2_adds.data.toList.drop 70 = dktX2_adds_3 := dk_seg dksX2_adds_2 23 rfl rfl
theorem dX2_adds_0 : decode cX2_adds 0 = .ok (.iconst 0, 1) := dk_3 (dk_at dksX2_adds_0 0 rfl rfl)
theorem dX2_adds_1 : decode cX2_adds 1 = .ok (.istore 4, 2) := dk_54 4 (dk_at dksX2_adds_0 1 rfl rfl)
theorem dX2_adds_3 : decode cX2_adds 3 = .ok (.iload_n 3, 1) := dk_29 (dk_at dksX2_adds_0 3 rfl rfl)
theorem dX2_adds_4 : decode cX2_adds 4 = .ok (.istore 5, 2) := dk_54 5 (dk_at dksX2_adds_0 4 rfl rfl)
theorem dX2_adds_6 : decode cX2_adds 6 = .ok (.iload 5, 2) := dk_21 5 (dk_at dksX2_adds_0 6 rfl rfl)
theorem dX2_adds_8 : decode cX2_adds 8 = .ok (.sipush 183, 3) := dk_17 0 183 (dk_at dksX2_adds_0 8 rfl rfl)
theorem dX2_adds_11 : decode cX2_adds 11 = .ok (.if_icmp .ge 70, 3) := dk_162 0 70 (dk_at dksX2_adds_0 11 rfl rfl)
theorem dX2_adds_14 : decode cX2_adds 14 = .ok (.iload 4, 2) := dk_21 4 (dk_at dksX2_adds_0 14 rfl rfl)
theorem dX2_adds_16 : decode cX2_adds 16 = .ok (.ifCond .ne 22, 3) := dk_154 0 22 (dk_at dksX2_adds_0 16 rfl rfl)
theorem dX2_adds_19 : decode cX2_adds 19 = .ok (.aload_n 0, 1) := dk_42 (dk_at dksX2_adds_0 19 rfl rfl)
theorem dX2_adds_20 : decode cX2_adds 20 = .ok (.getfield 44, 3) := dk_180 0 44 (dk_at dksX2_adds_0 20 rfl rfl)
theorem dX2_adds_23 : decode cX2_adds 23 = .ok (.iload 5, 2) := dk_21 5 (dk_at dksX2_adds_1 0 rfl rfl)
theorem dX2_adds_25 : decode cX2_adds 25 = .ok (.baload, 1) := dk_51 (dk_at dksX2_adds_1 2 rfl rfl)
theorem dX2_adds_26 : decode cX2_adds 26 = .ok (.ifCond .eq 16, 3) := dk_153 0 16 (dk_at dksX2_adds_1 3 rfl rfl)
theorem dX2_adds_29 : decode cX2_adds 29 = .ok (.aload_n 1, 1) := dk_43 (dk_at dksX2_adds_1 6 rfl rfl)
theorem dX2_adds_30 : decode cX2_adds 30 = .ok (.iload_n 2, 1) := dk_28 (dk_at dksX2_adds_1 7 rfl rfl)
theorem dX2_adds_31 : decode cX2_adds 31 = .ok (.iload 5, 2) := dk_21 5 (dk_at dksX2_adds_1 8 rfl rfl)
theorem dX2_adds_33 : decode cX2_adds 33 = .ok (.iadd, 1) := dk_96 (dk_at dksX2_adds_1 10 rfl rfl)
theorem dX2_adds_34 : decode cX2_adds 34 = .ok (.baload, 1) := dk_51 (dk_at dksX2_adds_1 11 rfl rfl)
theorem dX2_adds_35 : decode cX2_adds 35 = .ok (.ifCond .ne 7, 3) := dk_154 0 7 (dk_at dksX2_adds_1 12 rfl rfl)
theorem dX2_adds_38 : decode cX2_adds 38 = .ok (.iconst 1, 1) := dk_4 (dk_at dksX2_adds_1 15 rfl rfl)
theorem dX2_adds_39 : decode cX2_adds 39 = .ok (.goto 4, 3) := dk_167 0 4 (dk_at dksX2_adds_1 16 rfl rfl)
theorem dX2_adds_42 : decode cX2_adds 42 = .ok (.iconst 0, 1) := dk_3 (dk_at dksX2_adds_1 19 rfl rfl)
theorem dX2_adds_43 : decode cX2_adds 43 = .ok (.istore 4, 2) := dk_54 4 (dk_at dksX2_adds_1 20 rfl rfl)
theorem dX2_adds_45 : decode cX2_adds 45 = .ok (.aload_n 1, 1) := dk_43 (dk_at dksX2_adds_1 22 rfl rfl)
theorem dX2_adds_46 : decode cX2_adds 46 = .ok (.iload_n 2, 1) := dk_28 (dk_at dksX2_adds_1 23 rfl rfl)
theorem dX2_adds_47 : decode cX2_adds 47 = .ok (.iload 5, 2) := dk_21 5 (dk_at dksX2_adds_2 0 rfl rfl)
theorem dX2_adds_49 : decode cX2_adds 49 = .ok (.iadd, 1) := dk_96 (dk_at dksX2_adds_2 2 rfl rfl)
theorem dX2_adds_50 : decode cX2_adds 50 = .ok (.aload_n 1, 1) := dk_43 (dk_at dksX2_adds_2 3 rfl rfl)
theorem dX2_adds_51 : decode cX2_adds 51 = .ok (.iload_n 2, 1) := dk_28 (dk_at dksX2_adds_2 4 rfl rfl)
theorem dX2_adds_52 : decode cX2_adds 52 = .ok (.iload 5, 2) := dk_21 5 (dk_at dksX2_adds_2 5 rfl rfl)
theorem dX2_adds_54 : decode cX2_adds 54 = .ok (.iadd, 1) := dk_96 (dk_at dksX2_adds_2 7 rfl rfl)
theorem dX2_adds_55 : decode cX2_adds 55 = .ok (.baload, 1) := dk_51 (dk_at dksX2_adds_2 8 rfl rfl)
theorem dX2_adds_56 : decode cX2_adds 56 = .ok (.ifCond .ne 13, 3) := dk_154 0 13 (dk_at dksX2_adds_2 9 rfl rfl)
theorem dX2_adds_59 : decode cX2_adds 59 = .ok (.aload_n 0, 1) := dk_42 (dk_at dksX2_adds_2 12 rfl rfl)
theorem dX2_adds_60 : decode cX2_adds 60 = .ok (.getfield 44, 3) := dk_180 0 44 (dk_at dksX2_adds_2 13 rfl rfl)
theorem dX2_adds_63 : decode cX2_adds 63 = .ok (.iload 5, 2) := dk_21 5 (dk_at dksX2_adds_2 16 rfl rfl)
theorem dX2_adds_65 : decode cX2_adds 65 = .ok (.baload, 1) := dk_51 (dk_at dksX2_adds_2 18 rfl rfl)
theorem dX2_adds_66 : decode cX2_adds 66 = .ok (.ifCond .eq 7, 3) := dk_153 0 7 (dk_at dksX2_adds_2 19 rfl rfl)
theorem dX2_adds_69 : decode cX2_adds 69 = .ok (.iconst 1, 1) := dk_4 (dk_at dksX2_adds_2 22 rfl rfl)
theorem dX2_adds_70 : decode cX2_adds 70 = .ok (.goto 4, 3) := dk_167 0 4 (dk_at dksX2_adds_3 0 rfl rfl)
theorem dX2_adds_73 : decode cX2_adds 73 = .ok (.iconst 0, 1) := dk_3 (dk_at dksX2_adds_3 3 rfl rfl)
theorem dX2_adds_74 : decode cX2_adds 74 = .ok (.bastore, 1) := dk_84 (dk_at dksX2_adds_3 4 rfl rfl)
theorem dX2_adds_75 : decode cX2_adds 75 = .ok (.iinc 5 1, 3) := dk_132 5 1 (dk_at dksX2_adds_3 5 rfl rfl)
theorem dX2_adds_78 : decode cX2_adds 78 = .ok (.goto (-72), 3) := dk_167 255 184 (dk_at dksX2_adds_3 8 rfl rfl)
theorem dX2_adds_81 : decode cX2_adds 81 = .ok (.iload 4, 2) := dk_21 4 (dk_at dksX2_adds_3 11 rfl rfl)
theorem dX2_adds_83 : decode cX2_adds 83 = .ok (.ireturn, 1) := dk_172 (dk_at dksX2_adds_3 13 rfl rfl)
abbrev cX2_addsFollows : ByteArray := prog_14_method_62_code
def yX2_addsFollows : MethodName := ⟨RX2, "addsFollows", "()Z"⟩
def dkwX2_addsFollows_4 : List UInt8 := [167, 255, 164, 27, 172]
abbrev dktX2_addsFollows_4 : List UInt8 := dkwX2_addsFollows_4 ++ []
def dkwX2_addsFollows_3 : List UInt8 := [27, 154, 0, 8, 21, 4, 153, 0, 7, 4, 167, 0, 4, 3, 60, 132, 3, 1, 167, 255, 180, 132, 2, 1]
abbrev dktX2_addsFollows_3 : List UInt8 := dkwX2_addsFollows_3 ++ dktX2_addsFollows_4
def dkwX2_addsFollows_2 : List UInt8 := [42, 180, 0, 41, 17, 0, 183, 42, 28, 29, 182, 0, 187, 16, 20, 100, 104, 16, 14, 182, 1, 6, 54, 4]
abbrev dktX2_addsFollows_2 : List UInt8 := dkwX2_addsFollows_2 ++ dktX2_addsFollows_3
def dkwX2_addsFollows_1 : List UInt8 := [42, 28, 29, 182, 0, 187, 184, 0, 167, 153, 0, 6, 167, 0, 51, 42, 28, 29, 4, 96, 182, 1, 10, 42]
abbrev dktX2_addsFollows_1 : List UInt8 := dkwX2_addsFollows_1 ++ dktX2_addsFollows_2
def dkwX2_addsFollows_0 : List UInt8 := [3, 60, 3, 61, 28, 42, 180, 0, 113, 162, 0, 90, 3, 62, 29, 42, 180, 0, 13, 28, 46, 162, 0, 72]
abbrev dktX2_addsFollows_0 : List UInt8 := dkwX2_addsFollows_0 ++ dktX2_addsFollows_1
theorem dksX2_addsFollows_0 : cX2_addsFollows.data.toList.drop 0 = dktX2_addsFollows_0 := by decide +kernel
theorem dksX2_addsFollows_1 : cX2_addsFollows.data.toList.drop 24 = dktX2_addsFollows_1 := dk_seg dksX2_addsFollows_0 24 rfl rfl
theorem dksX2_addsFollows_2 : cX2_addsFollows.data.toList.drop 48 = dktX2_addsFollows_2 := dk_seg dksX2_addsFollows_1 24 rfl rfl
theorem dksX2_addsFollows_3 : cX2_addsFollows.data.toList.drop 72 = dktX2_addsFollows_3 := dk_seg dksX2_addsFollows_2 24 rfl rfl
theorem dksX2_addsFollows_4 : cX2_addsFollows.data.toList.drop 96 = dktX2_addsFollows_4 := dk_seg dksX2_addsFollows_3 24 rfl rfl
theorem dX2_addsFollows_0 : decode cX2_addsFollows 0 = .ok (.iconst 0, 1) := dk_3 (dk_at dksX2_addsFollows_0 0 rfl rfl)
theorem dX2_addsFollows_1 : decode cX2_addsFollows 1 = .ok (.istore_n 1, 1) := dk_60 (dk_at dksX2_addsFollows_0 1 rfl rfl)
theorem dX2_addsFollows_2 : decode cX2_addsFollows 2 = .ok (.iconst 0, 1) := dk_3 (dk_at dksX2_addsFollows_0 2 rfl rfl)
theorem dX2_addsFollows_3 : decode cX2_addsFollows 3 = .ok (.istore_n 2, 1) := dk_61 (dk_at dksX2_addsFollows_0 3 rfl rfl)
theorem dX2_addsFollows_4 : decode cX2_addsFollows 4 = .ok (.iload_n 2, 1) := dk_28 (dk_at dksX2_addsFollows_0 4 rfl rfl)
theorem dX2_addsFollows_5 : decode cX2_addsFollows 5 = .ok (.aload_n 0, 1) := dk_42 (dk_at dksX2_addsFollows_0 5 rfl rfl)
theorem dX2_addsFollows_6 : decode cX2_addsFollows 6 = .ok (.getfield 113, 3) := dk_180 0 113 (dk_at dksX2_addsFollows_0 6 rfl rfl)
theorem dX2_addsFollows_9 : decode cX2_addsFollows 9 = .ok (.if_icmp .ge 90, 3) := dk_162 0 90 (dk_at dksX2_addsFollows_0 9 rfl rfl)
theorem dX2_addsFollows_12 : decode cX2_addsFollows 12 = .ok (.iconst 0, 1) := dk_3 (dk_at dksX2_addsFollows_0 12 rfl rfl)
theorem dX2_addsFollows_13 : decode cX2_addsFollows 13 = .ok (.istore_n 3, 1) := dk_62 (dk_at dksX2_addsFollows_0 13 rfl rfl)
theorem dX2_addsFollows_14 : decode cX2_addsFollows 14 = .ok (.iload_n 3, 1) := dk_29 (dk_at dksX2_addsFollows_0 14 rfl rfl)
theorem dX2_addsFollows_15 : decode cX2_addsFollows 15 = .ok (.aload_n 0, 1) := dk_42 (dk_at dksX2_addsFollows_0 15 rfl rfl)
theorem dX2_addsFollows_16 : decode cX2_addsFollows 16 = .ok (.getfield 13, 3) := dk_180 0 13 (dk_at dksX2_addsFollows_0 16 rfl rfl)
theorem dX2_addsFollows_19 : decode cX2_addsFollows 19 = .ok (.iload_n 2, 1) := dk_28 (dk_at dksX2_addsFollows_0 19 rfl rfl)
theorem dX2_addsFollows_20 : decode cX2_addsFollows 20 = .ok (.iaload, 1) := dk_46 (dk_at dksX2_addsFollows_0 20 rfl rfl)
theorem dX2_addsFollows_21 : decode cX2_addsFollows 21 = .ok (.if_icmp .ge 72, 3) := dk_162 0 72 (dk_at dksX2_addsFollows_0 21 rfl rfl)
theorem dX2_addsFollows_24 : decode cX2_addsFollows 24 = .ok (.aload_n 0, 1) := dk_42 (dk_at dksX2_addsFollows_1 0 rfl rfl)
theorem dX2_addsFollows_25 : decode cX2_addsFollows 25 = .ok (.iload_n 2, 1) := dk_28 (dk_at dksX2_addsFollows_1 1 rfl rfl)
theorem dX2_addsFollows_26 : decode cX2_addsFollows 26 = .ok (.iload_n 3, 1) := dk_29 (dk_at dksX2_addsFollows_1 2 rfl rfl)
theorem dX2_addsFollows_27 : decode cX2_addsFollows 27 = .ok (.invokevirtual 187, 3) := dk_182 0 187 (dk_at dksX2_addsFollows_1 3 rfl rfl)
theorem dX2_addsFollows_30 : decode cX2_addsFollows 30 = .ok (.invokestatic 167, 3) := dk_184 0 167 (dk_at dksX2_addsFollows_1 6 rfl rfl)
theorem dX2_addsFollows_33 : decode cX2_addsFollows 33 = .ok (.ifCond .eq 6, 3) := dk_153 0 6 (dk_at dksX2_addsFollows_1 9 rfl rfl)
theorem dX2_addsFollows_36 : decode cX2_addsFollows 36 = .ok (.goto 51, 3) := dk_167 0 51 (dk_at dksX2_addsFollows_1 12 rfl rfl)
theorem dX2_addsFollows_39 : decode cX2_addsFollows 39 = .ok (.aload_n 0, 1) := dk_42 (dk_at dksX2_addsFollows_1 15 rfl rfl)
theorem dX2_addsFollows_40 : decode cX2_addsFollows 40 = .ok (.iload_n 2, 1) := dk_28 (dk_at dksX2_addsFollows_1 16 rfl rfl)
theorem dX2_addsFollows_41 : decode cX2_addsFollows 41 = .ok (.iload_n 3, 1) := dk_29 (dk_at dksX2_addsFollows_1 17 rfl rfl)
theorem dX2_addsFollows_42 : decode cX2_addsFollows 42 = .ok (.iconst 1, 1) := dk_4 (dk_at dksX2_addsFollows_1 18 rfl rfl)
theorem dX2_addsFollows_43 : decode cX2_addsFollows 43 = .ok (.iadd, 1) := dk_96 (dk_at dksX2_addsFollows_1 19 rfl rfl)
theorem dX2_addsFollows_44 : decode cX2_addsFollows 44 = .ok (.invokevirtual 266, 3) := dk_182 1 10 (dk_at dksX2_addsFollows_1 20 rfl rfl)
theorem dX2_addsFollows_47 : decode cX2_addsFollows 47 = .ok (.aload_n 0, 1) := dk_42 (dk_at dksX2_addsFollows_1 23 rfl rfl)
theorem dX2_addsFollows_48 : decode cX2_addsFollows 48 = .ok (.aload_n 0, 1) := dk_42 (dk_at dksX2_addsFollows_2 0 rfl rfl)
theorem dX2_addsFollows_49 : decode cX2_addsFollows 49 = .ok (.getfield 41, 3) := dk_180 0 41 (dk_at dksX2_addsFollows_2 1 rfl rfl)
theorem dX2_addsFollows_52 : decode cX2_addsFollows 52 = .ok (.sipush 183, 3) := dk_17 0 183 (dk_at dksX2_addsFollows_2 4 rfl rfl)
theorem dX2_addsFollows_55 : decode cX2_addsFollows 55 = .ok (.aload_n 0, 1) := dk_42 (dk_at dksX2_addsFollows_2 7 rfl rfl)
theorem dX2_addsFollows_56 : decode cX2_addsFollows 56 = .ok (.iload_n 2, 1) := dk_28 (dk_at dksX2_addsFollows_2 8 rfl rfl)
theorem dX2_addsFollows_57 : decode cX2_addsFollows 57 = .ok (.iload_n 3, 1) := dk_29 (dk_at dksX2_addsFollows_2 9 rfl rfl)
theorem dX2_addsFollows_58 : decode cX2_addsFollows 58 = .ok (.invokevirtual 187, 3) := dk_182 0 187 (dk_at dksX2_addsFollows_2 10 rfl rfl)
theorem dX2_addsFollows_61 : decode cX2_addsFollows 61 = .ok (.bipush 20, 2) := dk_16 20 (dk_at dksX2_addsFollows_2 13 rfl rfl)
theorem dX2_addsFollows_63 : decode cX2_addsFollows 63 = .ok (.isub, 1) := dk_100 (dk_at dksX2_addsFollows_2 15 rfl rfl)
theorem dX2_addsFollows_64 : decode cX2_addsFollows 64 = .ok (.imul, 1) := dk_104 (dk_at dksX2_addsFollows_2 16 rfl rfl)
theorem dX2_addsFollows_65 : decode cX2_addsFollows 65 = .ok (.bipush 14, 2) := dk_16 14 (dk_at dksX2_addsFollows_2 17 rfl rfl)
theorem dX2_addsFollows_67 : decode cX2_addsFollows 67 = .ok (.invokevirtual 262, 3) := dk_182 1 6 (dk_at dksX2_addsFollows_2 19 rfl rfl)
theorem dX2_addsFollows_70 : decode cX2_addsFollows 70 = .ok (.istore 4, 2) := dk_54 4 (dk_at dksX2_addsFollows_2 22 rfl rfl)
theorem dX2_addsFollows_72 : decode cX2_addsFollows 72 = .ok (.iload_n 1, 1) := dk_27 (dk_at dksX2_addsFollows_3 0 rfl rfl)
theorem dX2_addsFollows_73 : decode cX2_addsFollows 73 = .ok (.ifCond .ne 8, 3) := dk_154 0 8 (dk_at dksX2_addsFollows_3 1 rfl rfl)
theorem dX2_addsFollows_76 : decode cX2_addsFollows 76 = .ok (.iload 4, 2) := dk_21 4 (dk_at dksX2_addsFollows_3 4 rfl rfl)
theorem dX2_addsFollows_78 : decode cX2_addsFollows 78 = .ok (.ifCond .eq 7, 3) := dk_153 0 7 (dk_at dksX2_addsFollows_3 6 rfl rfl)
theorem dX2_addsFollows_81 : decode cX2_addsFollows 81 = .ok (.iconst 1, 1) := dk_4 (dk_at dksX2_addsFollows_3 9 rfl rfl)
theorem dX2_addsFollows_82 : decode cX2_addsFollows 82 = .ok (.goto 4, 3) := dk_167 0 4 (dk_at dksX2_addsFollows_3 10 rfl rfl)
theorem dX2_addsFollows_85 : decode cX2_addsFollows 85 = .ok (.iconst 0, 1) := dk_3 (dk_at dksX2_addsFollows_3 13 rfl rfl)
theorem dX2_addsFollows_86 : decode cX2_addsFollows 86 = .ok (.istore_n 1, 1) := dk_60 (dk_at dksX2_addsFollows_3 14 rfl rfl)
theorem dX2_addsFollows_87 : decode cX2_addsFollows 87 = .ok (.iinc 3 1, 3) := dk_132 3 1 (dk_at dksX2_addsFollows_3 15 rfl rfl)
theorem dX2_addsFollows_90 : decode cX2_addsFollows 90 = .ok (.goto (-76), 3) := dk_167 255 180 (dk_at dksX2_addsFollows_3 18 rfl rfl)
theorem dX2_addsFollows_93 : decode cX2_addsFollows 93 = .ok (.iinc 2 1, 3) := dk_132 2 1 (dk_at dksX2_addsFollows_3 21 rfl rfl)
theorem dX2_addsFollows_96 : decode cX2_addsFollows 96 = .ok (.goto (-92), 3) := dk_167 255 164 (dk_at dksX2_addsFollows_4 0 rfl rfl)
theorem dX2_addsFollows_99 : decode cX2_addsFollows 99 = .ok (.iload_n 1, 1) := dk_27 (dk_at dksX2_addsFollows_4 3 rfl rfl)
theorem dX2_addsFollows_100 : decode cX2_addsFollows 100 = .ok (.ireturn, 1) := dk_172 (dk_at dksX2_addsFollows_4 4 rfl rfl)
abbrev cX2_pairsFrom : ByteArray := prog_14_method_60_code
def yX2_pairsFrom : MethodName := ⟨RX2, "pairsFrom", "(II)V"⟩
def dkwX2_pairsFrom_1 : List UInt8 := [182, 0, 255, 177]
abbrev dktX2_pairsFrom_1 : List UInt8 := dkwX2_pairsFrom_1 ++ []
def dkwX2_pairsFrom_0 : List UInt8 := [42, 27, 28, 182, 1, 3, 42, 42, 180, 0, 41, 17, 0, 183, 42, 180, 0, 7, 27, 46, 16, 20, 100, 104]
abbrev dktX2_pairsFrom_0 : List UInt8 := dkwX2_pairsFrom_0 ++ dktX2_pairsFrom_1
theorem dksX2_pairsFrom_0 : cX2_pairsFrom.data.toList.drop 0 = dktX2_pairsFrom_0 := by decide +kernel
theorem dksX2_pairsFrom_1 : cX2_pairsFrom.data.toList.drop 24 = dktX2_pairsFrom_1 := dk_seg dksX2_pairsFrom_0 24 rfl rfl
theorem dX2_pairsFrom_0 : decode cX2_pairsFrom 0 = .ok (.aload_n 0, 1) := dk_42 (dk_at dksX2_pairsFrom_0 0 rfl rfl)
theorem dX2_pairsFrom_1 : decode cX2_pairsFrom 1 = .ok (.iload_n 1, 1) := dk_27 (dk_at dksX2_pairsFrom_0 1 rfl rfl)
theorem dX2_pairsFrom_2 : decode cX2_pairsFrom 2 = .ok (.iload_n 2, 1) := dk_28 (dk_at dksX2_pairsFrom_0 2 rfl rfl)
theorem dX2_pairsFrom_3 : decode cX2_pairsFrom 3 = .ok (.invokevirtual 259, 3) := dk_182 1 3 (dk_at dksX2_pairsFrom_0 3 rfl rfl)
theorem dX2_pairsFrom_6 : decode cX2_pairsFrom 6 = .ok (.aload_n 0, 1) := dk_42 (dk_at dksX2_pairsFrom_0 6 rfl rfl)
theorem dX2_pairsFrom_7 : decode cX2_pairsFrom 7 = .ok (.aload_n 0, 1) := dk_42 (dk_at dksX2_pairsFrom_0 7 rfl rfl)
theorem dX2_pairsFrom_8 : decode cX2_pairsFrom 8 = .ok (.getfield 41, 3) := dk_180 0 41 (dk_at dksX2_pairsFrom_0 8 rfl rfl)
theorem dX2_pairsFrom_11 : decode cX2_pairsFrom 11 = .ok (.sipush 183, 3) := dk_17 0 183 (dk_at dksX2_pairsFrom_0 11 rfl rfl)
theorem dX2_pairsFrom_14 : decode cX2_pairsFrom 14 = .ok (.aload_n 0, 1) := dk_42 (dk_at dksX2_pairsFrom_0 14 rfl rfl)
theorem dX2_pairsFrom_15 : decode cX2_pairsFrom 15 = .ok (.getfield 7, 3) := dk_180 0 7 (dk_at dksX2_pairsFrom_0 15 rfl rfl)
theorem dX2_pairsFrom_18 : decode cX2_pairsFrom 18 = .ok (.iload_n 1, 1) := dk_27 (dk_at dksX2_pairsFrom_0 18 rfl rfl)
theorem dX2_pairsFrom_19 : decode cX2_pairsFrom 19 = .ok (.iaload, 1) := dk_46 (dk_at dksX2_pairsFrom_0 19 rfl rfl)
theorem dX2_pairsFrom_20 : decode cX2_pairsFrom 20 = .ok (.bipush 20, 2) := dk_16 20 (dk_at dksX2_pairsFrom_0 20 rfl rfl)
theorem dX2_pairsFrom_22 : decode cX2_pairsFrom 22 = .ok (.isub, 1) := dk_100 (dk_at dksX2_pairsFrom_0 22 rfl rfl)
theorem dX2_pairsFrom_23 : decode cX2_pairsFrom 23 = .ok (.imul, 1) := dk_104 (dk_at dksX2_pairsFrom_0 23 rfl rfl)
theorem dX2_pairsFrom_24 : decode cX2_pairsFrom 24 = .ok (.invokevirtual 255, 3) := dk_182 0 255 (dk_at dksX2_pairsFrom_1 0 rfl rfl)
theorem dX2_pairsFrom_27 : decode cX2_pairsFrom 27 = .ok (.return_, 1) := dk_177 (dk_at dksX2_pairsFrom_1 3 rfl rfl)
abbrev cX2_predictedByPair : ByteArray := prog_14_method_66_code
def yX2_predictedByPair : MethodName := ⟨RX2, "predictedByPair", "(III)I"⟩
def dkwX2_predictedByPair_1 : List UInt8 := [167, 0, 4, 3, 182, 0, 177, 154, 0, 5, 3, 172, 42, 182, 1, 19, 42, 27, 28, 29, 182, 1, 22, 172]
abbrev dktX2_predictedByPair_1 : List UInt8 := dkwX2_predictedByPair_1 ++ []
def dkwX2_predictedByPair_0 : List UInt8 := [42, 27, 184, 0, 149, 153, 0, 21, 28, 184, 0, 237, 153, 0, 14, 29, 184, 0, 237, 153, 0, 7, 4]
abbrev dktX2_predictedByPair_0 : List UInt8 := dkwX2_predictedByPair_0 ++ dktX2_predictedByPair_1
theorem dksX2_predictedByPair_0 : cX2_predictedByPair.data.toList.drop 0 = dktX2_predictedByPair_0 := by decide +kernel
theorem dksX2_predictedByPair_1 : cX2_predictedByPair.data.toList.drop 23 = dktX2_predictedByPair_1 := dk_seg dksX2_predictedByPair_0 23 rfl rfl
theorem dX2_predictedByPair_0 : decode cX2_predictedByPair 0 = .ok (.aload_n 0, 1) := dk_42 (dk_at dksX2_predictedByPair_0 0 rfl rfl)
theorem dX2_predictedByPair_1 : decode cX2_predictedByPair 1 = .ok (.iload_n 1, 1) := dk_27 (dk_at dksX2_predictedByPair_0 1 rfl rfl)
theorem dX2_predictedByPair_2 : decode cX2_predictedByPair 2 = .ok (.invokestatic 149, 3) := dk_184 0 149 (dk_at dksX2_predictedByPair_0 2 rfl rfl)
theorem dX2_predictedByPair_5 : decode cX2_predictedByPair 5 = .ok (.ifCond .eq 21, 3) := dk_153 0 21 (dk_at dksX2_predictedByPair_0 5 rfl rfl)
theorem dX2_predictedByPair_8 : decode cX2_predictedByPair 8 = .ok (.iload_n 2, 1) := dk_28 (dk_at dksX2_predictedByPair_0 8 rfl rfl)
theorem dX2_predictedByPair_9 : decode cX2_predictedByPair 9 = .ok (.invokestatic 237, 3) := dk_184 0 237 (dk_at dksX2_predictedByPair_0 9 rfl rfl)
theorem dX2_predictedByPair_12 : decode cX2_predictedByPair 12 = .ok (.ifCond .eq 14, 3) := dk_153 0 14 (dk_at dksX2_predictedByPair_0 12 rfl rfl)
theorem dX2_predictedByPair_15 : decode cX2_predictedByPair 15 = .ok (.iload_n 3, 1) := dk_29 (dk_at dksX2_predictedByPair_0 15 rfl rfl)
theorem dX2_predictedByPair_16 : decode cX2_predictedByPair 16 = .ok (.invokestatic 237, 3) := dk_184 0 237 (dk_at dksX2_predictedByPair_0 16 rfl rfl)
theorem dX2_predictedByPair_19 : decode cX2_predictedByPair 19 = .ok (.ifCond .eq 7, 3) := dk_153 0 7 (dk_at dksX2_predictedByPair_0 19 rfl rfl)
theorem dX2_predictedByPair_22 : decode cX2_predictedByPair 22 = .ok (.iconst 1, 1) := dk_4 (dk_at dksX2_predictedByPair_0 22 rfl rfl)
theorem dX2_predictedByPair_23 : decode cX2_predictedByPair 23 = .ok (.goto 4, 3) := dk_167 0 4 (dk_at dksX2_predictedByPair_1 0 rfl rfl)
theorem dX2_predictedByPair_26 : decode cX2_predictedByPair 26 = .ok (.iconst 0, 1) := dk_3 (dk_at dksX2_predictedByPair_1 3 rfl rfl)
theorem dX2_predictedByPair_27 : decode cX2_predictedByPair 27 = .ok (.invokevirtual 177, 3) := dk_182 0 177 (dk_at dksX2_predictedByPair_1 4 rfl rfl)
theorem dX2_predictedByPair_30 : decode cX2_predictedByPair 30 = .ok (.ifCond .ne 5, 3) := dk_154 0 5 (dk_at dksX2_predictedByPair_1 7 rfl rfl)
theorem dX2_predictedByPair_33 : decode cX2_predictedByPair 33 = .ok (.iconst 0, 1) := dk_3 (dk_at dksX2_predictedByPair_1 10 rfl rfl)
theorem dX2_predictedByPair_34 : decode cX2_predictedByPair 34 = .ok (.ireturn, 1) := dk_172 (dk_at dksX2_predictedByPair_1 11 rfl rfl)
theorem dX2_predictedByPair_35 : decode cX2_predictedByPair 35 = .ok (.aload_n 0, 1) := dk_42 (dk_at dksX2_predictedByPair_1 12 rfl rfl)
theorem dX2_predictedByPair_36 : decode cX2_predictedByPair 36 = .ok (.invokevirtual 275, 3) := dk_182 1 19 (dk_at dksX2_predictedByPair_1 13 rfl rfl)
theorem dX2_predictedByPair_39 : decode cX2_predictedByPair 39 = .ok (.aload_n 0, 1) := dk_42 (dk_at dksX2_predictedByPair_1 16 rfl rfl)
theorem dX2_predictedByPair_40 : decode cX2_predictedByPair 40 = .ok (.iload_n 1, 1) := dk_27 (dk_at dksX2_predictedByPair_1 17 rfl rfl)
theorem dX2_predictedByPair_41 : decode cX2_predictedByPair 41 = .ok (.iload_n 2, 1) := dk_28 (dk_at dksX2_predictedByPair_1 18 rfl rfl)
theorem dX2_predictedByPair_42 : decode cX2_predictedByPair 42 = .ok (.iload_n 3, 1) := dk_29 (dk_at dksX2_predictedByPair_1 19 rfl rfl)
theorem dX2_predictedByPair_43 : decode cX2_predictedByPair 43 = .ok (.invokevirtual 278, 3) := dk_182 1 22 (dk_at dksX2_predictedByPair_1 20 rfl rfl)
theorem dX2_predictedByPair_46 : decode cX2_predictedByPair 46 = .ok (.ireturn, 1) := dk_172 (dk_at dksX2_predictedByPair_1 23 rfl rfl)
abbrev cX2_predictedByTwo : ByteArray := prog_14_method_65_code
def yX2_predictedByTwo : MethodName := ⟨RX2, "predictedByTwo", "(III)I"⟩
def dkwX2_predictedByTwo_2 : List UInt8 := [21, 4, 2, 160, 0, 8, 21, 5, 167, 0, 5, 16, 254, 54, 4, 132, 5, 1, 167, 255, 198, 21, 4, 172]
abbrev dktX2_predictedByTwo_2 : List UInt8 := dkwX2_predictedByTwo_2 ++ []
def dkwX2_predictedByTwo_1 : List UInt8 := [160, 0, 38, 42, 180, 0, 50, 17, 0, 183, 21, 5, 104, 28, 29, 184, 0, 246, 96, 51, 153, 0, 18]
abbrev dktX2_predictedByTwo_1 : List UInt8 := dkwX2_predictedByTwo_1 ++ dktX2_predictedByTwo_2
def dkwX2_predictedByTwo_0 : List UInt8 := [2, 54, 4, 3, 54, 5, 21, 5, 42, 180, 0, 113, 162, 0, 55, 42, 180, 0, 7, 21, 5, 46, 27]
abbrev dktX2_predictedByTwo_0 : List UInt8 := dkwX2_predictedByTwo_0 ++ dktX2_predictedByTwo_1
theorem dksX2_predictedByTwo_0 : cX2_predictedByTwo.data.toList.drop 0 = dktX2_predictedByTwo_0 := by decide +kernel
theorem dksX2_predictedByTwo_1 : cX2_predictedByTwo.data.toList.drop 23 = dktX2_predictedByTwo_1 := dk_seg dksX2_predictedByTwo_0 23 rfl rfl
theorem dksX2_predictedByTwo_2 : cX2_predictedByTwo.data.toList.drop 46 = dktX2_predictedByTwo_2 := dk_seg dksX2_predictedByTwo_1 23 rfl rfl
theorem dX2_predictedByTwo_0 : decode cX2_predictedByTwo 0 = .ok (.iconst (-1), 1) := dk_2 (dk_at dksX2_predictedByTwo_0 0 rfl rfl)
theorem dX2_predictedByTwo_1 : decode cX2_predictedByTwo 1 = .ok (.istore 4, 2) := dk_54 4 (dk_at dksX2_predictedByTwo_0 1 rfl rfl)
theorem dX2_predictedByTwo_3 : decode cX2_predictedByTwo 3 = .ok (.iconst 0, 1) := dk_3 (dk_at dksX2_predictedByTwo_0 3 rfl rfl)
theorem dX2_predictedByTwo_4 : decode cX2_predictedByTwo 4 = .ok (.istore 5, 2) := dk_54 5 (dk_at dksX2_predictedByTwo_0 4 rfl rfl)
theorem dX2_predictedByTwo_6 : decode cX2_predictedByTwo 6 = .ok (.iload 5, 2) := dk_21 5 (dk_at dksX2_predictedByTwo_0 6 rfl rfl)
theorem dX2_predictedByTwo_8 : decode cX2_predictedByTwo 8 = .ok (.aload_n 0, 1) := dk_42 (dk_at dksX2_predictedByTwo_0 8 rfl rfl)
theorem dX2_predictedByTwo_9 : decode cX2_predictedByTwo 9 = .ok (.getfield 113, 3) := dk_180 0 113 (dk_at dksX2_predictedByTwo_0 9 rfl rfl)
theorem dX2_predictedByTwo_12 : decode cX2_predictedByTwo 12 = .ok (.if_icmp .ge 55, 3) := dk_162 0 55 (dk_at dksX2_predictedByTwo_0 12 rfl rfl)
theorem dX2_predictedByTwo_15 : decode cX2_predictedByTwo 15 = .ok (.aload_n 0, 1) := dk_42 (dk_at dksX2_predictedByTwo_0 15 rfl rfl)
theorem dX2_predictedByTwo_16 : decode cX2_predictedByTwo 16 = .ok (.getfield 7, 3) := dk_180 0 7 (dk_at dksX2_predictedByTwo_0 16 rfl rfl)
theorem dX2_predictedByTwo_19 : decode cX2_predictedByTwo 19 = .ok (.iload 5, 2) := dk_21 5 (dk_at dksX2_predictedByTwo_0 19 rfl rfl)
theorem dX2_predictedByTwo_21 : decode cX2_predictedByTwo 21 = .ok (.iaload, 1) := dk_46 (dk_at dksX2_predictedByTwo_0 21 rfl rfl)
theorem dX2_predictedByTwo_22 : decode cX2_predictedByTwo 22 = .ok (.iload_n 1, 1) := dk_27 (dk_at dksX2_predictedByTwo_0 22 rfl rfl)
theorem dX2_predictedByTwo_23 : decode cX2_predictedByTwo 23 = .ok (.if_icmp .ne 38, 3) := dk_160 0 38 (dk_at dksX2_predictedByTwo_1 0 rfl rfl)
theorem dX2_predictedByTwo_26 : decode cX2_predictedByTwo 26 = .ok (.aload_n 0, 1) := dk_42 (dk_at dksX2_predictedByTwo_1 3 rfl rfl)
theorem dX2_predictedByTwo_27 : decode cX2_predictedByTwo 27 = .ok (.getfield 50, 3) := dk_180 0 50 (dk_at dksX2_predictedByTwo_1 4 rfl rfl)
theorem dX2_predictedByTwo_30 : decode cX2_predictedByTwo 30 = .ok (.sipush 183, 3) := dk_17 0 183 (dk_at dksX2_predictedByTwo_1 7 rfl rfl)
theorem dX2_predictedByTwo_33 : decode cX2_predictedByTwo 33 = .ok (.iload 5, 2) := dk_21 5 (dk_at dksX2_predictedByTwo_1 10 rfl rfl)
theorem dX2_predictedByTwo_35 : decode cX2_predictedByTwo 35 = .ok (.imul, 1) := dk_104 (dk_at dksX2_predictedByTwo_1 12 rfl rfl)
theorem dX2_predictedByTwo_36 : decode cX2_predictedByTwo 36 = .ok (.iload_n 2, 1) := dk_28 (dk_at dksX2_predictedByTwo_1 13 rfl rfl)
theorem dX2_predictedByTwo_37 : decode cX2_predictedByTwo 37 = .ok (.iload_n 3, 1) := dk_29 (dk_at dksX2_predictedByTwo_1 14 rfl rfl)
theorem dX2_predictedByTwo_38 : decode cX2_predictedByTwo 38 = .ok (.invokestatic 246, 3) := dk_184 0 246 (dk_at dksX2_predictedByTwo_1 15 rfl rfl)
theorem dX2_predictedByTwo_41 : decode cX2_predictedByTwo 41 = .ok (.iadd, 1) := dk_96 (dk_at dksX2_predictedByTwo_1 18 rfl rfl)
theorem dX2_predictedByTwo_42 : decode cX2_predictedByTwo 42 = .ok (.baload, 1) := dk_51 (dk_at dksX2_predictedByTwo_1 19 rfl rfl)
theorem dX2_predictedByTwo_43 : decode cX2_predictedByTwo 43 = .ok (.ifCond .eq 18, 3) := dk_153 0 18 (dk_at dksX2_predictedByTwo_1 20 rfl rfl)
theorem dX2_predictedByTwo_46 : decode cX2_predictedByTwo 46 = .ok (.iload 4, 2) := dk_21 4 (dk_at dksX2_predictedByTwo_2 0 rfl rfl)
theorem dX2_predictedByTwo_48 : decode cX2_predictedByTwo 48 = .ok (.iconst (-1), 1) := dk_2 (dk_at dksX2_predictedByTwo_2 2 rfl rfl)
theorem dX2_predictedByTwo_49 : decode cX2_predictedByTwo 49 = .ok (.if_icmp .ne 8, 3) := dk_160 0 8 (dk_at dksX2_predictedByTwo_2 3 rfl rfl)
theorem dX2_predictedByTwo_52 : decode cX2_predictedByTwo 52 = .ok (.iload 5, 2) := dk_21 5 (dk_at dksX2_predictedByTwo_2 6 rfl rfl)
theorem dX2_predictedByTwo_54 : decode cX2_predictedByTwo 54 = .ok (.goto 5, 3) := dk_167 0 5 (dk_at dksX2_predictedByTwo_2 8 rfl rfl)
theorem dX2_predictedByTwo_57 : decode cX2_predictedByTwo 57 = .ok (.bipush (-2), 2) := dk_16 254 (dk_at dksX2_predictedByTwo_2 11 rfl rfl)
theorem dX2_predictedByTwo_59 : decode cX2_predictedByTwo 59 = .ok (.istore 4, 2) := dk_54 4 (dk_at dksX2_predictedByTwo_2 13 rfl rfl)
theorem dX2_predictedByTwo_61 : decode cX2_predictedByTwo 61 = .ok (.iinc 5 1, 3) := dk_132 5 1 (dk_at dksX2_predictedByTwo_2 15 rfl rfl)
theorem dX2_predictedByTwo_64 : decode cX2_predictedByTwo 64 = .ok (.goto (-58), 3) := dk_167 255 198 (dk_at dksX2_predictedByTwo_2 18 rfl rfl)
theorem dX2_predictedByTwo_67 : decode cX2_predictedByTwo 67 = .ok (.iload 4, 2) := dk_21 4 (dk_at dksX2_predictedByTwo_2 21 rfl rfl)
theorem dX2_predictedByTwo_69 : decode cX2_predictedByTwo 69 = .ok (.ireturn, 1) := dk_172 (dk_at dksX2_predictedByTwo_2 23 rfl rfl)
abbrev cX2_pairConflicts : ByteArray := prog_14_method_69_code
def yX2_pairConflicts : MethodName := ⟨RX2, "pairConflicts", "()I"⟩
def dkwX2_pairConflicts_0 : List UInt8 := [42, 42, 182, 1, 29, 182, 0, 184, 172]
abbrev dktX2_pairConflicts_0 : List UInt8 := dkwX2_pairConflicts_0 ++ []
theorem dksX2_pairConflicts_0 : cX2_pairConflicts.data.toList.drop 0 = dktX2_pairConflicts_0 := by decide +kernel
theorem dX2_pairConflicts_0 : decode cX2_pairConflicts 0 = .ok (.aload_n 0, 1) := dk_42 (dk_at dksX2_pairConflicts_0 0 rfl rfl)
theorem dX2_pairConflicts_1 : decode cX2_pairConflicts 1 = .ok (.aload_n 0, 1) := dk_42 (dk_at dksX2_pairConflicts_0 1 rfl rfl)
theorem dX2_pairConflicts_2 : decode cX2_pairConflicts 2 = .ok (.invokevirtual 285, 3) := dk_182 1 29 (dk_at dksX2_pairConflicts_0 2 rfl rfl)
theorem dX2_pairConflicts_5 : decode cX2_pairConflicts 5 = .ok (.invokevirtual 184, 3) := dk_182 0 184 (dk_at dksX2_pairConflicts_0 5 rfl rfl)
theorem dX2_pairConflicts_8 : decode cX2_pairConflicts 8 = .ok (.ireturn, 1) := dk_172 (dk_at dksX2_pairConflicts_0 8 rfl rfl)
abbrev cX2_pairsInConflict : ByteArray := prog_14_method_68_code
def yX2_pairsInConflict : MethodName := ⟨RX2, "pairsInConflict", "()I"⟩
def dkwX2_pairsInConflict_2 : List UInt8 := [172]
abbrev dktX2_pairsInConflict_2 : List UInt8 := dkwX2_pairsInConflict_2 ++ []
def dkwX2_pairsInConflict_1 : List UInt8 := [42, 28, 29, 182, 1, 26, 184, 0, 97, 96, 60, 132, 3, 1, 167, 255, 236, 132, 2, 1, 167, 255, 220, 27]
abbrev dktX2_pairsInConflict_1 : List UInt8 := dkwX2_pairsInConflict_1 ++ dktX2_pairsInConflict_2
def dkwX2_pairsInConflict_0 : List UInt8 := [42, 182, 1, 19, 3, 60, 3, 61, 28, 42, 180, 0, 113, 162, 0, 34, 3, 62, 29, 28, 162, 0, 21, 27]
abbrev dktX2_pairsInConflict_0 : List UInt8 := dkwX2_pairsInConflict_0 ++ dktX2_pairsInConflict_1
theorem dksX2_pairsInConflict_0 : cX2_pairsInConflict.data.toList.drop 0 = dktX2_pairsInConflict_0 := by decide +kernel
theorem dksX2_pairsInConflict_1 : cX2_pairsInConflict.data.toList.drop 24 = dktX2_pairsInConflict_1 := dk_seg dksX2_pairsInConflict_0 24 rfl rfl
theorem dksX2_pairsInConflict_2 : cX2_pairsInConflict.data.toList.drop 48 = dktX2_pairsInConflict_2 := dk_seg dksX2_pairsInConflict_1 24 rfl rfl
theorem dX2_pairsInConflict_0 : decode cX2_pairsInConflict 0 = .ok (.aload_n 0, 1) := dk_42 (dk_at dksX2_pairsInConflict_0 0 rfl rfl)
theorem dX2_pairsInConflict_1 : decode cX2_pairsInConflict 1 = .ok (.invokevirtual 275, 3) := dk_182 1 19 (dk_at dksX2_pairsInConflict_0 1 rfl rfl)
theorem dX2_pairsInConflict_4 : decode cX2_pairsInConflict 4 = .ok (.iconst 0, 1) := dk_3 (dk_at dksX2_pairsInConflict_0 4 rfl rfl)
theorem dX2_pairsInConflict_5 : decode cX2_pairsInConflict 5 = .ok (.istore_n 1, 1) := dk_60 (dk_at dksX2_pairsInConflict_0 5 rfl rfl)
theorem dX2_pairsInConflict_6 : decode cX2_pairsInConflict 6 = .ok (.iconst 0, 1) := dk_3 (dk_at dksX2_pairsInConflict_0 6 rfl rfl)
theorem dX2_pairsInConflict_7 : decode cX2_pairsInConflict 7 = .ok (.istore_n 2, 1) := dk_61 (dk_at dksX2_pairsInConflict_0 7 rfl rfl)
theorem dX2_pairsInConflict_8 : decode cX2_pairsInConflict 8 = .ok (.iload_n 2, 1) := dk_28 (dk_at dksX2_pairsInConflict_0 8 rfl rfl)
theorem dX2_pairsInConflict_9 : decode cX2_pairsInConflict 9 = .ok (.aload_n 0, 1) := dk_42 (dk_at dksX2_pairsInConflict_0 9 rfl rfl)
theorem dX2_pairsInConflict_10 : decode cX2_pairsInConflict 10 = .ok (.getfield 113, 3) := dk_180 0 113 (dk_at dksX2_pairsInConflict_0 10 rfl rfl)
theorem dX2_pairsInConflict_13 : decode cX2_pairsInConflict 13 = .ok (.if_icmp .ge 34, 3) := dk_162 0 34 (dk_at dksX2_pairsInConflict_0 13 rfl rfl)
theorem dX2_pairsInConflict_16 : decode cX2_pairsInConflict 16 = .ok (.iconst 0, 1) := dk_3 (dk_at dksX2_pairsInConflict_0 16 rfl rfl)
theorem dX2_pairsInConflict_17 : decode cX2_pairsInConflict 17 = .ok (.istore_n 3, 1) := dk_62 (dk_at dksX2_pairsInConflict_0 17 rfl rfl)
theorem dX2_pairsInConflict_18 : decode cX2_pairsInConflict 18 = .ok (.iload_n 3, 1) := dk_29 (dk_at dksX2_pairsInConflict_0 18 rfl rfl)
theorem dX2_pairsInConflict_19 : decode cX2_pairsInConflict 19 = .ok (.iload_n 2, 1) := dk_28 (dk_at dksX2_pairsInConflict_0 19 rfl rfl)
theorem dX2_pairsInConflict_20 : decode cX2_pairsInConflict 20 = .ok (.if_icmp .ge 21, 3) := dk_162 0 21 (dk_at dksX2_pairsInConflict_0 20 rfl rfl)
theorem dX2_pairsInConflict_23 : decode cX2_pairsInConflict 23 = .ok (.iload_n 1, 1) := dk_27 (dk_at dksX2_pairsInConflict_0 23 rfl rfl)
theorem dX2_pairsInConflict_24 : decode cX2_pairsInConflict 24 = .ok (.aload_n 0, 1) := dk_42 (dk_at dksX2_pairsInConflict_1 0 rfl rfl)
theorem dX2_pairsInConflict_25 : decode cX2_pairsInConflict 25 = .ok (.iload_n 2, 1) := dk_28 (dk_at dksX2_pairsInConflict_1 1 rfl rfl)
theorem dX2_pairsInConflict_26 : decode cX2_pairsInConflict 26 = .ok (.iload_n 3, 1) := dk_29 (dk_at dksX2_pairsInConflict_1 2 rfl rfl)
theorem dX2_pairsInConflict_27 : decode cX2_pairsInConflict 27 = .ok (.invokevirtual 282, 3) := dk_182 1 26 (dk_at dksX2_pairsInConflict_1 3 rfl rfl)
theorem dX2_pairsInConflict_30 : decode cX2_pairsInConflict 30 = .ok (.invokestatic 97, 3) := dk_184 0 97 (dk_at dksX2_pairsInConflict_1 6 rfl rfl)
theorem dX2_pairsInConflict_33 : decode cX2_pairsInConflict 33 = .ok (.iadd, 1) := dk_96 (dk_at dksX2_pairsInConflict_1 9 rfl rfl)
theorem dX2_pairsInConflict_34 : decode cX2_pairsInConflict 34 = .ok (.istore_n 1, 1) := dk_60 (dk_at dksX2_pairsInConflict_1 10 rfl rfl)
theorem dX2_pairsInConflict_35 : decode cX2_pairsInConflict 35 = .ok (.iinc 3 1, 3) := dk_132 3 1 (dk_at dksX2_pairsInConflict_1 11 rfl rfl)
theorem dX2_pairsInConflict_38 : decode cX2_pairsInConflict 38 = .ok (.goto (-20), 3) := dk_167 255 236 (dk_at dksX2_pairsInConflict_1 14 rfl rfl)
theorem dX2_pairsInConflict_41 : decode cX2_pairsInConflict 41 = .ok (.iinc 2 1, 3) := dk_132 2 1 (dk_at dksX2_pairsInConflict_1 17 rfl rfl)
theorem dX2_pairsInConflict_44 : decode cX2_pairsInConflict 44 = .ok (.goto (-36), 3) := dk_167 255 220 (dk_at dksX2_pairsInConflict_1 20 rfl rfl)
theorem dX2_pairsInConflict_47 : decode cX2_pairsInConflict 47 = .ok (.iload_n 1, 1) := dk_27 (dk_at dksX2_pairsInConflict_1 23 rfl rfl)
theorem dX2_pairsInConflict_48 : decode cX2_pairsInConflict 48 = .ok (.ireturn, 1) := dk_172 (dk_at dksX2_pairsInConflict_2 0 rfl rfl)
abbrev cX2_areInConflict : ByteArray := prog_14_method_67_code
def yX2_areInConflict : MethodName := ⟨RX2, "areInConflict", "(II)Z"⟩
def dkwX2_areInConflict_2 : List UInt8 := [17, 0, 183, 28, 104, 29, 96, 51, 153, 0, 5, 4, 172, 132, 3, 1, 167, 255, 214, 3, 172]
abbrev dktX2_areInConflict_2 : List UInt8 := dkwX2_areInConflict_2 ++ []
def dkwX2_areInConflict_1 : List UInt8 := [162, 0, 41, 42, 180, 0, 50, 17, 0, 183, 27, 104, 29, 96, 51, 153, 0, 20, 42, 180, 0, 50]
abbrev dktX2_areInConflict_1 : List UInt8 := dkwX2_areInConflict_1 ++ dktX2_areInConflict_2
def dkwX2_areInConflict_0 : List UInt8 := [42, 180, 0, 7, 27, 46, 42, 180, 0, 7, 28, 46, 159, 0, 5, 3, 172, 16, 14, 62, 29, 17, 0, 183]
abbrev dktX2_areInConflict_0 : List UInt8 := dkwX2_areInConflict_0 ++ dktX2_areInConflict_1
theorem dksX2_areInConflict_0 : cX2_areInConflict.data.toList.drop 0 = dktX2_areInConflict_0 := by decide +kernel
theorem dksX2_areInConflict_1 : cX2_areInConflict.data.toList.drop 24 = dktX2_areInConflict_1 := dk_seg dksX2_areInConflict_0 24 rfl rfl
theorem dksX2_areInConflict_2 : cX2_areInConflict.data.toList.drop 46 = dktX2_areInConflict_2 := dk_seg dksX2_areInConflict_1 22 rfl rfl
theorem dX2_areInConflict_0 : decode cX2_areInConflict 0 = .ok (.aload_n 0, 1) := dk_42 (dk_at dksX2_areInConflict_0 0 rfl rfl)
theorem dX2_areInConflict_1 : decode cX2_areInConflict 1 = .ok (.getfield 7, 3) := dk_180 0 7 (dk_at dksX2_areInConflict_0 1 rfl rfl)
theorem dX2_areInConflict_4 : decode cX2_areInConflict 4 = .ok (.iload_n 1, 1) := dk_27 (dk_at dksX2_areInConflict_0 4 rfl rfl)
theorem dX2_areInConflict_5 : decode cX2_areInConflict 5 = .ok (.iaload, 1) := dk_46 (dk_at dksX2_areInConflict_0 5 rfl rfl)
theorem dX2_areInConflict_6 : decode cX2_areInConflict 6 = .ok (.aload_n 0, 1) := dk_42 (dk_at dksX2_areInConflict_0 6 rfl rfl)
theorem dX2_areInConflict_7 : decode cX2_areInConflict 7 = .ok (.getfield 7, 3) := dk_180 0 7 (dk_at dksX2_areInConflict_0 7 rfl rfl)
theorem dX2_areInConflict_10 : decode cX2_areInConflict 10 = .ok (.iload_n 2, 1) := dk_28 (dk_at dksX2_areInConflict_0 10 rfl rfl)
theorem dX2_areInConflict_11 : decode cX2_areInConflict 11 = .ok (.iaload, 1) := dk_46 (dk_at dksX2_areInConflict_0 11 rfl rfl)
theorem dX2_areInConflict_12 : decode cX2_areInConflict 12 = .ok (.if_icmp .eq 5, 3) := dk_159 0 5 (dk_at dksX2_areInConflict_0 12 rfl rfl)
theorem dX2_areInConflict_15 : decode cX2_areInConflict 15 = .ok (.iconst 0, 1) := dk_3 (dk_at dksX2_areInConflict_0 15 rfl rfl)
theorem dX2_areInConflict_16 : decode cX2_areInConflict 16 = .ok (.ireturn, 1) := dk_172 (dk_at dksX2_areInConflict_0 16 rfl rfl)
theorem dX2_areInConflict_17 : decode cX2_areInConflict 17 = .ok (.bipush 14, 2) := dk_16 14 (dk_at dksX2_areInConflict_0 17 rfl rfl)
theorem dX2_areInConflict_19 : decode cX2_areInConflict 19 = .ok (.istore_n 3, 1) := dk_62 (dk_at dksX2_areInConflict_0 19 rfl rfl)
theorem dX2_areInConflict_20 : decode cX2_areInConflict 20 = .ok (.iload_n 3, 1) := dk_29 (dk_at dksX2_areInConflict_0 20 rfl rfl)
theorem dX2_areInConflict_21 : decode cX2_areInConflict 21 = .ok (.sipush 183, 3) := dk_17 0 183 (dk_at dksX2_areInConflict_0 21 rfl rfl)
theorem dX2_areInConflict_24 : decode cX2_areInConflict 24 = .ok (.if_icmp .ge 41, 3) := dk_162 0 41 (dk_at dksX2_areInConflict_1 0 rfl rfl)
theorem dX2_areInConflict_27 : decode cX2_areInConflict 27 = .ok (.aload_n 0, 1) := dk_42 (dk_at dksX2_areInConflict_1 3 rfl rfl)
theorem dX2_areInConflict_28 : decode cX2_areInConflict 28 = .ok (.getfield 50, 3) := dk_180 0 50 (dk_at dksX2_areInConflict_1 4 rfl rfl)
theorem dX2_areInConflict_31 : decode cX2_areInConflict 31 = .ok (.sipush 183, 3) := dk_17 0 183 (dk_at dksX2_areInConflict_1 7 rfl rfl)
theorem dX2_areInConflict_34 : decode cX2_areInConflict 34 = .ok (.iload_n 1, 1) := dk_27 (dk_at dksX2_areInConflict_1 10 rfl rfl)
theorem dX2_areInConflict_35 : decode cX2_areInConflict 35 = .ok (.imul, 1) := dk_104 (dk_at dksX2_areInConflict_1 11 rfl rfl)
theorem dX2_areInConflict_36 : decode cX2_areInConflict 36 = .ok (.iload_n 3, 1) := dk_29 (dk_at dksX2_areInConflict_1 12 rfl rfl)
theorem dX2_areInConflict_37 : decode cX2_areInConflict 37 = .ok (.iadd, 1) := dk_96 (dk_at dksX2_areInConflict_1 13 rfl rfl)
theorem dX2_areInConflict_38 : decode cX2_areInConflict 38 = .ok (.baload, 1) := dk_51 (dk_at dksX2_areInConflict_1 14 rfl rfl)
theorem dX2_areInConflict_39 : decode cX2_areInConflict 39 = .ok (.ifCond .eq 20, 3) := dk_153 0 20 (dk_at dksX2_areInConflict_1 15 rfl rfl)
theorem dX2_areInConflict_42 : decode cX2_areInConflict 42 = .ok (.aload_n 0, 1) := dk_42 (dk_at dksX2_areInConflict_1 18 rfl rfl)
theorem dX2_areInConflict_43 : decode cX2_areInConflict 43 = .ok (.getfield 50, 3) := dk_180 0 50 (dk_at dksX2_areInConflict_1 19 rfl rfl)
theorem dX2_areInConflict_46 : decode cX2_areInConflict 46 = .ok (.sipush 183, 3) := dk_17 0 183 (dk_at dksX2_areInConflict_2 0 rfl rfl)
theorem dX2_areInConflict_49 : decode cX2_areInConflict 49 = .ok (.iload_n 2, 1) := dk_28 (dk_at dksX2_areInConflict_2 3 rfl rfl)
theorem dX2_areInConflict_50 : decode cX2_areInConflict 50 = .ok (.imul, 1) := dk_104 (dk_at dksX2_areInConflict_2 4 rfl rfl)
theorem dX2_areInConflict_51 : decode cX2_areInConflict 51 = .ok (.iload_n 3, 1) := dk_29 (dk_at dksX2_areInConflict_2 5 rfl rfl)
theorem dX2_areInConflict_52 : decode cX2_areInConflict 52 = .ok (.iadd, 1) := dk_96 (dk_at dksX2_areInConflict_2 6 rfl rfl)
theorem dX2_areInConflict_53 : decode cX2_areInConflict 53 = .ok (.baload, 1) := dk_51 (dk_at dksX2_areInConflict_2 7 rfl rfl)
theorem dX2_areInConflict_54 : decode cX2_areInConflict 54 = .ok (.ifCond .eq 5, 3) := dk_153 0 5 (dk_at dksX2_areInConflict_2 8 rfl rfl)
theorem dX2_areInConflict_57 : decode cX2_areInConflict 57 = .ok (.iconst 1, 1) := dk_4 (dk_at dksX2_areInConflict_2 11 rfl rfl)
theorem dX2_areInConflict_58 : decode cX2_areInConflict 58 = .ok (.ireturn, 1) := dk_172 (dk_at dksX2_areInConflict_2 12 rfl rfl)
theorem dX2_areInConflict_59 : decode cX2_areInConflict 59 = .ok (.iinc 3 1, 3) := dk_132 3 1 (dk_at dksX2_areInConflict_2 13 rfl rfl)
theorem dX2_areInConflict_62 : decode cX2_areInConflict 62 = .ok (.goto (-42), 3) := dk_167 255 214 (dk_at dksX2_areInConflict_2 16 rfl rfl)
theorem dX2_areInConflict_65 : decode cX2_areInConflict 65 = .ok (.iconst 0, 1) := dk_3 (dk_at dksX2_areInConflict_2 19 rfl rfl)
theorem dX2_areInConflict_66 : decode cX2_areInConflict 66 = .ok (.ireturn, 1) := dk_172 (dk_at dksX2_areInConflict_2 20 rfl rfl)
abbrev cX2_isStrongLL2 : ByteArray := prog_14_method_70_code
def yX2_isStrongLL2 : MethodName := ⟨RX2, "isStrongLL2", "()Z"⟩
def dkwX2_isStrongLL2_0 : List UInt8 := [42, 42, 182, 1, 29, 182, 0, 184, 154, 0, 7, 4, 167, 0, 4, 3, 172]
abbrev dktX2_isStrongLL2_0 : List UInt8 := dkwX2_isStrongLL2_0 ++ []
theorem dksX2_isStrongLL2_0 : cX2_isStrongLL2.data.toList.drop 0 = dktX2_isStrongLL2_0 := by decide +kernel
theorem dX2_isStrongLL2_0 : decode cX2_isStrongLL2 0 = .ok (.aload_n 0, 1) := dk_42 (dk_at dksX2_isStrongLL2_0 0 rfl rfl)
theorem dX2_isStrongLL2_1 : decode cX2_isStrongLL2 1 = .ok (.aload_n 0, 1) := dk_42 (dk_at dksX2_isStrongLL2_0 1 rfl rfl)
theorem dX2_isStrongLL2_2 : decode cX2_isStrongLL2 2 = .ok (.invokevirtual 285, 3) := dk_182 1 29 (dk_at dksX2_isStrongLL2_0 2 rfl rfl)
theorem dX2_isStrongLL2_5 : decode cX2_isStrongLL2 5 = .ok (.invokevirtual 184, 3) := dk_182 0 184 (dk_at dksX2_isStrongLL2_0 5 rfl rfl)
theorem dX2_isStrongLL2_8 : decode cX2_isStrongLL2 8 = .ok (.ifCond .ne 7, 3) := dk_154 0 7 (dk_at dksX2_isStrongLL2_0 8 rfl rfl)
theorem dX2_isStrongLL2_11 : decode cX2_isStrongLL2 11 = .ok (.iconst 1, 1) := dk_4 (dk_at dksX2_isStrongLL2_0 11 rfl rfl)
theorem dX2_isStrongLL2_12 : decode cX2_isStrongLL2 12 = .ok (.goto 4, 3) := dk_167 0 4 (dk_at dksX2_isStrongLL2_0 12 rfl rfl)
theorem dX2_isStrongLL2_15 : decode cX2_isStrongLL2 15 = .ok (.iconst 0, 1) := dk_3 (dk_at dksX2_isStrongLL2_0 15 rfl rfl)
theorem dX2_isStrongLL2_16 : decode cX2_isStrongLL2 16 = .ok (.ireturn, 1) := dk_172 (dk_at dksX2_isStrongLL2_0 16 rfl rfl)
abbrev cX2_isLeftRecursive : ByteArray := prog_14_method_73_code
def yX2_isLeftRecursive : MethodName := ⟨RX2, "isLeftRecursive", "(I)Z"⟩
def dkwX2_isLeftRecursive_1 : List UInt8 := [100, 46, 27, 16, 20, 100, 184, 0, 198, 172]
abbrev dktX2_isLeftRecursive_1 : List UInt8 := dkwX2_isLeftRecursive_1 ++ []
def dkwX2_isLeftRecursive_0 : List UInt8 := [42, 27, 184, 0, 149, 182, 0, 177, 154, 0, 5, 3, 172, 42, 182, 1, 32, 42, 180, 0, 53, 27, 16, 20]
abbrev dktX2_isLeftRecursive_0 : List UInt8 := dkwX2_isLeftRecursive_0 ++ dktX2_isLeftRecursive_1
theorem dksX2_isLeftRecursive_0 : cX2_isLeftRecursive.data.toList.drop 0 = dktX2_isLeftRecursive_0 := by decide +kernel
theorem dksX2_isLeftRecursive_1 : cX2_isLeftRecursive.data.toList.drop 24 = dktX2_isLeftRecursive_1 := dk_seg dksX2_isLeftRecursive_0 24 rfl rfl
theorem dX2_isLeftRecursive_0 : decode cX2_isLeftRecursive 0 = .ok (.aload_n 0, 1) := dk_42 (dk_at dksX2_isLeftRecursive_0 0 rfl rfl)
theorem dX2_isLeftRecursive_1 : decode cX2_isLeftRecursive 1 = .ok (.iload_n 1, 1) := dk_27 (dk_at dksX2_isLeftRecursive_0 1 rfl rfl)
theorem dX2_isLeftRecursive_2 : decode cX2_isLeftRecursive 2 = .ok (.invokestatic 149, 3) := dk_184 0 149 (dk_at dksX2_isLeftRecursive_0 2 rfl rfl)
theorem dX2_isLeftRecursive_5 : decode cX2_isLeftRecursive 5 = .ok (.invokevirtual 177, 3) := dk_182 0 177 (dk_at dksX2_isLeftRecursive_0 5 rfl rfl)
theorem dX2_isLeftRecursive_8 : decode cX2_isLeftRecursive 8 = .ok (.ifCond .ne 5, 3) := dk_154 0 5 (dk_at dksX2_isLeftRecursive_0 8 rfl rfl)
theorem dX2_isLeftRecursive_11 : decode cX2_isLeftRecursive 11 = .ok (.iconst 0, 1) := dk_3 (dk_at dksX2_isLeftRecursive_0 11 rfl rfl)
theorem dX2_isLeftRecursive_12 : decode cX2_isLeftRecursive 12 = .ok (.ireturn, 1) := dk_172 (dk_at dksX2_isLeftRecursive_0 12 rfl rfl)
theorem dX2_isLeftRecursive_13 : decode cX2_isLeftRecursive 13 = .ok (.aload_n 0, 1) := dk_42 (dk_at dksX2_isLeftRecursive_0 13 rfl rfl)
theorem dX2_isLeftRecursive_14 : decode cX2_isLeftRecursive 14 = .ok (.invokevirtual 288, 3) := dk_182 1 32 (dk_at dksX2_isLeftRecursive_0 14 rfl rfl)
theorem dX2_isLeftRecursive_17 : decode cX2_isLeftRecursive 17 = .ok (.aload_n 0, 1) := dk_42 (dk_at dksX2_isLeftRecursive_0 17 rfl rfl)
theorem dX2_isLeftRecursive_18 : decode cX2_isLeftRecursive 18 = .ok (.getfield 53, 3) := dk_180 0 53 (dk_at dksX2_isLeftRecursive_0 18 rfl rfl)
theorem dX2_isLeftRecursive_21 : decode cX2_isLeftRecursive 21 = .ok (.iload_n 1, 1) := dk_27 (dk_at dksX2_isLeftRecursive_0 21 rfl rfl)
theorem dX2_isLeftRecursive_22 : decode cX2_isLeftRecursive 22 = .ok (.bipush 20, 2) := dk_16 20 (dk_at dksX2_isLeftRecursive_0 22 rfl rfl)
theorem dX2_isLeftRecursive_24 : decode cX2_isLeftRecursive 24 = .ok (.isub, 1) := dk_100 (dk_at dksX2_isLeftRecursive_1 0 rfl rfl)
theorem dX2_isLeftRecursive_25 : decode cX2_isLeftRecursive 25 = .ok (.iaload, 1) := dk_46 (dk_at dksX2_isLeftRecursive_1 1 rfl rfl)
theorem dX2_isLeftRecursive_26 : decode cX2_isLeftRecursive 26 = .ok (.iload_n 1, 1) := dk_27 (dk_at dksX2_isLeftRecursive_1 2 rfl rfl)
theorem dX2_isLeftRecursive_27 : decode cX2_isLeftRecursive 27 = .ok (.bipush 20, 2) := dk_16 20 (dk_at dksX2_isLeftRecursive_1 3 rfl rfl)
theorem dX2_isLeftRecursive_29 : decode cX2_isLeftRecursive 29 = .ok (.isub, 1) := dk_100 (dk_at dksX2_isLeftRecursive_1 5 rfl rfl)
theorem dX2_isLeftRecursive_30 : decode cX2_isLeftRecursive 30 = .ok (.invokestatic 198, 3) := dk_184 0 198 (dk_at dksX2_isLeftRecursive_1 6 rfl rfl)
theorem dX2_isLeftRecursive_33 : decode cX2_isLeftRecursive 33 = .ok (.ireturn, 1) := dk_172 (dk_at dksX2_isLeftRecursive_1 9 rfl rfl)
abbrev cX2_reaches : ByteArray := prog_14_method_71_code
def yX2_reaches : MethodName := ⟨RX2, "reaches", "()V"⟩
def dkwX2_reaches_7 : List UInt8 := [167, 255, 219, 132, 1, 1, 167, 255, 205, 177]
abbrev dktX2_reaches_7 : List UInt8 := dkwX2_reaches_7 ++ []
def dkwX2_reaches_6 : List UInt8 := [184, 0, 198, 153, 0, 18, 42, 180, 0, 53, 28, 92, 46, 42, 180, 0, 53, 27, 46, 128, 79, 132, 2, 1]
abbrev dktX2_reaches_6 : List UInt8 := dkwX2_reaches_6 ++ dktX2_reaches_7
def dkwX2_reaches_5 : List UInt8 := [3, 60, 27, 16, 12, 162, 0, 51, 3, 61, 28, 16, 12, 162, 0, 37, 42, 180, 0, 53, 28, 46, 27]
abbrev dktX2_reaches_5 : List UInt8 := dkwX2_reaches_5 ++ dktX2_reaches_6
def dkwX2_reaches_4 : List UInt8 := [182, 0, 187, 182, 0, 202, 154, 0, 6, 167, 0, 9, 132, 2, 1, 167, 255, 187, 132, 1, 1, 167, 255, 171]
abbrev dktX2_reaches_4 : List UInt8 := dkwX2_reaches_4 ++ dktX2_reaches_5
def dkwX2_reaches_3 : List UInt8 := [46, 16, 20, 100, 92, 46, 4, 42, 27, 28, 182, 0, 187, 16, 20, 100, 120, 128, 79, 42, 42, 27, 28]
abbrev dktX2_reaches_3 : List UInt8 := dkwX2_reaches_3 ++ dktX2_reaches_4
def dkwX2_reaches_2 : List UInt8 := [162, 0, 65, 42, 27, 28, 182, 0, 187, 184, 0, 149, 153, 0, 31, 42, 180, 0, 53, 42, 180, 0, 7, 27]
abbrev dktX2_reaches_2 : List UInt8 := dkwX2_reaches_2 ++ dktX2_reaches_3
def dkwX2_reaches_1 : List UInt8 := [167, 255, 240, 3, 60, 27, 42, 180, 0, 113, 162, 0, 83, 3, 61, 28, 42, 180, 0, 13, 27, 46]
abbrev dktX2_reaches_1 : List UInt8 := dkwX2_reaches_1 ++ dktX2_reaches_2
def dkwX2_reaches_0 : List UInt8 := [42, 182, 0, 227, 3, 60, 27, 16, 12, 162, 0, 16, 42, 180, 0, 53, 27, 3, 79, 132, 1, 1]
abbrev dktX2_reaches_0 : List UInt8 := dkwX2_reaches_0 ++ dktX2_reaches_1
theorem dksX2_reaches_0 : cX2_reaches.data.toList.drop 0 = dktX2_reaches_0 := by decide +kernel
theorem dksX2_reaches_1 : cX2_reaches.data.toList.drop 22 = dktX2_reaches_1 := dk_seg dksX2_reaches_0 22 rfl rfl
theorem dksX2_reaches_2 : cX2_reaches.data.toList.drop 44 = dktX2_reaches_2 := dk_seg dksX2_reaches_1 22 rfl rfl
theorem dksX2_reaches_3 : cX2_reaches.data.toList.drop 68 = dktX2_reaches_3 := dk_seg dksX2_reaches_2 24 rfl rfl
theorem dksX2_reaches_4 : cX2_reaches.data.toList.drop 91 = dktX2_reaches_4 := dk_seg dksX2_reaches_3 23 rfl rfl
theorem dksX2_reaches_5 : cX2_reaches.data.toList.drop 115 = dktX2_reaches_5 := dk_seg dksX2_reaches_4 24 rfl rfl
theorem dksX2_reaches_6 : cX2_reaches.data.toList.drop 138 = dktX2_reaches_6 := dk_seg dksX2_reaches_5 23 rfl rfl
theorem dksX2_reaches_7 : cX2_reaches.data.toList.drop 162 = dktX2_reaches_7 := dk_seg dksX2_reaches_6 24 rfl rfl
theorem dX2_reaches_0 : decode cX2_reaches 0 = .ok (.aload_n 0, 1) := dk_42 (dk_at dksX2_reaches_0 0 rfl rfl)
theorem dX2_reaches_1 : decode cX2_reaches 1 = .ok (.invokevirtual 227, 3) := dk_182 0 227 (dk_at dksX2_reaches_0 1 rfl rfl)
theorem dX2_reaches_4 : decode cX2_reaches 4 = .ok (.iconst 0, 1) := dk_3 (dk_at dksX2_reaches_0 4 rfl rfl)
theorem dX2_reaches_5 : decode cX2_reaches 5 = .ok (.istore_n 1, 1) := dk_60 (dk_at dksX2_reaches_0 5 rfl rfl)
theorem dX2_reaches_6 : decode cX2_reaches 6 = .ok (.iload_n 1, 1) := dk_27 (dk_at dksX2_reaches_0 6 rfl rfl)
theorem dX2_reaches_7 : decode cX2_reaches 7 = .ok (.bipush 12, 2) := dk_16 12 (dk_at dksX2_reaches_0 7 rfl rfl)
theorem dX2_reaches_9 : decode cX2_reaches 9 = .ok (.if_icmp .ge 16, 3) := dk_162 0 16 (dk_at dksX2_reaches_0 9 rfl rfl)
theorem dX2_reaches_12 : decode cX2_reaches 12 = .ok (.aload_n 0, 1) := dk_42 (dk_at dksX2_reaches_0 12 rfl rfl)
theorem dX2_reaches_13 : decode cX2_reaches 13 = .ok (.getfield 53, 3) := dk_180 0 53 (dk_at dksX2_reaches_0 13 rfl rfl)
theorem dX2_reaches_16 : decode cX2_reaches 16 = .ok (.iload_n 1, 1) := dk_27 (dk_at dksX2_reaches_0 16 rfl rfl)
theorem dX2_reaches_17 : decode cX2_reaches 17 = .ok (.iconst 0, 1) := dk_3 (dk_at dksX2_reaches_0 17 rfl rfl)
theorem dX2_reaches_18 : decode cX2_reaches 18 = .ok (.iastore, 1) := dk_79 (dk_at dksX2_reaches_0 18 rfl rfl)
theorem dX2_reaches_19 : decode cX2_reaches 19 = .ok (.iinc 1 1, 3) := dk_132 1 1 (dk_at dksX2_reaches_0 19 rfl rfl)
theorem dX2_reaches_22 : decode cX2_reaches 22 = .ok (.goto (-16), 3) := dk_167 255 240 (dk_at dksX2_reaches_1 0 rfl rfl)
theorem dX2_reaches_25 : decode cX2_reaches 25 = .ok (.iconst 0, 1) := dk_3 (dk_at dksX2_reaches_1 3 rfl rfl)
theorem dX2_reaches_26 : decode cX2_reaches 26 = .ok (.istore_n 1, 1) := dk_60 (dk_at dksX2_reaches_1 4 rfl rfl)
theorem dX2_reaches_27 : decode cX2_reaches 27 = .ok (.iload_n 1, 1) := dk_27 (dk_at dksX2_reaches_1 5 rfl rfl)
theorem dX2_reaches_28 : decode cX2_reaches 28 = .ok (.aload_n 0, 1) := dk_42 (dk_at dksX2_reaches_1 6 rfl rfl)
theorem dX2_reaches_29 : decode cX2_reaches 29 = .ok (.getfield 113, 3) := dk_180 0 113 (dk_at dksX2_reaches_1 7 rfl rfl)
theorem dX2_reaches_32 : decode cX2_reaches 32 = .ok (.if_icmp .ge 83, 3) := dk_162 0 83 (dk_at dksX2_reaches_1 10 rfl rfl)
theorem dX2_reaches_35 : decode cX2_reaches 35 = .ok (.iconst 0, 1) := dk_3 (dk_at dksX2_reaches_1 13 rfl rfl)
theorem dX2_reaches_36 : decode cX2_reaches 36 = .ok (.istore_n 2, 1) := dk_61 (dk_at dksX2_reaches_1 14 rfl rfl)
theorem dX2_reaches_37 : decode cX2_reaches 37 = .ok (.iload_n 2, 1) := dk_28 (dk_at dksX2_reaches_1 15 rfl rfl)
theorem dX2_reaches_38 : decode cX2_reaches 38 = .ok (.aload_n 0, 1) := dk_42 (dk_at dksX2_reaches_1 16 rfl rfl)
theorem dX2_reaches_39 : decode cX2_reaches 39 = .ok (.getfield 13, 3) := dk_180 0 13 (dk_at dksX2_reaches_1 17 rfl rfl)
theorem dX2_reaches_42 : decode cX2_reaches 42 = .ok (.iload_n 1, 1) := dk_27 (dk_at dksX2_reaches_1 20 rfl rfl)
theorem dX2_reaches_43 : decode cX2_reaches 43 = .ok (.iaload, 1) := dk_46 (dk_at dksX2_reaches_1 21 rfl rfl)
theorem dX2_reaches_44 : decode cX2_reaches 44 = .ok (.if_icmp .ge 65, 3) := dk_162 0 65 (dk_at dksX2_reaches_2 0 rfl rfl)
theorem dX2_reaches_47 : decode cX2_reaches 47 = .ok (.aload_n 0, 1) := dk_42 (dk_at dksX2_reaches_2 3 rfl rfl)
theorem dX2_reaches_48 : decode cX2_reaches 48 = .ok (.iload_n 1, 1) := dk_27 (dk_at dksX2_reaches_2 4 rfl rfl)
theorem dX2_reaches_49 : decode cX2_reaches 49 = .ok (.iload_n 2, 1) := dk_28 (dk_at dksX2_reaches_2 5 rfl rfl)
theorem dX2_reaches_50 : decode cX2_reaches 50 = .ok (.invokevirtual 187, 3) := dk_182 0 187 (dk_at dksX2_reaches_2 6 rfl rfl)
theorem dX2_reaches_53 : decode cX2_reaches 53 = .ok (.invokestatic 149, 3) := dk_184 0 149 (dk_at dksX2_reaches_2 9 rfl rfl)
theorem dX2_reaches_56 : decode cX2_reaches 56 = .ok (.ifCond .eq 31, 3) := dk_153 0 31 (dk_at dksX2_reaches_2 12 rfl rfl)
theorem dX2_reaches_59 : decode cX2_reaches 59 = .ok (.aload_n 0, 1) := dk_42 (dk_at dksX2_reaches_2 15 rfl rfl)
theorem dX2_reaches_60 : decode cX2_reaches 60 = .ok (.getfield 53, 3) := dk_180 0 53 (dk_at dksX2_reaches_2 16 rfl rfl)
theorem dX2_reaches_63 : decode cX2_reaches 63 = .ok (.aload_n 0, 1) := dk_42 (dk_at dksX2_reaches_2 19 rfl rfl)
theorem dX2_reaches_64 : decode cX2_reaches 64 = .ok (.getfield 7, 3) := dk_180 0 7 (dk_at dksX2_reaches_2 20 rfl rfl)
theorem dX2_reaches_67 : decode cX2_reaches 67 = .ok (.iload_n 1, 1) := dk_27 (dk_at dksX2_reaches_2 23 rfl rfl)
theorem dX2_reaches_68 : decode cX2_reaches 68 = .ok (.iaload, 1) := dk_46 (dk_at dksX2_reaches_3 0 rfl rfl)
theorem dX2_reaches_69 : decode cX2_reaches 69 = .ok (.bipush 20, 2) := dk_16 20 (dk_at dksX2_reaches_3 1 rfl rfl)
theorem dX2_reaches_71 : decode cX2_reaches 71 = .ok (.isub, 1) := dk_100 (dk_at dksX2_reaches_3 3 rfl rfl)
theorem dX2_reaches_72 : decode cX2_reaches 72 = .ok (.dup2, 1) := dk_92 (dk_at dksX2_reaches_3 4 rfl rfl)
theorem dX2_reaches_73 : decode cX2_reaches 73 = .ok (.iaload, 1) := dk_46 (dk_at dksX2_reaches_3 5 rfl rfl)
theorem dX2_reaches_74 : decode cX2_reaches 74 = .ok (.iconst 1, 1) := dk_4 (dk_at dksX2_reaches_3 6 rfl rfl)
theorem dX2_reaches_75 : decode cX2_reaches 75 = .ok (.aload_n 0, 1) := dk_42 (dk_at dksX2_reaches_3 7 rfl rfl)
theorem dX2_reaches_76 : decode cX2_reaches 76 = .ok (.iload_n 1, 1) := dk_27 (dk_at dksX2_reaches_3 8 rfl rfl)
theorem dX2_reaches_77 : decode cX2_reaches 77 = .ok (.iload_n 2, 1) := dk_28 (dk_at dksX2_reaches_3 9 rfl rfl)
theorem dX2_reaches_78 : decode cX2_reaches 78 = .ok (.invokevirtual 187, 3) := dk_182 0 187 (dk_at dksX2_reaches_3 10 rfl rfl)
theorem dX2_reaches_81 : decode cX2_reaches 81 = .ok (.bipush 20, 2) := dk_16 20 (dk_at dksX2_reaches_3 13 rfl rfl)
theorem dX2_reaches_83 : decode cX2_reaches 83 = .ok (.isub, 1) := dk_100 (dk_at dksX2_reaches_3 15 rfl rfl)
theorem dX2_reaches_84 : decode cX2_reaches 84 = .ok (.ishl, 1) := dk_120 (dk_at dksX2_reaches_3 16 rfl rfl)
theorem dX2_reaches_85 : decode cX2_reaches 85 = .ok (.ior, 1) := dk_128 (dk_at dksX2_reaches_3 17 rfl rfl)
theorem dX2_reaches_86 : decode cX2_reaches 86 = .ok (.iastore, 1) := dk_79 (dk_at dksX2_reaches_3 18 rfl rfl)
theorem dX2_reaches_87 : decode cX2_reaches 87 = .ok (.aload_n 0, 1) := dk_42 (dk_at dksX2_reaches_3 19 rfl rfl)
theorem dX2_reaches_88 : decode cX2_reaches 88 = .ok (.aload_n 0, 1) := dk_42 (dk_at dksX2_reaches_3 20 rfl rfl)
theorem dX2_reaches_89 : decode cX2_reaches 89 = .ok (.iload_n 1, 1) := dk_27 (dk_at dksX2_reaches_3 21 rfl rfl)
theorem dX2_reaches_90 : decode cX2_reaches 90 = .ok (.iload_n 2, 1) := dk_28 (dk_at dksX2_reaches_3 22 rfl rfl)
theorem dX2_reaches_91 : decode cX2_reaches 91 = .ok (.invokevirtual 187, 3) := dk_182 0 187 (dk_at dksX2_reaches_4 0 rfl rfl)
theorem dX2_reaches_94 : decode cX2_reaches 94 = .ok (.invokevirtual 202, 3) := dk_182 0 202 (dk_at dksX2_reaches_4 3 rfl rfl)
theorem dX2_reaches_97 : decode cX2_reaches 97 = .ok (.ifCond .ne 6, 3) := dk_154 0 6 (dk_at dksX2_reaches_4 6 rfl rfl)
theorem dX2_reaches_100 : decode cX2_reaches 100 = .ok (.goto 9, 3) := dk_167 0 9 (dk_at dksX2_reaches_4 9 rfl rfl)
theorem dX2_reaches_103 : decode cX2_reaches 103 = .ok (.iinc 2 1, 3) := dk_132 2 1 (dk_at dksX2_reaches_4 12 rfl rfl)
theorem dX2_reaches_106 : decode cX2_reaches 106 = .ok (.goto (-69), 3) := dk_167 255 187 (dk_at dksX2_reaches_4 15 rfl rfl)
theorem dX2_reaches_109 : decode cX2_reaches 109 = .ok (.iinc 1 1, 3) := dk_132 1 1 (dk_at dksX2_reaches_4 18 rfl rfl)
theorem dX2_reaches_112 : decode cX2_reaches 112 = .ok (.goto (-85), 3) := dk_167 255 171 (dk_at dksX2_reaches_4 21 rfl rfl)
theorem dX2_reaches_115 : decode cX2_reaches 115 = .ok (.iconst 0, 1) := dk_3 (dk_at dksX2_reaches_5 0 rfl rfl)
theorem dX2_reaches_116 : decode cX2_reaches 116 = .ok (.istore_n 1, 1) := dk_60 (dk_at dksX2_reaches_5 1 rfl rfl)
theorem dX2_reaches_117 : decode cX2_reaches 117 = .ok (.iload_n 1, 1) := dk_27 (dk_at dksX2_reaches_5 2 rfl rfl)
theorem dX2_reaches_118 : decode cX2_reaches 118 = .ok (.bipush 12, 2) := dk_16 12 (dk_at dksX2_reaches_5 3 rfl rfl)
theorem dX2_reaches_120 : decode cX2_reaches 120 = .ok (.if_icmp .ge 51, 3) := dk_162 0 51 (dk_at dksX2_reaches_5 5 rfl rfl)
theorem dX2_reaches_123 : decode cX2_reaches 123 = .ok (.iconst 0, 1) := dk_3 (dk_at dksX2_reaches_5 8 rfl rfl)
theorem dX2_reaches_124 : decode cX2_reaches 124 = .ok (.istore_n 2, 1) := dk_61 (dk_at dksX2_reaches_5 9 rfl rfl)
theorem dX2_reaches_125 : decode cX2_reaches 125 = .ok (.iload_n 2, 1) := dk_28 (dk_at dksX2_reaches_5 10 rfl rfl)
theorem dX2_reaches_126 : decode cX2_reaches 126 = .ok (.bipush 12, 2) := dk_16 12 (dk_at dksX2_reaches_5 11 rfl rfl)
theorem dX2_reaches_128 : decode cX2_reaches 128 = .ok (.if_icmp .ge 37, 3) := dk_162 0 37 (dk_at dksX2_reaches_5 13 rfl rfl)
theorem dX2_reaches_131 : decode cX2_reaches 131 = .ok (.aload_n 0, 1) := dk_42 (dk_at dksX2_reaches_5 16 rfl rfl)
theorem dX2_reaches_132 : decode cX2_reaches 132 = .ok (.getfield 53, 3) := dk_180 0 53 (dk_at dksX2_reaches_5 17 rfl rfl)
theorem dX2_reaches_135 : decode cX2_reaches 135 = .ok (.iload_n 2, 1) := dk_28 (dk_at dksX2_reaches_5 20 rfl rfl)
theorem dX2_reaches_136 : decode cX2_reaches 136 = .ok (.iaload, 1) := dk_46 (dk_at dksX2_reaches_5 21 rfl rfl)
theorem dX2_reaches_137 : decode cX2_reaches 137 = .ok (.iload_n 1, 1) := dk_27 (dk_at dksX2_reaches_5 22 rfl rfl)
theorem dX2_reaches_138 : decode cX2_reaches 138 = .ok (.invokestatic 198, 3) := dk_184 0 198 (dk_at dksX2_reaches_6 0 rfl rfl)
theorem dX2_reaches_141 : decode cX2_reaches 141 = .ok (.ifCond .eq 18, 3) := dk_153 0 18 (dk_at dksX2_reaches_6 3 rfl rfl)
theorem dX2_reaches_144 : decode cX2_reaches 144 = .ok (.aload_n 0, 1) := dk_42 (dk_at dksX2_reaches_6 6 rfl rfl)
theorem dX2_reaches_145 : decode cX2_reaches 145 = .ok (.getfield 53, 3) := dk_180 0 53 (dk_at dksX2_reaches_6 7 rfl rfl)
theorem dX2_reaches_148 : decode cX2_reaches 148 = .ok (.iload_n 2, 1) := dk_28 (dk_at dksX2_reaches_6 10 rfl rfl)
theorem dX2_reaches_149 : decode cX2_reaches 149 = .ok (.dup2, 1) := dk_92 (dk_at dksX2_reaches_6 11 rfl rfl)
theorem dX2_reaches_150 : decode cX2_reaches 150 = .ok (.iaload, 1) := dk_46 (dk_at dksX2_reaches_6 12 rfl rfl)
theorem dX2_reaches_151 : decode cX2_reaches 151 = .ok (.aload_n 0, 1) := dk_42 (dk_at dksX2_reaches_6 13 rfl rfl)
theorem dX2_reaches_152 : decode cX2_reaches 152 = .ok (.getfield 53, 3) := dk_180 0 53 (dk_at dksX2_reaches_6 14 rfl rfl)
theorem dX2_reaches_155 : decode cX2_reaches 155 = .ok (.iload_n 1, 1) := dk_27 (dk_at dksX2_reaches_6 17 rfl rfl)
theorem dX2_reaches_156 : decode cX2_reaches 156 = .ok (.iaload, 1) := dk_46 (dk_at dksX2_reaches_6 18 rfl rfl)
theorem dX2_reaches_157 : decode cX2_reaches 157 = .ok (.ior, 1) := dk_128 (dk_at dksX2_reaches_6 19 rfl rfl)
theorem dX2_reaches_158 : decode cX2_reaches 158 = .ok (.iastore, 1) := dk_79 (dk_at dksX2_reaches_6 20 rfl rfl)
theorem dX2_reaches_159 : decode cX2_reaches 159 = .ok (.iinc 2 1, 3) := dk_132 2 1 (dk_at dksX2_reaches_6 21 rfl rfl)
theorem dX2_reaches_162 : decode cX2_reaches 162 = .ok (.goto (-37), 3) := dk_167 255 219 (dk_at dksX2_reaches_7 0 rfl rfl)
theorem dX2_reaches_165 : decode cX2_reaches 165 = .ok (.iinc 1 1, 3) := dk_132 1 1 (dk_at dksX2_reaches_7 3 rfl rfl)
theorem dX2_reaches_168 : decode cX2_reaches 168 = .ok (.goto (-51), 3) := dk_167 255 205 (dk_at dksX2_reaches_7 6 rfl rfl)
theorem dX2_reaches_171 : decode cX2_reaches 171 = .ok (.return_, 1) := dk_177 (dk_at dksX2_reaches_7 9 rfl rfl)
abbrev cX2_removeLeftRecursion : ByteArray := prog_14_method_81_code
def yX2_removeLeftRecursion : MethodName := ⟨RX2, "removeLeftRecursion", "()I"⟩
def dkwX2_removeLeftRecursion_1 : List UInt8 := [154, 0, 9, 42, 182, 1, 62, 3, 172, 42, 182, 0, 157, 27, 172]
abbrev dktX2_removeLeftRecursion_1 : List UInt8 := dkwX2_removeLeftRecursion_1 ++ []
def dkwX2_removeLeftRecursion_0 : List UInt8 := [42, 182, 1, 56, 42, 182, 1, 59, 60, 42, 27, 2, 159, 0, 7, 4, 167, 0, 4, 3, 182, 0, 177]
abbrev dktX2_removeLeftRecursion_0 : List UInt8 := dkwX2_removeLeftRecursion_0 ++ dktX2_removeLeftRecursion_1
theorem dksX2_removeLeftRecursion_0 : cX2_removeLeftRecursion.data.toList.drop 0 = dktX2_removeLeftRecursion_0 := by decide +kernel
theorem dksX2_removeLeftRecursion_1 : cX2_removeLeftRecursion.data.toList.drop 23 = dktX2_removeLeftRecursion_1 := dk_seg dksX2_removeLeftRecursion_0 23 rfl rfl
theorem dX2_removeLeftRecursion_0 : decode cX2_removeLeftRecursion 0 = .ok (.aload_n 0, 1) := dk_42 (dk_at dksX2_removeLeftRecursion_0 0 rfl rfl)
theorem dX2_removeLeftRecursion_1 : decode cX2_removeLeftRecursion 1 = .ok (.invokevirtual 312, 3) := dk_182 1 56 (dk_at dksX2_removeLeftRecursion_0 1 rfl rfl)
theorem dX2_removeLeftRecursion_4 : decode cX2_removeLeftRecursion 4 = .ok (.aload_n 0, 1) := dk_42 (dk_at dksX2_removeLeftRecursion_0 4 rfl rfl)
theorem dX2_removeLeftRecursion_5 : decode cX2_removeLeftRecursion 5 = .ok (.invokevirtual 315, 3) := dk_182 1 59 (dk_at dksX2_removeLeftRecursion_0 5 rfl rfl)
theorem dX2_removeLeftRecursion_8 : decode cX2_removeLeftRecursion 8 = .ok (.istore_n 1, 1) := dk_60 (dk_at dksX2_removeLeftRecursion_0 8 rfl rfl)
theorem dX2_removeLeftRecursion_9 : decode cX2_removeLeftRecursion 9 = .ok (.aload_n 0, 1) := dk_42 (dk_at dksX2_removeLeftRecursion_0 9 rfl rfl)
theorem dX2_removeLeftRecursion_10 : decode cX2_removeLeftRecursion 10 = .ok (.iload_n 1, 1) := dk_27 (dk_at dksX2_removeLeftRecursion_0 10 rfl rfl)
theorem dX2_removeLeftRecursion_11 : decode cX2_removeLeftRecursion 11 = .ok (.iconst (-1), 1) := dk_2 (dk_at dksX2_removeLeftRecursion_0 11 rfl rfl)
theorem dX2_removeLeftRecursion_12 : decode cX2_removeLeftRecursion 12 = .ok (.if_icmp .eq 7, 3) := dk_159 0 7 (dk_at dksX2_removeLeftRecursion_0 12 rfl rfl)
theorem dX2_removeLeftRecursion_15 : decode cX2_removeLeftRecursion 15 = .ok (.iconst 1, 1) := dk_4 (dk_at dksX2_removeLeftRecursion_0 15 rfl rfl)
theorem dX2_removeLeftRecursion_16 : decode cX2_removeLeftRecursion 16 = .ok (.goto 4, 3) := dk_167 0 4 (dk_at dksX2_removeLeftRecursion_0 16 rfl rfl)
theorem dX2_removeLeftRecursion_19 : decode cX2_removeLeftRecursion 19 = .ok (.iconst 0, 1) := dk_3 (dk_at dksX2_removeLeftRecursion_0 19 rfl rfl)
theorem dX2_removeLeftRecursion_20 : decode cX2_removeLeftRecursion 20 = .ok (.invokevirtual 177, 3) := dk_182 0 177 (dk_at dksX2_removeLeftRecursion_0 20 rfl rfl)
theorem dX2_removeLeftRecursion_23 : decode cX2_removeLeftRecursion 23 = .ok (.ifCond .ne 9, 3) := dk_154 0 9 (dk_at dksX2_removeLeftRecursion_1 0 rfl rfl)
theorem dX2_removeLeftRecursion_26 : decode cX2_removeLeftRecursion 26 = .ok (.aload_n 0, 1) := dk_42 (dk_at dksX2_removeLeftRecursion_1 3 rfl rfl)
theorem dX2_removeLeftRecursion_27 : decode cX2_removeLeftRecursion 27 = .ok (.invokevirtual 318, 3) := dk_182 1 62 (dk_at dksX2_removeLeftRecursion_1 4 rfl rfl)
theorem dX2_removeLeftRecursion_30 : decode cX2_removeLeftRecursion 30 = .ok (.iconst 0, 1) := dk_3 (dk_at dksX2_removeLeftRecursion_1 7 rfl rfl)
theorem dX2_removeLeftRecursion_31 : decode cX2_removeLeftRecursion 31 = .ok (.ireturn, 1) := dk_172 (dk_at dksX2_removeLeftRecursion_1 8 rfl rfl)
theorem dX2_removeLeftRecursion_32 : decode cX2_removeLeftRecursion 32 = .ok (.aload_n 0, 1) := dk_42 (dk_at dksX2_removeLeftRecursion_1 9 rfl rfl)
theorem dX2_removeLeftRecursion_33 : decode cX2_removeLeftRecursion 33 = .ok (.invokevirtual 157, 3) := dk_182 0 157 (dk_at dksX2_removeLeftRecursion_1 10 rfl rfl)
theorem dX2_removeLeftRecursion_36 : decode cX2_removeLeftRecursion 36 = .ok (.iload_n 1, 1) := dk_27 (dk_at dksX2_removeLeftRecursion_1 13 rfl rfl)
theorem dX2_removeLeftRecursion_37 : decode cX2_removeLeftRecursion 37 = .ok (.ireturn, 1) := dk_172 (dk_at dksX2_removeLeftRecursion_1 14 rfl rfl)
abbrev cX2_holds : ByteArray := prog_14_method_21_code
def yX2_holds : MethodName := ⟨RX2, "holds", "()V"⟩
def dkwX2_holds_3 : List UInt8 := [167, 255, 234, 177]
abbrev dktX2_holds_3 : List UInt8 := dkwX2_holds_3 ++ []
def dkwX2_holds_2 : List UInt8 := [3, 60, 27, 17, 7, 208, 162, 0, 21, 42, 180, 0, 25, 27, 42, 180, 0, 16, 27, 46, 79, 132, 1, 1]
abbrev dktX2_holds_2 : List UInt8 := dkwX2_holds_2 ++ dktX2_holds_3
def dkwX2_holds_1 : List UInt8 := [180, 0, 7, 27, 46, 79, 42, 180, 0, 22, 27, 42, 180, 0, 13, 27, 46, 79, 132, 1, 1, 167, 255, 223]
abbrev dktX2_holds_1 : List UInt8 := dkwX2_holds_1 ++ dktX2_holds_2
def dkwX2_holds_0 : List UInt8 := [42, 42, 180, 0, 113, 181, 0, 124, 3, 60, 27, 16, 100, 162, 0, 33, 42, 180, 0, 19, 27, 42]
abbrev dktX2_holds_0 : List UInt8 := dkwX2_holds_0 ++ dktX2_holds_1
theorem dksX2_holds_0 : cX2_holds.data.toList.drop 0 = dktX2_holds_0 := by decide +kernel
theorem dksX2_holds_1 : cX2_holds.data.toList.drop 22 = dktX2_holds_1 := dk_seg dksX2_holds_0 22 rfl rfl
theorem dksX2_holds_2 : cX2_holds.data.toList.drop 46 = dktX2_holds_2 := dk_seg dksX2_holds_1 24 rfl rfl
theorem dksX2_holds_3 : cX2_holds.data.toList.drop 70 = dktX2_holds_3 := dk_seg dksX2_holds_2 24 rfl rfl
theorem dX2_holds_0 : decode cX2_holds 0 = .ok (.aload_n 0, 1) := dk_42 (dk_at dksX2_holds_0 0 rfl rfl)
theorem dX2_holds_1 : decode cX2_holds 1 = .ok (.aload_n 0, 1) := dk_42 (dk_at dksX2_holds_0 1 rfl rfl)
theorem dX2_holds_2 : decode cX2_holds 2 = .ok (.getfield 113, 3) := dk_180 0 113 (dk_at dksX2_holds_0 2 rfl rfl)
theorem dX2_holds_5 : decode cX2_holds 5 = .ok (.putfield 124, 3) := dk_181 0 124 (dk_at dksX2_holds_0 5 rfl rfl)
theorem dX2_holds_8 : decode cX2_holds 8 = .ok (.iconst 0, 1) := dk_3 (dk_at dksX2_holds_0 8 rfl rfl)
theorem dX2_holds_9 : decode cX2_holds 9 = .ok (.istore_n 1, 1) := dk_60 (dk_at dksX2_holds_0 9 rfl rfl)
theorem dX2_holds_10 : decode cX2_holds 10 = .ok (.iload_n 1, 1) := dk_27 (dk_at dksX2_holds_0 10 rfl rfl)
theorem dX2_holds_11 : decode cX2_holds 11 = .ok (.bipush 100, 2) := dk_16 100 (dk_at dksX2_holds_0 11 rfl rfl)
theorem dX2_holds_13 : decode cX2_holds 13 = .ok (.if_icmp .ge 33, 3) := dk_162 0 33 (dk_at dksX2_holds_0 13 rfl rfl)
theorem dX2_holds_16 : decode cX2_holds 16 = .ok (.aload_n 0, 1) := dk_42 (dk_at dksX2_holds_0 16 rfl rfl)
theorem dX2_holds_17 : decode cX2_holds 17 = .ok (.getfield 19, 3) := dk_180 0 19 (dk_at dksX2_holds_0 17 rfl rfl)
theorem dX2_holds_20 : decode cX2_holds 20 = .ok (.iload_n 1, 1) := dk_27 (dk_at dksX2_holds_0 20 rfl rfl)
theorem dX2_holds_21 : decode cX2_holds 21 = .ok (.aload_n 0, 1) := dk_42 (dk_at dksX2_holds_0 21 rfl rfl)
theorem dX2_holds_22 : decode cX2_holds 22 = .ok (.getfield 7, 3) := dk_180 0 7 (dk_at dksX2_holds_1 0 rfl rfl)
theorem dX2_holds_25 : decode cX2_holds 25 = .ok (.iload_n 1, 1) := dk_27 (dk_at dksX2_holds_1 3 rfl rfl)
theorem dX2_holds_26 : decode cX2_holds 26 = .ok (.iaload, 1) := dk_46 (dk_at dksX2_holds_1 4 rfl rfl)
theorem dX2_holds_27 : decode cX2_holds 27 = .ok (.iastore, 1) := dk_79 (dk_at dksX2_holds_1 5 rfl rfl)
theorem dX2_holds_28 : decode cX2_holds 28 = .ok (.aload_n 0, 1) := dk_42 (dk_at dksX2_holds_1 6 rfl rfl)
theorem dX2_holds_29 : decode cX2_holds 29 = .ok (.getfield 22, 3) := dk_180 0 22 (dk_at dksX2_holds_1 7 rfl rfl)
theorem dX2_holds_32 : decode cX2_holds 32 = .ok (.iload_n 1, 1) := dk_27 (dk_at dksX2_holds_1 10 rfl rfl)
theorem dX2_holds_33 : decode cX2_holds 33 = .ok (.aload_n 0, 1) := dk_42 (dk_at dksX2_holds_1 11 rfl rfl)
theorem dX2_holds_34 : decode cX2_holds 34 = .ok (.getfield 13, 3) := dk_180 0 13 (dk_at dksX2_holds_1 12 rfl rfl)
theorem dX2_holds_37 : decode cX2_holds 37 = .ok (.iload_n 1, 1) := dk_27 (dk_at dksX2_holds_1 15 rfl rfl)
theorem dX2_holds_38 : decode cX2_holds 38 = .ok (.iaload, 1) := dk_46 (dk_at dksX2_holds_1 16 rfl rfl)
theorem dX2_holds_39 : decode cX2_holds 39 = .ok (.iastore, 1) := dk_79 (dk_at dksX2_holds_1 17 rfl rfl)
theorem dX2_holds_40 : decode cX2_holds 40 = .ok (.iinc 1 1, 3) := dk_132 1 1 (dk_at dksX2_holds_1 18 rfl rfl)
theorem dX2_holds_43 : decode cX2_holds 43 = .ok (.goto (-33), 3) := dk_167 255 223 (dk_at dksX2_holds_1 21 rfl rfl)
theorem dX2_holds_46 : decode cX2_holds 46 = .ok (.iconst 0, 1) := dk_3 (dk_at dksX2_holds_2 0 rfl rfl)
theorem dX2_holds_47 : decode cX2_holds 47 = .ok (.istore_n 1, 1) := dk_60 (dk_at dksX2_holds_2 1 rfl rfl)
theorem dX2_holds_48 : decode cX2_holds 48 = .ok (.iload_n 1, 1) := dk_27 (dk_at dksX2_holds_2 2 rfl rfl)
theorem dX2_holds_49 : decode cX2_holds 49 = .ok (.sipush 2000, 3) := dk_17 7 208 (dk_at dksX2_holds_2 3 rfl rfl)
theorem dX2_holds_52 : decode cX2_holds 52 = .ok (.if_icmp .ge 21, 3) := dk_162 0 21 (dk_at dksX2_holds_2 6 rfl rfl)
theorem dX2_holds_55 : decode cX2_holds 55 = .ok (.aload_n 0, 1) := dk_42 (dk_at dksX2_holds_2 9 rfl rfl)
theorem dX2_holds_56 : decode cX2_holds 56 = .ok (.getfield 25, 3) := dk_180 0 25 (dk_at dksX2_holds_2 10 rfl rfl)
theorem dX2_holds_59 : decode cX2_holds 59 = .ok (.iload_n 1, 1) := dk_27 (dk_at dksX2_holds_2 13 rfl rfl)
theorem dX2_holds_60 : decode cX2_holds 60 = .ok (.aload_n 0, 1) := dk_42 (dk_at dksX2_holds_2 14 rfl rfl)
theorem dX2_holds_61 : decode cX2_holds 61 = .ok (.getfield 16, 3) := dk_180 0 16 (dk_at dksX2_holds_2 15 rfl rfl)
theorem dX2_holds_64 : decode cX2_holds 64 = .ok (.iload_n 1, 1) := dk_27 (dk_at dksX2_holds_2 18 rfl rfl)
theorem dX2_holds_65 : decode cX2_holds 65 = .ok (.iaload, 1) := dk_46 (dk_at dksX2_holds_2 19 rfl rfl)
theorem dX2_holds_66 : decode cX2_holds 66 = .ok (.iastore, 1) := dk_79 (dk_at dksX2_holds_2 20 rfl rfl)
theorem dX2_holds_67 : decode cX2_holds 67 = .ok (.iinc 1 1, 3) := dk_132 1 1 (dk_at dksX2_holds_2 21 rfl rfl)
theorem dX2_holds_70 : decode cX2_holds 70 = .ok (.goto (-22), 3) := dk_167 255 234 (dk_at dksX2_holds_3 0 rfl rfl)
theorem dX2_holds_73 : decode cX2_holds 73 = .ok (.return_, 1) := dk_177 (dk_at dksX2_holds_3 3 rfl rfl)
abbrev cX2_removes : ByteArray := prog_14_method_80_code
def yX2_removes : MethodName := ⟨RX2, "removes", "()I"⟩
def dkwX2_removes_7 : List UInt8 := [167, 255, 132, 29, 172]
abbrev dktX2_removes_7 : List UInt8 := dkwX2_removes_7 ++ []
def dkwX2_removes_6 : List UInt8 := [21, 4, 21, 5, 182, 1, 53, 132, 3, 1, 42, 182, 1, 44, 153, 0, 5, 2, 172, 132, 4, 1]
abbrev dktX2_removes_6 : List UInt8 := dkwX2_removes_6 ++ dktX2_removes_7
def dkwX2_removes_5 : List UInt8 := [182, 1, 47, 154, 0, 6, 167, 0, 37, 42, 182, 1, 50, 54, 5, 21, 5, 2, 160, 0, 5, 2, 172, 42]
abbrev dktX2_removes_5 : List UInt8 := dkwX2_removes_5 ++ dktX2_removes_6
def dkwX2_removes_4 : List UInt8 := [182, 1, 44, 153, 0, 5, 2, 172, 42, 21, 4, 27, 182, 1, 38, 54, 5, 167, 255, 215, 42, 21, 4]
abbrev dktX2_removes_4 : List UInt8 := dkwX2_removes_4 ++ dktX2_removes_5
def dkwX2_removes_3 : List UInt8 := [21, 5, 2, 159, 0, 41, 28, 16, 100, 160, 0, 5, 2, 172, 132, 2, 1, 42, 21, 5, 182, 1, 41, 42]
abbrev dktX2_removes_3 : List UInt8 := dkwX2_removes_3 ++ dktX2_removes_4
def dkwX2_removes_2 : List UInt8 := [21, 4, 16, 20, 100, 184, 0, 198, 154, 0, 6, 167, 0, 102, 42, 21, 4, 27, 182, 1, 38, 54, 5]
abbrev dktX2_removes_2 : List UInt8 := dkwX2_removes_2 ++ dktX2_removes_3
def dkwX2_removes_1 : List UInt8 := [128, 60, 132, 2, 1, 167, 255, 231, 3, 61, 3, 62, 16, 20, 54, 4, 21, 4, 16, 32, 162, 0, 123, 27]
abbrev dktX2_removes_1 : List UInt8 := dkwX2_removes_1 ++ dktX2_removes_2
def dkwX2_removes_0 : List UInt8 := [3, 60, 3, 61, 28, 42, 180, 0, 113, 162, 0, 23, 27, 4, 42, 180, 0, 7, 28, 46, 16, 20, 100, 120]
abbrev dktX2_removes_0 : List UInt8 := dkwX2_removes_0 ++ dktX2_removes_1
theorem dksX2_removes_0 : cX2_removes.data.toList.drop 0 = dktX2_removes_0 := by decide +kernel
theorem dksX2_removes_1 : cX2_removes.data.toList.drop 24 = dktX2_removes_1 := dk_seg dksX2_removes_0 24 rfl rfl
theorem dksX2_removes_2 : cX2_removes.data.toList.drop 48 = dktX2_removes_2 := dk_seg dksX2_removes_1 24 rfl rfl
theorem dksX2_removes_3 : cX2_removes.data.toList.drop 71 = dktX2_removes_3 := dk_seg dksX2_removes_2 23 rfl rfl
theorem dksX2_removes_4 : cX2_removes.data.toList.drop 95 = dktX2_removes_4 := dk_seg dksX2_removes_3 24 rfl rfl
theorem dksX2_removes_5 : cX2_removes.data.toList.drop 118 = dktX2_removes_5 := dk_seg dksX2_removes_4 23 rfl rfl
theorem dksX2_removes_6 : cX2_removes.data.toList.drop 142 = dktX2_removes_6 := dk_seg dksX2_removes_5 24 rfl rfl
theorem dksX2_removes_7 : cX2_removes.data.toList.drop 164 = dktX2_removes_7 := dk_seg dksX2_removes_6 22 rfl rfl
theorem dX2_removes_0 : decode cX2_removes 0 = .ok (.iconst 0, 1) := dk_3 (dk_at dksX2_removes_0 0 rfl rfl)
theorem dX2_removes_1 : decode cX2_removes 1 = .ok (.istore_n 1, 1) := dk_60 (dk_at dksX2_removes_0 1 rfl rfl)
theorem dX2_removes_2 : decode cX2_removes 2 = .ok (.iconst 0, 1) := dk_3 (dk_at dksX2_removes_0 2 rfl rfl)
theorem dX2_removes_3 : decode cX2_removes 3 = .ok (.istore_n 2, 1) := dk_61 (dk_at dksX2_removes_0 3 rfl rfl)
theorem dX2_removes_4 : decode cX2_removes 4 = .ok (.iload_n 2, 1) := dk_28 (dk_at dksX2_removes_0 4 rfl rfl)
theorem dX2_removes_5 : decode cX2_removes 5 = .ok (.aload_n 0, 1) := dk_42 (dk_at dksX2_removes_0 5 rfl rfl)
theorem dX2_removes_6 : decode cX2_removes 6 = .ok (.getfield 113, 3) := dk_180 0 113 (dk_at dksX2_removes_0 6 rfl rfl)
theorem dX2_removes_9 : decode cX2_removes 9 = .ok (.if_icmp .ge 23, 3) := dk_162 0 23 (dk_at dksX2_removes_0 9 rfl rfl)
theorem dX2_removes_12 : decode cX2_removes 12 = .ok (.iload_n 1, 1) := dk_27 (dk_at dksX2_removes_0 12 rfl rfl)
theorem dX2_removes_13 : decode cX2_removes 13 = .ok (.iconst 1, 1) := dk_4 (dk_at dksX2_removes_0 13 rfl rfl)
theorem dX2_removes_14 : decode cX2_removes 14 = .ok (.aload_n 0, 1) := dk_42 (dk_at dksX2_removes_0 14 rfl rfl)
theorem dX2_removes_15 : decode cX2_removes 15 = .ok (.getfield 7, 3) := dk_180 0 7 (dk_at dksX2_removes_0 15 rfl rfl)
theorem dX2_removes_18 : decode cX2_removes 18 = .ok (.iload_n 2, 1) := dk_28 (dk_at dksX2_removes_0 18 rfl rfl)
theorem dX2_removes_19 : decode cX2_removes 19 = .ok (.iaload, 1) := dk_46 (dk_at dksX2_removes_0 19 rfl rfl)
theorem dX2_removes_20 : decode cX2_removes 20 = .ok (.bipush 20, 2) := dk_16 20 (dk_at dksX2_removes_0 20 rfl rfl)
theorem dX2_removes_22 : decode cX2_removes 22 = .ok (.isub, 1) := dk_100 (dk_at dksX2_removes_0 22 rfl rfl)
theorem dX2_removes_23 : decode cX2_removes 23 = .ok (.ishl, 1) := dk_120 (dk_at dksX2_removes_0 23 rfl rfl)
theorem dX2_removes_24 : decode cX2_removes 24 = .ok (.ior, 1) := dk_128 (dk_at dksX2_removes_1 0 rfl rfl)
theorem dX2_removes_25 : decode cX2_removes 25 = .ok (.istore_n 1, 1) := dk_60 (dk_at dksX2_removes_1 1 rfl rfl)
theorem dX2_removes_26 : decode cX2_removes 26 = .ok (.iinc 2 1, 3) := dk_132 2 1 (dk_at dksX2_removes_1 2 rfl rfl)
theorem dX2_removes_29 : decode cX2_removes 29 = .ok (.goto (-25), 3) := dk_167 255 231 (dk_at dksX2_removes_1 5 rfl rfl)
theorem dX2_removes_32 : decode cX2_removes 32 = .ok (.iconst 0, 1) := dk_3 (dk_at dksX2_removes_1 8 rfl rfl)
theorem dX2_removes_33 : decode cX2_removes 33 = .ok (.istore_n 2, 1) := dk_61 (dk_at dksX2_removes_1 9 rfl rfl)
theorem dX2_removes_34 : decode cX2_removes 34 = .ok (.iconst 0, 1) := dk_3 (dk_at dksX2_removes_1 10 rfl rfl)
theorem dX2_removes_35 : decode cX2_removes 35 = .ok (.istore_n 3, 1) := dk_62 (dk_at dksX2_removes_1 11 rfl rfl)
theorem dX2_removes_36 : decode cX2_removes 36 = .ok (.bipush 20, 2) := dk_16 20 (dk_at dksX2_removes_1 12 rfl rfl)
theorem dX2_removes_38 : decode cX2_removes 38 = .ok (.istore 4, 2) := dk_54 4 (dk_at dksX2_removes_1 14 rfl rfl)
theorem dX2_removes_40 : decode cX2_removes 40 = .ok (.iload 4, 2) := dk_21 4 (dk_at dksX2_removes_1 16 rfl rfl)
theorem dX2_removes_42 : decode cX2_removes 42 = .ok (.bipush 32, 2) := dk_16 32 (dk_at dksX2_removes_1 18 rfl rfl)
theorem dX2_removes_44 : decode cX2_removes 44 = .ok (.if_icmp .ge 123, 3) := dk_162 0 123 (dk_at dksX2_removes_1 20 rfl rfl)
theorem dX2_removes_47 : decode cX2_removes 47 = .ok (.iload_n 1, 1) := dk_27 (dk_at dksX2_removes_1 23 rfl rfl)
theorem dX2_removes_48 : decode cX2_removes 48 = .ok (.iload 4, 2) := dk_21 4 (dk_at dksX2_removes_2 0 rfl rfl)
theorem dX2_removes_50 : decode cX2_removes 50 = .ok (.bipush 20, 2) := dk_16 20 (dk_at dksX2_removes_2 2 rfl rfl)
theorem dX2_removes_52 : decode cX2_removes 52 = .ok (.isub, 1) := dk_100 (dk_at dksX2_removes_2 4 rfl rfl)
theorem dX2_removes_53 : decode cX2_removes 53 = .ok (.invokestatic 198, 3) := dk_184 0 198 (dk_at dksX2_removes_2 5 rfl rfl)
theorem dX2_removes_56 : decode cX2_removes 56 = .ok (.ifCond .ne 6, 3) := dk_154 0 6 (dk_at dksX2_removes_2 8 rfl rfl)
theorem dX2_removes_59 : decode cX2_removes 59 = .ok (.goto 102, 3) := dk_167 0 102 (dk_at dksX2_removes_2 11 rfl rfl)
theorem dX2_removes_62 : decode cX2_removes 62 = .ok (.aload_n 0, 1) := dk_42 (dk_at dksX2_removes_2 14 rfl rfl)
theorem dX2_removes_63 : decode cX2_removes 63 = .ok (.iload 4, 2) := dk_21 4 (dk_at dksX2_removes_2 15 rfl rfl)
theorem dX2_removes_65 : decode cX2_removes 65 = .ok (.iload_n 1, 1) := dk_27 (dk_at dksX2_removes_2 17 rfl rfl)
theorem dX2_removes_66 : decode cX2_removes 66 = .ok (.invokevirtual 294, 3) := dk_182 1 38 (dk_at dksX2_removes_2 18 rfl rfl)
theorem dX2_removes_69 : decode cX2_removes 69 = .ok (.istore 5, 2) := dk_54 5 (dk_at dksX2_removes_2 21 rfl rfl)
theorem dX2_removes_71 : decode cX2_removes 71 = .ok (.iload 5, 2) := dk_21 5 (dk_at dksX2_removes_3 0 rfl rfl)
theorem dX2_removes_73 : decode cX2_removes 73 = .ok (.iconst (-1), 1) := dk_2 (dk_at dksX2_removes_3 2 rfl rfl)
theorem dX2_removes_74 : decode cX2_removes 74 = .ok (.if_icmp .eq 41, 3) := dk_159 0 41 (dk_at dksX2_removes_3 3 rfl rfl)
theorem dX2_removes_77 : decode cX2_removes 77 = .ok (.iload_n 2, 1) := dk_28 (dk_at dksX2_removes_3 6 rfl rfl)
theorem dX2_removes_78 : decode cX2_removes 78 = .ok (.bipush 100, 2) := dk_16 100 (dk_at dksX2_removes_3 7 rfl rfl)
theorem dX2_removes_80 : decode cX2_removes 80 = .ok (.if_icmp .ne 5, 3) := dk_160 0 5 (dk_at dksX2_removes_3 9 rfl rfl)
theorem dX2_removes_83 : decode cX2_removes 83 = .ok (.iconst (-1), 1) := dk_2 (dk_at dksX2_removes_3 12 rfl rfl)
theorem dX2_removes_84 : decode cX2_removes 84 = .ok (.ireturn, 1) := dk_172 (dk_at dksX2_removes_3 13 rfl rfl)
theorem dX2_removes_85 : decode cX2_removes 85 = .ok (.iinc 2 1, 3) := dk_132 2 1 (dk_at dksX2_removes_3 14 rfl rfl)
theorem dX2_removes_88 : decode cX2_removes 88 = .ok (.aload_n 0, 1) := dk_42 (dk_at dksX2_removes_3 17 rfl rfl)
theorem dX2_removes_89 : decode cX2_removes 89 = .ok (.iload 5, 2) := dk_21 5 (dk_at dksX2_removes_3 18 rfl rfl)
theorem dX2_removes_91 : decode cX2_removes 91 = .ok (.invokevirtual 297, 3) := dk_182 1 41 (dk_at dksX2_removes_3 20 rfl rfl)
theorem dX2_removes_94 : decode cX2_removes 94 = .ok (.aload_n 0, 1) := dk_42 (dk_at dksX2_removes_3 23 rfl rfl)
theorem dX2_removes_95 : decode cX2_removes 95 = .ok (.invokevirtual 300, 3) := dk_182 1 44 (dk_at dksX2_removes_4 0 rfl rfl)
theorem dX2_removes_98 : decode cX2_removes 98 = .ok (.ifCond .eq 5, 3) := dk_153 0 5 (dk_at dksX2_removes_4 3 rfl rfl)
theorem dX2_removes_101 : decode cX2_removes 101 = .ok (.iconst (-1), 1) := dk_2 (dk_at dksX2_removes_4 6 rfl rfl)
theorem dX2_removes_102 : decode cX2_removes 102 = .ok (.ireturn, 1) := dk_172 (dk_at dksX2_removes_4 7 rfl rfl)
theorem dX2_removes_103 : decode cX2_removes 103 = .ok (.aload_n 0, 1) := dk_42 (dk_at dksX2_removes_4 8 rfl rfl)
theorem dX2_removes_104 : decode cX2_removes 104 = .ok (.iload 4, 2) := dk_21 4 (dk_at dksX2_removes_4 9 rfl rfl)
theorem dX2_removes_106 : decode cX2_removes 106 = .ok (.iload_n 1, 1) := dk_27 (dk_at dksX2_removes_4 11 rfl rfl)
theorem dX2_removes_107 : decode cX2_removes 107 = .ok (.invokevirtual 294, 3) := dk_182 1 38 (dk_at dksX2_removes_4 12 rfl rfl)
theorem dX2_removes_110 : decode cX2_removes 110 = .ok (.istore 5, 2) := dk_54 5 (dk_at dksX2_removes_4 15 rfl rfl)
theorem dX2_removes_112 : decode cX2_removes 112 = .ok (.goto (-41), 3) := dk_167 255 215 (dk_at dksX2_removes_4 17 rfl rfl)
theorem dX2_removes_115 : decode cX2_removes 115 = .ok (.aload_n 0, 1) := dk_42 (dk_at dksX2_removes_4 20 rfl rfl)
theorem dX2_removes_116 : decode cX2_removes 116 = .ok (.iload 4, 2) := dk_21 4 (dk_at dksX2_removes_4 21 rfl rfl)
theorem dX2_removes_118 : decode cX2_removes 118 = .ok (.invokevirtual 303, 3) := dk_182 1 47 (dk_at dksX2_removes_5 0 rfl rfl)
theorem dX2_removes_121 : decode cX2_removes 121 = .ok (.ifCond .ne 6, 3) := dk_154 0 6 (dk_at dksX2_removes_5 3 rfl rfl)
theorem dX2_removes_124 : decode cX2_removes 124 = .ok (.goto 37, 3) := dk_167 0 37 (dk_at dksX2_removes_5 6 rfl rfl)
theorem dX2_removes_127 : decode cX2_removes 127 = .ok (.aload_n 0, 1) := dk_42 (dk_at dksX2_removes_5 9 rfl rfl)
theorem dX2_removes_128 : decode cX2_removes 128 = .ok (.invokevirtual 306, 3) := dk_182 1 50 (dk_at dksX2_removes_5 10 rfl rfl)
theorem dX2_removes_131 : decode cX2_removes 131 = .ok (.istore 5, 2) := dk_54 5 (dk_at dksX2_removes_5 13 rfl rfl)
theorem dX2_removes_133 : decode cX2_removes 133 = .ok (.iload 5, 2) := dk_21 5 (dk_at dksX2_removes_5 15 rfl rfl)
theorem dX2_removes_135 : decode cX2_removes 135 = .ok (.iconst (-1), 1) := dk_2 (dk_at dksX2_removes_5 17 rfl rfl)
theorem dX2_removes_136 : decode cX2_removes 136 = .ok (.if_icmp .ne 5, 3) := dk_160 0 5 (dk_at dksX2_removes_5 18 rfl rfl)
theorem dX2_removes_139 : decode cX2_removes 139 = .ok (.iconst (-1), 1) := dk_2 (dk_at dksX2_removes_5 21 rfl rfl)
theorem dX2_removes_140 : decode cX2_removes 140 = .ok (.ireturn, 1) := dk_172 (dk_at dksX2_removes_5 22 rfl rfl)
theorem dX2_removes_141 : decode cX2_removes 141 = .ok (.aload_n 0, 1) := dk_42 (dk_at dksX2_removes_5 23 rfl rfl)
theorem dX2_removes_142 : decode cX2_removes 142 = .ok (.iload 4, 2) := dk_21 4 (dk_at dksX2_removes_6 0 rfl rfl)
theorem dX2_removes_144 : decode cX2_removes 144 = .ok (.iload 5, 2) := dk_21 5 (dk_at dksX2_removes_6 2 rfl rfl)
theorem dX2_removes_146 : decode cX2_removes 146 = .ok (.invokevirtual 309, 3) := dk_182 1 53 (dk_at dksX2_removes_6 4 rfl rfl)
theorem dX2_removes_149 : decode cX2_removes 149 = .ok (.iinc 3 1, 3) := dk_132 3 1 (dk_at dksX2_removes_6 7 rfl rfl)
theorem dX2_removes_152 : decode cX2_removes 152 = .ok (.aload_n 0, 1) := dk_42 (dk_at dksX2_removes_6 10 rfl rfl)
theorem dX2_removes_153 : decode cX2_removes 153 = .ok (.invokevirtual 300, 3) := dk_182 1 44 (dk_at dksX2_removes_6 11 rfl rfl)
theorem dX2_removes_156 : decode cX2_removes 156 = .ok (.ifCond .eq 5, 3) := dk_153 0 5 (dk_at dksX2_removes_6 14 rfl rfl)
theorem dX2_removes_159 : decode cX2_removes 159 = .ok (.iconst (-1), 1) := dk_2 (dk_at dksX2_removes_6 17 rfl rfl)
theorem dX2_removes_160 : decode cX2_removes 160 = .ok (.ireturn, 1) := dk_172 (dk_at dksX2_removes_6 18 rfl rfl)
theorem dX2_removes_161 : decode cX2_removes 161 = .ok (.iinc 4 1, 3) := dk_132 4 1 (dk_at dksX2_removes_6 19 rfl rfl)
theorem dX2_removes_164 : decode cX2_removes 164 = .ok (.goto (-124), 3) := dk_167 255 132 (dk_at dksX2_removes_7 0 rfl rfl)
theorem dX2_removes_167 : decode cX2_removes 167 = .ok (.iload_n 3, 1) := dk_29 (dk_at dksX2_removes_7 3 rfl rfl)
theorem dX2_removes_168 : decode cX2_removes 168 = .ok (.ireturn, 1) := dk_172 (dk_at dksX2_removes_7 4 rfl rfl)
abbrev cX2_firstReplaceable : ByteArray := prog_14_method_75_code
def yX2_firstReplaceable : MethodName := ⟨RX2, "firstReplaceable", "(II)I"⟩
def dkwX2_firstReplaceable_3 : List UInt8 := [167, 255, 186, 2, 172]
abbrev dktX2_firstReplaceable_3 : List UInt8 := dkwX2_firstReplaceable_3 ++ []
def dkwX2_firstReplaceable_2 : List UInt8 := [153, 0, 21, 28, 42, 29, 3, 182, 0, 187, 16, 20, 100, 184, 0, 198, 153, 0, 5, 29, 172, 132, 3, 1]
abbrev dktX2_firstReplaceable_2 : List UInt8 := dkwX2_firstReplaceable_2 ++ dktX2_firstReplaceable_3
def dkwX2_firstReplaceable_1 : List UInt8 := [29, 46, 158, 0, 43, 42, 29, 3, 182, 0, 187, 27, 162, 0, 33, 42, 29, 3, 182, 0, 187, 184, 0, 149]
abbrev dktX2_firstReplaceable_1 : List UInt8 := dkwX2_firstReplaceable_1 ++ dktX2_firstReplaceable_2
def dkwX2_firstReplaceable_0 : List UInt8 := [3, 62, 29, 42, 180, 0, 113, 162, 0, 68, 42, 180, 0, 7, 29, 46, 27, 160, 0, 52, 42, 180, 0, 13]
abbrev dktX2_firstReplaceable_0 : List UInt8 := dkwX2_firstReplaceable_0 ++ dktX2_firstReplaceable_1
theorem dksX2_firstReplaceable_0 : cX2_firstReplaceable.data.toList.drop 0 = dktX2_firstReplaceable_0 := by decide +kernel
theorem dksX2_firstReplaceable_1 : cX2_firstReplaceable.data.toList.drop 24 = dktX2_firstReplaceable_1 := dk_seg dksX2_firstReplaceable_0 24 rfl rfl
theorem dksX2_firstReplaceable_2 : cX2_firstReplaceable.data.toList.drop 48 = dktX2_firstReplaceable_2 := dk_seg dksX2_firstReplaceable_1 24 rfl rfl
theorem dksX2_firstReplaceable_3 : cX2_firstReplaceable.data.toList.drop 72 = dktX2_firstReplaceable_3 := dk_seg dksX2_firstReplaceable_2 24 rfl rfl
theorem dX2_firstReplaceable_0 : decode cX2_firstReplaceable 0 = .ok (.iconst 0, 1) := dk_3 (dk_at dksX2_firstReplaceable_0 0 rfl rfl)
theorem dX2_firstReplaceable_1 : decode cX2_firstReplaceable 1 = .ok (.istore_n 3, 1) := dk_62 (dk_at dksX2_firstReplaceable_0 1 rfl rfl)
theorem dX2_firstReplaceable_2 : decode cX2_firstReplaceable 2 = .ok (.iload_n 3, 1) := dk_29 (dk_at dksX2_firstReplaceable_0 2 rfl rfl)
theorem dX2_firstReplaceable_3 : decode cX2_firstReplaceable 3 = .ok (.aload_n 0, 1) := dk_42 (dk_at dksX2_firstReplaceable_0 3 rfl rfl)
theorem dX2_firstReplaceable_4 : decode cX2_firstReplaceable 4 = .ok (.getfield 113, 3) := dk_180 0 113 (dk_at dksX2_firstReplaceable_0 4 rfl rfl)
theorem dX2_firstReplaceable_7 : decode cX2_firstReplaceable 7 = .ok (.if_icmp .ge 68, 3) := dk_162 0 68 (dk_at dksX2_firstReplaceable_0 7 rfl rfl)
theorem dX2_firstReplaceable_10 : decode cX2_firstReplaceable 10 = .ok (.aload_n 0, 1) := dk_42 (dk_at dksX2_firstReplaceable_0 10 rfl rfl)
theorem dX2_firstReplaceable_11 : decode cX2_firstReplaceable 11 = .ok (.getfield 7, 3) := dk_180 0 7 (dk_at dksX2_firstReplaceable_0 11 rfl rfl)
theorem dX2_firstReplaceable_14 : decode cX2_firstReplaceable 14 = .ok (.iload_n 3, 1) := dk_29 (dk_at dksX2_firstReplaceable_0 14 rfl rfl)
theorem dX2_firstReplaceable_15 : decode cX2_firstReplaceable 15 = .ok (.iaload, 1) := dk_46 (dk_at dksX2_firstReplaceable_0 15 rfl rfl)
theorem dX2_firstReplaceable_16 : decode cX2_firstReplaceable 16 = .ok (.iload_n 1, 1) := dk_27 (dk_at dksX2_firstReplaceable_0 16 rfl rfl)
theorem dX2_firstReplaceable_17 : decode cX2_firstReplaceable 17 = .ok (.if_icmp .ne 52, 3) := dk_160 0 52 (dk_at dksX2_firstReplaceable_0 17 rfl rfl)
theorem dX2_firstReplaceable_20 : decode cX2_firstReplaceable 20 = .ok (.aload_n 0, 1) := dk_42 (dk_at dksX2_firstReplaceable_0 20 rfl rfl)
theorem dX2_firstReplaceable_21 : decode cX2_firstReplaceable 21 = .ok (.getfield 13, 3) := dk_180 0 13 (dk_at dksX2_firstReplaceable_0 21 rfl rfl)
theorem dX2_firstReplaceable_24 : decode cX2_firstReplaceable 24 = .ok (.iload_n 3, 1) := dk_29 (dk_at dksX2_firstReplaceable_1 0 rfl rfl)
theorem dX2_firstReplaceable_25 : decode cX2_firstReplaceable 25 = .ok (.iaload, 1) := dk_46 (dk_at dksX2_firstReplaceable_1 1 rfl rfl)
theorem dX2_firstReplaceable_26 : decode cX2_firstReplaceable 26 = .ok (.ifCond .le 43, 3) := dk_158 0 43 (dk_at dksX2_firstReplaceable_1 2 rfl rfl)
theorem dX2_firstReplaceable_29 : decode cX2_firstReplaceable 29 = .ok (.aload_n 0, 1) := dk_42 (dk_at dksX2_firstReplaceable_1 5 rfl rfl)
theorem dX2_firstReplaceable_30 : decode cX2_firstReplaceable 30 = .ok (.iload_n 3, 1) := dk_29 (dk_at dksX2_firstReplaceable_1 6 rfl rfl)
theorem dX2_firstReplaceable_31 : decode cX2_firstReplaceable 31 = .ok (.iconst 0, 1) := dk_3 (dk_at dksX2_firstReplaceable_1 7 rfl rfl)
theorem dX2_firstReplaceable_32 : decode cX2_firstReplaceable 32 = .ok (.invokevirtual 187, 3) := dk_182 0 187 (dk_at dksX2_firstReplaceable_1 8 rfl rfl)
theorem dX2_firstReplaceable_35 : decode cX2_firstReplaceable 35 = .ok (.iload_n 1, 1) := dk_27 (dk_at dksX2_firstReplaceable_1 11 rfl rfl)
theorem dX2_firstReplaceable_36 : decode cX2_firstReplaceable 36 = .ok (.if_icmp .ge 33, 3) := dk_162 0 33 (dk_at dksX2_firstReplaceable_1 12 rfl rfl)
theorem dX2_firstReplaceable_39 : decode cX2_firstReplaceable 39 = .ok (.aload_n 0, 1) := dk_42 (dk_at dksX2_firstReplaceable_1 15 rfl rfl)
theorem dX2_firstReplaceable_40 : decode cX2_firstReplaceable 40 = .ok (.iload_n 3, 1) := dk_29 (dk_at dksX2_firstReplaceable_1 16 rfl rfl)
theorem dX2_firstReplaceable_41 : decode cX2_firstReplaceable 41 = .ok (.iconst 0, 1) := dk_3 (dk_at dksX2_firstReplaceable_1 17 rfl rfl)
theorem dX2_firstReplaceable_42 : decode cX2_firstReplaceable 42 = .ok (.invokevirtual 187, 3) := dk_182 0 187 (dk_at dksX2_firstReplaceable_1 18 rfl rfl)
theorem dX2_firstReplaceable_45 : decode cX2_firstReplaceable 45 = .ok (.invokestatic 149, 3) := dk_184 0 149 (dk_at dksX2_firstReplaceable_1 21 rfl rfl)
theorem dX2_firstReplaceable_48 : decode cX2_firstReplaceable 48 = .ok (.ifCond .eq 21, 3) := dk_153 0 21 (dk_at dksX2_firstReplaceable_2 0 rfl rfl)
theorem dX2_firstReplaceable_51 : decode cX2_firstReplaceable 51 = .ok (.iload_n 2, 1) := dk_28 (dk_at dksX2_firstReplaceable_2 3 rfl rfl)
theorem dX2_firstReplaceable_52 : decode cX2_firstReplaceable 52 = .ok (.aload_n 0, 1) := dk_42 (dk_at dksX2_firstReplaceable_2 4 rfl rfl)
theorem dX2_firstReplaceable_53 : decode cX2_firstReplaceable 53 = .ok (.iload_n 3, 1) := dk_29 (dk_at dksX2_firstReplaceable_2 5 rfl rfl)
theorem dX2_firstReplaceable_54 : decode cX2_firstReplaceable 54 = .ok (.iconst 0, 1) := dk_3 (dk_at dksX2_firstReplaceable_2 6 rfl rfl)
theorem dX2_firstReplaceable_55 : decode cX2_firstReplaceable 55 = .ok (.invokevirtual 187, 3) := dk_182 0 187 (dk_at dksX2_firstReplaceable_2 7 rfl rfl)
theorem dX2_firstReplaceable_58 : decode cX2_firstReplaceable 58 = .ok (.bipush 20, 2) := dk_16 20 (dk_at dksX2_firstReplaceable_2 10 rfl rfl)
theorem dX2_firstReplaceable_60 : decode cX2_firstReplaceable 60 = .ok (.isub, 1) := dk_100 (dk_at dksX2_firstReplaceable_2 12 rfl rfl)
theorem dX2_firstReplaceable_61 : decode cX2_firstReplaceable 61 = .ok (.invokestatic 198, 3) := dk_184 0 198 (dk_at dksX2_firstReplaceable_2 13 rfl rfl)
theorem dX2_firstReplaceable_64 : decode cX2_firstReplaceable 64 = .ok (.ifCond .eq 5, 3) := dk_153 0 5 (dk_at dksX2_firstReplaceable_2 16 rfl rfl)
theorem dX2_firstReplaceable_67 : decode cX2_firstReplaceable 67 = .ok (.iload_n 3, 1) := dk_29 (dk_at dksX2_firstReplaceable_2 19 rfl rfl)
theorem dX2_firstReplaceable_68 : decode cX2_firstReplaceable 68 = .ok (.ireturn, 1) := dk_172 (dk_at dksX2_firstReplaceable_2 20 rfl rfl)
theorem dX2_firstReplaceable_69 : decode cX2_firstReplaceable 69 = .ok (.iinc 3 1, 3) := dk_132 3 1 (dk_at dksX2_firstReplaceable_2 21 rfl rfl)
theorem dX2_firstReplaceable_72 : decode cX2_firstReplaceable 72 = .ok (.goto (-70), 3) := dk_167 255 186 (dk_at dksX2_firstReplaceable_3 0 rfl rfl)
theorem dX2_firstReplaceable_75 : decode cX2_firstReplaceable 75 = .ok (.iconst (-1), 1) := dk_2 (dk_at dksX2_firstReplaceable_3 3 rfl rfl)
theorem dX2_firstReplaceable_76 : decode cX2_firstReplaceable 76 = .ok (.ireturn, 1) := dk_172 (dk_at dksX2_firstReplaceable_3 4 rfl rfl)
abbrev cX2_replaces : ByteArray := prog_14_method_76_code
def yX2_replaces : MethodName := ⟨RX2, "replaces", "(I)V"⟩
def dkwX2_replaces_10 : List UInt8 := [132, 8, 1, 167, 255, 231, 132, 6, 1, 167, 255, 125, 177]
abbrev dktX2_replaces_10 : List UInt8 := dkwX2_replaces_10 ++ []
def dkwX2_replaces_9 : List UInt8 := [21, 8, 21, 4, 162, 0, 24, 42, 27, 21, 6, 96, 42, 180, 0, 56, 21, 8, 46, 182, 0, 174]
abbrev dktX2_replaces_9 : List UInt8 := dkwX2_replaces_9 ++ dktX2_replaces_10
def dkwX2_replaces_8 : List UInt8 := [21, 6, 96, 42, 21, 7, 21, 8, 182, 0, 187, 182, 0, 174, 132, 8, 1, 167, 255, 225, 3, 54, 8]
abbrev dktX2_replaces_8 : List UInt8 := dkwX2_replaces_8 ++ dktX2_replaces_9
def dkwX2_replaces_7 : List UInt8 := [27, 21, 6, 96, 28, 79, 3, 54, 8, 21, 8, 42, 180, 0, 13, 21, 7, 46, 162, 0, 25, 42, 27]
abbrev dktX2_replaces_7 : List UInt8 := dkwX2_replaces_7 ++ dktX2_replaces_8
def dkwX2_replaces_6 : List UInt8 := [21, 6, 46, 21, 6, 96, 4, 96, 167, 0, 10, 42, 180, 0, 59, 21, 6, 46, 54, 7, 42, 180, 0, 7]
abbrev dktX2_replaces_6 : List UInt8 := dkwX2_replaces_6 ++ dktX2_replaces_7
def dkwX2_replaces_5 : List UInt8 := [42, 27, 21, 6, 96, 182, 0, 120, 42, 180, 0, 59, 21, 6, 46, 27, 161, 0, 18, 42, 180, 0, 59]
abbrev dktX2_replaces_5 : List UInt8 := dkwX2_replaces_5 ++ dktX2_replaces_6
def dkwX2_replaces_4 : List UInt8 := [21, 5, 21, 6, 79, 132, 5, 1, 132, 6, 1, 167, 255, 218, 3, 54, 6, 21, 6, 21, 5, 162, 0, 130]
abbrev dktX2_replaces_4 : List UInt8 := dkwX2_replaces_4 ++ dktX2_replaces_5
def dkwX2_replaces_3 : List UInt8 := [180, 0, 113, 162, 0, 35, 42, 180, 0, 7, 21, 6, 46, 29, 159, 0, 6, 167, 0, 15, 42, 180, 0, 59]
abbrev dktX2_replaces_3 : List UInt8 := dkwX2_replaces_3 ++ dktX2_replaces_4
def dkwX2_replaces_2 : List UInt8 := [182, 0, 187, 79, 132, 5, 1, 167, 255, 230, 42, 27, 182, 0, 181, 3, 54, 5, 3, 54, 6, 21, 6, 42]
abbrev dktX2_replaces_2 : List UInt8 := dkwX2_replaces_2 ++ dktX2_replaces_3
def dkwX2_replaces_1 : List UInt8 := [3, 54, 5, 21, 5, 21, 4, 162, 0, 25, 42, 180, 0, 56, 21, 5, 42, 27, 21, 5, 4, 96]
abbrev dktX2_replaces_1 : List UInt8 := dkwX2_replaces_1 ++ dktX2_replaces_2
def dkwX2_replaces_0 : List UInt8 := [42, 180, 0, 7, 27, 46, 61, 42, 27, 3, 182, 0, 187, 62, 42, 180, 0, 13, 27, 46, 4, 100, 54, 4]
abbrev dktX2_replaces_0 : List UInt8 := dkwX2_replaces_0 ++ dktX2_replaces_1
theorem dksX2_replaces_0 : cX2_replaces.data.toList.drop 0 = dktX2_replaces_0 := by decide +kernel
theorem dksX2_replaces_1 : cX2_replaces.data.toList.drop 24 = dktX2_replaces_1 := dk_seg dksX2_replaces_0 24 rfl rfl
theorem dksX2_replaces_2 : cX2_replaces.data.toList.drop 46 = dktX2_replaces_2 := dk_seg dksX2_replaces_1 22 rfl rfl
theorem dksX2_replaces_3 : cX2_replaces.data.toList.drop 70 = dktX2_replaces_3 := dk_seg dksX2_replaces_2 24 rfl rfl
theorem dksX2_replaces_4 : cX2_replaces.data.toList.drop 94 = dktX2_replaces_4 := dk_seg dksX2_replaces_3 24 rfl rfl
theorem dksX2_replaces_5 : cX2_replaces.data.toList.drop 118 = dktX2_replaces_5 := dk_seg dksX2_replaces_4 24 rfl rfl
theorem dksX2_replaces_6 : cX2_replaces.data.toList.drop 141 = dktX2_replaces_6 := dk_seg dksX2_replaces_5 23 rfl rfl
theorem dksX2_replaces_7 : cX2_replaces.data.toList.drop 165 = dktX2_replaces_7 := dk_seg dksX2_replaces_6 24 rfl rfl
theorem dksX2_replaces_8 : cX2_replaces.data.toList.drop 188 = dktX2_replaces_8 := dk_seg dksX2_replaces_7 23 rfl rfl
theorem dksX2_replaces_9 : cX2_replaces.data.toList.drop 211 = dktX2_replaces_9 := dk_seg dksX2_replaces_8 23 rfl rfl
theorem dksX2_replaces_10 : cX2_replaces.data.toList.drop 233 = dktX2_replaces_10 := dk_seg dksX2_replaces_9 22 rfl rfl
theorem dX2_replaces_0 : decode cX2_replaces 0 = .ok (.aload_n 0, 1) := dk_42 (dk_at dksX2_replaces_0 0 rfl rfl)
theorem dX2_replaces_1 : decode cX2_replaces 1 = .ok (.getfield 7, 3) := dk_180 0 7 (dk_at dksX2_replaces_0 1 rfl rfl)
theorem dX2_replaces_4 : decode cX2_replaces 4 = .ok (.iload_n 1, 1) := dk_27 (dk_at dksX2_replaces_0 4 rfl rfl)
theorem dX2_replaces_5 : decode cX2_replaces 5 = .ok (.iaload, 1) := dk_46 (dk_at dksX2_replaces_0 5 rfl rfl)
theorem dX2_replaces_6 : decode cX2_replaces 6 = .ok (.istore_n 2, 1) := dk_61 (dk_at dksX2_replaces_0 6 rfl rfl)
theorem dX2_replaces_7 : decode cX2_replaces 7 = .ok (.aload_n 0, 1) := dk_42 (dk_at dksX2_replaces_0 7 rfl rfl)
theorem dX2_replaces_8 : decode cX2_replaces 8 = .ok (.iload_n 1, 1) := dk_27 (dk_at dksX2_replaces_0 8 rfl rfl)
theorem dX2_replaces_9 : decode cX2_replaces 9 = .ok (.iconst 0, 1) := dk_3 (dk_at dksX2_replaces_0 9 rfl rfl)
theorem dX2_replaces_10 : decode cX2_replaces 10 = .ok (.invokevirtual 187, 3) := dk_182 0 187 (dk_at dksX2_replaces_0 10 rfl rfl)
theorem dX2_replaces_13 : decode cX2_replaces 13 = .ok (.istore_n 3, 1) := dk_62 (dk_at dksX2_replaces_0 13 rfl rfl)
theorem dX2_replaces_14 : decode cX2_replaces 14 = .ok (.aload_n 0, 1) := dk_42 (dk_at dksX2_replaces_0 14 rfl rfl)
theorem dX2_replaces_15 : decode cX2_replaces 15 = .ok (.getfield 13, 3) := dk_180 0 13 (dk_at dksX2_replaces_0 15 rfl rfl)
theorem dX2_replaces_18 : decode cX2_replaces 18 = .ok (.iload_n 1, 1) := dk_27 (dk_at dksX2_replaces_0 18 rfl rfl)
theorem dX2_replaces_19 : decode cX2_replaces 19 = .ok (.iaload, 1) := dk_46 (dk_at dksX2_replaces_0 19 rfl rfl)
theorem dX2_replaces_20 : decode cX2_replaces 20 = .ok (.iconst 1, 1) := dk_4 (dk_at dksX2_replaces_0 20 rfl rfl)
theorem dX2_replaces_21 : decode cX2_replaces 21 = .ok (.isub, 1) := dk_100 (dk_at dksX2_replaces_0 21 rfl rfl)
theorem dX2_replaces_22 : decode cX2_replaces 22 = .ok (.istore 4, 2) := dk_54 4 (dk_at dksX2_replaces_0 22 rfl rfl)
theorem dX2_replaces_24 : decode cX2_replaces 24 = .ok (.iconst 0, 1) := dk_3 (dk_at dksX2_replaces_1 0 rfl rfl)
theorem dX2_replaces_25 : decode cX2_replaces 25 = .ok (.istore 5, 2) := dk_54 5 (dk_at dksX2_replaces_1 1 rfl rfl)
theorem dX2_replaces_27 : decode cX2_replaces 27 = .ok (.iload 5, 2) := dk_21 5 (dk_at dksX2_replaces_1 3 rfl rfl)
theorem dX2_replaces_29 : decode cX2_replaces 29 = .ok (.iload 4, 2) := dk_21 4 (dk_at dksX2_replaces_1 5 rfl rfl)
theorem dX2_replaces_31 : decode cX2_replaces 31 = .ok (.if_icmp .ge 25, 3) := dk_162 0 25 (dk_at dksX2_replaces_1 7 rfl rfl)
theorem dX2_replaces_34 : decode cX2_replaces 34 = .ok (.aload_n 0, 1) := dk_42 (dk_at dksX2_replaces_1 10 rfl rfl)
theorem dX2_replaces_35 : decode cX2_replaces 35 = .ok (.getfield 56, 3) := dk_180 0 56 (dk_at dksX2_replaces_1 11 rfl rfl)
theorem dX2_replaces_38 : decode cX2_replaces 38 = .ok (.iload 5, 2) := dk_21 5 (dk_at dksX2_replaces_1 14 rfl rfl)
theorem dX2_replaces_40 : decode cX2_replaces 40 = .ok (.aload_n 0, 1) := dk_42 (dk_at dksX2_replaces_1 16 rfl rfl)
theorem dX2_replaces_41 : decode cX2_replaces 41 = .ok (.iload_n 1, 1) := dk_27 (dk_at dksX2_replaces_1 17 rfl rfl)
theorem dX2_replaces_42 : decode cX2_replaces 42 = .ok (.iload 5, 2) := dk_21 5 (dk_at dksX2_replaces_1 18 rfl rfl)
theorem dX2_replaces_44 : decode cX2_replaces 44 = .ok (.iconst 1, 1) := dk_4 (dk_at dksX2_replaces_1 20 rfl rfl)
theorem dX2_replaces_45 : decode cX2_replaces 45 = .ok (.iadd, 1) := dk_96 (dk_at dksX2_replaces_1 21 rfl rfl)
theorem dX2_replaces_46 : decode cX2_replaces 46 = .ok (.invokevirtual 187, 3) := dk_182 0 187 (dk_at dksX2_replaces_2 0 rfl rfl)
theorem dX2_replaces_49 : decode cX2_replaces 49 = .ok (.iastore, 1) := dk_79 (dk_at dksX2_replaces_2 3 rfl rfl)
theorem dX2_replaces_50 : decode cX2_replaces 50 = .ok (.iinc 5 1, 3) := dk_132 5 1 (dk_at dksX2_replaces_2 4 rfl rfl)
theorem dX2_replaces_53 : decode cX2_replaces 53 = .ok (.goto (-26), 3) := dk_167 255 230 (dk_at dksX2_replaces_2 7 rfl rfl)
theorem dX2_replaces_56 : decode cX2_replaces 56 = .ok (.aload_n 0, 1) := dk_42 (dk_at dksX2_replaces_2 10 rfl rfl)
theorem dX2_replaces_57 : decode cX2_replaces 57 = .ok (.iload_n 1, 1) := dk_27 (dk_at dksX2_replaces_2 11 rfl rfl)
theorem dX2_replaces_58 : decode cX2_replaces 58 = .ok (.invokevirtual 181, 3) := dk_182 0 181 (dk_at dksX2_replaces_2 12 rfl rfl)
theorem dX2_replaces_61 : decode cX2_replaces 61 = .ok (.iconst 0, 1) := dk_3 (dk_at dksX2_replaces_2 15 rfl rfl)
theorem dX2_replaces_62 : decode cX2_replaces 62 = .ok (.istore 5, 2) := dk_54 5 (dk_at dksX2_replaces_2 16 rfl rfl)
theorem dX2_replaces_64 : decode cX2_replaces 64 = .ok (.iconst 0, 1) := dk_3 (dk_at dksX2_replaces_2 18 rfl rfl)
theorem dX2_replaces_65 : decode cX2_replaces 65 = .ok (.istore 6, 2) := dk_54 6 (dk_at dksX2_replaces_2 19 rfl rfl)
theorem dX2_replaces_67 : decode cX2_replaces 67 = .ok (.iload 6, 2) := dk_21 6 (dk_at dksX2_replaces_2 21 rfl rfl)
theorem dX2_replaces_69 : decode cX2_replaces 69 = .ok (.aload_n 0, 1) := dk_42 (dk_at dksX2_replaces_2 23 rfl rfl)
theorem dX2_replaces_70 : decode cX2_replaces 70 = .ok (.getfield 113, 3) := dk_180 0 113 (dk_at dksX2_replaces_3 0 rfl rfl)
theorem dX2_replaces_73 : decode cX2_replaces 73 = .ok (.if_icmp .ge 35, 3) := dk_162 0 35 (dk_at dksX2_replaces_3 3 rfl rfl)
theorem dX2_replaces_76 : decode cX2_replaces 76 = .ok (.aload_n 0, 1) := dk_42 (dk_at dksX2_replaces_3 6 rfl rfl)
theorem dX2_replaces_77 : decode cX2_replaces 77 = .ok (.getfield 7, 3) := dk_180 0 7 (dk_at dksX2_replaces_3 7 rfl rfl)
theorem dX2_replaces_80 : decode cX2_replaces 80 = .ok (.iload 6, 2) := dk_21 6 (dk_at dksX2_replaces_3 10 rfl rfl)
theorem dX2_replaces_82 : decode cX2_replaces 82 = .ok (.iaload, 1) := dk_46 (dk_at dksX2_replaces_3 12 rfl rfl)
theorem dX2_replaces_83 : decode cX2_replaces 83 = .ok (.iload_n 3, 1) := dk_29 (dk_at dksX2_replaces_3 13 rfl rfl)
theorem dX2_replaces_84 : decode cX2_replaces 84 = .ok (.if_icmp .eq 6, 3) := dk_159 0 6 (dk_at dksX2_replaces_3 14 rfl rfl)
theorem dX2_replaces_87 : decode cX2_replaces 87 = .ok (.goto 15, 3) := dk_167 0 15 (dk_at dksX2_replaces_3 17 rfl rfl)
theorem dX2_replaces_90 : decode cX2_replaces 90 = .ok (.aload_n 0, 1) := dk_42 (dk_at dksX2_replaces_3 20 rfl rfl)
theorem dX2_replaces_91 : decode cX2_replaces 91 = .ok (.getfield 59, 3) := dk_180 0 59 (dk_at dksX2_replaces_3 21 rfl rfl)
theorem dX2_replaces_94 : decode cX2_replaces 94 = .ok (.iload 5, 2) := dk_21 5 (dk_at dksX2_replaces_4 0 rfl rfl)
theorem dX2_replaces_96 : decode cX2_replaces 96 = .ok (.iload 6, 2) := dk_21 6 (dk_at dksX2_replaces_4 2 rfl rfl)
theorem dX2_replaces_98 : decode cX2_replaces 98 = .ok (.iastore, 1) := dk_79 (dk_at dksX2_replaces_4 4 rfl rfl)
theorem dX2_replaces_99 : decode cX2_replaces 99 = .ok (.iinc 5 1, 3) := dk_132 5 1 (dk_at dksX2_replaces_4 5 rfl rfl)
theorem dX2_replaces_102 : decode cX2_replaces 102 = .ok (.iinc 6 1, 3) := dk_132 6 1 (dk_at dksX2_replaces_4 8 rfl rfl)
theorem dX2_replaces_105 : decode cX2_replaces 105 = .ok (.goto (-38), 3) := dk_167 255 218 (dk_at dksX2_replaces_4 11 rfl rfl)
theorem dX2_replaces_108 : decode cX2_replaces 108 = .ok (.iconst 0, 1) := dk_3 (dk_at dksX2_replaces_4 14 rfl rfl)
theorem dX2_replaces_109 : decode cX2_replaces 109 = .ok (.istore 6, 2) := dk_54 6 (dk_at dksX2_replaces_4 15 rfl rfl)
theorem dX2_replaces_111 : decode cX2_replaces 111 = .ok (.iload 6, 2) := dk_21 6 (dk_at dksX2_replaces_4 17 rfl rfl)
theorem dX2_replaces_113 : decode cX2_replaces 113 = .ok (.iload 5, 2) := dk_21 5 (dk_at dksX2_replaces_4 19 rfl rfl)
theorem dX2_replaces_115 : decode cX2_replaces 115 = .ok (.if_icmp .ge 130, 3) := dk_162 0 130 (dk_at dksX2_replaces_4 21 rfl rfl)
theorem dX2_replaces_118 : decode cX2_replaces 118 = .ok (.aload_n 0, 1) := dk_42 (dk_at dksX2_replaces_5 0 rfl rfl)
theorem dX2_replaces_119 : decode cX2_replaces 119 = .ok (.iload_n 1, 1) := dk_27 (dk_at dksX2_replaces_5 1 rfl rfl)
theorem dX2_replaces_120 : decode cX2_replaces 120 = .ok (.iload 6, 2) := dk_21 6 (dk_at dksX2_replaces_5 2 rfl rfl)
theorem dX2_replaces_122 : decode cX2_replaces 122 = .ok (.iadd, 1) := dk_96 (dk_at dksX2_replaces_5 4 rfl rfl)
theorem dX2_replaces_123 : decode cX2_replaces 123 = .ok (.invokevirtual 120, 3) := dk_182 0 120 (dk_at dksX2_replaces_5 5 rfl rfl)
theorem dX2_replaces_126 : decode cX2_replaces 126 = .ok (.aload_n 0, 1) := dk_42 (dk_at dksX2_replaces_5 8 rfl rfl)
theorem dX2_replaces_127 : decode cX2_replaces 127 = .ok (.getfield 59, 3) := dk_180 0 59 (dk_at dksX2_replaces_5 9 rfl rfl)
theorem dX2_replaces_130 : decode cX2_replaces 130 = .ok (.iload 6, 2) := dk_21 6 (dk_at dksX2_replaces_5 12 rfl rfl)
theorem dX2_replaces_132 : decode cX2_replaces 132 = .ok (.iaload, 1) := dk_46 (dk_at dksX2_replaces_5 14 rfl rfl)
theorem dX2_replaces_133 : decode cX2_replaces 133 = .ok (.iload_n 1, 1) := dk_27 (dk_at dksX2_replaces_5 15 rfl rfl)
theorem dX2_replaces_134 : decode cX2_replaces 134 = .ok (.if_icmp .lt 18, 3) := dk_161 0 18 (dk_at dksX2_replaces_5 16 rfl rfl)
theorem dX2_replaces_137 : decode cX2_replaces 137 = .ok (.aload_n 0, 1) := dk_42 (dk_at dksX2_replaces_5 19 rfl rfl)
theorem dX2_replaces_138 : decode cX2_replaces 138 = .ok (.getfield 59, 3) := dk_180 0 59 (dk_at dksX2_replaces_5 20 rfl rfl)
theorem dX2_replaces_141 : decode cX2_replaces 141 = .ok (.iload 6, 2) := dk_21 6 (dk_at dksX2_replaces_6 0 rfl rfl)
theorem dX2_replaces_143 : decode cX2_replaces 143 = .ok (.iaload, 1) := dk_46 (dk_at dksX2_replaces_6 2 rfl rfl)
theorem dX2_replaces_144 : decode cX2_replaces 144 = .ok (.iload 6, 2) := dk_21 6 (dk_at dksX2_replaces_6 3 rfl rfl)
theorem dX2_replaces_146 : decode cX2_replaces 146 = .ok (.iadd, 1) := dk_96 (dk_at dksX2_replaces_6 5 rfl rfl)
theorem dX2_replaces_147 : decode cX2_replaces 147 = .ok (.iconst 1, 1) := dk_4 (dk_at dksX2_replaces_6 6 rfl rfl)
theorem dX2_replaces_148 : decode cX2_replaces 148 = .ok (.iadd, 1) := dk_96 (dk_at dksX2_replaces_6 7 rfl rfl)
theorem dX2_replaces_149 : decode cX2_replaces 149 = .ok (.goto 10, 3) := dk_167 0 10 (dk_at dksX2_replaces_6 8 rfl rfl)
theorem dX2_replaces_152 : decode cX2_replaces 152 = .ok (.aload_n 0, 1) := dk_42 (dk_at dksX2_replaces_6 11 rfl rfl)
theorem dX2_replaces_153 : decode cX2_replaces 153 = .ok (.getfield 59, 3) := dk_180 0 59 (dk_at dksX2_replaces_6 12 rfl rfl)
theorem dX2_replaces_156 : decode cX2_replaces 156 = .ok (.iload 6, 2) := dk_21 6 (dk_at dksX2_replaces_6 15 rfl rfl)
theorem dX2_replaces_158 : decode cX2_replaces 158 = .ok (.iaload, 1) := dk_46 (dk_at dksX2_replaces_6 17 rfl rfl)
theorem dX2_replaces_159 : decode cX2_replaces 159 = .ok (.istore 7, 2) := dk_54 7 (dk_at dksX2_replaces_6 18 rfl rfl)
theorem dX2_replaces_161 : decode cX2_replaces 161 = .ok (.aload_n 0, 1) := dk_42 (dk_at dksX2_replaces_6 20 rfl rfl)
theorem dX2_replaces_162 : decode cX2_replaces 162 = .ok (.getfield 7, 3) := dk_180 0 7 (dk_at dksX2_replaces_6 21 rfl rfl)
theorem dX2_replaces_165 : decode cX2_replaces 165 = .ok (.iload_n 1, 1) := dk_27 (dk_at dksX2_replaces_7 0 rfl rfl)
theorem dX2_replaces_166 : decode cX2_replaces 166 = .ok (.iload 6, 2) := dk_21 6 (dk_at dksX2_replaces_7 1 rfl rfl)
theorem dX2_replaces_168 : decode cX2_replaces 168 = .ok (.iadd, 1) := dk_96 (dk_at dksX2_replaces_7 3 rfl rfl)
theorem dX2_replaces_169 : decode cX2_replaces 169 = .ok (.iload_n 2, 1) := dk_28 (dk_at dksX2_replaces_7 4 rfl rfl)
theorem dX2_replaces_170 : decode cX2_replaces 170 = .ok (.iastore, 1) := dk_79 (dk_at dksX2_replaces_7 5 rfl rfl)
theorem dX2_replaces_171 : decode cX2_replaces 171 = .ok (.iconst 0, 1) := dk_3 (dk_at dksX2_replaces_7 6 rfl rfl)
theorem dX2_replaces_172 : decode cX2_replaces 172 = .ok (.istore 8, 2) := dk_54 8 (dk_at dksX2_replaces_7 7 rfl rfl)
theorem dX2_replaces_174 : decode cX2_replaces 174 = .ok (.iload 8, 2) := dk_21 8 (dk_at dksX2_replaces_7 9 rfl rfl)
theorem dX2_replaces_176 : decode cX2_replaces 176 = .ok (.aload_n 0, 1) := dk_42 (dk_at dksX2_replaces_7 11 rfl rfl)
theorem dX2_replaces_177 : decode cX2_replaces 177 = .ok (.getfield 13, 3) := dk_180 0 13 (dk_at dksX2_replaces_7 12 rfl rfl)
theorem dX2_replaces_180 : decode cX2_replaces 180 = .ok (.iload 7, 2) := dk_21 7 (dk_at dksX2_replaces_7 15 rfl rfl)
theorem dX2_replaces_182 : decode cX2_replaces 182 = .ok (.iaload, 1) := dk_46 (dk_at dksX2_replaces_7 17 rfl rfl)
theorem dX2_replaces_183 : decode cX2_replaces 183 = .ok (.if_icmp .ge 25, 3) := dk_162 0 25 (dk_at dksX2_replaces_7 18 rfl rfl)
theorem dX2_replaces_186 : decode cX2_replaces 186 = .ok (.aload_n 0, 1) := dk_42 (dk_at dksX2_replaces_7 21 rfl rfl)
theorem dX2_replaces_187 : decode cX2_replaces 187 = .ok (.iload_n 1, 1) := dk_27 (dk_at dksX2_replaces_7 22 rfl rfl)
theorem dX2_replaces_188 : decode cX2_replaces 188 = .ok (.iload 6, 2) := dk_21 6 (dk_at dksX2_replaces_8 0 rfl rfl)
theorem dX2_replaces_190 : decode cX2_replaces 190 = .ok (.iadd, 1) := dk_96 (dk_at dksX2_replaces_8 2 rfl rfl)
theorem dX2_replaces_191 : decode cX2_replaces 191 = .ok (.aload_n 0, 1) := dk_42 (dk_at dksX2_replaces_8 3 rfl rfl)
theorem dX2_replaces_192 : decode cX2_replaces 192 = .ok (.iload 7, 2) := dk_21 7 (dk_at dksX2_replaces_8 4 rfl rfl)
theorem dX2_replaces_194 : decode cX2_replaces 194 = .ok (.iload 8, 2) := dk_21 8 (dk_at dksX2_replaces_8 6 rfl rfl)
theorem dX2_replaces_196 : decode cX2_replaces 196 = .ok (.invokevirtual 187, 3) := dk_182 0 187 (dk_at dksX2_replaces_8 8 rfl rfl)
theorem dX2_replaces_199 : decode cX2_replaces 199 = .ok (.invokevirtual 174, 3) := dk_182 0 174 (dk_at dksX2_replaces_8 11 rfl rfl)
theorem dX2_replaces_202 : decode cX2_replaces 202 = .ok (.iinc 8 1, 3) := dk_132 8 1 (dk_at dksX2_replaces_8 14 rfl rfl)
theorem dX2_replaces_205 : decode cX2_replaces 205 = .ok (.goto (-31), 3) := dk_167 255 225 (dk_at dksX2_replaces_8 17 rfl rfl)
theorem dX2_replaces_208 : decode cX2_replaces 208 = .ok (.iconst 0, 1) := dk_3 (dk_at dksX2_replaces_8 20 rfl rfl)
theorem dX2_replaces_209 : decode cX2_replaces 209 = .ok (.istore 8, 2) := dk_54 8 (dk_at dksX2_replaces_8 21 rfl rfl)
theorem dX2_replaces_211 : decode cX2_replaces 211 = .ok (.iload 8, 2) := dk_21 8 (dk_at dksX2_replaces_9 0 rfl rfl)
theorem dX2_replaces_213 : decode cX2_replaces 213 = .ok (.iload 4, 2) := dk_21 4 (dk_at dksX2_replaces_9 2 rfl rfl)
theorem dX2_replaces_215 : decode cX2_replaces 215 = .ok (.if_icmp .ge 24, 3) := dk_162 0 24 (dk_at dksX2_replaces_9 4 rfl rfl)
theorem dX2_replaces_218 : decode cX2_replaces 218 = .ok (.aload_n 0, 1) := dk_42 (dk_at dksX2_replaces_9 7 rfl rfl)
theorem dX2_replaces_219 : decode cX2_replaces 219 = .ok (.iload_n 1, 1) := dk_27 (dk_at dksX2_replaces_9 8 rfl rfl)
theorem dX2_replaces_220 : decode cX2_replaces 220 = .ok (.iload 6, 2) := dk_21 6 (dk_at dksX2_replaces_9 9 rfl rfl)
theorem dX2_replaces_222 : decode cX2_replaces 222 = .ok (.iadd, 1) := dk_96 (dk_at dksX2_replaces_9 11 rfl rfl)
theorem dX2_replaces_223 : decode cX2_replaces 223 = .ok (.aload_n 0, 1) := dk_42 (dk_at dksX2_replaces_9 12 rfl rfl)
theorem dX2_replaces_224 : decode cX2_replaces 224 = .ok (.getfield 56, 3) := dk_180 0 56 (dk_at dksX2_replaces_9 13 rfl rfl)
theorem dX2_replaces_227 : decode cX2_replaces 227 = .ok (.iload 8, 2) := dk_21 8 (dk_at dksX2_replaces_9 16 rfl rfl)
theorem dX2_replaces_229 : decode cX2_replaces 229 = .ok (.iaload, 1) := dk_46 (dk_at dksX2_replaces_9 18 rfl rfl)
theorem dX2_replaces_230 : decode cX2_replaces 230 = .ok (.invokevirtual 174, 3) := dk_182 0 174 (dk_at dksX2_replaces_9 19 rfl rfl)
theorem dX2_replaces_233 : decode cX2_replaces 233 = .ok (.iinc 8 1, 3) := dk_132 8 1 (dk_at dksX2_replaces_10 0 rfl rfl)
theorem dX2_replaces_236 : decode cX2_replaces 236 = .ok (.goto (-25), 3) := dk_167 255 231 (dk_at dksX2_replaces_10 3 rfl rfl)
theorem dX2_replaces_239 : decode cX2_replaces 239 = .ok (.iinc 6 1, 3) := dk_132 6 1 (dk_at dksX2_replaces_10 6 rfl rfl)
theorem dX2_replaces_242 : decode cX2_replaces 242 = .ok (.goto (-131), 3) := dk_167 255 125 (dk_at dksX2_replaces_10 9 rfl rfl)
theorem dX2_replaces_245 : decode cX2_replaces 245 = .ok (.return_, 1) := dk_177 (dk_at dksX2_replaces_10 12 rfl rfl)
abbrev cX2_isTooMuch : ByteArray := prog_14_method_20_code
def yX2_isTooMuch : MethodName := ⟨RX2, "isTooMuch", "()Z"⟩
def dkwX2_isTooMuch_1 : List UInt8 := [180, 0, 13, 27, 46, 16, 10, 164, 0, 5, 4, 172, 132, 1, 1, 167, 255, 232, 3, 172]
abbrev dktX2_isTooMuch_1 : List UInt8 := dkwX2_isTooMuch_1 ++ []
def dkwX2_isTooMuch_0 : List UInt8 := [42, 180, 0, 113, 16, 48, 164, 0, 5, 4, 172, 3, 60, 27, 42, 180, 0, 113, 162, 0, 22, 42]
abbrev dktX2_isTooMuch_0 : List UInt8 := dkwX2_isTooMuch_0 ++ dktX2_isTooMuch_1
theorem dksX2_isTooMuch_0 : cX2_isTooMuch.data.toList.drop 0 = dktX2_isTooMuch_0 := by decide +kernel
theorem dksX2_isTooMuch_1 : cX2_isTooMuch.data.toList.drop 22 = dktX2_isTooMuch_1 := dk_seg dksX2_isTooMuch_0 22 rfl rfl
theorem dX2_isTooMuch_0 : decode cX2_isTooMuch 0 = .ok (.aload_n 0, 1) := dk_42 (dk_at dksX2_isTooMuch_0 0 rfl rfl)
theorem dX2_isTooMuch_1 : decode cX2_isTooMuch 1 = .ok (.getfield 113, 3) := dk_180 0 113 (dk_at dksX2_isTooMuch_0 1 rfl rfl)
theorem dX2_isTooMuch_4 : decode cX2_isTooMuch 4 = .ok (.bipush 48, 2) := dk_16 48 (dk_at dksX2_isTooMuch_0 4 rfl rfl)
theorem dX2_isTooMuch_6 : decode cX2_isTooMuch 6 = .ok (.if_icmp .le 5, 3) := dk_164 0 5 (dk_at dksX2_isTooMuch_0 6 rfl rfl)
theorem dX2_isTooMuch_9 : decode cX2_isTooMuch 9 = .ok (.iconst 1, 1) := dk_4 (dk_at dksX2_isTooMuch_0 9 rfl rfl)
theorem dX2_isTooMuch_10 : decode cX2_isTooMuch 10 = .ok (.ireturn, 1) := dk_172 (dk_at dksX2_isTooMuch_0 10 rfl rfl)
theorem dX2_isTooMuch_11 : decode cX2_isTooMuch 11 = .ok (.iconst 0, 1) := dk_3 (dk_at dksX2_isTooMuch_0 11 rfl rfl)
theorem dX2_isTooMuch_12 : decode cX2_isTooMuch 12 = .ok (.istore_n 1, 1) := dk_60 (dk_at dksX2_isTooMuch_0 12 rfl rfl)
theorem dX2_isTooMuch_13 : decode cX2_isTooMuch 13 = .ok (.iload_n 1, 1) := dk_27 (dk_at dksX2_isTooMuch_0 13 rfl rfl)
theorem dX2_isTooMuch_14 : decode cX2_isTooMuch 14 = .ok (.aload_n 0, 1) := dk_42 (dk_at dksX2_isTooMuch_0 14 rfl rfl)
theorem dX2_isTooMuch_15 : decode cX2_isTooMuch 15 = .ok (.getfield 113, 3) := dk_180 0 113 (dk_at dksX2_isTooMuch_0 15 rfl rfl)
theorem dX2_isTooMuch_18 : decode cX2_isTooMuch 18 = .ok (.if_icmp .ge 22, 3) := dk_162 0 22 (dk_at dksX2_isTooMuch_0 18 rfl rfl)
theorem dX2_isTooMuch_21 : decode cX2_isTooMuch 21 = .ok (.aload_n 0, 1) := dk_42 (dk_at dksX2_isTooMuch_0 21 rfl rfl)
theorem dX2_isTooMuch_22 : decode cX2_isTooMuch 22 = .ok (.getfield 13, 3) := dk_180 0 13 (dk_at dksX2_isTooMuch_1 0 rfl rfl)
theorem dX2_isTooMuch_25 : decode cX2_isTooMuch 25 = .ok (.iload_n 1, 1) := dk_27 (dk_at dksX2_isTooMuch_1 3 rfl rfl)
theorem dX2_isTooMuch_26 : decode cX2_isTooMuch 26 = .ok (.iaload, 1) := dk_46 (dk_at dksX2_isTooMuch_1 4 rfl rfl)
theorem dX2_isTooMuch_27 : decode cX2_isTooMuch 27 = .ok (.bipush 10, 2) := dk_16 10 (dk_at dksX2_isTooMuch_1 5 rfl rfl)
theorem dX2_isTooMuch_29 : decode cX2_isTooMuch 29 = .ok (.if_icmp .le 5, 3) := dk_164 0 5 (dk_at dksX2_isTooMuch_1 7 rfl rfl)
theorem dX2_isTooMuch_32 : decode cX2_isTooMuch 32 = .ok (.iconst 1, 1) := dk_4 (dk_at dksX2_isTooMuch_1 10 rfl rfl)
theorem dX2_isTooMuch_33 : decode cX2_isTooMuch 33 = .ok (.ireturn, 1) := dk_172 (dk_at dksX2_isTooMuch_1 11 rfl rfl)
theorem dX2_isTooMuch_34 : decode cX2_isTooMuch 34 = .ok (.iinc 1 1, 3) := dk_132 1 1 (dk_at dksX2_isTooMuch_1 12 rfl rfl)
theorem dX2_isTooMuch_37 : decode cX2_isTooMuch 37 = .ok (.goto (-24), 3) := dk_167 255 232 (dk_at dksX2_isTooMuch_1 15 rfl rfl)
theorem dX2_isTooMuch_40 : decode cX2_isTooMuch 40 = .ok (.iconst 0, 1) := dk_3 (dk_at dksX2_isTooMuch_1 18 rfl rfl)
theorem dX2_isTooMuch_41 : decode cX2_isTooMuch 41 = .ok (.ireturn, 1) := dk_172 (dk_at dksX2_isTooMuch_1 19 rfl rfl)
abbrev cX2_isDirect : ByteArray := prog_14_method_78_code
def yX2_isDirect : MethodName := ⟨RX2, "isDirect", "(I)Z"⟩
def dkwX2_isDirect_1 : List UInt8 := [182, 1, 35, 153, 0, 5, 4, 172, 132, 2, 1, 167, 255, 225, 3, 172]
abbrev dktX2_isDirect_1 : List UInt8 := dkwX2_isDirect_1 ++ []
def dkwX2_isDirect_0 : List UInt8 := [3, 61, 28, 42, 180, 0, 113, 162, 0, 29, 42, 180, 0, 7, 28, 46, 27, 160, 0, 13, 42, 28]
abbrev dktX2_isDirect_0 : List UInt8 := dkwX2_isDirect_0 ++ dktX2_isDirect_1
theorem dksX2_isDirect_0 : cX2_isDirect.data.toList.drop 0 = dktX2_isDirect_0 := by decide +kernel
theorem dksX2_isDirect_1 : cX2_isDirect.data.toList.drop 22 = dktX2_isDirect_1 := dk_seg dksX2_isDirect_0 22 rfl rfl
theorem dX2_isDirect_0 : decode cX2_isDirect 0 = .ok (.iconst 0, 1) := dk_3 (dk_at dksX2_isDirect_0 0 rfl rfl)
theorem dX2_isDirect_1 : decode cX2_isDirect 1 = .ok (.istore_n 2, 1) := dk_61 (dk_at dksX2_isDirect_0 1 rfl rfl)
theorem dX2_isDirect_2 : decode cX2_isDirect 2 = .ok (.iload_n 2, 1) := dk_28 (dk_at dksX2_isDirect_0 2 rfl rfl)
theorem dX2_isDirect_3 : decode cX2_isDirect 3 = .ok (.aload_n 0, 1) := dk_42 (dk_at dksX2_isDirect_0 3 rfl rfl)
theorem dX2_isDirect_4 : decode cX2_isDirect 4 = .ok (.getfield 113, 3) := dk_180 0 113 (dk_at dksX2_isDirect_0 4 rfl rfl)
theorem dX2_isDirect_7 : decode cX2_isDirect 7 = .ok (.if_icmp .ge 29, 3) := dk_162 0 29 (dk_at dksX2_isDirect_0 7 rfl rfl)
theorem dX2_isDirect_10 : decode cX2_isDirect 10 = .ok (.aload_n 0, 1) := dk_42 (dk_at dksX2_isDirect_0 10 rfl rfl)
theorem dX2_isDirect_11 : decode cX2_isDirect 11 = .ok (.getfield 7, 3) := dk_180 0 7 (dk_at dksX2_isDirect_0 11 rfl rfl)
theorem dX2_isDirect_14 : decode cX2_isDirect 14 = .ok (.iload_n 2, 1) := dk_28 (dk_at dksX2_isDirect_0 14 rfl rfl)
theorem dX2_isDirect_15 : decode cX2_isDirect 15 = .ok (.iaload, 1) := dk_46 (dk_at dksX2_isDirect_0 15 rfl rfl)
theorem dX2_isDirect_16 : decode cX2_isDirect 16 = .ok (.iload_n 1, 1) := dk_27 (dk_at dksX2_isDirect_0 16 rfl rfl)
theorem dX2_isDirect_17 : decode cX2_isDirect 17 = .ok (.if_icmp .ne 13, 3) := dk_160 0 13 (dk_at dksX2_isDirect_0 17 rfl rfl)
theorem dX2_isDirect_20 : decode cX2_isDirect 20 = .ok (.aload_n 0, 1) := dk_42 (dk_at dksX2_isDirect_0 20 rfl rfl)
theorem dX2_isDirect_21 : decode cX2_isDirect 21 = .ok (.iload_n 2, 1) := dk_28 (dk_at dksX2_isDirect_0 21 rfl rfl)
theorem dX2_isDirect_22 : decode cX2_isDirect 22 = .ok (.invokevirtual 291, 3) := dk_182 1 35 (dk_at dksX2_isDirect_1 0 rfl rfl)
theorem dX2_isDirect_25 : decode cX2_isDirect 25 = .ok (.ifCond .eq 5, 3) := dk_153 0 5 (dk_at dksX2_isDirect_1 3 rfl rfl)
theorem dX2_isDirect_28 : decode cX2_isDirect 28 = .ok (.iconst 1, 1) := dk_4 (dk_at dksX2_isDirect_1 6 rfl rfl)
theorem dX2_isDirect_29 : decode cX2_isDirect 29 = .ok (.ireturn, 1) := dk_172 (dk_at dksX2_isDirect_1 7 rfl rfl)
theorem dX2_isDirect_30 : decode cX2_isDirect 30 = .ok (.iinc 2 1, 3) := dk_132 2 1 (dk_at dksX2_isDirect_1 8 rfl rfl)
theorem dX2_isDirect_33 : decode cX2_isDirect 33 = .ok (.goto (-31), 3) := dk_167 255 225 (dk_at dksX2_isDirect_1 11 rfl rfl)
theorem dX2_isDirect_36 : decode cX2_isDirect 36 = .ok (.iconst 0, 1) := dk_3 (dk_at dksX2_isDirect_1 14 rfl rfl)
theorem dX2_isDirect_37 : decode cX2_isDirect 37 = .ok (.ireturn, 1) := dk_172 (dk_at dksX2_isDirect_1 15 rfl rfl)
abbrev cX2_beginsWithItself : ByteArray := prog_14_method_77_code
def yX2_beginsWithItself : MethodName := ⟨RX2, "beginsWithItself", "(I)Z"⟩
def dkwX2_beginsWithItself_1 : List UInt8 := [4, 167, 0, 4, 3, 172]
abbrev dktX2_beginsWithItself_1 : List UInt8 := dkwX2_beginsWithItself_1 ++ []
def dkwX2_beginsWithItself_0 : List UInt8 := [42, 180, 0, 13, 27, 46, 158, 0, 22, 42, 27, 3, 182, 0, 187, 42, 180, 0, 7, 27, 46, 160, 0, 7]
abbrev dktX2_beginsWithItself_0 : List UInt8 := dkwX2_beginsWithItself_0 ++ dktX2_beginsWithItself_1
theorem dksX2_beginsWithItself_0 : cX2_beginsWithItself.data.toList.drop 0 = dktX2_beginsWithItself_0 := by decide +kernel
theorem dksX2_beginsWithItself_1 : cX2_beginsWithItself.data.toList.drop 24 = dktX2_beginsWithItself_1 := dk_seg dksX2_beginsWithItself_0 24 rfl rfl
theorem dX2_beginsWithItself_0 : decode cX2_beginsWithItself 0 = .ok (.aload_n 0, 1) := dk_42 (dk_at dksX2_beginsWithItself_0 0 rfl rfl)
theorem dX2_beginsWithItself_1 : decode cX2_beginsWithItself 1 = .ok (.getfield 13, 3) := dk_180 0 13 (dk_at dksX2_beginsWithItself_0 1 rfl rfl)
theorem dX2_beginsWithItself_4 : decode cX2_beginsWithItself 4 = .ok (.iload_n 1, 1) := dk_27 (dk_at dksX2_beginsWithItself_0 4 rfl rfl)
theorem dX2_beginsWithItself_5 : decode cX2_beginsWithItself 5 = .ok (.iaload, 1) := dk_46 (dk_at dksX2_beginsWithItself_0 5 rfl rfl)
theorem dX2_beginsWithItself_6 : decode cX2_beginsWithItself 6 = .ok (.ifCond .le 22, 3) := dk_158 0 22 (dk_at dksX2_beginsWithItself_0 6 rfl rfl)
theorem dX2_beginsWithItself_9 : decode cX2_beginsWithItself 9 = .ok (.aload_n 0, 1) := dk_42 (dk_at dksX2_beginsWithItself_0 9 rfl rfl)
theorem dX2_beginsWithItself_10 : decode cX2_beginsWithItself 10 = .ok (.iload_n 1, 1) := dk_27 (dk_at dksX2_beginsWithItself_0 10 rfl rfl)
theorem dX2_beginsWithItself_11 : decode cX2_beginsWithItself 11 = .ok (.iconst 0, 1) := dk_3 (dk_at dksX2_beginsWithItself_0 11 rfl rfl)
theorem dX2_beginsWithItself_12 : decode cX2_beginsWithItself 12 = .ok (.invokevirtual 187, 3) := dk_182 0 187 (dk_at dksX2_beginsWithItself_0 12 rfl rfl)
theorem dX2_beginsWithItself_15 : decode cX2_beginsWithItself 15 = .ok (.aload_n 0, 1) := dk_42 (dk_at dksX2_beginsWithItself_0 15 rfl rfl)
theorem dX2_beginsWithItself_16 : decode cX2_beginsWithItself 16 = .ok (.getfield 7, 3) := dk_180 0 7 (dk_at dksX2_beginsWithItself_0 16 rfl rfl)
theorem dX2_beginsWithItself_19 : decode cX2_beginsWithItself 19 = .ok (.iload_n 1, 1) := dk_27 (dk_at dksX2_beginsWithItself_0 19 rfl rfl)
theorem dX2_beginsWithItself_20 : decode cX2_beginsWithItself 20 = .ok (.iaload, 1) := dk_46 (dk_at dksX2_beginsWithItself_0 20 rfl rfl)
theorem dX2_beginsWithItself_21 : decode cX2_beginsWithItself 21 = .ok (.if_icmp .ne 7, 3) := dk_160 0 7 (dk_at dksX2_beginsWithItself_0 21 rfl rfl)
theorem dX2_beginsWithItself_24 : decode cX2_beginsWithItself 24 = .ok (.iconst 1, 1) := dk_4 (dk_at dksX2_beginsWithItself_1 0 rfl rfl)
theorem dX2_beginsWithItself_25 : decode cX2_beginsWithItself 25 = .ok (.goto 4, 3) := dk_167 0 4 (dk_at dksX2_beginsWithItself_1 1 rfl rfl)
theorem dX2_beginsWithItself_28 : decode cX2_beginsWithItself 28 = .ok (.iconst 0, 1) := dk_3 (dk_at dksX2_beginsWithItself_1 4 rfl rfl)
theorem dX2_beginsWithItself_29 : decode cX2_beginsWithItself 29 = .ok (.ireturn, 1) := dk_172 (dk_at dksX2_beginsWithItself_1 5 rfl rfl)
abbrev cX2_unused : ByteArray := prog_14_method_74_code
def yX2_unused : MethodName := ⟨RX2, "unused", "()I"⟩
def dkwX2_unused_1 : List UInt8 := [96, 172, 132, 2, 1, 167, 255, 234, 2, 172]
abbrev dktX2_unused_1 : List UInt8 := dkwX2_unused_1 ++ []
def dkwX2_unused_0 : List UInt8 := [42, 182, 0, 191, 60, 3, 61, 28, 16, 12, 162, 0, 22, 27, 28, 184, 0, 198, 154, 0, 8, 16, 20, 28]
abbrev dktX2_unused_0 : List UInt8 := dkwX2_unused_0 ++ dktX2_unused_1
theorem dksX2_unused_0 : cX2_unused.data.toList.drop 0 = dktX2_unused_0 := by decide +kernel
theorem dksX2_unused_1 : cX2_unused.data.toList.drop 24 = dktX2_unused_1 := dk_seg dksX2_unused_0 24 rfl rfl
theorem dX2_unused_0 : decode cX2_unused 0 = .ok (.aload_n 0, 1) := dk_42 (dk_at dksX2_unused_0 0 rfl rfl)
theorem dX2_unused_1 : decode cX2_unused 1 = .ok (.invokevirtual 191, 3) := dk_182 0 191 (dk_at dksX2_unused_0 1 rfl rfl)
theorem dX2_unused_4 : decode cX2_unused 4 = .ok (.istore_n 1, 1) := dk_60 (dk_at dksX2_unused_0 4 rfl rfl)
theorem dX2_unused_5 : decode cX2_unused 5 = .ok (.iconst 0, 1) := dk_3 (dk_at dksX2_unused_0 5 rfl rfl)
theorem dX2_unused_6 : decode cX2_unused 6 = .ok (.istore_n 2, 1) := dk_61 (dk_at dksX2_unused_0 6 rfl rfl)
theorem dX2_unused_7 : decode cX2_unused 7 = .ok (.iload_n 2, 1) := dk_28 (dk_at dksX2_unused_0 7 rfl rfl)
theorem dX2_unused_8 : decode cX2_unused 8 = .ok (.bipush 12, 2) := dk_16 12 (dk_at dksX2_unused_0 8 rfl rfl)
theorem dX2_unused_10 : decode cX2_unused 10 = .ok (.if_icmp .ge 22, 3) := dk_162 0 22 (dk_at dksX2_unused_0 10 rfl rfl)
theorem dX2_unused_13 : decode cX2_unused 13 = .ok (.iload_n 1, 1) := dk_27 (dk_at dksX2_unused_0 13 rfl rfl)
theorem dX2_unused_14 : decode cX2_unused 14 = .ok (.iload_n 2, 1) := dk_28 (dk_at dksX2_unused_0 14 rfl rfl)
theorem dX2_unused_15 : decode cX2_unused 15 = .ok (.invokestatic 198, 3) := dk_184 0 198 (dk_at dksX2_unused_0 15 rfl rfl)
theorem dX2_unused_18 : decode cX2_unused 18 = .ok (.ifCond .ne 8, 3) := dk_154 0 8 (dk_at dksX2_unused_0 18 rfl rfl)
theorem dX2_unused_21 : decode cX2_unused 21 = .ok (.bipush 20, 2) := dk_16 20 (dk_at dksX2_unused_0 21 rfl rfl)
theorem dX2_unused_23 : decode cX2_unused 23 = .ok (.iload_n 2, 1) := dk_28 (dk_at dksX2_unused_0 23 rfl rfl)
theorem dX2_unused_24 : decode cX2_unused 24 = .ok (.iadd, 1) := dk_96 (dk_at dksX2_unused_1 0 rfl rfl)
theorem dX2_unused_25 : decode cX2_unused 25 = .ok (.ireturn, 1) := dk_172 (dk_at dksX2_unused_1 1 rfl rfl)
theorem dX2_unused_26 : decode cX2_unused 26 = .ok (.iinc 2 1, 3) := dk_132 2 1 (dk_at dksX2_unused_1 2 rfl rfl)
theorem dX2_unused_29 : decode cX2_unused 29 = .ok (.goto (-22), 3) := dk_167 255 234 (dk_at dksX2_unused_1 5 rfl rfl)
theorem dX2_unused_32 : decode cX2_unused 32 = .ok (.iconst (-1), 1) := dk_2 (dk_at dksX2_unused_1 8 rfl rfl)
theorem dX2_unused_33 : decode cX2_unused 33 = .ok (.ireturn, 1) := dk_172 (dk_at dksX2_unused_1 9 rfl rfl)
abbrev cX2_turns : ByteArray := prog_14_method_79_code
def yX2_turns : MethodName := ⟨RX2, "turns", "(II)V"⟩
def dkwX2_turns_7 : List UInt8 := [28, 182, 0, 160, 54, 4, 42, 180, 0, 13, 21, 4, 3, 79, 177]
abbrev dktX2_turns_7 : List UInt8 := dkwX2_turns_7 ++ []
def dkwX2_turns_6 : List UInt8 := [46, 182, 0, 174, 132, 8, 1, 167, 255, 233, 42, 21, 7, 28, 182, 0, 174, 132, 4, 1, 167, 255, 107, 42]
abbrev dktX2_turns_6 : List UInt8 := dkwX2_turns_6 ++ dktX2_turns_7
def dkwX2_turns_5 : List UInt8 := [182, 0, 160, 54, 7, 3, 54, 8, 21, 8, 21, 6, 162, 0, 22, 42, 21, 7, 42, 180, 0, 56, 21, 8]
abbrev dktX2_turns_5 : List UInt8 := dkwX2_turns_5 ++ dktX2_turns_6
def dkwX2_turns_4 : List UInt8 := [132, 7, 1, 167, 255, 229, 42, 21, 5, 182, 0, 181, 21, 6, 154, 0, 6, 167, 0, 46, 42, 28]
abbrev dktX2_turns_4 : List UInt8 := dkwX2_turns_4 ++ dktX2_turns_5
def dkwX2_turns_3 : List UInt8 := [21, 7, 21, 6, 162, 0, 26, 42, 180, 0, 56, 21, 7, 42, 21, 5, 21, 7, 4, 96, 182, 0, 187, 79]
abbrev dktX2_turns_3 : List UInt8 := dkwX2_turns_3 ++ dktX2_turns_4
def dkwX2_turns_2 : List UInt8 := [182, 0, 174, 132, 5, 1, 167, 0, 104, 42, 180, 0, 13, 21, 5, 46, 4, 100, 54, 6, 3, 54, 7]
abbrev dktX2_turns_2 : List UInt8 := dkwX2_turns_2 ++ dktX2_turns_3
def dkwX2_turns_1 : List UInt8 := [27, 159, 0, 9, 132, 5, 1, 167, 0, 126, 42, 21, 5, 182, 1, 35, 154, 0, 16, 42, 21, 5, 28]
abbrev dktX2_turns_1 : List UInt8 := dkwX2_turns_1 ++ dktX2_turns_2
def dkwX2_turns_0 : List UInt8 := [42, 180, 0, 113, 62, 3, 54, 4, 3, 54, 5, 21, 4, 29, 162, 0, 149, 42, 180, 0, 7, 21, 5, 46]
abbrev dktX2_turns_0 : List UInt8 := dkwX2_turns_0 ++ dktX2_turns_1
theorem dksX2_turns_0 : cX2_turns.data.toList.drop 0 = dktX2_turns_0 := by decide +kernel
theorem dksX2_turns_1 : cX2_turns.data.toList.drop 24 = dktX2_turns_1 := dk_seg dksX2_turns_0 24 rfl rfl
theorem dksX2_turns_2 : cX2_turns.data.toList.drop 47 = dktX2_turns_2 := dk_seg dksX2_turns_1 23 rfl rfl
theorem dksX2_turns_3 : cX2_turns.data.toList.drop 70 = dktX2_turns_3 := dk_seg dksX2_turns_2 23 rfl rfl
theorem dksX2_turns_4 : cX2_turns.data.toList.drop 94 = dktX2_turns_4 := dk_seg dksX2_turns_3 24 rfl rfl
theorem dksX2_turns_5 : cX2_turns.data.toList.drop 116 = dktX2_turns_5 := dk_seg dksX2_turns_4 22 rfl rfl
theorem dksX2_turns_6 : cX2_turns.data.toList.drop 140 = dktX2_turns_6 := dk_seg dksX2_turns_5 24 rfl rfl
theorem dksX2_turns_7 : cX2_turns.data.toList.drop 164 = dktX2_turns_7 := dk_seg dksX2_turns_6 24 rfl rfl
theorem dX2_turns_0 : decode cX2_turns 0 = .ok (.aload_n 0, 1) := dk_42 (dk_at dksX2_turns_0 0 rfl rfl)
theorem dX2_turns_1 : decode cX2_turns 1 = .ok (.getfield 113, 3) := dk_180 0 113 (dk_at dksX2_turns_0 1 rfl rfl)
theorem dX2_turns_4 : decode cX2_turns 4 = .ok (.istore_n 3, 1) := dk_62 (dk_at dksX2_turns_0 4 rfl rfl)
theorem dX2_turns_5 : decode cX2_turns 5 = .ok (.iconst 0, 1) := dk_3 (dk_at dksX2_turns_0 5 rfl rfl)
theorem dX2_turns_6 : decode cX2_turns 6 = .ok (.istore 4, 2) := dk_54 4 (dk_at dksX2_turns_0 6 rfl rfl)
theorem dX2_turns_8 : decode cX2_turns 8 = .ok (.iconst 0, 1) := dk_3 (dk_at dksX2_turns_0 8 rfl rfl)
theorem dX2_turns_9 : decode cX2_turns 9 = .ok (.istore 5, 2) := dk_54 5 (dk_at dksX2_turns_0 9 rfl rfl)
theorem dX2_turns_11 : decode cX2_turns 11 = .ok (.iload 4, 2) := dk_21 4 (dk_at dksX2_turns_0 11 rfl rfl)
theorem dX2_turns_13 : decode cX2_turns 13 = .ok (.iload_n 3, 1) := dk_29 (dk_at dksX2_turns_0 13 rfl rfl)
theorem dX2_turns_14 : decode cX2_turns 14 = .ok (.if_icmp .ge 149, 3) := dk_162 0 149 (dk_at dksX2_turns_0 14 rfl rfl)
theorem dX2_turns_17 : decode cX2_turns 17 = .ok (.aload_n 0, 1) := dk_42 (dk_at dksX2_turns_0 17 rfl rfl)
theorem dX2_turns_18 : decode cX2_turns 18 = .ok (.getfield 7, 3) := dk_180 0 7 (dk_at dksX2_turns_0 18 rfl rfl)
theorem dX2_turns_21 : decode cX2_turns 21 = .ok (.iload 5, 2) := dk_21 5 (dk_at dksX2_turns_0 21 rfl rfl)
theorem dX2_turns_23 : decode cX2_turns 23 = .ok (.iaload, 1) := dk_46 (dk_at dksX2_turns_0 23 rfl rfl)
theorem dX2_turns_24 : decode cX2_turns 24 = .ok (.iload_n 1, 1) := dk_27 (dk_at dksX2_turns_1 0 rfl rfl)
theorem dX2_turns_25 : decode cX2_turns 25 = .ok (.if_icmp .eq 9, 3) := dk_159 0 9 (dk_at dksX2_turns_1 1 rfl rfl)
theorem dX2_turns_28 : decode cX2_turns 28 = .ok (.iinc 5 1, 3) := dk_132 5 1 (dk_at dksX2_turns_1 4 rfl rfl)
theorem dX2_turns_31 : decode cX2_turns 31 = .ok (.goto 126, 3) := dk_167 0 126 (dk_at dksX2_turns_1 7 rfl rfl)
theorem dX2_turns_34 : decode cX2_turns 34 = .ok (.aload_n 0, 1) := dk_42 (dk_at dksX2_turns_1 10 rfl rfl)
theorem dX2_turns_35 : decode cX2_turns 35 = .ok (.iload 5, 2) := dk_21 5 (dk_at dksX2_turns_1 11 rfl rfl)
theorem dX2_turns_37 : decode cX2_turns 37 = .ok (.invokevirtual 291, 3) := dk_182 1 35 (dk_at dksX2_turns_1 13 rfl rfl)
theorem dX2_turns_40 : decode cX2_turns 40 = .ok (.ifCond .ne 16, 3) := dk_154 0 16 (dk_at dksX2_turns_1 16 rfl rfl)
theorem dX2_turns_43 : decode cX2_turns 43 = .ok (.aload_n 0, 1) := dk_42 (dk_at dksX2_turns_1 19 rfl rfl)
theorem dX2_turns_44 : decode cX2_turns 44 = .ok (.iload 5, 2) := dk_21 5 (dk_at dksX2_turns_1 20 rfl rfl)
theorem dX2_turns_46 : decode cX2_turns 46 = .ok (.iload_n 2, 1) := dk_28 (dk_at dksX2_turns_1 22 rfl rfl)
theorem dX2_turns_47 : decode cX2_turns 47 = .ok (.invokevirtual 174, 3) := dk_182 0 174 (dk_at dksX2_turns_2 0 rfl rfl)
theorem dX2_turns_50 : decode cX2_turns 50 = .ok (.iinc 5 1, 3) := dk_132 5 1 (dk_at dksX2_turns_2 3 rfl rfl)
theorem dX2_turns_53 : decode cX2_turns 53 = .ok (.goto 104, 3) := dk_167 0 104 (dk_at dksX2_turns_2 6 rfl rfl)
theorem dX2_turns_56 : decode cX2_turns 56 = .ok (.aload_n 0, 1) := dk_42 (dk_at dksX2_turns_2 9 rfl rfl)
theorem dX2_turns_57 : decode cX2_turns 57 = .ok (.getfield 13, 3) := dk_180 0 13 (dk_at dksX2_turns_2 10 rfl rfl)
theorem dX2_turns_60 : decode cX2_turns 60 = .ok (.iload 5, 2) := dk_21 5 (dk_at dksX2_turns_2 13 rfl rfl)
theorem dX2_turns_62 : decode cX2_turns 62 = .ok (.iaload, 1) := dk_46 (dk_at dksX2_turns_2 15 rfl rfl)
theorem dX2_turns_63 : decode cX2_turns 63 = .ok (.iconst 1, 1) := dk_4 (dk_at dksX2_turns_2 16 rfl rfl)
theorem dX2_turns_64 : decode cX2_turns 64 = .ok (.isub, 1) := dk_100 (dk_at dksX2_turns_2 17 rfl rfl)
theorem dX2_turns_65 : decode cX2_turns 65 = .ok (.istore 6, 2) := dk_54 6 (dk_at dksX2_turns_2 18 rfl rfl)
theorem dX2_turns_67 : decode cX2_turns 67 = .ok (.iconst 0, 1) := dk_3 (dk_at dksX2_turns_2 20 rfl rfl)
theorem dX2_turns_68 : decode cX2_turns 68 = .ok (.istore 7, 2) := dk_54 7 (dk_at dksX2_turns_2 21 rfl rfl)
theorem dX2_turns_70 : decode cX2_turns 70 = .ok (.iload 7, 2) := dk_21 7 (dk_at dksX2_turns_3 0 rfl rfl)
theorem dX2_turns_72 : decode cX2_turns 72 = .ok (.iload 6, 2) := dk_21 6 (dk_at dksX2_turns_3 2 rfl rfl)
theorem dX2_turns_74 : decode cX2_turns 74 = .ok (.if_icmp .ge 26, 3) := dk_162 0 26 (dk_at dksX2_turns_3 4 rfl rfl)
theorem dX2_turns_77 : decode cX2_turns 77 = .ok (.aload_n 0, 1) := dk_42 (dk_at dksX2_turns_3 7 rfl rfl)
theorem dX2_turns_78 : decode cX2_turns 78 = .ok (.getfield 56, 3) := dk_180 0 56 (dk_at dksX2_turns_3 8 rfl rfl)
theorem dX2_turns_81 : decode cX2_turns 81 = .ok (.iload 7, 2) := dk_21 7 (dk_at dksX2_turns_3 11 rfl rfl)
theorem dX2_turns_83 : decode cX2_turns 83 = .ok (.aload_n 0, 1) := dk_42 (dk_at dksX2_turns_3 13 rfl rfl)
theorem dX2_turns_84 : decode cX2_turns 84 = .ok (.iload 5, 2) := dk_21 5 (dk_at dksX2_turns_3 14 rfl rfl)
theorem dX2_turns_86 : decode cX2_turns 86 = .ok (.iload 7, 2) := dk_21 7 (dk_at dksX2_turns_3 16 rfl rfl)
theorem dX2_turns_88 : decode cX2_turns 88 = .ok (.iconst 1, 1) := dk_4 (dk_at dksX2_turns_3 18 rfl rfl)
theorem dX2_turns_89 : decode cX2_turns 89 = .ok (.iadd, 1) := dk_96 (dk_at dksX2_turns_3 19 rfl rfl)
theorem dX2_turns_90 : decode cX2_turns 90 = .ok (.invokevirtual 187, 3) := dk_182 0 187 (dk_at dksX2_turns_3 20 rfl rfl)
theorem dX2_turns_93 : decode cX2_turns 93 = .ok (.iastore, 1) := dk_79 (dk_at dksX2_turns_3 23 rfl rfl)
theorem dX2_turns_94 : decode cX2_turns 94 = .ok (.iinc 7 1, 3) := dk_132 7 1 (dk_at dksX2_turns_4 0 rfl rfl)
theorem dX2_turns_97 : decode cX2_turns 97 = .ok (.goto (-27), 3) := dk_167 255 229 (dk_at dksX2_turns_4 3 rfl rfl)
theorem dX2_turns_100 : decode cX2_turns 100 = .ok (.aload_n 0, 1) := dk_42 (dk_at dksX2_turns_4 6 rfl rfl)
theorem dX2_turns_101 : decode cX2_turns 101 = .ok (.iload 5, 2) := dk_21 5 (dk_at dksX2_turns_4 7 rfl rfl)
theorem dX2_turns_103 : decode cX2_turns 103 = .ok (.invokevirtual 181, 3) := dk_182 0 181 (dk_at dksX2_turns_4 9 rfl rfl)
theorem dX2_turns_106 : decode cX2_turns 106 = .ok (.iload 6, 2) := dk_21 6 (dk_at dksX2_turns_4 12 rfl rfl)
theorem dX2_turns_108 : decode cX2_turns 108 = .ok (.ifCond .ne 6, 3) := dk_154 0 6 (dk_at dksX2_turns_4 14 rfl rfl)
theorem dX2_turns_111 : decode cX2_turns 111 = .ok (.goto 46, 3) := dk_167 0 46 (dk_at dksX2_turns_4 17 rfl rfl)
theorem dX2_turns_114 : decode cX2_turns 114 = .ok (.aload_n 0, 1) := dk_42 (dk_at dksX2_turns_4 20 rfl rfl)
theorem dX2_turns_115 : decode cX2_turns 115 = .ok (.iload_n 2, 1) := dk_28 (dk_at dksX2_turns_4 21 rfl rfl)
theorem dX2_turns_116 : decode cX2_turns 116 = .ok (.invokevirtual 160, 3) := dk_182 0 160 (dk_at dksX2_turns_5 0 rfl rfl)
theorem dX2_turns_119 : decode cX2_turns 119 = .ok (.istore 7, 2) := dk_54 7 (dk_at dksX2_turns_5 3 rfl rfl)
theorem dX2_turns_121 : decode cX2_turns 121 = .ok (.iconst 0, 1) := dk_3 (dk_at dksX2_turns_5 5 rfl rfl)
theorem dX2_turns_122 : decode cX2_turns 122 = .ok (.istore 8, 2) := dk_54 8 (dk_at dksX2_turns_5 6 rfl rfl)
theorem dX2_turns_124 : decode cX2_turns 124 = .ok (.iload 8, 2) := dk_21 8 (dk_at dksX2_turns_5 8 rfl rfl)
theorem dX2_turns_126 : decode cX2_turns 126 = .ok (.iload 6, 2) := dk_21 6 (dk_at dksX2_turns_5 10 rfl rfl)
theorem dX2_turns_128 : decode cX2_turns 128 = .ok (.if_icmp .ge 22, 3) := dk_162 0 22 (dk_at dksX2_turns_5 12 rfl rfl)
theorem dX2_turns_131 : decode cX2_turns 131 = .ok (.aload_n 0, 1) := dk_42 (dk_at dksX2_turns_5 15 rfl rfl)
theorem dX2_turns_132 : decode cX2_turns 132 = .ok (.iload 7, 2) := dk_21 7 (dk_at dksX2_turns_5 16 rfl rfl)
theorem dX2_turns_134 : decode cX2_turns 134 = .ok (.aload_n 0, 1) := dk_42 (dk_at dksX2_turns_5 18 rfl rfl)
theorem dX2_turns_135 : decode cX2_turns 135 = .ok (.getfield 56, 3) := dk_180 0 56 (dk_at dksX2_turns_5 19 rfl rfl)
theorem dX2_turns_138 : decode cX2_turns 138 = .ok (.iload 8, 2) := dk_21 8 (dk_at dksX2_turns_5 22 rfl rfl)
theorem dX2_turns_140 : decode cX2_turns 140 = .ok (.iaload, 1) := dk_46 (dk_at dksX2_turns_6 0 rfl rfl)
theorem dX2_turns_141 : decode cX2_turns 141 = .ok (.invokevirtual 174, 3) := dk_182 0 174 (dk_at dksX2_turns_6 1 rfl rfl)
theorem dX2_turns_144 : decode cX2_turns 144 = .ok (.iinc 8 1, 3) := dk_132 8 1 (dk_at dksX2_turns_6 4 rfl rfl)
theorem dX2_turns_147 : decode cX2_turns 147 = .ok (.goto (-23), 3) := dk_167 255 233 (dk_at dksX2_turns_6 7 rfl rfl)
theorem dX2_turns_150 : decode cX2_turns 150 = .ok (.aload_n 0, 1) := dk_42 (dk_at dksX2_turns_6 10 rfl rfl)
theorem dX2_turns_151 : decode cX2_turns 151 = .ok (.iload 7, 2) := dk_21 7 (dk_at dksX2_turns_6 11 rfl rfl)
theorem dX2_turns_153 : decode cX2_turns 153 = .ok (.iload_n 2, 1) := dk_28 (dk_at dksX2_turns_6 13 rfl rfl)
theorem dX2_turns_154 : decode cX2_turns 154 = .ok (.invokevirtual 174, 3) := dk_182 0 174 (dk_at dksX2_turns_6 14 rfl rfl)
theorem dX2_turns_157 : decode cX2_turns 157 = .ok (.iinc 4 1, 3) := dk_132 4 1 (dk_at dksX2_turns_6 17 rfl rfl)
theorem dX2_turns_160 : decode cX2_turns 160 = .ok (.goto (-149), 3) := dk_167 255 107 (dk_at dksX2_turns_6 20 rfl rfl)
theorem dX2_turns_163 : decode cX2_turns 163 = .ok (.aload_n 0, 1) := dk_42 (dk_at dksX2_turns_6 23 rfl rfl)
theorem dX2_turns_164 : decode cX2_turns 164 = .ok (.iload_n 2, 1) := dk_28 (dk_at dksX2_turns_7 0 rfl rfl)
theorem dX2_turns_165 : decode cX2_turns 165 = .ok (.invokevirtual 160, 3) := dk_182 0 160 (dk_at dksX2_turns_7 1 rfl rfl)
theorem dX2_turns_168 : decode cX2_turns 168 = .ok (.istore 4, 2) := dk_54 4 (dk_at dksX2_turns_7 4 rfl rfl)
theorem dX2_turns_170 : decode cX2_turns 170 = .ok (.aload_n 0, 1) := dk_42 (dk_at dksX2_turns_7 6 rfl rfl)
theorem dX2_turns_171 : decode cX2_turns 171 = .ok (.getfield 13, 3) := dk_180 0 13 (dk_at dksX2_turns_7 7 rfl rfl)
theorem dX2_turns_174 : decode cX2_turns 174 = .ok (.iload 4, 2) := dk_21 4 (dk_at dksX2_turns_7 10 rfl rfl)
theorem dX2_turns_176 : decode cX2_turns 176 = .ok (.iconst 0, 1) := dk_3 (dk_at dksX2_turns_7 12 rfl rfl)
theorem dX2_turns_177 : decode cX2_turns 177 = .ok (.iastore, 1) := dk_79 (dk_at dksX2_turns_7 13 rfl rfl)
theorem dX2_turns_178 : decode cX2_turns 178 = .ok (.return_, 1) := dk_177 (dk_at dksX2_turns_7 14 rfl rfl)
abbrev cX2_putBack : ByteArray := prog_14_method_22_code
def yX2_putBack : MethodName := ⟨RX2, "putBack", "()V"⟩
def dkwX2_putBack_3 : List UInt8 := [167, 255, 234, 177]
abbrev dktX2_putBack_3 : List UInt8 := dkwX2_putBack_3 ++ []
def dkwX2_putBack_2 : List UInt8 := [3, 60, 27, 17, 7, 208, 162, 0, 21, 42, 180, 0, 16, 27, 42, 180, 0, 25, 27, 46, 79, 132, 1, 1]
abbrev dktX2_putBack_2 : List UInt8 := dkwX2_putBack_2 ++ dktX2_putBack_3
def dkwX2_putBack_1 : List UInt8 := [180, 0, 19, 27, 46, 79, 42, 180, 0, 13, 27, 42, 180, 0, 22, 27, 46, 79, 132, 1, 1, 167, 255, 223]
abbrev dktX2_putBack_1 : List UInt8 := dkwX2_putBack_1 ++ dktX2_putBack_2
def dkwX2_putBack_0 : List UInt8 := [42, 42, 180, 0, 124, 181, 0, 113, 3, 60, 27, 16, 100, 162, 0, 33, 42, 180, 0, 7, 27, 42]
abbrev dktX2_putBack_0 : List UInt8 := dkwX2_putBack_0 ++ dktX2_putBack_1
theorem dksX2_putBack_0 : cX2_putBack.data.toList.drop 0 = dktX2_putBack_0 := by decide +kernel
theorem dksX2_putBack_1 : cX2_putBack.data.toList.drop 22 = dktX2_putBack_1 := dk_seg dksX2_putBack_0 22 rfl rfl
theorem dksX2_putBack_2 : cX2_putBack.data.toList.drop 46 = dktX2_putBack_2 := dk_seg dksX2_putBack_1 24 rfl rfl
theorem dksX2_putBack_3 : cX2_putBack.data.toList.drop 70 = dktX2_putBack_3 := dk_seg dksX2_putBack_2 24 rfl rfl
theorem dX2_putBack_0 : decode cX2_putBack 0 = .ok (.aload_n 0, 1) := dk_42 (dk_at dksX2_putBack_0 0 rfl rfl)
theorem dX2_putBack_1 : decode cX2_putBack 1 = .ok (.aload_n 0, 1) := dk_42 (dk_at dksX2_putBack_0 1 rfl rfl)
theorem dX2_putBack_2 : decode cX2_putBack 2 = .ok (.getfield 124, 3) := dk_180 0 124 (dk_at dksX2_putBack_0 2 rfl rfl)
theorem dX2_putBack_5 : decode cX2_putBack 5 = .ok (.putfield 113, 3) := dk_181 0 113 (dk_at dksX2_putBack_0 5 rfl rfl)
theorem dX2_putBack_8 : decode cX2_putBack 8 = .ok (.iconst 0, 1) := dk_3 (dk_at dksX2_putBack_0 8 rfl rfl)
theorem dX2_putBack_9 : decode cX2_putBack 9 = .ok (.istore_n 1, 1) := dk_60 (dk_at dksX2_putBack_0 9 rfl rfl)
theorem dX2_putBack_10 : decode cX2_putBack 10 = .ok (.iload_n 1, 1) := dk_27 (dk_at dksX2_putBack_0 10 rfl rfl)
theorem dX2_putBack_11 : decode cX2_putBack 11 = .ok (.bipush 100, 2) := dk_16 100 (dk_at dksX2_putBack_0 11 rfl rfl)
theorem dX2_putBack_13 : decode cX2_putBack 13 = .ok (.if_icmp .ge 33, 3) := dk_162 0 33 (dk_at dksX2_putBack_0 13 rfl rfl)
theorem dX2_putBack_16 : decode cX2_putBack 16 = .ok (.aload_n 0, 1) := dk_42 (dk_at dksX2_putBack_0 16 rfl rfl)
theorem dX2_putBack_17 : decode cX2_putBack 17 = .ok (.getfield 7, 3) := dk_180 0 7 (dk_at dksX2_putBack_0 17 rfl rfl)
theorem dX2_putBack_20 : decode cX2_putBack 20 = .ok (.iload_n 1, 1) := dk_27 (dk_at dksX2_putBack_0 20 rfl rfl)
theorem dX2_putBack_21 : decode cX2_putBack 21 = .ok (.aload_n 0, 1) := dk_42 (dk_at dksX2_putBack_0 21 rfl rfl)
theorem dX2_putBack_22 : decode cX2_putBack 22 = .ok (.getfield 19, 3) := dk_180 0 19 (dk_at dksX2_putBack_1 0 rfl rfl)
theorem dX2_putBack_25 : decode cX2_putBack 25 = .ok (.iload_n 1, 1) := dk_27 (dk_at dksX2_putBack_1 3 rfl rfl)
theorem dX2_putBack_26 : decode cX2_putBack 26 = .ok (.iaload, 1) := dk_46 (dk_at dksX2_putBack_1 4 rfl rfl)
theorem dX2_putBack_27 : decode cX2_putBack 27 = .ok (.iastore, 1) := dk_79 (dk_at dksX2_putBack_1 5 rfl rfl)
theorem dX2_putBack_28 : decode cX2_putBack 28 = .ok (.aload_n 0, 1) := dk_42 (dk_at dksX2_putBack_1 6 rfl rfl)
theorem dX2_putBack_29 : decode cX2_putBack 29 = .ok (.getfield 13, 3) := dk_180 0 13 (dk_at dksX2_putBack_1 7 rfl rfl)
theorem dX2_putBack_32 : decode cX2_putBack 32 = .ok (.iload_n 1, 1) := dk_27 (dk_at dksX2_putBack_1 10 rfl rfl)
theorem dX2_putBack_33 : decode cX2_putBack 33 = .ok (.aload_n 0, 1) := dk_42 (dk_at dksX2_putBack_1 11 rfl rfl)
theorem dX2_putBack_34 : decode cX2_putBack 34 = .ok (.getfield 22, 3) := dk_180 0 22 (dk_at dksX2_putBack_1 12 rfl rfl)
theorem dX2_putBack_37 : decode cX2_putBack 37 = .ok (.iload_n 1, 1) := dk_27 (dk_at dksX2_putBack_1 15 rfl rfl)
theorem dX2_putBack_38 : decode cX2_putBack 38 = .ok (.iaload, 1) := dk_46 (dk_at dksX2_putBack_1 16 rfl rfl)
theorem dX2_putBack_39 : decode cX2_putBack 39 = .ok (.iastore, 1) := dk_79 (dk_at dksX2_putBack_1 17 rfl rfl)
theorem dX2_putBack_40 : decode cX2_putBack 40 = .ok (.iinc 1 1, 3) := dk_132 1 1 (dk_at dksX2_putBack_1 18 rfl rfl)
theorem dX2_putBack_43 : decode cX2_putBack 43 = .ok (.goto (-33), 3) := dk_167 255 223 (dk_at dksX2_putBack_1 21 rfl rfl)
theorem dX2_putBack_46 : decode cX2_putBack 46 = .ok (.iconst 0, 1) := dk_3 (dk_at dksX2_putBack_2 0 rfl rfl)
theorem dX2_putBack_47 : decode cX2_putBack 47 = .ok (.istore_n 1, 1) := dk_60 (dk_at dksX2_putBack_2 1 rfl rfl)
theorem dX2_putBack_48 : decode cX2_putBack 48 = .ok (.iload_n 1, 1) := dk_27 (dk_at dksX2_putBack_2 2 rfl rfl)
theorem dX2_putBack_49 : decode cX2_putBack 49 = .ok (.sipush 2000, 3) := dk_17 7 208 (dk_at dksX2_putBack_2 3 rfl rfl)
theorem dX2_putBack_52 : decode cX2_putBack 52 = .ok (.if_icmp .ge 21, 3) := dk_162 0 21 (dk_at dksX2_putBack_2 6 rfl rfl)
theorem dX2_putBack_55 : decode cX2_putBack 55 = .ok (.aload_n 0, 1) := dk_42 (dk_at dksX2_putBack_2 9 rfl rfl)
theorem dX2_putBack_56 : decode cX2_putBack 56 = .ok (.getfield 16, 3) := dk_180 0 16 (dk_at dksX2_putBack_2 10 rfl rfl)
theorem dX2_putBack_59 : decode cX2_putBack 59 = .ok (.iload_n 1, 1) := dk_27 (dk_at dksX2_putBack_2 13 rfl rfl)
theorem dX2_putBack_60 : decode cX2_putBack 60 = .ok (.aload_n 0, 1) := dk_42 (dk_at dksX2_putBack_2 14 rfl rfl)
theorem dX2_putBack_61 : decode cX2_putBack 61 = .ok (.getfield 25, 3) := dk_180 0 25 (dk_at dksX2_putBack_2 15 rfl rfl)
theorem dX2_putBack_64 : decode cX2_putBack 64 = .ok (.iload_n 1, 1) := dk_27 (dk_at dksX2_putBack_2 18 rfl rfl)
theorem dX2_putBack_65 : decode cX2_putBack 65 = .ok (.iaload, 1) := dk_46 (dk_at dksX2_putBack_2 19 rfl rfl)
theorem dX2_putBack_66 : decode cX2_putBack 66 = .ok (.iastore, 1) := dk_79 (dk_at dksX2_putBack_2 20 rfl rfl)
theorem dX2_putBack_67 : decode cX2_putBack 67 = .ok (.iinc 1 1, 3) := dk_132 1 1 (dk_at dksX2_putBack_2 21 rfl rfl)
theorem dX2_putBack_70 : decode cX2_putBack 70 = .ok (.goto (-22), 3) := dk_167 255 234 (dk_at dksX2_putBack_3 0 rfl rfl)
theorem dX2_putBack_73 : decode cX2_putBack 73 = .ok (.return_, 1) := dk_177 (dk_at dksX2_putBack_3 3 rfl rfl)
abbrev cX2_factorOut : ByteArray := prog_14_method_88_code
def yX2_factorOut : MethodName := ⟨RX2, "factorOut", "()I"⟩
def dkwX2_factorOut_1 : List UInt8 := [154, 0, 9, 42, 182, 1, 62, 3, 172, 42, 182, 0, 157, 27, 172]
abbrev dktX2_factorOut_1 : List UInt8 := dkwX2_factorOut_1 ++ []
def dkwX2_factorOut_0 : List UInt8 := [42, 182, 1, 56, 42, 182, 1, 80, 60, 42, 27, 2, 159, 0, 7, 4, 167, 0, 4, 3, 182, 0, 177]
abbrev dktX2_factorOut_0 : List UInt8 := dkwX2_factorOut_0 ++ dktX2_factorOut_1
theorem dksX2_factorOut_0 : cX2_factorOut.data.toList.drop 0 = dktX2_factorOut_0 := by decide +kernel
theorem dksX2_factorOut_1 : cX2_factorOut.data.toList.drop 23 = dktX2_factorOut_1 := dk_seg dksX2_factorOut_0 23 rfl rfl
theorem dX2_factorOut_0 : decode cX2_factorOut 0 = .ok (.aload_n 0, 1) := dk_42 (dk_at dksX2_factorOut_0 0 rfl rfl)
theorem dX2_factorOut_1 : decode cX2_factorOut 1 = .ok (.invokevirtual 312, 3) := dk_182 1 56 (dk_at dksX2_factorOut_0 1 rfl rfl)
theorem dX2_factorOut_4 : decode cX2_factorOut 4 = .ok (.aload_n 0, 1) := dk_42 (dk_at dksX2_factorOut_0 4 rfl rfl)
theorem dX2_factorOut_5 : decode cX2_factorOut 5 = .ok (.invokevirtual 336, 3) := dk_182 1 80 (dk_at dksX2_factorOut_0 5 rfl rfl)
theorem dX2_factorOut_8 : decode cX2_factorOut 8 = .ok (.istore_n 1, 1) := dk_60 (dk_at dksX2_factorOut_0 8 rfl rfl)
theorem dX2_factorOut_9 : decode cX2_factorOut 9 = .ok (.aload_n 0, 1) := dk_42 (dk_at dksX2_factorOut_0 9 rfl rfl)
theorem dX2_factorOut_10 : decode cX2_factorOut 10 = .ok (.iload_n 1, 1) := dk_27 (dk_at dksX2_factorOut_0 10 rfl rfl)
theorem dX2_factorOut_11 : decode cX2_factorOut 11 = .ok (.iconst (-1), 1) := dk_2 (dk_at dksX2_factorOut_0 11 rfl rfl)
theorem dX2_factorOut_12 : decode cX2_factorOut 12 = .ok (.if_icmp .eq 7, 3) := dk_159 0 7 (dk_at dksX2_factorOut_0 12 rfl rfl)
theorem dX2_factorOut_15 : decode cX2_factorOut 15 = .ok (.iconst 1, 1) := dk_4 (dk_at dksX2_factorOut_0 15 rfl rfl)
theorem dX2_factorOut_16 : decode cX2_factorOut 16 = .ok (.goto 4, 3) := dk_167 0 4 (dk_at dksX2_factorOut_0 16 rfl rfl)
theorem dX2_factorOut_19 : decode cX2_factorOut 19 = .ok (.iconst 0, 1) := dk_3 (dk_at dksX2_factorOut_0 19 rfl rfl)
theorem dX2_factorOut_20 : decode cX2_factorOut 20 = .ok (.invokevirtual 177, 3) := dk_182 0 177 (dk_at dksX2_factorOut_0 20 rfl rfl)
theorem dX2_factorOut_23 : decode cX2_factorOut 23 = .ok (.ifCond .ne 9, 3) := dk_154 0 9 (dk_at dksX2_factorOut_1 0 rfl rfl)
theorem dX2_factorOut_26 : decode cX2_factorOut 26 = .ok (.aload_n 0, 1) := dk_42 (dk_at dksX2_factorOut_1 3 rfl rfl)
theorem dX2_factorOut_27 : decode cX2_factorOut 27 = .ok (.invokevirtual 318, 3) := dk_182 1 62 (dk_at dksX2_factorOut_1 4 rfl rfl)
theorem dX2_factorOut_30 : decode cX2_factorOut 30 = .ok (.iconst 0, 1) := dk_3 (dk_at dksX2_factorOut_1 7 rfl rfl)
theorem dX2_factorOut_31 : decode cX2_factorOut 31 = .ok (.ireturn, 1) := dk_172 (dk_at dksX2_factorOut_1 8 rfl rfl)
theorem dX2_factorOut_32 : decode cX2_factorOut 32 = .ok (.aload_n 0, 1) := dk_42 (dk_at dksX2_factorOut_1 9 rfl rfl)
theorem dX2_factorOut_33 : decode cX2_factorOut 33 = .ok (.invokevirtual 157, 3) := dk_182 0 157 (dk_at dksX2_factorOut_1 10 rfl rfl)
theorem dX2_factorOut_36 : decode cX2_factorOut 36 = .ok (.iload_n 1, 1) := dk_27 (dk_at dksX2_factorOut_1 13 rfl rfl)
theorem dX2_factorOut_37 : decode cX2_factorOut 37 = .ok (.ireturn, 1) := dk_172 (dk_at dksX2_factorOut_1 14 rfl rfl)
abbrev cX2_factorsAll : ByteArray := prog_14_method_87_code
def yX2_factorsAll : MethodName := ⟨RX2, "factorsAll", "()I"⟩
def dkwX2_factorsAll_2 : List UInt8 := [167, 255, 216, 27, 172]
abbrev dktX2_factorsAll_2 : List UInt8 := dkwX2_factorsAll_2 ++ []
def dkwX2_factorsAll_1 : List UInt8 := [42, 28, 29, 182, 1, 77, 132, 1, 1, 42, 182, 1, 44, 153, 0, 5, 2, 172, 42, 182, 1, 74, 61]
abbrev dktX2_factorsAll_1 : List UInt8 := dkwX2_factorsAll_1 ++ dktX2_factorsAll_2
def dkwX2_factorsAll_0 : List UInt8 := [3, 60, 42, 182, 1, 74, 61, 28, 2, 159, 0, 41, 42, 182, 1, 50, 62, 29, 2, 160, 0, 5, 2, 172]
abbrev dktX2_factorsAll_0 : List UInt8 := dkwX2_factorsAll_0 ++ dktX2_factorsAll_1
theorem dksX2_factorsAll_0 : cX2_factorsAll.data.toList.drop 0 = dktX2_factorsAll_0 := by decide +kernel
theorem dksX2_factorsAll_1 : cX2_factorsAll.data.toList.drop 24 = dktX2_factorsAll_1 := dk_seg dksX2_factorsAll_0 24 rfl rfl
theorem dksX2_factorsAll_2 : cX2_factorsAll.data.toList.drop 47 = dktX2_factorsAll_2 := dk_seg dksX2_factorsAll_1 23 rfl rfl
theorem dX2_factorsAll_0 : decode cX2_factorsAll 0 = .ok (.iconst 0, 1) := dk_3 (dk_at dksX2_factorsAll_0 0 rfl rfl)
theorem dX2_factorsAll_1 : decode cX2_factorsAll 1 = .ok (.istore_n 1, 1) := dk_60 (dk_at dksX2_factorsAll_0 1 rfl rfl)
theorem dX2_factorsAll_2 : decode cX2_factorsAll 2 = .ok (.aload_n 0, 1) := dk_42 (dk_at dksX2_factorsAll_0 2 rfl rfl)
theorem dX2_factorsAll_3 : decode cX2_factorsAll 3 = .ok (.invokevirtual 330, 3) := dk_182 1 74 (dk_at dksX2_factorsAll_0 3 rfl rfl)
theorem dX2_factorsAll_6 : decode cX2_factorsAll 6 = .ok (.istore_n 2, 1) := dk_61 (dk_at dksX2_factorsAll_0 6 rfl rfl)
theorem dX2_factorsAll_7 : decode cX2_factorsAll 7 = .ok (.iload_n 2, 1) := dk_28 (dk_at dksX2_factorsAll_0 7 rfl rfl)
theorem dX2_factorsAll_8 : decode cX2_factorsAll 8 = .ok (.iconst (-1), 1) := dk_2 (dk_at dksX2_factorsAll_0 8 rfl rfl)
theorem dX2_factorsAll_9 : decode cX2_factorsAll 9 = .ok (.if_icmp .eq 41, 3) := dk_159 0 41 (dk_at dksX2_factorsAll_0 9 rfl rfl)
theorem dX2_factorsAll_12 : decode cX2_factorsAll 12 = .ok (.aload_n 0, 1) := dk_42 (dk_at dksX2_factorsAll_0 12 rfl rfl)
theorem dX2_factorsAll_13 : decode cX2_factorsAll 13 = .ok (.invokevirtual 306, 3) := dk_182 1 50 (dk_at dksX2_factorsAll_0 13 rfl rfl)
theorem dX2_factorsAll_16 : decode cX2_factorsAll 16 = .ok (.istore_n 3, 1) := dk_62 (dk_at dksX2_factorsAll_0 16 rfl rfl)
theorem dX2_factorsAll_17 : decode cX2_factorsAll 17 = .ok (.iload_n 3, 1) := dk_29 (dk_at dksX2_factorsAll_0 17 rfl rfl)
theorem dX2_factorsAll_18 : decode cX2_factorsAll 18 = .ok (.iconst (-1), 1) := dk_2 (dk_at dksX2_factorsAll_0 18 rfl rfl)
theorem dX2_factorsAll_19 : decode cX2_factorsAll 19 = .ok (.if_icmp .ne 5, 3) := dk_160 0 5 (dk_at dksX2_factorsAll_0 19 rfl rfl)
theorem dX2_factorsAll_22 : decode cX2_factorsAll 22 = .ok (.iconst (-1), 1) := dk_2 (dk_at dksX2_factorsAll_0 22 rfl rfl)
theorem dX2_factorsAll_23 : decode cX2_factorsAll 23 = .ok (.ireturn, 1) := dk_172 (dk_at dksX2_factorsAll_0 23 rfl rfl)
theorem dX2_factorsAll_24 : decode cX2_factorsAll 24 = .ok (.aload_n 0, 1) := dk_42 (dk_at dksX2_factorsAll_1 0 rfl rfl)
theorem dX2_factorsAll_25 : decode cX2_factorsAll 25 = .ok (.iload_n 2, 1) := dk_28 (dk_at dksX2_factorsAll_1 1 rfl rfl)
theorem dX2_factorsAll_26 : decode cX2_factorsAll 26 = .ok (.iload_n 3, 1) := dk_29 (dk_at dksX2_factorsAll_1 2 rfl rfl)
theorem dX2_factorsAll_27 : decode cX2_factorsAll 27 = .ok (.invokevirtual 333, 3) := dk_182 1 77 (dk_at dksX2_factorsAll_1 3 rfl rfl)
theorem dX2_factorsAll_30 : decode cX2_factorsAll 30 = .ok (.iinc 1 1, 3) := dk_132 1 1 (dk_at dksX2_factorsAll_1 6 rfl rfl)
theorem dX2_factorsAll_33 : decode cX2_factorsAll 33 = .ok (.aload_n 0, 1) := dk_42 (dk_at dksX2_factorsAll_1 9 rfl rfl)
theorem dX2_factorsAll_34 : decode cX2_factorsAll 34 = .ok (.invokevirtual 300, 3) := dk_182 1 44 (dk_at dksX2_factorsAll_1 10 rfl rfl)
theorem dX2_factorsAll_37 : decode cX2_factorsAll 37 = .ok (.ifCond .eq 5, 3) := dk_153 0 5 (dk_at dksX2_factorsAll_1 13 rfl rfl)
theorem dX2_factorsAll_40 : decode cX2_factorsAll 40 = .ok (.iconst (-1), 1) := dk_2 (dk_at dksX2_factorsAll_1 16 rfl rfl)
theorem dX2_factorsAll_41 : decode cX2_factorsAll 41 = .ok (.ireturn, 1) := dk_172 (dk_at dksX2_factorsAll_1 17 rfl rfl)
theorem dX2_factorsAll_42 : decode cX2_factorsAll 42 = .ok (.aload_n 0, 1) := dk_42 (dk_at dksX2_factorsAll_1 18 rfl rfl)
theorem dX2_factorsAll_43 : decode cX2_factorsAll 43 = .ok (.invokevirtual 330, 3) := dk_182 1 74 (dk_at dksX2_factorsAll_1 19 rfl rfl)
theorem dX2_factorsAll_46 : decode cX2_factorsAll 46 = .ok (.istore_n 2, 1) := dk_61 (dk_at dksX2_factorsAll_1 22 rfl rfl)
theorem dX2_factorsAll_47 : decode cX2_factorsAll 47 = .ok (.goto (-40), 3) := dk_167 255 216 (dk_at dksX2_factorsAll_2 0 rfl rfl)
theorem dX2_factorsAll_50 : decode cX2_factorsAll 50 = .ok (.iload_n 1, 1) := dk_27 (dk_at dksX2_factorsAll_2 3 rfl rfl)
theorem dX2_factorsAll_51 : decode cX2_factorsAll 51 = .ok (.ireturn, 1) := dk_172 (dk_at dksX2_factorsAll_2 4 rfl rfl)
abbrev cX2_groupHead : ByteArray := prog_14_method_84_code
def yX2_groupHead : MethodName := ⟨RX2, "groupHead", "()I"⟩
def dkwX2_groupHead_2 : List UInt8 := [167, 255, 215, 27, 172]
abbrev dktX2_groupHead_2 : List UInt8 := dkwX2_groupHead_2 ++ []
def dkwX2_groupHead_1 : List UInt8 := [159, 0, 18, 42, 180, 0, 7, 28, 46, 42, 180, 0, 7, 27, 46, 162, 0, 5, 28, 60, 132, 2, 1]
abbrev dktX2_groupHead_1 : List UInt8 := dkwX2_groupHead_1 ++ dktX2_groupHead_2
def dkwX2_groupHead_0 : List UInt8 := [2, 60, 3, 61, 28, 42, 180, 0, 113, 162, 0, 39, 42, 28, 182, 1, 68, 153, 0, 25, 27, 2]
abbrev dktX2_groupHead_0 : List UInt8 := dkwX2_groupHead_0 ++ dktX2_groupHead_1
theorem dksX2_groupHead_0 : cX2_groupHead.data.toList.drop 0 = dktX2_groupHead_0 := by decide +kernel
theorem dksX2_groupHead_1 : cX2_groupHead.data.toList.drop 22 = dktX2_groupHead_1 := dk_seg dksX2_groupHead_0 22 rfl rfl
theorem dksX2_groupHead_2 : cX2_groupHead.data.toList.drop 45 = dktX2_groupHead_2 := dk_seg dksX2_groupHead_1 23 rfl rfl
theorem dX2_groupHead_0 : decode cX2_groupHead 0 = .ok (.iconst (-1), 1) := dk_2 (dk_at dksX2_groupHead_0 0 rfl rfl)
theorem dX2_groupHead_1 : decode cX2_groupHead 1 = .ok (.istore_n 1, 1) := dk_60 (dk_at dksX2_groupHead_0 1 rfl rfl)
theorem dX2_groupHead_2 : decode cX2_groupHead 2 = .ok (.iconst 0, 1) := dk_3 (dk_at dksX2_groupHead_0 2 rfl rfl)
theorem dX2_groupHead_3 : decode cX2_groupHead 3 = .ok (.istore_n 2, 1) := dk_61 (dk_at dksX2_groupHead_0 3 rfl rfl)
theorem dX2_groupHead_4 : decode cX2_groupHead 4 = .ok (.iload_n 2, 1) := dk_28 (dk_at dksX2_groupHead_0 4 rfl rfl)
theorem dX2_groupHead_5 : decode cX2_groupHead 5 = .ok (.aload_n 0, 1) := dk_42 (dk_at dksX2_groupHead_0 5 rfl rfl)
theorem dX2_groupHead_6 : decode cX2_groupHead 6 = .ok (.getfield 113, 3) := dk_180 0 113 (dk_at dksX2_groupHead_0 6 rfl rfl)
theorem dX2_groupHead_9 : decode cX2_groupHead 9 = .ok (.if_icmp .ge 39, 3) := dk_162 0 39 (dk_at dksX2_groupHead_0 9 rfl rfl)
theorem dX2_groupHead_12 : decode cX2_groupHead 12 = .ok (.aload_n 0, 1) := dk_42 (dk_at dksX2_groupHead_0 12 rfl rfl)
theorem dX2_groupHead_13 : decode cX2_groupHead 13 = .ok (.iload_n 2, 1) := dk_28 (dk_at dksX2_groupHead_0 13 rfl rfl)
theorem dX2_groupHead_14 : decode cX2_groupHead 14 = .ok (.invokevirtual 324, 3) := dk_182 1 68 (dk_at dksX2_groupHead_0 14 rfl rfl)
theorem dX2_groupHead_17 : decode cX2_groupHead 17 = .ok (.ifCond .eq 25, 3) := dk_153 0 25 (dk_at dksX2_groupHead_0 17 rfl rfl)
theorem dX2_groupHead_20 : decode cX2_groupHead 20 = .ok (.iload_n 1, 1) := dk_27 (dk_at dksX2_groupHead_0 20 rfl rfl)
theorem dX2_groupHead_21 : decode cX2_groupHead 21 = .ok (.iconst (-1), 1) := dk_2 (dk_at dksX2_groupHead_0 21 rfl rfl)
theorem dX2_groupHead_22 : decode cX2_groupHead 22 = .ok (.if_icmp .eq 18, 3) := dk_159 0 18 (dk_at dksX2_groupHead_1 0 rfl rfl)
theorem dX2_groupHead_25 : decode cX2_groupHead 25 = .ok (.aload_n 0, 1) := dk_42 (dk_at dksX2_groupHead_1 3 rfl rfl)
theorem dX2_groupHead_26 : decode cX2_groupHead 26 = .ok (.getfield 7, 3) := dk_180 0 7 (dk_at dksX2_groupHead_1 4 rfl rfl)
theorem dX2_groupHead_29 : decode cX2_groupHead 29 = .ok (.iload_n 2, 1) := dk_28 (dk_at dksX2_groupHead_1 7 rfl rfl)
theorem dX2_groupHead_30 : decode cX2_groupHead 30 = .ok (.iaload, 1) := dk_46 (dk_at dksX2_groupHead_1 8 rfl rfl)
theorem dX2_groupHead_31 : decode cX2_groupHead 31 = .ok (.aload_n 0, 1) := dk_42 (dk_at dksX2_groupHead_1 9 rfl rfl)
theorem dX2_groupHead_32 : decode cX2_groupHead 32 = .ok (.getfield 7, 3) := dk_180 0 7 (dk_at dksX2_groupHead_1 10 rfl rfl)
theorem dX2_groupHead_35 : decode cX2_groupHead 35 = .ok (.iload_n 1, 1) := dk_27 (dk_at dksX2_groupHead_1 13 rfl rfl)
theorem dX2_groupHead_36 : decode cX2_groupHead 36 = .ok (.iaload, 1) := dk_46 (dk_at dksX2_groupHead_1 14 rfl rfl)
theorem dX2_groupHead_37 : decode cX2_groupHead 37 = .ok (.if_icmp .ge 5, 3) := dk_162 0 5 (dk_at dksX2_groupHead_1 15 rfl rfl)
theorem dX2_groupHead_40 : decode cX2_groupHead 40 = .ok (.iload_n 2, 1) := dk_28 (dk_at dksX2_groupHead_1 18 rfl rfl)
theorem dX2_groupHead_41 : decode cX2_groupHead 41 = .ok (.istore_n 1, 1) := dk_60 (dk_at dksX2_groupHead_1 19 rfl rfl)
theorem dX2_groupHead_42 : decode cX2_groupHead 42 = .ok (.iinc 2 1, 3) := dk_132 2 1 (dk_at dksX2_groupHead_1 20 rfl rfl)
theorem dX2_groupHead_45 : decode cX2_groupHead 45 = .ok (.goto (-41), 3) := dk_167 255 215 (dk_at dksX2_groupHead_2 0 rfl rfl)
theorem dX2_groupHead_48 : decode cX2_groupHead 48 = .ok (.iload_n 1, 1) := dk_27 (dk_at dksX2_groupHead_2 3 rfl rfl)
theorem dX2_groupHead_49 : decode cX2_groupHead 49 = .ok (.ireturn, 1) := dk_172 (dk_at dksX2_groupHead_2 4 rfl rfl)
abbrev cX2_isShared : ByteArray := prog_14_method_83_code
def yX2_isShared : MethodName := ⟨RX2, "isShared", "(I)Z"⟩
def dkwX2_isShared_1 : List UInt8 := [4, 172, 132, 2, 1, 167, 255, 229, 3, 172]
abbrev dktX2_isShared_1 : List UInt8 := dkwX2_isShared_1 ++ []
def dkwX2_isShared_0 : List UInt8 := [3, 61, 28, 42, 180, 0, 113, 162, 0, 25, 28, 27, 159, 0, 14, 42, 28, 27, 182, 1, 65, 153, 0, 5]
abbrev dktX2_isShared_0 : List UInt8 := dkwX2_isShared_0 ++ dktX2_isShared_1
theorem dksX2_isShared_0 : cX2_isShared.data.toList.drop 0 = dktX2_isShared_0 := by decide +kernel
theorem dksX2_isShared_1 : cX2_isShared.data.toList.drop 24 = dktX2_isShared_1 := dk_seg dksX2_isShared_0 24 rfl rfl
theorem dX2_isShared_0 : decode cX2_isShared 0 = .ok (.iconst 0, 1) := dk_3 (dk_at dksX2_isShared_0 0 rfl rfl)
theorem dX2_isShared_1 : decode cX2_isShared 1 = .ok (.istore_n 2, 1) := dk_61 (dk_at dksX2_isShared_0 1 rfl rfl)
theorem dX2_isShared_2 : decode cX2_isShared 2 = .ok (.iload_n 2, 1) := dk_28 (dk_at dksX2_isShared_0 2 rfl rfl)
theorem dX2_isShared_3 : decode cX2_isShared 3 = .ok (.aload_n 0, 1) := dk_42 (dk_at dksX2_isShared_0 3 rfl rfl)
theorem dX2_isShared_4 : decode cX2_isShared 4 = .ok (.getfield 113, 3) := dk_180 0 113 (dk_at dksX2_isShared_0 4 rfl rfl)
theorem dX2_isShared_7 : decode cX2_isShared 7 = .ok (.if_icmp .ge 25, 3) := dk_162 0 25 (dk_at dksX2_isShared_0 7 rfl rfl)
theorem dX2_isShared_10 : decode cX2_isShared 10 = .ok (.iload_n 2, 1) := dk_28 (dk_at dksX2_isShared_0 10 rfl rfl)
theorem dX2_isShared_11 : decode cX2_isShared 11 = .ok (.iload_n 1, 1) := dk_27 (dk_at dksX2_isShared_0 11 rfl rfl)
theorem dX2_isShared_12 : decode cX2_isShared 12 = .ok (.if_icmp .eq 14, 3) := dk_159 0 14 (dk_at dksX2_isShared_0 12 rfl rfl)
theorem dX2_isShared_15 : decode cX2_isShared 15 = .ok (.aload_n 0, 1) := dk_42 (dk_at dksX2_isShared_0 15 rfl rfl)
theorem dX2_isShared_16 : decode cX2_isShared 16 = .ok (.iload_n 2, 1) := dk_28 (dk_at dksX2_isShared_0 16 rfl rfl)
theorem dX2_isShared_17 : decode cX2_isShared 17 = .ok (.iload_n 1, 1) := dk_27 (dk_at dksX2_isShared_0 17 rfl rfl)
theorem dX2_isShared_18 : decode cX2_isShared 18 = .ok (.invokevirtual 321, 3) := dk_182 1 65 (dk_at dksX2_isShared_0 18 rfl rfl)
theorem dX2_isShared_21 : decode cX2_isShared 21 = .ok (.ifCond .eq 5, 3) := dk_153 0 5 (dk_at dksX2_isShared_0 21 rfl rfl)
theorem dX2_isShared_24 : decode cX2_isShared 24 = .ok (.iconst 1, 1) := dk_4 (dk_at dksX2_isShared_1 0 rfl rfl)
theorem dX2_isShared_25 : decode cX2_isShared 25 = .ok (.ireturn, 1) := dk_172 (dk_at dksX2_isShared_1 1 rfl rfl)
theorem dX2_isShared_26 : decode cX2_isShared 26 = .ok (.iinc 2 1, 3) := dk_132 2 1 (dk_at dksX2_isShared_1 2 rfl rfl)
theorem dX2_isShared_29 : decode cX2_isShared 29 = .ok (.goto (-27), 3) := dk_167 255 229 (dk_at dksX2_isShared_1 5 rfl rfl)
theorem dX2_isShared_32 : decode cX2_isShared 32 = .ok (.iconst 0, 1) := dk_3 (dk_at dksX2_isShared_1 8 rfl rfl)
theorem dX2_isShared_33 : decode cX2_isShared 33 = .ok (.ireturn, 1) := dk_172 (dk_at dksX2_isShared_1 9 rfl rfl)
abbrev cX2_isAlike : ByteArray := prog_14_method_82_code
def yX2_isAlike : MethodName := ⟨RX2, "isAlike", "(II)Z"⟩
def dkwX2_isAlike_2 : List UInt8 := [4, 167, 0, 4, 3, 172]
abbrev dktX2_isAlike_2 : List UInt8 := dkwX2_isAlike_2 ++ []
def dkwX2_isAlike_1 : List UInt8 := [42, 180, 0, 13, 28, 46, 158, 0, 22, 42, 27, 3, 182, 0, 187, 42, 28, 3, 182, 0, 187, 160, 0, 7]
abbrev dktX2_isAlike_1 : List UInt8 := dkwX2_isAlike_1 ++ dktX2_isAlike_2
def dkwX2_isAlike_0 : List UInt8 := [42, 180, 0, 7, 27, 46, 42, 180, 0, 7, 28, 46, 160, 0, 40, 42, 180, 0, 13, 27, 46, 158, 0, 31]
abbrev dktX2_isAlike_0 : List UInt8 := dkwX2_isAlike_0 ++ dktX2_isAlike_1
theorem dksX2_isAlike_0 : cX2_isAlike.data.toList.drop 0 = dktX2_isAlike_0 := by decide +kernel
theorem dksX2_isAlike_1 : cX2_isAlike.data.toList.drop 24 = dktX2_isAlike_1 := dk_seg dksX2_isAlike_0 24 rfl rfl
theorem dksX2_isAlike_2 : cX2_isAlike.data.toList.drop 48 = dktX2_isAlike_2 := dk_seg dksX2_isAlike_1 24 rfl rfl
theorem dX2_isAlike_0 : decode cX2_isAlike 0 = .ok (.aload_n 0, 1) := dk_42 (dk_at dksX2_isAlike_0 0 rfl rfl)
theorem dX2_isAlike_1 : decode cX2_isAlike 1 = .ok (.getfield 7, 3) := dk_180 0 7 (dk_at dksX2_isAlike_0 1 rfl rfl)
theorem dX2_isAlike_4 : decode cX2_isAlike 4 = .ok (.iload_n 1, 1) := dk_27 (dk_at dksX2_isAlike_0 4 rfl rfl)
theorem dX2_isAlike_5 : decode cX2_isAlike 5 = .ok (.iaload, 1) := dk_46 (dk_at dksX2_isAlike_0 5 rfl rfl)
theorem dX2_isAlike_6 : decode cX2_isAlike 6 = .ok (.aload_n 0, 1) := dk_42 (dk_at dksX2_isAlike_0 6 rfl rfl)
theorem dX2_isAlike_7 : decode cX2_isAlike 7 = .ok (.getfield 7, 3) := dk_180 0 7 (dk_at dksX2_isAlike_0 7 rfl rfl)
theorem dX2_isAlike_10 : decode cX2_isAlike 10 = .ok (.iload_n 2, 1) := dk_28 (dk_at dksX2_isAlike_0 10 rfl rfl)
theorem dX2_isAlike_11 : decode cX2_isAlike 11 = .ok (.iaload, 1) := dk_46 (dk_at dksX2_isAlike_0 11 rfl rfl)
theorem dX2_isAlike_12 : decode cX2_isAlike 12 = .ok (.if_icmp .ne 40, 3) := dk_160 0 40 (dk_at dksX2_isAlike_0 12 rfl rfl)
theorem dX2_isAlike_15 : decode cX2_isAlike 15 = .ok (.aload_n 0, 1) := dk_42 (dk_at dksX2_isAlike_0 15 rfl rfl)
theorem dX2_isAlike_16 : decode cX2_isAlike 16 = .ok (.getfield 13, 3) := dk_180 0 13 (dk_at dksX2_isAlike_0 16 rfl rfl)
theorem dX2_isAlike_19 : decode cX2_isAlike 19 = .ok (.iload_n 1, 1) := dk_27 (dk_at dksX2_isAlike_0 19 rfl rfl)
theorem dX2_isAlike_20 : decode cX2_isAlike 20 = .ok (.iaload, 1) := dk_46 (dk_at dksX2_isAlike_0 20 rfl rfl)
theorem dX2_isAlike_21 : decode cX2_isAlike 21 = .ok (.ifCond .le 31, 3) := dk_158 0 31 (dk_at dksX2_isAlike_0 21 rfl rfl)
theorem dX2_isAlike_24 : decode cX2_isAlike 24 = .ok (.aload_n 0, 1) := dk_42 (dk_at dksX2_isAlike_1 0 rfl rfl)
theorem dX2_isAlike_25 : decode cX2_isAlike 25 = .ok (.getfield 13, 3) := dk_180 0 13 (dk_at dksX2_isAlike_1 1 rfl rfl)
theorem dX2_isAlike_28 : decode cX2_isAlike 28 = .ok (.iload_n 2, 1) := dk_28 (dk_at dksX2_isAlike_1 4 rfl rfl)
theorem dX2_isAlike_29 : decode cX2_isAlike 29 = .ok (.iaload, 1) := dk_46 (dk_at dksX2_isAlike_1 5 rfl rfl)
theorem dX2_isAlike_30 : decode cX2_isAlike 30 = .ok (.ifCond .le 22, 3) := dk_158 0 22 (dk_at dksX2_isAlike_1 6 rfl rfl)
theorem dX2_isAlike_33 : decode cX2_isAlike 33 = .ok (.aload_n 0, 1) := dk_42 (dk_at dksX2_isAlike_1 9 rfl rfl)
theorem dX2_isAlike_34 : decode cX2_isAlike 34 = .ok (.iload_n 1, 1) := dk_27 (dk_at dksX2_isAlike_1 10 rfl rfl)
theorem dX2_isAlike_35 : decode cX2_isAlike 35 = .ok (.iconst 0, 1) := dk_3 (dk_at dksX2_isAlike_1 11 rfl rfl)
theorem dX2_isAlike_36 : decode cX2_isAlike 36 = .ok (.invokevirtual 187, 3) := dk_182 0 187 (dk_at dksX2_isAlike_1 12 rfl rfl)
theorem dX2_isAlike_39 : decode cX2_isAlike 39 = .ok (.aload_n 0, 1) := dk_42 (dk_at dksX2_isAlike_1 15 rfl rfl)
theorem dX2_isAlike_40 : decode cX2_isAlike 40 = .ok (.iload_n 2, 1) := dk_28 (dk_at dksX2_isAlike_1 16 rfl rfl)
theorem dX2_isAlike_41 : decode cX2_isAlike 41 = .ok (.iconst 0, 1) := dk_3 (dk_at dksX2_isAlike_1 17 rfl rfl)
theorem dX2_isAlike_42 : decode cX2_isAlike 42 = .ok (.invokevirtual 187, 3) := dk_182 0 187 (dk_at dksX2_isAlike_1 18 rfl rfl)
theorem dX2_isAlike_45 : decode cX2_isAlike 45 = .ok (.if_icmp .ne 7, 3) := dk_160 0 7 (dk_at dksX2_isAlike_1 21 rfl rfl)
theorem dX2_isAlike_48 : decode cX2_isAlike 48 = .ok (.iconst 1, 1) := dk_4 (dk_at dksX2_isAlike_2 0 rfl rfl)
theorem dX2_isAlike_49 : decode cX2_isAlike 49 = .ok (.goto 4, 3) := dk_167 0 4 (dk_at dksX2_isAlike_2 1 rfl rfl)
theorem dX2_isAlike_52 : decode cX2_isAlike 52 = .ok (.iconst 0, 1) := dk_3 (dk_at dksX2_isAlike_2 4 rfl rfl)
theorem dX2_isAlike_53 : decode cX2_isAlike 53 = .ok (.ireturn, 1) := dk_172 (dk_at dksX2_isAlike_2 5 rfl rfl)
abbrev cX2_factors : ByteArray := prog_14_method_86_code
def yX2_factors : MethodName := ⟨RX2, "factors", "(II)V"⟩
def dkwX2_factors_6 : List UInt8 := [182, 0, 181, 132, 5, 255, 167, 255, 237, 42, 180, 0, 13, 27, 29, 79, 42, 27, 28, 182, 0, 174, 177]
abbrev dktX2_factors_6 : List UInt8 := dkwX2_factors_6 ++ []
def dkwX2_factors_5 : List UInt8 := [167, 255, 194, 21, 4, 4, 100, 54, 5, 21, 5, 158, 0, 20, 42, 42, 180, 0, 59, 21, 5, 46]
abbrev dktX2_factors_5 : List UInt8 := dkwX2_factors_5 ++ dktX2_factors_6
def dkwX2_factors_4 : List UInt8 := [180, 0, 59, 21, 5, 46, 21, 7, 182, 0, 187, 182, 0, 174, 132, 7, 1, 167, 255, 217, 132, 5, 1]
abbrev dktX2_factors_4 : List UInt8 := dkwX2_factors_4 ++ dktX2_factors_5
def dkwX2_factors_3 : List UInt8 := [54, 7, 21, 7, 42, 180, 0, 13, 42, 180, 0, 59, 21, 5, 46, 46, 162, 0, 28, 42, 21, 6, 42, 42]
abbrev dktX2_factors_3 : List UInt8 := dkwX2_factors_3 ++ dktX2_factors_4
def dkwX2_factors_2 : List UInt8 := [132, 5, 1, 167, 255, 219, 3, 54, 5, 21, 5, 21, 4, 162, 0, 61, 42, 28, 182, 0, 160, 54, 6, 29]
abbrev dktX2_factors_2 : List UInt8 := dkwX2_factors_2 ++ dktX2_factors_3
def dkwX2_factors_1 : List UInt8 := [27, 182, 1, 65, 154, 0, 6, 167, 0, 15, 42, 180, 0, 59, 21, 4, 21, 5, 79, 132, 4, 1]
abbrev dktX2_factors_1 : List UInt8 := dkwX2_factors_1 ++ dktX2_factors_2
def dkwX2_factors_0 : List UInt8 := [42, 27, 182, 1, 71, 62, 3, 54, 4, 3, 54, 5, 21, 5, 42, 180, 0, 113, 162, 0, 34, 42, 21, 5]
abbrev dktX2_factors_0 : List UInt8 := dkwX2_factors_0 ++ dktX2_factors_1
theorem dksX2_factors_0 : cX2_factors.data.toList.drop 0 = dktX2_factors_0 := by decide +kernel
theorem dksX2_factors_1 : cX2_factors.data.toList.drop 24 = dktX2_factors_1 := dk_seg dksX2_factors_0 24 rfl rfl
theorem dksX2_factors_2 : cX2_factors.data.toList.drop 46 = dktX2_factors_2 := dk_seg dksX2_factors_1 22 rfl rfl
theorem dksX2_factors_3 : cX2_factors.data.toList.drop 70 = dktX2_factors_3 := dk_seg dksX2_factors_2 24 rfl rfl
theorem dksX2_factors_4 : cX2_factors.data.toList.drop 94 = dktX2_factors_4 := dk_seg dksX2_factors_3 24 rfl rfl
theorem dksX2_factors_5 : cX2_factors.data.toList.drop 117 = dktX2_factors_5 := dk_seg dksX2_factors_4 23 rfl rfl
theorem dksX2_factors_6 : cX2_factors.data.toList.drop 139 = dktX2_factors_6 := dk_seg dksX2_factors_5 22 rfl rfl
theorem dX2_factors_0 : decode cX2_factors 0 = .ok (.aload_n 0, 1) := dk_42 (dk_at dksX2_factors_0 0 rfl rfl)
theorem dX2_factors_1 : decode cX2_factors 1 = .ok (.iload_n 1, 1) := dk_27 (dk_at dksX2_factors_0 1 rfl rfl)
theorem dX2_factors_2 : decode cX2_factors 2 = .ok (.invokevirtual 327, 3) := dk_182 1 71 (dk_at dksX2_factors_0 2 rfl rfl)
theorem dX2_factors_5 : decode cX2_factors 5 = .ok (.istore_n 3, 1) := dk_62 (dk_at dksX2_factors_0 5 rfl rfl)
theorem dX2_factors_6 : decode cX2_factors 6 = .ok (.iconst 0, 1) := dk_3 (dk_at dksX2_factors_0 6 rfl rfl)
theorem dX2_factors_7 : decode cX2_factors 7 = .ok (.istore 4, 2) := dk_54 4 (dk_at dksX2_factors_0 7 rfl rfl)
theorem dX2_factors_9 : decode cX2_factors 9 = .ok (.iconst 0, 1) := dk_3 (dk_at dksX2_factors_0 9 rfl rfl)
theorem dX2_factors_10 : decode cX2_factors 10 = .ok (.istore 5, 2) := dk_54 5 (dk_at dksX2_factors_0 10 rfl rfl)
theorem dX2_factors_12 : decode cX2_factors 12 = .ok (.iload 5, 2) := dk_21 5 (dk_at dksX2_factors_0 12 rfl rfl)
theorem dX2_factors_14 : decode cX2_factors 14 = .ok (.aload_n 0, 1) := dk_42 (dk_at dksX2_factors_0 14 rfl rfl)
theorem dX2_factors_15 : decode cX2_factors 15 = .ok (.getfield 113, 3) := dk_180 0 113 (dk_at dksX2_factors_0 15 rfl rfl)
theorem dX2_factors_18 : decode cX2_factors 18 = .ok (.if_icmp .ge 34, 3) := dk_162 0 34 (dk_at dksX2_factors_0 18 rfl rfl)
theorem dX2_factors_21 : decode cX2_factors 21 = .ok (.aload_n 0, 1) := dk_42 (dk_at dksX2_factors_0 21 rfl rfl)
theorem dX2_factors_22 : decode cX2_factors 22 = .ok (.iload 5, 2) := dk_21 5 (dk_at dksX2_factors_0 22 rfl rfl)
theorem dX2_factors_24 : decode cX2_factors 24 = .ok (.iload_n 1, 1) := dk_27 (dk_at dksX2_factors_1 0 rfl rfl)
theorem dX2_factors_25 : decode cX2_factors 25 = .ok (.invokevirtual 321, 3) := dk_182 1 65 (dk_at dksX2_factors_1 1 rfl rfl)
theorem dX2_factors_28 : decode cX2_factors 28 = .ok (.ifCond .ne 6, 3) := dk_154 0 6 (dk_at dksX2_factors_1 4 rfl rfl)
theorem dX2_factors_31 : decode cX2_factors 31 = .ok (.goto 15, 3) := dk_167 0 15 (dk_at dksX2_factors_1 7 rfl rfl)
theorem dX2_factors_34 : decode cX2_factors 34 = .ok (.aload_n 0, 1) := dk_42 (dk_at dksX2_factors_1 10 rfl rfl)
theorem dX2_factors_35 : decode cX2_factors 35 = .ok (.getfield 59, 3) := dk_180 0 59 (dk_at dksX2_factors_1 11 rfl rfl)
theorem dX2_factors_38 : decode cX2_factors 38 = .ok (.iload 4, 2) := dk_21 4 (dk_at dksX2_factors_1 14 rfl rfl)
theorem dX2_factors_40 : decode cX2_factors 40 = .ok (.iload 5, 2) := dk_21 5 (dk_at dksX2_factors_1 16 rfl rfl)
theorem dX2_factors_42 : decode cX2_factors 42 = .ok (.iastore, 1) := dk_79 (dk_at dksX2_factors_1 18 rfl rfl)
theorem dX2_factors_43 : decode cX2_factors 43 = .ok (.iinc 4 1, 3) := dk_132 4 1 (dk_at dksX2_factors_1 19 rfl rfl)
theorem dX2_factors_46 : decode cX2_factors 46 = .ok (.iinc 5 1, 3) := dk_132 5 1 (dk_at dksX2_factors_2 0 rfl rfl)
theorem dX2_factors_49 : decode cX2_factors 49 = .ok (.goto (-37), 3) := dk_167 255 219 (dk_at dksX2_factors_2 3 rfl rfl)
theorem dX2_factors_52 : decode cX2_factors 52 = .ok (.iconst 0, 1) := dk_3 (dk_at dksX2_factors_2 6 rfl rfl)
theorem dX2_factors_53 : decode cX2_factors 53 = .ok (.istore 5, 2) := dk_54 5 (dk_at dksX2_factors_2 7 rfl rfl)
theorem dX2_factors_55 : decode cX2_factors 55 = .ok (.iload 5, 2) := dk_21 5 (dk_at dksX2_factors_2 9 rfl rfl)
theorem dX2_factors_57 : decode cX2_factors 57 = .ok (.iload 4, 2) := dk_21 4 (dk_at dksX2_factors_2 11 rfl rfl)
theorem dX2_factors_59 : decode cX2_factors 59 = .ok (.if_icmp .ge 61, 3) := dk_162 0 61 (dk_at dksX2_factors_2 13 rfl rfl)
theorem dX2_factors_62 : decode cX2_factors 62 = .ok (.aload_n 0, 1) := dk_42 (dk_at dksX2_factors_2 16 rfl rfl)
theorem dX2_factors_63 : decode cX2_factors 63 = .ok (.iload_n 2, 1) := dk_28 (dk_at dksX2_factors_2 17 rfl rfl)
theorem dX2_factors_64 : decode cX2_factors 64 = .ok (.invokevirtual 160, 3) := dk_182 0 160 (dk_at dksX2_factors_2 18 rfl rfl)
theorem dX2_factors_67 : decode cX2_factors 67 = .ok (.istore 6, 2) := dk_54 6 (dk_at dksX2_factors_2 21 rfl rfl)
theorem dX2_factors_69 : decode cX2_factors 69 = .ok (.iload_n 3, 1) := dk_29 (dk_at dksX2_factors_2 23 rfl rfl)
theorem dX2_factors_70 : decode cX2_factors 70 = .ok (.istore 7, 2) := dk_54 7 (dk_at dksX2_factors_3 0 rfl rfl)
theorem dX2_factors_72 : decode cX2_factors 72 = .ok (.iload 7, 2) := dk_21 7 (dk_at dksX2_factors_3 2 rfl rfl)
theorem dX2_factors_74 : decode cX2_factors 74 = .ok (.aload_n 0, 1) := dk_42 (dk_at dksX2_factors_3 4 rfl rfl)
theorem dX2_factors_75 : decode cX2_factors 75 = .ok (.getfield 13, 3) := dk_180 0 13 (dk_at dksX2_factors_3 5 rfl rfl)
theorem dX2_factors_78 : decode cX2_factors 78 = .ok (.aload_n 0, 1) := dk_42 (dk_at dksX2_factors_3 8 rfl rfl)
theorem dX2_factors_79 : decode cX2_factors 79 = .ok (.getfield 59, 3) := dk_180 0 59 (dk_at dksX2_factors_3 9 rfl rfl)
theorem dX2_factors_82 : decode cX2_factors 82 = .ok (.iload 5, 2) := dk_21 5 (dk_at dksX2_factors_3 12 rfl rfl)
theorem dX2_factors_84 : decode cX2_factors 84 = .ok (.iaload, 1) := dk_46 (dk_at dksX2_factors_3 14 rfl rfl)
theorem dX2_factors_85 : decode cX2_factors 85 = .ok (.iaload, 1) := dk_46 (dk_at dksX2_factors_3 15 rfl rfl)
theorem dX2_factors_86 : decode cX2_factors 86 = .ok (.if_icmp .ge 28, 3) := dk_162 0 28 (dk_at dksX2_factors_3 16 rfl rfl)
theorem dX2_factors_89 : decode cX2_factors 89 = .ok (.aload_n 0, 1) := dk_42 (dk_at dksX2_factors_3 19 rfl rfl)
theorem dX2_factors_90 : decode cX2_factors 90 = .ok (.iload 6, 2) := dk_21 6 (dk_at dksX2_factors_3 20 rfl rfl)
theorem dX2_factors_92 : decode cX2_factors 92 = .ok (.aload_n 0, 1) := dk_42 (dk_at dksX2_factors_3 22 rfl rfl)
theorem dX2_factors_93 : decode cX2_factors 93 = .ok (.aload_n 0, 1) := dk_42 (dk_at dksX2_factors_3 23 rfl rfl)
theorem dX2_factors_94 : decode cX2_factors 94 = .ok (.getfield 59, 3) := dk_180 0 59 (dk_at dksX2_factors_4 0 rfl rfl)
theorem dX2_factors_97 : decode cX2_factors 97 = .ok (.iload 5, 2) := dk_21 5 (dk_at dksX2_factors_4 3 rfl rfl)
theorem dX2_factors_99 : decode cX2_factors 99 = .ok (.iaload, 1) := dk_46 (dk_at dksX2_factors_4 5 rfl rfl)
theorem dX2_factors_100 : decode cX2_factors 100 = .ok (.iload 7, 2) := dk_21 7 (dk_at dksX2_factors_4 6 rfl rfl)
theorem dX2_factors_102 : decode cX2_factors 102 = .ok (.invokevirtual 187, 3) := dk_182 0 187 (dk_at dksX2_factors_4 8 rfl rfl)
theorem dX2_factors_105 : decode cX2_factors 105 = .ok (.invokevirtual 174, 3) := dk_182 0 174 (dk_at dksX2_factors_4 11 rfl rfl)
theorem dX2_factors_108 : decode cX2_factors 108 = .ok (.iinc 7 1, 3) := dk_132 7 1 (dk_at dksX2_factors_4 14 rfl rfl)
theorem dX2_factors_111 : decode cX2_factors 111 = .ok (.goto (-39), 3) := dk_167 255 217 (dk_at dksX2_factors_4 17 rfl rfl)
theorem dX2_factors_114 : decode cX2_factors 114 = .ok (.iinc 5 1, 3) := dk_132 5 1 (dk_at dksX2_factors_4 20 rfl rfl)
theorem dX2_factors_117 : decode cX2_factors 117 = .ok (.goto (-62), 3) := dk_167 255 194 (dk_at dksX2_factors_5 0 rfl rfl)
theorem dX2_factors_120 : decode cX2_factors 120 = .ok (.iload 4, 2) := dk_21 4 (dk_at dksX2_factors_5 3 rfl rfl)
theorem dX2_factors_122 : decode cX2_factors 122 = .ok (.iconst 1, 1) := dk_4 (dk_at dksX2_factors_5 5 rfl rfl)
theorem dX2_factors_123 : decode cX2_factors 123 = .ok (.isub, 1) := dk_100 (dk_at dksX2_factors_5 6 rfl rfl)
theorem dX2_factors_124 : decode cX2_factors 124 = .ok (.istore 5, 2) := dk_54 5 (dk_at dksX2_factors_5 7 rfl rfl)
theorem dX2_factors_126 : decode cX2_factors 126 = .ok (.iload 5, 2) := dk_21 5 (dk_at dksX2_factors_5 9 rfl rfl)
theorem dX2_factors_128 : decode cX2_factors 128 = .ok (.ifCond .le 20, 3) := dk_158 0 20 (dk_at dksX2_factors_5 11 rfl rfl)
theorem dX2_factors_131 : decode cX2_factors 131 = .ok (.aload_n 0, 1) := dk_42 (dk_at dksX2_factors_5 14 rfl rfl)
theorem dX2_factors_132 : decode cX2_factors 132 = .ok (.aload_n 0, 1) := dk_42 (dk_at dksX2_factors_5 15 rfl rfl)
theorem dX2_factors_133 : decode cX2_factors 133 = .ok (.getfield 59, 3) := dk_180 0 59 (dk_at dksX2_factors_5 16 rfl rfl)
theorem dX2_factors_136 : decode cX2_factors 136 = .ok (.iload 5, 2) := dk_21 5 (dk_at dksX2_factors_5 19 rfl rfl)
theorem dX2_factors_138 : decode cX2_factors 138 = .ok (.iaload, 1) := dk_46 (dk_at dksX2_factors_5 21 rfl rfl)
theorem dX2_factors_139 : decode cX2_factors 139 = .ok (.invokevirtual 181, 3) := dk_182 0 181 (dk_at dksX2_factors_6 0 rfl rfl)
theorem dX2_factors_142 : decode cX2_factors 142 = .ok (.iinc 5 (-1), 3) := dk_132 5 255 (dk_at dksX2_factors_6 3 rfl rfl)
theorem dX2_factors_145 : decode cX2_factors 145 = .ok (.goto (-19), 3) := dk_167 255 237 (dk_at dksX2_factors_6 6 rfl rfl)
theorem dX2_factors_148 : decode cX2_factors 148 = .ok (.aload_n 0, 1) := dk_42 (dk_at dksX2_factors_6 9 rfl rfl)
theorem dX2_factors_149 : decode cX2_factors 149 = .ok (.getfield 13, 3) := dk_180 0 13 (dk_at dksX2_factors_6 10 rfl rfl)
theorem dX2_factors_152 : decode cX2_factors 152 = .ok (.iload_n 1, 1) := dk_27 (dk_at dksX2_factors_6 13 rfl rfl)
theorem dX2_factors_153 : decode cX2_factors 153 = .ok (.iload_n 3, 1) := dk_29 (dk_at dksX2_factors_6 14 rfl rfl)
theorem dX2_factors_154 : decode cX2_factors 154 = .ok (.iastore, 1) := dk_79 (dk_at dksX2_factors_6 15 rfl rfl)
theorem dX2_factors_155 : decode cX2_factors 155 = .ok (.aload_n 0, 1) := dk_42 (dk_at dksX2_factors_6 16 rfl rfl)
theorem dX2_factors_156 : decode cX2_factors 156 = .ok (.iload_n 1, 1) := dk_27 (dk_at dksX2_factors_6 17 rfl rfl)
theorem dX2_factors_157 : decode cX2_factors 157 = .ok (.iload_n 2, 1) := dk_28 (dk_at dksX2_factors_6 18 rfl rfl)
theorem dX2_factors_158 : decode cX2_factors 158 = .ok (.invokevirtual 174, 3) := dk_182 0 174 (dk_at dksX2_factors_6 19 rfl rfl)
theorem dX2_factors_161 : decode cX2_factors 161 = .ok (.return_, 1) := dk_177 (dk_at dksX2_factors_6 22 rfl rfl)
abbrev cX2_sharedLength : ByteArray := prog_14_method_85_code
def yX2_sharedLength : MethodName := ⟨RX2, "sharedLength", "(I)I"⟩
def dkwX2_sharedLength_3 : List UInt8 := [167, 255, 219, 21, 4, 61, 132, 3, 1, 167, 255, 187, 28, 172]
abbrev dktX2_sharedLength_3 : List UInt8 := dkwX2_sharedLength_3 ++ []
def dkwX2_sharedLength_2 : List UInt8 := [162, 0, 26, 42, 29, 21, 4, 182, 0, 187, 42, 27, 21, 4, 182, 0, 187, 160, 0, 9, 132, 4, 1]
abbrev dktX2_sharedLength_2 : List UInt8 := dkwX2_sharedLength_2 ++ dktX2_sharedLength_3
def dkwX2_sharedLength_1 : List UInt8 := [154, 0, 6, 167, 0, 49, 3, 54, 4, 21, 4, 28, 162, 0, 37, 21, 4, 42, 180, 0, 13, 29, 46]
abbrev dktX2_sharedLength_1 : List UInt8 := dkwX2_sharedLength_1 ++ dktX2_sharedLength_2
def dkwX2_sharedLength_0 : List UInt8 := [42, 180, 0, 13, 27, 46, 61, 3, 62, 29, 42, 180, 0, 113, 162, 0, 67, 42, 29, 27, 182, 1, 65]
abbrev dktX2_sharedLength_0 : List UInt8 := dkwX2_sharedLength_0 ++ dktX2_sharedLength_1
theorem dksX2_sharedLength_0 : cX2_sharedLength.data.toList.drop 0 = dktX2_sharedLength_0 := by decide +kernel
theorem dksX2_sharedLength_1 : cX2_sharedLength.data.toList.drop 23 = dktX2_sharedLength_1 := dk_seg dksX2_sharedLength_0 23 rfl rfl
theorem dksX2_sharedLength_2 : cX2_sharedLength.data.toList.drop 46 = dktX2_sharedLength_2 := dk_seg dksX2_sharedLength_1 23 rfl rfl
theorem dksX2_sharedLength_3 : cX2_sharedLength.data.toList.drop 69 = dktX2_sharedLength_3 := dk_seg dksX2_sharedLength_2 23 rfl rfl
theorem dX2_sharedLength_0 : decode cX2_sharedLength 0 = .ok (.aload_n 0, 1) := dk_42 (dk_at dksX2_sharedLength_0 0 rfl rfl)
theorem dX2_sharedLength_1 : decode cX2_sharedLength 1 = .ok (.getfield 13, 3) := dk_180 0 13 (dk_at dksX2_sharedLength_0 1 rfl rfl)
theorem dX2_sharedLength_4 : decode cX2_sharedLength 4 = .ok (.iload_n 1, 1) := dk_27 (dk_at dksX2_sharedLength_0 4 rfl rfl)
theorem dX2_sharedLength_5 : decode cX2_sharedLength 5 = .ok (.iaload, 1) := dk_46 (dk_at dksX2_sharedLength_0 5 rfl rfl)
theorem dX2_sharedLength_6 : decode cX2_sharedLength 6 = .ok (.istore_n 2, 1) := dk_61 (dk_at dksX2_sharedLength_0 6 rfl rfl)
theorem dX2_sharedLength_7 : decode cX2_sharedLength 7 = .ok (.iconst 0, 1) := dk_3 (dk_at dksX2_sharedLength_0 7 rfl rfl)
theorem dX2_sharedLength_8 : decode cX2_sharedLength 8 = .ok (.istore_n 3, 1) := dk_62 (dk_at dksX2_sharedLength_0 8 rfl rfl)
theorem dX2_sharedLength_9 : decode cX2_sharedLength 9 = .ok (.iload_n 3, 1) := dk_29 (dk_at dksX2_sharedLength_0 9 rfl rfl)
theorem dX2_sharedLength_10 : decode cX2_sharedLength 10 = .ok (.aload_n 0, 1) := dk_42 (dk_at dksX2_sharedLength_0 10 rfl rfl)
theorem dX2_sharedLength_11 : decode cX2_sharedLength 11 = .ok (.getfield 113, 3) := dk_180 0 113 (dk_at dksX2_sharedLength_0 11 rfl rfl)
theorem dX2_sharedLength_14 : decode cX2_sharedLength 14 = .ok (.if_icmp .ge 67, 3) := dk_162 0 67 (dk_at dksX2_sharedLength_0 14 rfl rfl)
theorem dX2_sharedLength_17 : decode cX2_sharedLength 17 = .ok (.aload_n 0, 1) := dk_42 (dk_at dksX2_sharedLength_0 17 rfl rfl)
theorem dX2_sharedLength_18 : decode cX2_sharedLength 18 = .ok (.iload_n 3, 1) := dk_29 (dk_at dksX2_sharedLength_0 18 rfl rfl)
theorem dX2_sharedLength_19 : decode cX2_sharedLength 19 = .ok (.iload_n 1, 1) := dk_27 (dk_at dksX2_sharedLength_0 19 rfl rfl)
theorem dX2_sharedLength_20 : decode cX2_sharedLength 20 = .ok (.invokevirtual 321, 3) := dk_182 1 65 (dk_at dksX2_sharedLength_0 20 rfl rfl)
theorem dX2_sharedLength_23 : decode cX2_sharedLength 23 = .ok (.ifCond .ne 6, 3) := dk_154 0 6 (dk_at dksX2_sharedLength_1 0 rfl rfl)
theorem dX2_sharedLength_26 : decode cX2_sharedLength 26 = .ok (.goto 49, 3) := dk_167 0 49 (dk_at dksX2_sharedLength_1 3 rfl rfl)
theorem dX2_sharedLength_29 : decode cX2_sharedLength 29 = .ok (.iconst 0, 1) := dk_3 (dk_at dksX2_sharedLength_1 6 rfl rfl)
theorem dX2_sharedLength_30 : decode cX2_sharedLength 30 = .ok (.istore 4, 2) := dk_54 4 (dk_at dksX2_sharedLength_1 7 rfl rfl)
theorem dX2_sharedLength_32 : decode cX2_sharedLength 32 = .ok (.iload 4, 2) := dk_21 4 (dk_at dksX2_sharedLength_1 9 rfl rfl)
theorem dX2_sharedLength_34 : decode cX2_sharedLength 34 = .ok (.iload_n 2, 1) := dk_28 (dk_at dksX2_sharedLength_1 11 rfl rfl)
theorem dX2_sharedLength_35 : decode cX2_sharedLength 35 = .ok (.if_icmp .ge 37, 3) := dk_162 0 37 (dk_at dksX2_sharedLength_1 12 rfl rfl)
theorem dX2_sharedLength_38 : decode cX2_sharedLength 38 = .ok (.iload 4, 2) := dk_21 4 (dk_at dksX2_sharedLength_1 15 rfl rfl)
theorem dX2_sharedLength_40 : decode cX2_sharedLength 40 = .ok (.aload_n 0, 1) := dk_42 (dk_at dksX2_sharedLength_1 17 rfl rfl)
theorem dX2_sharedLength_41 : decode cX2_sharedLength 41 = .ok (.getfield 13, 3) := dk_180 0 13 (dk_at dksX2_sharedLength_1 18 rfl rfl)
theorem dX2_sharedLength_44 : decode cX2_sharedLength 44 = .ok (.iload_n 3, 1) := dk_29 (dk_at dksX2_sharedLength_1 21 rfl rfl)
theorem dX2_sharedLength_45 : decode cX2_sharedLength 45 = .ok (.iaload, 1) := dk_46 (dk_at dksX2_sharedLength_1 22 rfl rfl)
theorem dX2_sharedLength_46 : decode cX2_sharedLength 46 = .ok (.if_icmp .ge 26, 3) := dk_162 0 26 (dk_at dksX2_sharedLength_2 0 rfl rfl)
theorem dX2_sharedLength_49 : decode cX2_sharedLength 49 = .ok (.aload_n 0, 1) := dk_42 (dk_at dksX2_sharedLength_2 3 rfl rfl)
theorem dX2_sharedLength_50 : decode cX2_sharedLength 50 = .ok (.iload_n 3, 1) := dk_29 (dk_at dksX2_sharedLength_2 4 rfl rfl)
theorem dX2_sharedLength_51 : decode cX2_sharedLength 51 = .ok (.iload 4, 2) := dk_21 4 (dk_at dksX2_sharedLength_2 5 rfl rfl)
theorem dX2_sharedLength_53 : decode cX2_sharedLength 53 = .ok (.invokevirtual 187, 3) := dk_182 0 187 (dk_at dksX2_sharedLength_2 7 rfl rfl)
theorem dX2_sharedLength_56 : decode cX2_sharedLength 56 = .ok (.aload_n 0, 1) := dk_42 (dk_at dksX2_sharedLength_2 10 rfl rfl)
theorem dX2_sharedLength_57 : decode cX2_sharedLength 57 = .ok (.iload_n 1, 1) := dk_27 (dk_at dksX2_sharedLength_2 11 rfl rfl)
theorem dX2_sharedLength_58 : decode cX2_sharedLength 58 = .ok (.iload 4, 2) := dk_21 4 (dk_at dksX2_sharedLength_2 12 rfl rfl)
theorem dX2_sharedLength_60 : decode cX2_sharedLength 60 = .ok (.invokevirtual 187, 3) := dk_182 0 187 (dk_at dksX2_sharedLength_2 14 rfl rfl)
theorem dX2_sharedLength_63 : decode cX2_sharedLength 63 = .ok (.if_icmp .ne 9, 3) := dk_160 0 9 (dk_at dksX2_sharedLength_2 17 rfl rfl)
theorem dX2_sharedLength_66 : decode cX2_sharedLength 66 = .ok (.iinc 4 1, 3) := dk_132 4 1 (dk_at dksX2_sharedLength_2 20 rfl rfl)
theorem dX2_sharedLength_69 : decode cX2_sharedLength 69 = .ok (.goto (-37), 3) := dk_167 255 219 (dk_at dksX2_sharedLength_3 0 rfl rfl)
theorem dX2_sharedLength_72 : decode cX2_sharedLength 72 = .ok (.iload 4, 2) := dk_21 4 (dk_at dksX2_sharedLength_3 3 rfl rfl)
theorem dX2_sharedLength_74 : decode cX2_sharedLength 74 = .ok (.istore_n 2, 1) := dk_61 (dk_at dksX2_sharedLength_3 5 rfl rfl)
theorem dX2_sharedLength_75 : decode cX2_sharedLength 75 = .ok (.iinc 3 1, 3) := dk_132 3 1 (dk_at dksX2_sharedLength_3 6 rfl rfl)
theorem dX2_sharedLength_78 : decode cX2_sharedLength 78 = .ok (.goto (-69), 3) := dk_167 255 187 (dk_at dksX2_sharedLength_3 9 rfl rfl)
theorem dX2_sharedLength_81 : decode cX2_sharedLength 81 = .ok (.iload_n 2, 1) := dk_28 (dk_at dksX2_sharedLength_3 12 rfl rfl)
theorem dX2_sharedLength_82 : decode cX2_sharedLength 82 = .ok (.ireturn, 1) := dk_172 (dk_at dksX2_sharedLength_3 13 rfl rfl)
abbrev cX2_start : ByteArray := prog_14_method_89_code
def yX2_start : MethodName := ⟨RX2, "start", "(I)I"⟩
def dkwX2_start_4 : List UInt8 := [181, 0, 140, 42, 180, 0, 113, 172]
abbrev dktX2_start_4 : List UInt8 := dkwX2_start_4 ++ []
def dkwX2_start_3 : List UInt8 := [3, 181, 0, 143, 42, 3, 181, 0, 146, 42, 2, 181, 1, 88, 42, 180, 0, 62, 3, 16, 20, 79, 42, 4]
abbrev dktX2_start_3 : List UInt8 := dkwX2_start_3 ++ dktX2_start_4
def dkwX2_start_2 : List UInt8 := [182, 0, 153, 154, 0, 5, 3, 172, 42, 4, 181, 0, 134, 42, 27, 181, 1, 85, 42, 3, 181, 0, 137, 42]
abbrev dktX2_start_2 : List UInt8 := dkwX2_start_2 ++ dktX2_start_3
def dkwX2_start_1 : List UInt8 := [4, 160, 0, 11, 42, 4, 182, 0, 243, 167, 0, 7, 42, 182, 1, 29, 154, 0, 7, 4, 167, 0, 4, 3]
abbrev dktX2_start_1 : List UInt8 := dkwX2_start_1 ++ dktX2_start_2
def dkwX2_start_0 : List UInt8 := [27, 133, 10, 20, 1, 83, 184, 0, 103, 61, 42, 28, 28, 153, 0, 34, 42, 180, 0, 113, 158, 0, 27, 27]
abbrev dktX2_start_0 : List UInt8 := dkwX2_start_0 ++ dktX2_start_1
theorem dksX2_start_0 : cX2_start.data.toList.drop 0 = dktX2_start_0 := by decide +kernel
theorem dksX2_start_1 : cX2_start.data.toList.drop 24 = dktX2_start_1 := dk_seg dksX2_start_0 24 rfl rfl
theorem dksX2_start_2 : cX2_start.data.toList.drop 48 = dktX2_start_2 := dk_seg dksX2_start_1 24 rfl rfl
theorem dksX2_start_3 : cX2_start.data.toList.drop 72 = dktX2_start_3 := dk_seg dksX2_start_2 24 rfl rfl
theorem dksX2_start_4 : cX2_start.data.toList.drop 96 = dktX2_start_4 := dk_seg dksX2_start_3 24 rfl rfl
theorem dX2_start_0 : decode cX2_start 0 = .ok (.iload_n 1, 1) := dk_27 (dk_at dksX2_start_0 0 rfl rfl)
theorem dX2_start_1 : decode cX2_start 1 = .ok (.i2l, 1) := dk_133 (dk_at dksX2_start_0 1 rfl rfl)
theorem dX2_start_2 : decode cX2_start 2 = .ok (.lconst 1, 1) := dk_10 (dk_at dksX2_start_0 2 rfl rfl)
theorem dX2_start_3 : decode cX2_start 3 = .ok (.ldc2_w 339, 3) := dk_20 1 83 (dk_at dksX2_start_0 3 rfl rfl)
theorem dX2_start_6 : decode cX2_start 6 = .ok (.invokestatic 103, 3) := dk_184 0 103 (dk_at dksX2_start_0 6 rfl rfl)
theorem dX2_start_9 : decode cX2_start 9 = .ok (.istore_n 2, 1) := dk_61 (dk_at dksX2_start_0 9 rfl rfl)
theorem dX2_start_10 : decode cX2_start 10 = .ok (.aload_n 0, 1) := dk_42 (dk_at dksX2_start_0 10 rfl rfl)
theorem dX2_start_11 : decode cX2_start 11 = .ok (.iload_n 2, 1) := dk_28 (dk_at dksX2_start_0 11 rfl rfl)
theorem dX2_start_12 : decode cX2_start 12 = .ok (.iload_n 2, 1) := dk_28 (dk_at dksX2_start_0 12 rfl rfl)
theorem dX2_start_13 : decode cX2_start 13 = .ok (.ifCond .eq 34, 3) := dk_153 0 34 (dk_at dksX2_start_0 13 rfl rfl)
theorem dX2_start_16 : decode cX2_start 16 = .ok (.aload_n 0, 1) := dk_42 (dk_at dksX2_start_0 16 rfl rfl)
theorem dX2_start_17 : decode cX2_start 17 = .ok (.getfield 113, 3) := dk_180 0 113 (dk_at dksX2_start_0 17 rfl rfl)
theorem dX2_start_20 : decode cX2_start 20 = .ok (.ifCond .le 27, 3) := dk_158 0 27 (dk_at dksX2_start_0 20 rfl rfl)
theorem dX2_start_23 : decode cX2_start 23 = .ok (.iload_n 1, 1) := dk_27 (dk_at dksX2_start_0 23 rfl rfl)
theorem dX2_start_24 : decode cX2_start 24 = .ok (.iconst 1, 1) := dk_4 (dk_at dksX2_start_1 0 rfl rfl)
theorem dX2_start_25 : decode cX2_start 25 = .ok (.if_icmp .ne 11, 3) := dk_160 0 11 (dk_at dksX2_start_1 1 rfl rfl)
theorem dX2_start_28 : decode cX2_start 28 = .ok (.aload_n 0, 1) := dk_42 (dk_at dksX2_start_1 4 rfl rfl)
theorem dX2_start_29 : decode cX2_start 29 = .ok (.iconst 1, 1) := dk_4 (dk_at dksX2_start_1 5 rfl rfl)
theorem dX2_start_30 : decode cX2_start 30 = .ok (.invokevirtual 243, 3) := dk_182 0 243 (dk_at dksX2_start_1 6 rfl rfl)
theorem dX2_start_33 : decode cX2_start 33 = .ok (.goto 7, 3) := dk_167 0 7 (dk_at dksX2_start_1 9 rfl rfl)
theorem dX2_start_36 : decode cX2_start 36 = .ok (.aload_n 0, 1) := dk_42 (dk_at dksX2_start_1 12 rfl rfl)
theorem dX2_start_37 : decode cX2_start 37 = .ok (.invokevirtual 285, 3) := dk_182 1 29 (dk_at dksX2_start_1 13 rfl rfl)
theorem dX2_start_40 : decode cX2_start 40 = .ok (.ifCond .ne 7, 3) := dk_154 0 7 (dk_at dksX2_start_1 16 rfl rfl)
theorem dX2_start_43 : decode cX2_start 43 = .ok (.iconst 1, 1) := dk_4 (dk_at dksX2_start_1 19 rfl rfl)
theorem dX2_start_44 : decode cX2_start 44 = .ok (.goto 4, 3) := dk_167 0 4 (dk_at dksX2_start_1 20 rfl rfl)
theorem dX2_start_47 : decode cX2_start 47 = .ok (.iconst 0, 1) := dk_3 (dk_at dksX2_start_1 23 rfl rfl)
theorem dX2_start_48 : decode cX2_start 48 = .ok (.invokevirtual 153, 3) := dk_182 0 153 (dk_at dksX2_start_2 0 rfl rfl)
theorem dX2_start_51 : decode cX2_start 51 = .ok (.ifCond .ne 5, 3) := dk_154 0 5 (dk_at dksX2_start_2 3 rfl rfl)
theorem dX2_start_54 : decode cX2_start 54 = .ok (.iconst 0, 1) := dk_3 (dk_at dksX2_start_2 6 rfl rfl)
theorem dX2_start_55 : decode cX2_start 55 = .ok (.ireturn, 1) := dk_172 (dk_at dksX2_start_2 7 rfl rfl)
theorem dX2_start_56 : decode cX2_start 56 = .ok (.aload_n 0, 1) := dk_42 (dk_at dksX2_start_2 8 rfl rfl)
theorem dX2_start_57 : decode cX2_start 57 = .ok (.iconst 1, 1) := dk_4 (dk_at dksX2_start_2 9 rfl rfl)
theorem dX2_start_58 : decode cX2_start 58 = .ok (.putfield 134, 3) := dk_181 0 134 (dk_at dksX2_start_2 10 rfl rfl)
theorem dX2_start_61 : decode cX2_start 61 = .ok (.aload_n 0, 1) := dk_42 (dk_at dksX2_start_2 13 rfl rfl)
theorem dX2_start_62 : decode cX2_start 62 = .ok (.iload_n 1, 1) := dk_27 (dk_at dksX2_start_2 14 rfl rfl)
theorem dX2_start_63 : decode cX2_start 63 = .ok (.putfield 341, 3) := dk_181 1 85 (dk_at dksX2_start_2 15 rfl rfl)
theorem dX2_start_66 : decode cX2_start 66 = .ok (.aload_n 0, 1) := dk_42 (dk_at dksX2_start_2 18 rfl rfl)
theorem dX2_start_67 : decode cX2_start 67 = .ok (.iconst 0, 1) := dk_3 (dk_at dksX2_start_2 19 rfl rfl)
theorem dX2_start_68 : decode cX2_start 68 = .ok (.putfield 137, 3) := dk_181 0 137 (dk_at dksX2_start_2 20 rfl rfl)
theorem dX2_start_71 : decode cX2_start 71 = .ok (.aload_n 0, 1) := dk_42 (dk_at dksX2_start_2 23 rfl rfl)
theorem dX2_start_72 : decode cX2_start 72 = .ok (.iconst 0, 1) := dk_3 (dk_at dksX2_start_3 0 rfl rfl)
theorem dX2_start_73 : decode cX2_start 73 = .ok (.putfield 143, 3) := dk_181 0 143 (dk_at dksX2_start_3 1 rfl rfl)
theorem dX2_start_76 : decode cX2_start 76 = .ok (.aload_n 0, 1) := dk_42 (dk_at dksX2_start_3 4 rfl rfl)
theorem dX2_start_77 : decode cX2_start 77 = .ok (.iconst 0, 1) := dk_3 (dk_at dksX2_start_3 5 rfl rfl)
theorem dX2_start_78 : decode cX2_start 78 = .ok (.putfield 146, 3) := dk_181 0 146 (dk_at dksX2_start_3 6 rfl rfl)
theorem dX2_start_81 : decode cX2_start 81 = .ok (.aload_n 0, 1) := dk_42 (dk_at dksX2_start_3 9 rfl rfl)
theorem dX2_start_82 : decode cX2_start 82 = .ok (.iconst (-1), 1) := dk_2 (dk_at dksX2_start_3 10 rfl rfl)
theorem dX2_start_83 : decode cX2_start 83 = .ok (.putfield 344, 3) := dk_181 1 88 (dk_at dksX2_start_3 11 rfl rfl)
theorem dX2_start_86 : decode cX2_start 86 = .ok (.aload_n 0, 1) := dk_42 (dk_at dksX2_start_3 14 rfl rfl)
theorem dX2_start_87 : decode cX2_start 87 = .ok (.getfield 62, 3) := dk_180 0 62 (dk_at dksX2_start_3 15 rfl rfl)
theorem dX2_start_90 : decode cX2_start 90 = .ok (.iconst 0, 1) := dk_3 (dk_at dksX2_start_3 18 rfl rfl)
theorem dX2_start_91 : decode cX2_start 91 = .ok (.bipush 20, 2) := dk_16 20 (dk_at dksX2_start_3 19 rfl rfl)
theorem dX2_start_93 : decode cX2_start 93 = .ok (.iastore, 1) := dk_79 (dk_at dksX2_start_3 21 rfl rfl)
theorem dX2_start_94 : decode cX2_start 94 = .ok (.aload_n 0, 1) := dk_42 (dk_at dksX2_start_3 22 rfl rfl)
theorem dX2_start_95 : decode cX2_start 95 = .ok (.iconst 1, 1) := dk_4 (dk_at dksX2_start_3 23 rfl rfl)
theorem dX2_start_96 : decode cX2_start 96 = .ok (.putfield 140, 3) := dk_181 0 140 (dk_at dksX2_start_4 0 rfl rfl)
theorem dX2_start_99 : decode cX2_start 99 = .ok (.aload_n 0, 1) := dk_42 (dk_at dksX2_start_4 3 rfl rfl)
theorem dX2_start_100 : decode cX2_start 100 = .ok (.getfield 113, 3) := dk_180 0 113 (dk_at dksX2_start_4 4 rfl rfl)
theorem dX2_start_103 : decode cX2_start 103 = .ok (.ireturn, 1) := dk_172 (dk_at dksX2_start_4 7 rfl rfl)
abbrev cX2_give : ByteArray := prog_14_method_94_code
def yX2_give : MethodName := ⟨RX2, "give", "(I)I"⟩
def dkwX2_give_7 : List UInt8 := [28, 100, 172]
abbrev dktX2_give_7 : List UInt8 := dkwX2_give_7 ++ []
def dkwX2_give_6 : List UInt8 := [160, 0, 20, 42, 180, 0, 134, 4, 160, 0, 12, 42, 16, 12, 16, 12, 29, 182, 1, 102, 42, 180, 0, 146]
abbrev dktX2_give_6 : List UInt8 := dkwX2_give_6 ++ dktX2_give_7
def dkwX2_give_5 : List UInt8 := [159, 0, 15, 42, 42, 180, 1, 88, 27, 29, 4, 100, 182, 1, 102, 42, 27, 181, 1, 88, 27, 16, 12]
abbrev dktX2_give_5 : List UInt8 := dkwX2_give_5 ++ dktX2_give_6
def dkwX2_give_4 : List UInt8 := [180, 1, 85, 4, 160, 0, 13, 42, 27, 2, 29, 182, 1, 102, 167, 0, 51, 42, 180, 1, 88, 2]
abbrev dktX2_give_4 : List UInt8 := dkwX2_give_4 ++ dktX2_give_5
def dkwX2_give_3 : List UInt8 := [159, 0, 23, 42, 180, 0, 65, 42, 180, 0, 137, 27, 79, 42, 89, 180, 0, 137, 4, 96, 181, 0, 137, 42]
abbrev dktX2_give_3 : List UInt8 := dkwX2_give_3 ++ dktX2_give_4
def dkwX2_give_2 : List UInt8 := [180, 1, 85, 5, 160, 0, 7, 42, 182, 1, 19, 42, 180, 0, 146, 61, 42, 180, 0, 137, 62, 27, 16, 12]
abbrev dktX2_give_2 : List UInt8 := dkwX2_give_2 ++ dktX2_give_3
def dkwX2_give_1 : List UInt8 := [16, 40, 162, 0, 7, 4, 167, 0, 4, 3, 182, 0, 153, 154, 0, 5, 3, 172, 42, 182, 0, 227, 42]
abbrev dktX2_give_1 : List UInt8 := dkwX2_give_1 ++ dktX2_give_2
def dkwX2_give_0 : List UInt8 := [42, 27, 184, 0, 237, 42, 180, 0, 134, 4, 160, 0, 22, 27, 16, 12, 159, 0, 12, 42, 180, 0, 137]
abbrev dktX2_give_0 : List UInt8 := dkwX2_give_0 ++ dktX2_give_1
theorem dksX2_give_0 : cX2_give.data.toList.drop 0 = dktX2_give_0 := by decide +kernel
theorem dksX2_give_1 : cX2_give.data.toList.drop 23 = dktX2_give_1 := dk_seg dksX2_give_0 23 rfl rfl
theorem dksX2_give_2 : cX2_give.data.toList.drop 46 = dktX2_give_2 := dk_seg dksX2_give_1 23 rfl rfl
theorem dksX2_give_3 : cX2_give.data.toList.drop 70 = dktX2_give_3 := dk_seg dksX2_give_2 24 rfl rfl
theorem dksX2_give_4 : cX2_give.data.toList.drop 94 = dktX2_give_4 := dk_seg dksX2_give_3 24 rfl rfl
theorem dksX2_give_5 : cX2_give.data.toList.drop 116 = dktX2_give_5 := dk_seg dksX2_give_4 22 rfl rfl
theorem dksX2_give_6 : cX2_give.data.toList.drop 139 = dktX2_give_6 := dk_seg dksX2_give_5 23 rfl rfl
theorem dksX2_give_7 : cX2_give.data.toList.drop 163 = dktX2_give_7 := dk_seg dksX2_give_6 24 rfl rfl
theorem dX2_give_0 : decode cX2_give 0 = .ok (.aload_n 0, 1) := dk_42 (dk_at dksX2_give_0 0 rfl rfl)
theorem dX2_give_1 : decode cX2_give 1 = .ok (.iload_n 1, 1) := dk_27 (dk_at dksX2_give_0 1 rfl rfl)
theorem dX2_give_2 : decode cX2_give 2 = .ok (.invokestatic 237, 3) := dk_184 0 237 (dk_at dksX2_give_0 2 rfl rfl)
theorem dX2_give_5 : decode cX2_give 5 = .ok (.aload_n 0, 1) := dk_42 (dk_at dksX2_give_0 5 rfl rfl)
theorem dX2_give_6 : decode cX2_give 6 = .ok (.getfield 134, 3) := dk_180 0 134 (dk_at dksX2_give_0 6 rfl rfl)
theorem dX2_give_9 : decode cX2_give 9 = .ok (.iconst 1, 1) := dk_4 (dk_at dksX2_give_0 9 rfl rfl)
theorem dX2_give_10 : decode cX2_give 10 = .ok (.if_icmp .ne 22, 3) := dk_160 0 22 (dk_at dksX2_give_0 10 rfl rfl)
theorem dX2_give_13 : decode cX2_give 13 = .ok (.iload_n 1, 1) := dk_27 (dk_at dksX2_give_0 13 rfl rfl)
theorem dX2_give_14 : decode cX2_give 14 = .ok (.bipush 12, 2) := dk_16 12 (dk_at dksX2_give_0 14 rfl rfl)
theorem dX2_give_16 : decode cX2_give 16 = .ok (.if_icmp .eq 12, 3) := dk_159 0 12 (dk_at dksX2_give_0 16 rfl rfl)
theorem dX2_give_19 : decode cX2_give 19 = .ok (.aload_n 0, 1) := dk_42 (dk_at dksX2_give_0 19 rfl rfl)
theorem dX2_give_20 : decode cX2_give 20 = .ok (.getfield 137, 3) := dk_180 0 137 (dk_at dksX2_give_0 20 rfl rfl)
theorem dX2_give_23 : decode cX2_give 23 = .ok (.bipush 40, 2) := dk_16 40 (dk_at dksX2_give_1 0 rfl rfl)
theorem dX2_give_25 : decode cX2_give 25 = .ok (.if_icmp .ge 7, 3) := dk_162 0 7 (dk_at dksX2_give_1 2 rfl rfl)
theorem dX2_give_28 : decode cX2_give 28 = .ok (.iconst 1, 1) := dk_4 (dk_at dksX2_give_1 5 rfl rfl)
theorem dX2_give_29 : decode cX2_give 29 = .ok (.goto 4, 3) := dk_167 0 4 (dk_at dksX2_give_1 6 rfl rfl)
theorem dX2_give_32 : decode cX2_give 32 = .ok (.iconst 0, 1) := dk_3 (dk_at dksX2_give_1 9 rfl rfl)
theorem dX2_give_33 : decode cX2_give 33 = .ok (.invokevirtual 153, 3) := dk_182 0 153 (dk_at dksX2_give_1 10 rfl rfl)
theorem dX2_give_36 : decode cX2_give 36 = .ok (.ifCond .ne 5, 3) := dk_154 0 5 (dk_at dksX2_give_1 13 rfl rfl)
theorem dX2_give_39 : decode cX2_give 39 = .ok (.iconst 0, 1) := dk_3 (dk_at dksX2_give_1 16 rfl rfl)
theorem dX2_give_40 : decode cX2_give 40 = .ok (.ireturn, 1) := dk_172 (dk_at dksX2_give_1 17 rfl rfl)
theorem dX2_give_41 : decode cX2_give 41 = .ok (.aload_n 0, 1) := dk_42 (dk_at dksX2_give_1 18 rfl rfl)
theorem dX2_give_42 : decode cX2_give 42 = .ok (.invokevirtual 227, 3) := dk_182 0 227 (dk_at dksX2_give_1 19 rfl rfl)
theorem dX2_give_45 : decode cX2_give 45 = .ok (.aload_n 0, 1) := dk_42 (dk_at dksX2_give_1 22 rfl rfl)
theorem dX2_give_46 : decode cX2_give 46 = .ok (.getfield 341, 3) := dk_180 1 85 (dk_at dksX2_give_2 0 rfl rfl)
theorem dX2_give_49 : decode cX2_give 49 = .ok (.iconst 2, 1) := dk_5 (dk_at dksX2_give_2 3 rfl rfl)
theorem dX2_give_50 : decode cX2_give 50 = .ok (.if_icmp .ne 7, 3) := dk_160 0 7 (dk_at dksX2_give_2 4 rfl rfl)
theorem dX2_give_53 : decode cX2_give 53 = .ok (.aload_n 0, 1) := dk_42 (dk_at dksX2_give_2 7 rfl rfl)
theorem dX2_give_54 : decode cX2_give 54 = .ok (.invokevirtual 275, 3) := dk_182 1 19 (dk_at dksX2_give_2 8 rfl rfl)
theorem dX2_give_57 : decode cX2_give 57 = .ok (.aload_n 0, 1) := dk_42 (dk_at dksX2_give_2 11 rfl rfl)
theorem dX2_give_58 : decode cX2_give 58 = .ok (.getfield 146, 3) := dk_180 0 146 (dk_at dksX2_give_2 12 rfl rfl)
theorem dX2_give_61 : decode cX2_give 61 = .ok (.istore_n 2, 1) := dk_61 (dk_at dksX2_give_2 15 rfl rfl)
theorem dX2_give_62 : decode cX2_give 62 = .ok (.aload_n 0, 1) := dk_42 (dk_at dksX2_give_2 16 rfl rfl)
theorem dX2_give_63 : decode cX2_give 63 = .ok (.getfield 137, 3) := dk_180 0 137 (dk_at dksX2_give_2 17 rfl rfl)
theorem dX2_give_66 : decode cX2_give 66 = .ok (.istore_n 3, 1) := dk_62 (dk_at dksX2_give_2 20 rfl rfl)
theorem dX2_give_67 : decode cX2_give 67 = .ok (.iload_n 1, 1) := dk_27 (dk_at dksX2_give_2 21 rfl rfl)
theorem dX2_give_68 : decode cX2_give 68 = .ok (.bipush 12, 2) := dk_16 12 (dk_at dksX2_give_2 22 rfl rfl)
theorem dX2_give_70 : decode cX2_give 70 = .ok (.if_icmp .eq 23, 3) := dk_159 0 23 (dk_at dksX2_give_3 0 rfl rfl)
theorem dX2_give_73 : decode cX2_give 73 = .ok (.aload_n 0, 1) := dk_42 (dk_at dksX2_give_3 3 rfl rfl)
theorem dX2_give_74 : decode cX2_give 74 = .ok (.getfield 65, 3) := dk_180 0 65 (dk_at dksX2_give_3 4 rfl rfl)
theorem dX2_give_77 : decode cX2_give 77 = .ok (.aload_n 0, 1) := dk_42 (dk_at dksX2_give_3 7 rfl rfl)
theorem dX2_give_78 : decode cX2_give 78 = .ok (.getfield 137, 3) := dk_180 0 137 (dk_at dksX2_give_3 8 rfl rfl)
theorem dX2_give_81 : decode cX2_give 81 = .ok (.iload_n 1, 1) := dk_27 (dk_at dksX2_give_3 11 rfl rfl)
theorem dX2_give_82 : decode cX2_give 82 = .ok (.iastore, 1) := dk_79 (dk_at dksX2_give_3 12 rfl rfl)
theorem dX2_give_83 : decode cX2_give 83 = .ok (.aload_n 0, 1) := dk_42 (dk_at dksX2_give_3 13 rfl rfl)
theorem dX2_give_84 : decode cX2_give 84 = .ok (.dup, 1) := dk_89 (dk_at dksX2_give_3 14 rfl rfl)
theorem dX2_give_85 : decode cX2_give 85 = .ok (.getfield 137, 3) := dk_180 0 137 (dk_at dksX2_give_3 15 rfl rfl)
theorem dX2_give_88 : decode cX2_give 88 = .ok (.iconst 1, 1) := dk_4 (dk_at dksX2_give_3 18 rfl rfl)
theorem dX2_give_89 : decode cX2_give 89 = .ok (.iadd, 1) := dk_96 (dk_at dksX2_give_3 19 rfl rfl)
theorem dX2_give_90 : decode cX2_give 90 = .ok (.putfield 137, 3) := dk_181 0 137 (dk_at dksX2_give_3 20 rfl rfl)
theorem dX2_give_93 : decode cX2_give 93 = .ok (.aload_n 0, 1) := dk_42 (dk_at dksX2_give_3 23 rfl rfl)
theorem dX2_give_94 : decode cX2_give 94 = .ok (.getfield 341, 3) := dk_180 1 85 (dk_at dksX2_give_4 0 rfl rfl)
theorem dX2_give_97 : decode cX2_give 97 = .ok (.iconst 1, 1) := dk_4 (dk_at dksX2_give_4 3 rfl rfl)
theorem dX2_give_98 : decode cX2_give 98 = .ok (.if_icmp .ne 13, 3) := dk_160 0 13 (dk_at dksX2_give_4 4 rfl rfl)
theorem dX2_give_101 : decode cX2_give 101 = .ok (.aload_n 0, 1) := dk_42 (dk_at dksX2_give_4 7 rfl rfl)
theorem dX2_give_102 : decode cX2_give 102 = .ok (.iload_n 1, 1) := dk_27 (dk_at dksX2_give_4 8 rfl rfl)
theorem dX2_give_103 : decode cX2_give 103 = .ok (.iconst (-1), 1) := dk_2 (dk_at dksX2_give_4 9 rfl rfl)
theorem dX2_give_104 : decode cX2_give 104 = .ok (.iload_n 3, 1) := dk_29 (dk_at dksX2_give_4 10 rfl rfl)
theorem dX2_give_105 : decode cX2_give 105 = .ok (.invokevirtual 358, 3) := dk_182 1 102 (dk_at dksX2_give_4 11 rfl rfl)
theorem dX2_give_108 : decode cX2_give 108 = .ok (.goto 51, 3) := dk_167 0 51 (dk_at dksX2_give_4 14 rfl rfl)
theorem dX2_give_111 : decode cX2_give 111 = .ok (.aload_n 0, 1) := dk_42 (dk_at dksX2_give_4 17 rfl rfl)
theorem dX2_give_112 : decode cX2_give 112 = .ok (.getfield 344, 3) := dk_180 1 88 (dk_at dksX2_give_4 18 rfl rfl)
theorem dX2_give_115 : decode cX2_give 115 = .ok (.iconst (-1), 1) := dk_2 (dk_at dksX2_give_4 21 rfl rfl)
theorem dX2_give_116 : decode cX2_give 116 = .ok (.if_icmp .eq 15, 3) := dk_159 0 15 (dk_at dksX2_give_5 0 rfl rfl)
theorem dX2_give_119 : decode cX2_give 119 = .ok (.aload_n 0, 1) := dk_42 (dk_at dksX2_give_5 3 rfl rfl)
theorem dX2_give_120 : decode cX2_give 120 = .ok (.aload_n 0, 1) := dk_42 (dk_at dksX2_give_5 4 rfl rfl)
theorem dX2_give_121 : decode cX2_give 121 = .ok (.getfield 344, 3) := dk_180 1 88 (dk_at dksX2_give_5 5 rfl rfl)
theorem dX2_give_124 : decode cX2_give 124 = .ok (.iload_n 1, 1) := dk_27 (dk_at dksX2_give_5 8 rfl rfl)
theorem dX2_give_125 : decode cX2_give 125 = .ok (.iload_n 3, 1) := dk_29 (dk_at dksX2_give_5 9 rfl rfl)
theorem dX2_give_126 : decode cX2_give 126 = .ok (.iconst 1, 1) := dk_4 (dk_at dksX2_give_5 10 rfl rfl)
theorem dX2_give_127 : decode cX2_give 127 = .ok (.isub, 1) := dk_100 (dk_at dksX2_give_5 11 rfl rfl)
theorem dX2_give_128 : decode cX2_give 128 = .ok (.invokevirtual 358, 3) := dk_182 1 102 (dk_at dksX2_give_5 12 rfl rfl)
theorem dX2_give_131 : decode cX2_give 131 = .ok (.aload_n 0, 1) := dk_42 (dk_at dksX2_give_5 15 rfl rfl)
theorem dX2_give_132 : decode cX2_give 132 = .ok (.iload_n 1, 1) := dk_27 (dk_at dksX2_give_5 16 rfl rfl)
theorem dX2_give_133 : decode cX2_give 133 = .ok (.putfield 344, 3) := dk_181 1 88 (dk_at dksX2_give_5 17 rfl rfl)
theorem dX2_give_136 : decode cX2_give 136 = .ok (.iload_n 1, 1) := dk_27 (dk_at dksX2_give_5 20 rfl rfl)
theorem dX2_give_137 : decode cX2_give 137 = .ok (.bipush 12, 2) := dk_16 12 (dk_at dksX2_give_5 21 rfl rfl)
theorem dX2_give_139 : decode cX2_give 139 = .ok (.if_icmp .ne 20, 3) := dk_160 0 20 (dk_at dksX2_give_6 0 rfl rfl)
theorem dX2_give_142 : decode cX2_give 142 = .ok (.aload_n 0, 1) := dk_42 (dk_at dksX2_give_6 3 rfl rfl)
theorem dX2_give_143 : decode cX2_give 143 = .ok (.getfield 134, 3) := dk_180 0 134 (dk_at dksX2_give_6 4 rfl rfl)
theorem dX2_give_146 : decode cX2_give 146 = .ok (.iconst 1, 1) := dk_4 (dk_at dksX2_give_6 7 rfl rfl)
theorem dX2_give_147 : decode cX2_give 147 = .ok (.if_icmp .ne 12, 3) := dk_160 0 12 (dk_at dksX2_give_6 8 rfl rfl)
theorem dX2_give_150 : decode cX2_give 150 = .ok (.aload_n 0, 1) := dk_42 (dk_at dksX2_give_6 11 rfl rfl)
theorem dX2_give_151 : decode cX2_give 151 = .ok (.bipush 12, 2) := dk_16 12 (dk_at dksX2_give_6 12 rfl rfl)
theorem dX2_give_153 : decode cX2_give 153 = .ok (.bipush 12, 2) := dk_16 12 (dk_at dksX2_give_6 14 rfl rfl)
theorem dX2_give_155 : decode cX2_give 155 = .ok (.iload_n 3, 1) := dk_29 (dk_at dksX2_give_6 16 rfl rfl)
theorem dX2_give_156 : decode cX2_give 156 = .ok (.invokevirtual 358, 3) := dk_182 1 102 (dk_at dksX2_give_6 17 rfl rfl)
theorem dX2_give_159 : decode cX2_give 159 = .ok (.aload_n 0, 1) := dk_42 (dk_at dksX2_give_6 20 rfl rfl)
theorem dX2_give_160 : decode cX2_give 160 = .ok (.getfield 146, 3) := dk_180 0 146 (dk_at dksX2_give_6 21 rfl rfl)
theorem dX2_give_163 : decode cX2_give 163 = .ok (.iload_n 2, 1) := dk_28 (dk_at dksX2_give_7 0 rfl rfl)
theorem dX2_give_164 : decode cX2_give 164 = .ok (.isub, 1) := dk_100 (dk_at dksX2_give_7 1 rfl rfl)
theorem dX2_give_165 : decode cX2_give 165 = .ok (.ireturn, 1) := dk_172 (dk_at dksX2_give_7 2 rfl rfl)
abbrev cX2_worksOff : ByteArray := prog_14_method_93_code
def yX2_worksOff : MethodName := ⟨RX2, "worksOff", "(III)V"⟩
def dkwX2_worksOff_0 : List UInt8 := [4, 54, 4, 21, 4, 153, 0, 15, 42, 27, 28, 29, 182, 1, 98, 54, 4, 167, 255, 242, 177]
abbrev dktX2_worksOff_0 : List UInt8 := dkwX2_worksOff_0 ++ []
theorem dksX2_worksOff_0 : cX2_worksOff.data.toList.drop 0 = dktX2_worksOff_0 := by decide +kernel
theorem dX2_worksOff_0 : decode cX2_worksOff 0 = .ok (.iconst 1, 1) := dk_4 (dk_at dksX2_worksOff_0 0 rfl rfl)
theorem dX2_worksOff_1 : decode cX2_worksOff 1 = .ok (.istore 4, 2) := dk_54 4 (dk_at dksX2_worksOff_0 1 rfl rfl)
theorem dX2_worksOff_3 : decode cX2_worksOff 3 = .ok (.iload 4, 2) := dk_21 4 (dk_at dksX2_worksOff_0 3 rfl rfl)
theorem dX2_worksOff_5 : decode cX2_worksOff 5 = .ok (.ifCond .eq 15, 3) := dk_153 0 15 (dk_at dksX2_worksOff_0 5 rfl rfl)
theorem dX2_worksOff_8 : decode cX2_worksOff 8 = .ok (.aload_n 0, 1) := dk_42 (dk_at dksX2_worksOff_0 8 rfl rfl)
theorem dX2_worksOff_9 : decode cX2_worksOff 9 = .ok (.iload_n 1, 1) := dk_27 (dk_at dksX2_worksOff_0 9 rfl rfl)
theorem dX2_worksOff_10 : decode cX2_worksOff 10 = .ok (.iload_n 2, 1) := dk_28 (dk_at dksX2_worksOff_0 10 rfl rfl)
theorem dX2_worksOff_11 : decode cX2_worksOff 11 = .ok (.iload_n 3, 1) := dk_29 (dk_at dksX2_worksOff_0 11 rfl rfl)
theorem dX2_worksOff_12 : decode cX2_worksOff 12 = .ok (.invokevirtual 354, 3) := dk_182 1 98 (dk_at dksX2_worksOff_0 12 rfl rfl)
theorem dX2_worksOff_15 : decode cX2_worksOff 15 = .ok (.istore 4, 2) := dk_54 4 (dk_at dksX2_worksOff_0 15 rfl rfl)
theorem dX2_worksOff_17 : decode cX2_worksOff 17 = .ok (.goto (-14), 3) := dk_167 255 242 (dk_at dksX2_worksOff_0 17 rfl rfl)
theorem dX2_worksOff_20 : decode cX2_worksOff 20 = .ok (.return_, 1) := dk_177 (dk_at dksX2_worksOff_0 20 rfl rfl)
abbrev cX2_worksOnce : ByteArray := prog_14_method_92_code
def yX2_worksOnce : MethodName := ⟨RX2, "worksOnce", "(III)Z"⟩
def dkwX2_worksOnce_8 : List UInt8 := [181, 0, 140, 21, 6, 154, 0, 7, 4, 167, 0, 4, 3, 172]
abbrev dktX2_worksOnce_8 : List UInt8 := dkwX2_worksOnce_8 ++ []
def dkwX2_worksOnce_7 : List UInt8 := [3, 54, 6, 42, 29, 21, 4, 21, 6, 182, 1, 91, 21, 6, 154, 0, 13, 42, 89, 180, 0, 140, 4, 100]
abbrev dktX2_worksOnce_7 : List UInt8 := dkwX2_worksOnce_7 ++ dktX2_worksOnce_8
def dkwX2_worksOnce_6 : List UInt8 := [159, 0, 24, 42, 180, 0, 31, 21, 4, 16, 20, 100, 46, 27, 184, 0, 198, 154, 0, 7, 4, 167, 0, 4]
abbrev dktX2_worksOnce_6 : List UInt8 := dkwX2_worksOnce_6 ++ dktX2_worksOnce_7
def dkwX2_worksOnce_5 : List UInt8 := [17, 1, 144, 160, 0, 10, 42, 6, 181, 0, 134, 3, 172, 42, 21, 5, 182, 1, 95, 4, 172, 27, 16, 12]
abbrev dktX2_worksOnce_5 : List UInt8 := dkwX2_worksOnce_5 ++ dktX2_worksOnce_6
def dkwX2_worksOnce_4 : List UInt8 := [167, 0, 11, 42, 21, 4, 27, 28, 182, 1, 22, 54, 5, 21, 5, 155, 0, 28, 42, 180, 0, 143]
abbrev dktX2_worksOnce_4 : List UInt8 := dkwX2_worksOnce_4 ++ dktX2_worksOnce_5
def dkwX2_worksOnce_3 : List UInt8 := [21, 4, 3, 182, 1, 91, 4, 172, 42, 180, 1, 85, 4, 160, 0, 13, 42, 21, 4, 27, 182, 0, 240]
abbrev dktX2_worksOnce_3 : List UInt8 := dkwX2_worksOnce_3 ++ dktX2_worksOnce_4
def dkwX2_worksOnce_2 : List UInt8 := [153, 0, 31, 42, 89, 180, 0, 140, 4, 100, 181, 0, 140, 21, 4, 27, 160, 0, 5, 3, 172, 42, 29]
abbrev dktX2_worksOnce_2 : List UInt8 := dkwX2_worksOnce_2 ++ dktX2_worksOnce_3
def dkwX2_worksOnce_1 : List UInt8 := [4, 182, 1, 91, 3, 172, 42, 180, 0, 62, 42, 180, 0, 140, 4, 100, 46, 54, 4, 21, 4, 184, 0, 167]
abbrev dktX2_worksOnce_1 : List UInt8 := dkwX2_worksOnce_1 ++ dktX2_worksOnce_2
def dkwX2_worksOnce_0 : List UInt8 := [42, 180, 0, 140, 154, 0, 26, 27, 16, 12, 160, 0, 11, 42, 5, 181, 0, 134, 167, 0, 10, 42, 29, 2]
abbrev dktX2_worksOnce_0 : List UInt8 := dkwX2_worksOnce_0 ++ dktX2_worksOnce_1
theorem dksX2_worksOnce_0 : cX2_worksOnce.data.toList.drop 0 = dktX2_worksOnce_0 := by decide +kernel
theorem dksX2_worksOnce_1 : cX2_worksOnce.data.toList.drop 24 = dktX2_worksOnce_1 := dk_seg dksX2_worksOnce_0 24 rfl rfl
theorem dksX2_worksOnce_2 : cX2_worksOnce.data.toList.drop 48 = dktX2_worksOnce_2 := dk_seg dksX2_worksOnce_1 24 rfl rfl
theorem dksX2_worksOnce_3 : cX2_worksOnce.data.toList.drop 71 = dktX2_worksOnce_3 := dk_seg dksX2_worksOnce_2 23 rfl rfl
theorem dksX2_worksOnce_4 : cX2_worksOnce.data.toList.drop 94 = dktX2_worksOnce_4 := dk_seg dksX2_worksOnce_3 23 rfl rfl
theorem dksX2_worksOnce_5 : cX2_worksOnce.data.toList.drop 116 = dktX2_worksOnce_5 := dk_seg dksX2_worksOnce_4 22 rfl rfl
theorem dksX2_worksOnce_6 : cX2_worksOnce.data.toList.drop 140 = dktX2_worksOnce_6 := dk_seg dksX2_worksOnce_5 24 rfl rfl
theorem dksX2_worksOnce_7 : cX2_worksOnce.data.toList.drop 164 = dktX2_worksOnce_7 := dk_seg dksX2_worksOnce_6 24 rfl rfl
theorem dksX2_worksOnce_8 : cX2_worksOnce.data.toList.drop 188 = dktX2_worksOnce_8 := dk_seg dksX2_worksOnce_7 24 rfl rfl
theorem dX2_worksOnce_0 : decode cX2_worksOnce 0 = .ok (.aload_n 0, 1) := dk_42 (dk_at dksX2_worksOnce_0 0 rfl rfl)
theorem dX2_worksOnce_1 : decode cX2_worksOnce 1 = .ok (.getfield 140, 3) := dk_180 0 140 (dk_at dksX2_worksOnce_0 1 rfl rfl)
theorem dX2_worksOnce_4 : decode cX2_worksOnce 4 = .ok (.ifCond .ne 26, 3) := dk_154 0 26 (dk_at dksX2_worksOnce_0 4 rfl rfl)
theorem dX2_worksOnce_7 : decode cX2_worksOnce 7 = .ok (.iload_n 1, 1) := dk_27 (dk_at dksX2_worksOnce_0 7 rfl rfl)
theorem dX2_worksOnce_8 : decode cX2_worksOnce 8 = .ok (.bipush 12, 2) := dk_16 12 (dk_at dksX2_worksOnce_0 8 rfl rfl)
theorem dX2_worksOnce_10 : decode cX2_worksOnce 10 = .ok (.if_icmp .ne 11, 3) := dk_160 0 11 (dk_at dksX2_worksOnce_0 10 rfl rfl)
theorem dX2_worksOnce_13 : decode cX2_worksOnce 13 = .ok (.aload_n 0, 1) := dk_42 (dk_at dksX2_worksOnce_0 13 rfl rfl)
theorem dX2_worksOnce_14 : decode cX2_worksOnce 14 = .ok (.iconst 2, 1) := dk_5 (dk_at dksX2_worksOnce_0 14 rfl rfl)
theorem dX2_worksOnce_15 : decode cX2_worksOnce 15 = .ok (.putfield 134, 3) := dk_181 0 134 (dk_at dksX2_worksOnce_0 15 rfl rfl)
theorem dX2_worksOnce_18 : decode cX2_worksOnce 18 = .ok (.goto 10, 3) := dk_167 0 10 (dk_at dksX2_worksOnce_0 18 rfl rfl)
theorem dX2_worksOnce_21 : decode cX2_worksOnce 21 = .ok (.aload_n 0, 1) := dk_42 (dk_at dksX2_worksOnce_0 21 rfl rfl)
theorem dX2_worksOnce_22 : decode cX2_worksOnce 22 = .ok (.iload_n 3, 1) := dk_29 (dk_at dksX2_worksOnce_0 22 rfl rfl)
theorem dX2_worksOnce_23 : decode cX2_worksOnce 23 = .ok (.iconst (-1), 1) := dk_2 (dk_at dksX2_worksOnce_0 23 rfl rfl)
theorem dX2_worksOnce_24 : decode cX2_worksOnce 24 = .ok (.iconst 1, 1) := dk_4 (dk_at dksX2_worksOnce_1 0 rfl rfl)
theorem dX2_worksOnce_25 : decode cX2_worksOnce 25 = .ok (.invokevirtual 347, 3) := dk_182 1 91 (dk_at dksX2_worksOnce_1 1 rfl rfl)
theorem dX2_worksOnce_28 : decode cX2_worksOnce 28 = .ok (.iconst 0, 1) := dk_3 (dk_at dksX2_worksOnce_1 4 rfl rfl)
theorem dX2_worksOnce_29 : decode cX2_worksOnce 29 = .ok (.ireturn, 1) := dk_172 (dk_at dksX2_worksOnce_1 5 rfl rfl)
theorem dX2_worksOnce_30 : decode cX2_worksOnce 30 = .ok (.aload_n 0, 1) := dk_42 (dk_at dksX2_worksOnce_1 6 rfl rfl)
theorem dX2_worksOnce_31 : decode cX2_worksOnce 31 = .ok (.getfield 62, 3) := dk_180 0 62 (dk_at dksX2_worksOnce_1 7 rfl rfl)
theorem dX2_worksOnce_34 : decode cX2_worksOnce 34 = .ok (.aload_n 0, 1) := dk_42 (dk_at dksX2_worksOnce_1 10 rfl rfl)
theorem dX2_worksOnce_35 : decode cX2_worksOnce 35 = .ok (.getfield 140, 3) := dk_180 0 140 (dk_at dksX2_worksOnce_1 11 rfl rfl)
theorem dX2_worksOnce_38 : decode cX2_worksOnce 38 = .ok (.iconst 1, 1) := dk_4 (dk_at dksX2_worksOnce_1 14 rfl rfl)
theorem dX2_worksOnce_39 : decode cX2_worksOnce 39 = .ok (.isub, 1) := dk_100 (dk_at dksX2_worksOnce_1 15 rfl rfl)
theorem dX2_worksOnce_40 : decode cX2_worksOnce 40 = .ok (.iaload, 1) := dk_46 (dk_at dksX2_worksOnce_1 16 rfl rfl)
theorem dX2_worksOnce_41 : decode cX2_worksOnce 41 = .ok (.istore 4, 2) := dk_54 4 (dk_at dksX2_worksOnce_1 17 rfl rfl)
theorem dX2_worksOnce_43 : decode cX2_worksOnce 43 = .ok (.iload 4, 2) := dk_21 4 (dk_at dksX2_worksOnce_1 19 rfl rfl)
theorem dX2_worksOnce_45 : decode cX2_worksOnce 45 = .ok (.invokestatic 167, 3) := dk_184 0 167 (dk_at dksX2_worksOnce_1 21 rfl rfl)
theorem dX2_worksOnce_48 : decode cX2_worksOnce 48 = .ok (.ifCond .eq 31, 3) := dk_153 0 31 (dk_at dksX2_worksOnce_2 0 rfl rfl)
theorem dX2_worksOnce_51 : decode cX2_worksOnce 51 = .ok (.aload_n 0, 1) := dk_42 (dk_at dksX2_worksOnce_2 3 rfl rfl)
theorem dX2_worksOnce_52 : decode cX2_worksOnce 52 = .ok (.dup, 1) := dk_89 (dk_at dksX2_worksOnce_2 4 rfl rfl)
theorem dX2_worksOnce_53 : decode cX2_worksOnce 53 = .ok (.getfield 140, 3) := dk_180 0 140 (dk_at dksX2_worksOnce_2 5 rfl rfl)
theorem dX2_worksOnce_56 : decode cX2_worksOnce 56 = .ok (.iconst 1, 1) := dk_4 (dk_at dksX2_worksOnce_2 8 rfl rfl)
theorem dX2_worksOnce_57 : decode cX2_worksOnce 57 = .ok (.isub, 1) := dk_100 (dk_at dksX2_worksOnce_2 9 rfl rfl)
theorem dX2_worksOnce_58 : decode cX2_worksOnce 58 = .ok (.putfield 140, 3) := dk_181 0 140 (dk_at dksX2_worksOnce_2 10 rfl rfl)
theorem dX2_worksOnce_61 : decode cX2_worksOnce 61 = .ok (.iload 4, 2) := dk_21 4 (dk_at dksX2_worksOnce_2 13 rfl rfl)
theorem dX2_worksOnce_63 : decode cX2_worksOnce 63 = .ok (.iload_n 1, 1) := dk_27 (dk_at dksX2_worksOnce_2 15 rfl rfl)
theorem dX2_worksOnce_64 : decode cX2_worksOnce 64 = .ok (.if_icmp .ne 5, 3) := dk_160 0 5 (dk_at dksX2_worksOnce_2 16 rfl rfl)
theorem dX2_worksOnce_67 : decode cX2_worksOnce 67 = .ok (.iconst 0, 1) := dk_3 (dk_at dksX2_worksOnce_2 19 rfl rfl)
theorem dX2_worksOnce_68 : decode cX2_worksOnce 68 = .ok (.ireturn, 1) := dk_172 (dk_at dksX2_worksOnce_2 20 rfl rfl)
theorem dX2_worksOnce_69 : decode cX2_worksOnce 69 = .ok (.aload_n 0, 1) := dk_42 (dk_at dksX2_worksOnce_2 21 rfl rfl)
theorem dX2_worksOnce_70 : decode cX2_worksOnce 70 = .ok (.iload_n 3, 1) := dk_29 (dk_at dksX2_worksOnce_2 22 rfl rfl)
theorem dX2_worksOnce_71 : decode cX2_worksOnce 71 = .ok (.iload 4, 2) := dk_21 4 (dk_at dksX2_worksOnce_3 0 rfl rfl)
theorem dX2_worksOnce_73 : decode cX2_worksOnce 73 = .ok (.iconst 0, 1) := dk_3 (dk_at dksX2_worksOnce_3 2 rfl rfl)
theorem dX2_worksOnce_74 : decode cX2_worksOnce 74 = .ok (.invokevirtual 347, 3) := dk_182 1 91 (dk_at dksX2_worksOnce_3 3 rfl rfl)
theorem dX2_worksOnce_77 : decode cX2_worksOnce 77 = .ok (.iconst 1, 1) := dk_4 (dk_at dksX2_worksOnce_3 6 rfl rfl)
theorem dX2_worksOnce_78 : decode cX2_worksOnce 78 = .ok (.ireturn, 1) := dk_172 (dk_at dksX2_worksOnce_3 7 rfl rfl)
theorem dX2_worksOnce_79 : decode cX2_worksOnce 79 = .ok (.aload_n 0, 1) := dk_42 (dk_at dksX2_worksOnce_3 8 rfl rfl)
theorem dX2_worksOnce_80 : decode cX2_worksOnce 80 = .ok (.getfield 341, 3) := dk_180 1 85 (dk_at dksX2_worksOnce_3 9 rfl rfl)
theorem dX2_worksOnce_83 : decode cX2_worksOnce 83 = .ok (.iconst 1, 1) := dk_4 (dk_at dksX2_worksOnce_3 12 rfl rfl)
theorem dX2_worksOnce_84 : decode cX2_worksOnce 84 = .ok (.if_icmp .ne 13, 3) := dk_160 0 13 (dk_at dksX2_worksOnce_3 13 rfl rfl)
theorem dX2_worksOnce_87 : decode cX2_worksOnce 87 = .ok (.aload_n 0, 1) := dk_42 (dk_at dksX2_worksOnce_3 16 rfl rfl)
theorem dX2_worksOnce_88 : decode cX2_worksOnce 88 = .ok (.iload 4, 2) := dk_21 4 (dk_at dksX2_worksOnce_3 17 rfl rfl)
theorem dX2_worksOnce_90 : decode cX2_worksOnce 90 = .ok (.iload_n 1, 1) := dk_27 (dk_at dksX2_worksOnce_3 19 rfl rfl)
theorem dX2_worksOnce_91 : decode cX2_worksOnce 91 = .ok (.invokevirtual 240, 3) := dk_182 0 240 (dk_at dksX2_worksOnce_3 20 rfl rfl)
theorem dX2_worksOnce_94 : decode cX2_worksOnce 94 = .ok (.goto 11, 3) := dk_167 0 11 (dk_at dksX2_worksOnce_4 0 rfl rfl)
theorem dX2_worksOnce_97 : decode cX2_worksOnce 97 = .ok (.aload_n 0, 1) := dk_42 (dk_at dksX2_worksOnce_4 3 rfl rfl)
theorem dX2_worksOnce_98 : decode cX2_worksOnce 98 = .ok (.iload 4, 2) := dk_21 4 (dk_at dksX2_worksOnce_4 4 rfl rfl)
theorem dX2_worksOnce_100 : decode cX2_worksOnce 100 = .ok (.iload_n 1, 1) := dk_27 (dk_at dksX2_worksOnce_4 6 rfl rfl)
theorem dX2_worksOnce_101 : decode cX2_worksOnce 101 = .ok (.iload_n 2, 1) := dk_28 (dk_at dksX2_worksOnce_4 7 rfl rfl)
theorem dX2_worksOnce_102 : decode cX2_worksOnce 102 = .ok (.invokevirtual 278, 3) := dk_182 1 22 (dk_at dksX2_worksOnce_4 8 rfl rfl)
theorem dX2_worksOnce_105 : decode cX2_worksOnce 105 = .ok (.istore 5, 2) := dk_54 5 (dk_at dksX2_worksOnce_4 11 rfl rfl)
theorem dX2_worksOnce_107 : decode cX2_worksOnce 107 = .ok (.iload 5, 2) := dk_21 5 (dk_at dksX2_worksOnce_4 13 rfl rfl)
theorem dX2_worksOnce_109 : decode cX2_worksOnce 109 = .ok (.ifCond .lt 28, 3) := dk_155 0 28 (dk_at dksX2_worksOnce_4 15 rfl rfl)
theorem dX2_worksOnce_112 : decode cX2_worksOnce 112 = .ok (.aload_n 0, 1) := dk_42 (dk_at dksX2_worksOnce_4 18 rfl rfl)
theorem dX2_worksOnce_113 : decode cX2_worksOnce 113 = .ok (.getfield 143, 3) := dk_180 0 143 (dk_at dksX2_worksOnce_4 19 rfl rfl)
theorem dX2_worksOnce_116 : decode cX2_worksOnce 116 = .ok (.sipush 400, 3) := dk_17 1 144 (dk_at dksX2_worksOnce_5 0 rfl rfl)
theorem dX2_worksOnce_119 : decode cX2_worksOnce 119 = .ok (.if_icmp .ne 10, 3) := dk_160 0 10 (dk_at dksX2_worksOnce_5 3 rfl rfl)
theorem dX2_worksOnce_122 : decode cX2_worksOnce 122 = .ok (.aload_n 0, 1) := dk_42 (dk_at dksX2_worksOnce_5 6 rfl rfl)
theorem dX2_worksOnce_123 : decode cX2_worksOnce 123 = .ok (.iconst 3, 1) := dk_6 (dk_at dksX2_worksOnce_5 7 rfl rfl)
theorem dX2_worksOnce_124 : decode cX2_worksOnce 124 = .ok (.putfield 134, 3) := dk_181 0 134 (dk_at dksX2_worksOnce_5 8 rfl rfl)
theorem dX2_worksOnce_127 : decode cX2_worksOnce 127 = .ok (.iconst 0, 1) := dk_3 (dk_at dksX2_worksOnce_5 11 rfl rfl)
theorem dX2_worksOnce_128 : decode cX2_worksOnce 128 = .ok (.ireturn, 1) := dk_172 (dk_at dksX2_worksOnce_5 12 rfl rfl)
theorem dX2_worksOnce_129 : decode cX2_worksOnce 129 = .ok (.aload_n 0, 1) := dk_42 (dk_at dksX2_worksOnce_5 13 rfl rfl)
theorem dX2_worksOnce_130 : decode cX2_worksOnce 130 = .ok (.iload 5, 2) := dk_21 5 (dk_at dksX2_worksOnce_5 14 rfl rfl)
theorem dX2_worksOnce_132 : decode cX2_worksOnce 132 = .ok (.invokevirtual 351, 3) := dk_182 1 95 (dk_at dksX2_worksOnce_5 16 rfl rfl)
theorem dX2_worksOnce_135 : decode cX2_worksOnce 135 = .ok (.iconst 1, 1) := dk_4 (dk_at dksX2_worksOnce_5 19 rfl rfl)
theorem dX2_worksOnce_136 : decode cX2_worksOnce 136 = .ok (.ireturn, 1) := dk_172 (dk_at dksX2_worksOnce_5 20 rfl rfl)
theorem dX2_worksOnce_137 : decode cX2_worksOnce 137 = .ok (.iload_n 1, 1) := dk_27 (dk_at dksX2_worksOnce_5 21 rfl rfl)
theorem dX2_worksOnce_138 : decode cX2_worksOnce 138 = .ok (.bipush 12, 2) := dk_16 12 (dk_at dksX2_worksOnce_5 22 rfl rfl)
theorem dX2_worksOnce_140 : decode cX2_worksOnce 140 = .ok (.if_icmp .eq 24, 3) := dk_159 0 24 (dk_at dksX2_worksOnce_6 0 rfl rfl)
theorem dX2_worksOnce_143 : decode cX2_worksOnce 143 = .ok (.aload_n 0, 1) := dk_42 (dk_at dksX2_worksOnce_6 3 rfl rfl)
theorem dX2_worksOnce_144 : decode cX2_worksOnce 144 = .ok (.getfield 31, 3) := dk_180 0 31 (dk_at dksX2_worksOnce_6 4 rfl rfl)
theorem dX2_worksOnce_147 : decode cX2_worksOnce 147 = .ok (.iload 4, 2) := dk_21 4 (dk_at dksX2_worksOnce_6 7 rfl rfl)
theorem dX2_worksOnce_149 : decode cX2_worksOnce 149 = .ok (.bipush 20, 2) := dk_16 20 (dk_at dksX2_worksOnce_6 9 rfl rfl)
theorem dX2_worksOnce_151 : decode cX2_worksOnce 151 = .ok (.isub, 1) := dk_100 (dk_at dksX2_worksOnce_6 11 rfl rfl)
theorem dX2_worksOnce_152 : decode cX2_worksOnce 152 = .ok (.iaload, 1) := dk_46 (dk_at dksX2_worksOnce_6 12 rfl rfl)
theorem dX2_worksOnce_153 : decode cX2_worksOnce 153 = .ok (.iload_n 1, 1) := dk_27 (dk_at dksX2_worksOnce_6 13 rfl rfl)
theorem dX2_worksOnce_154 : decode cX2_worksOnce 154 = .ok (.invokestatic 198, 3) := dk_184 0 198 (dk_at dksX2_worksOnce_6 14 rfl rfl)
theorem dX2_worksOnce_157 : decode cX2_worksOnce 157 = .ok (.ifCond .ne 7, 3) := dk_154 0 7 (dk_at dksX2_worksOnce_6 17 rfl rfl)
theorem dX2_worksOnce_160 : decode cX2_worksOnce 160 = .ok (.iconst 1, 1) := dk_4 (dk_at dksX2_worksOnce_6 20 rfl rfl)
theorem dX2_worksOnce_161 : decode cX2_worksOnce 161 = .ok (.goto 4, 3) := dk_167 0 4 (dk_at dksX2_worksOnce_6 21 rfl rfl)
theorem dX2_worksOnce_164 : decode cX2_worksOnce 164 = .ok (.iconst 0, 1) := dk_3 (dk_at dksX2_worksOnce_7 0 rfl rfl)
theorem dX2_worksOnce_165 : decode cX2_worksOnce 165 = .ok (.istore 6, 2) := dk_54 6 (dk_at dksX2_worksOnce_7 1 rfl rfl)
theorem dX2_worksOnce_167 : decode cX2_worksOnce 167 = .ok (.aload_n 0, 1) := dk_42 (dk_at dksX2_worksOnce_7 3 rfl rfl)
theorem dX2_worksOnce_168 : decode cX2_worksOnce 168 = .ok (.iload_n 3, 1) := dk_29 (dk_at dksX2_worksOnce_7 4 rfl rfl)
theorem dX2_worksOnce_169 : decode cX2_worksOnce 169 = .ok (.iload 4, 2) := dk_21 4 (dk_at dksX2_worksOnce_7 5 rfl rfl)
theorem dX2_worksOnce_171 : decode cX2_worksOnce 171 = .ok (.iload 6, 2) := dk_21 6 (dk_at dksX2_worksOnce_7 7 rfl rfl)
theorem dX2_worksOnce_173 : decode cX2_worksOnce 173 = .ok (.invokevirtual 347, 3) := dk_182 1 91 (dk_at dksX2_worksOnce_7 9 rfl rfl)
theorem dX2_worksOnce_176 : decode cX2_worksOnce 176 = .ok (.iload 6, 2) := dk_21 6 (dk_at dksX2_worksOnce_7 12 rfl rfl)
theorem dX2_worksOnce_178 : decode cX2_worksOnce 178 = .ok (.ifCond .ne 13, 3) := dk_154 0 13 (dk_at dksX2_worksOnce_7 14 rfl rfl)
theorem dX2_worksOnce_181 : decode cX2_worksOnce 181 = .ok (.aload_n 0, 1) := dk_42 (dk_at dksX2_worksOnce_7 17 rfl rfl)
theorem dX2_worksOnce_182 : decode cX2_worksOnce 182 = .ok (.dup, 1) := dk_89 (dk_at dksX2_worksOnce_7 18 rfl rfl)
theorem dX2_worksOnce_183 : decode cX2_worksOnce 183 = .ok (.getfield 140, 3) := dk_180 0 140 (dk_at dksX2_worksOnce_7 19 rfl rfl)
theorem dX2_worksOnce_186 : decode cX2_worksOnce 186 = .ok (.iconst 1, 1) := dk_4 (dk_at dksX2_worksOnce_7 22 rfl rfl)
theorem dX2_worksOnce_187 : decode cX2_worksOnce 187 = .ok (.isub, 1) := dk_100 (dk_at dksX2_worksOnce_7 23 rfl rfl)
theorem dX2_worksOnce_188 : decode cX2_worksOnce 188 = .ok (.putfield 140, 3) := dk_181 0 140 (dk_at dksX2_worksOnce_8 0 rfl rfl)
theorem dX2_worksOnce_191 : decode cX2_worksOnce 191 = .ok (.iload 6, 2) := dk_21 6 (dk_at dksX2_worksOnce_8 3 rfl rfl)
theorem dX2_worksOnce_193 : decode cX2_worksOnce 193 = .ok (.ifCond .ne 7, 3) := dk_154 0 7 (dk_at dksX2_worksOnce_8 5 rfl rfl)
theorem dX2_worksOnce_196 : decode cX2_worksOnce 196 = .ok (.iconst 1, 1) := dk_4 (dk_at dksX2_worksOnce_8 8 rfl rfl)
theorem dX2_worksOnce_197 : decode cX2_worksOnce 197 = .ok (.goto 4, 3) := dk_167 0 4 (dk_at dksX2_worksOnce_8 9 rfl rfl)
theorem dX2_worksOnce_200 : decode cX2_worksOnce 200 = .ok (.iconst 0, 1) := dk_3 (dk_at dksX2_worksOnce_8 12 rfl rfl)
theorem dX2_worksOnce_201 : decode cX2_worksOnce 201 = .ok (.ireturn, 1) := dk_172 (dk_at dksX2_worksOnce_8 13 rfl rfl)
abbrev cX2_errs : ByteArray := prog_14_method_90_code
def yX2_errs : MethodName := ⟨RX2, "errs", "(IIZ)V"⟩
def dkwX2_errs_1 : List UInt8 := [42, 180, 0, 146, 29, 84, 42, 89, 180, 0, 146, 4, 96, 181, 0, 146, 177]
abbrev dktX2_errs_1 : List UInt8 := dkwX2_errs_1 ++ []
def dkwX2_errs_0 : List UInt8 := [42, 180, 0, 71, 42, 180, 0, 146, 27, 79, 42, 180, 0, 74, 42, 180, 0, 146, 28, 79, 42, 180, 0, 77]
abbrev dktX2_errs_0 : List UInt8 := dkwX2_errs_0 ++ dktX2_errs_1
theorem dksX2_errs_0 : cX2_errs.data.toList.drop 0 = dktX2_errs_0 := by decide +kernel
theorem dksX2_errs_1 : cX2_errs.data.toList.drop 24 = dktX2_errs_1 := dk_seg dksX2_errs_0 24 rfl rfl
theorem dX2_errs_0 : decode cX2_errs 0 = .ok (.aload_n 0, 1) := dk_42 (dk_at dksX2_errs_0 0 rfl rfl)
theorem dX2_errs_1 : decode cX2_errs 1 = .ok (.getfield 71, 3) := dk_180 0 71 (dk_at dksX2_errs_0 1 rfl rfl)
theorem dX2_errs_4 : decode cX2_errs 4 = .ok (.aload_n 0, 1) := dk_42 (dk_at dksX2_errs_0 4 rfl rfl)
theorem dX2_errs_5 : decode cX2_errs 5 = .ok (.getfield 146, 3) := dk_180 0 146 (dk_at dksX2_errs_0 5 rfl rfl)
theorem dX2_errs_8 : decode cX2_errs 8 = .ok (.iload_n 1, 1) := dk_27 (dk_at dksX2_errs_0 8 rfl rfl)
theorem dX2_errs_9 : decode cX2_errs 9 = .ok (.iastore, 1) := dk_79 (dk_at dksX2_errs_0 9 rfl rfl)
theorem dX2_errs_10 : decode cX2_errs 10 = .ok (.aload_n 0, 1) := dk_42 (dk_at dksX2_errs_0 10 rfl rfl)
theorem dX2_errs_11 : decode cX2_errs 11 = .ok (.getfield 74, 3) := dk_180 0 74 (dk_at dksX2_errs_0 11 rfl rfl)
theorem dX2_errs_14 : decode cX2_errs 14 = .ok (.aload_n 0, 1) := dk_42 (dk_at dksX2_errs_0 14 rfl rfl)
theorem dX2_errs_15 : decode cX2_errs 15 = .ok (.getfield 146, 3) := dk_180 0 146 (dk_at dksX2_errs_0 15 rfl rfl)
theorem dX2_errs_18 : decode cX2_errs 18 = .ok (.iload_n 2, 1) := dk_28 (dk_at dksX2_errs_0 18 rfl rfl)
theorem dX2_errs_19 : decode cX2_errs 19 = .ok (.iastore, 1) := dk_79 (dk_at dksX2_errs_0 19 rfl rfl)
theorem dX2_errs_20 : decode cX2_errs 20 = .ok (.aload_n 0, 1) := dk_42 (dk_at dksX2_errs_0 20 rfl rfl)
theorem dX2_errs_21 : decode cX2_errs 21 = .ok (.getfield 77, 3) := dk_180 0 77 (dk_at dksX2_errs_0 21 rfl rfl)
theorem dX2_errs_24 : decode cX2_errs 24 = .ok (.aload_n 0, 1) := dk_42 (dk_at dksX2_errs_1 0 rfl rfl)
theorem dX2_errs_25 : decode cX2_errs 25 = .ok (.getfield 146, 3) := dk_180 0 146 (dk_at dksX2_errs_1 1 rfl rfl)
theorem dX2_errs_28 : decode cX2_errs 28 = .ok (.iload_n 3, 1) := dk_29 (dk_at dksX2_errs_1 4 rfl rfl)
theorem dX2_errs_29 : decode cX2_errs 29 = .ok (.bastore, 1) := dk_84 (dk_at dksX2_errs_1 5 rfl rfl)
theorem dX2_errs_30 : decode cX2_errs 30 = .ok (.aload_n 0, 1) := dk_42 (dk_at dksX2_errs_1 6 rfl rfl)
theorem dX2_errs_31 : decode cX2_errs 31 = .ok (.dup, 1) := dk_89 (dk_at dksX2_errs_1 7 rfl rfl)
theorem dX2_errs_32 : decode cX2_errs 32 = .ok (.getfield 146, 3) := dk_180 0 146 (dk_at dksX2_errs_1 8 rfl rfl)
theorem dX2_errs_35 : decode cX2_errs 35 = .ok (.iconst 1, 1) := dk_4 (dk_at dksX2_errs_1 11 rfl rfl)
theorem dX2_errs_36 : decode cX2_errs 36 = .ok (.iadd, 1) := dk_96 (dk_at dksX2_errs_1 12 rfl rfl)
theorem dX2_errs_37 : decode cX2_errs 37 = .ok (.putfield 146, 3) := dk_181 0 146 (dk_at dksX2_errs_1 13 rfl rfl)
theorem dX2_errs_40 : decode cX2_errs 40 = .ok (.return_, 1) := dk_177 (dk_at dksX2_errs_1 16 rfl rfl)
abbrev cX2_applies : ByteArray := prog_14_method_91_code
def yX2_applies : MethodName := ⟨RX2, "applies", "(I)V"⟩
def dkwX2_applies_3 : List UInt8 := [181, 0, 143, 177]
abbrev dktX2_applies_3 : List UInt8 := dkwX2_applies_3 ++ []
def dkwX2_applies_2 : List UInt8 := [132, 2, 255, 167, 255, 224, 42, 180, 0, 68, 42, 180, 0, 143, 27, 79, 42, 89, 180, 0, 143, 4, 96]
abbrev dktX2_applies_2 : List UInt8 := dkwX2_applies_2 ++ dktX2_applies_3
def dkwX2_applies_1 : List UInt8 := [180, 0, 62, 42, 180, 0, 140, 42, 27, 28, 182, 0, 187, 79, 42, 89, 180, 0, 140, 4, 96, 181, 0, 140]
abbrev dktX2_applies_1 : List UInt8 := dkwX2_applies_1 ++ dktX2_applies_2
def dkwX2_applies_0 : List UInt8 := [42, 89, 180, 0, 140, 4, 100, 181, 0, 140, 42, 180, 0, 13, 27, 46, 4, 100, 61, 28, 155, 0, 34, 42]
abbrev dktX2_applies_0 : List UInt8 := dkwX2_applies_0 ++ dktX2_applies_1
theorem dksX2_applies_0 : cX2_applies.data.toList.drop 0 = dktX2_applies_0 := by decide +kernel
theorem dksX2_applies_1 : cX2_applies.data.toList.drop 24 = dktX2_applies_1 := dk_seg dksX2_applies_0 24 rfl rfl
theorem dksX2_applies_2 : cX2_applies.data.toList.drop 48 = dktX2_applies_2 := dk_seg dksX2_applies_1 24 rfl rfl
theorem dksX2_applies_3 : cX2_applies.data.toList.drop 71 = dktX2_applies_3 := dk_seg dksX2_applies_2 23 rfl rfl
theorem dX2_applies_0 : decode cX2_applies 0 = .ok (.aload_n 0, 1) := dk_42 (dk_at dksX2_applies_0 0 rfl rfl)
theorem dX2_applies_1 : decode cX2_applies 1 = .ok (.dup, 1) := dk_89 (dk_at dksX2_applies_0 1 rfl rfl)
theorem dX2_applies_2 : decode cX2_applies 2 = .ok (.getfield 140, 3) := dk_180 0 140 (dk_at dksX2_applies_0 2 rfl rfl)
theorem dX2_applies_5 : decode cX2_applies 5 = .ok (.iconst 1, 1) := dk_4 (dk_at dksX2_applies_0 5 rfl rfl)
theorem dX2_applies_6 : decode cX2_applies 6 = .ok (.isub, 1) := dk_100 (dk_at dksX2_applies_0 6 rfl rfl)
theorem dX2_applies_7 : decode cX2_applies 7 = .ok (.putfield 140, 3) := dk_181 0 140 (dk_at dksX2_applies_0 7 rfl rfl)
theorem dX2_applies_10 : decode cX2_applies 10 = .ok (.aload_n 0, 1) := dk_42 (dk_at dksX2_applies_0 10 rfl rfl)
theorem dX2_applies_11 : decode cX2_applies 11 = .ok (.getfield 13, 3) := dk_180 0 13 (dk_at dksX2_applies_0 11 rfl rfl)
theorem dX2_applies_14 : decode cX2_applies 14 = .ok (.iload_n 1, 1) := dk_27 (dk_at dksX2_applies_0 14 rfl rfl)
theorem dX2_applies_15 : decode cX2_applies 15 = .ok (.iaload, 1) := dk_46 (dk_at dksX2_applies_0 15 rfl rfl)
theorem dX2_applies_16 : decode cX2_applies 16 = .ok (.iconst 1, 1) := dk_4 (dk_at dksX2_applies_0 16 rfl rfl)
theorem dX2_applies_17 : decode cX2_applies 17 = .ok (.isub, 1) := dk_100 (dk_at dksX2_applies_0 17 rfl rfl)
theorem dX2_applies_18 : decode cX2_applies 18 = .ok (.istore_n 2, 1) := dk_61 (dk_at dksX2_applies_0 18 rfl rfl)
theorem dX2_applies_19 : decode cX2_applies 19 = .ok (.iload_n 2, 1) := dk_28 (dk_at dksX2_applies_0 19 rfl rfl)
theorem dX2_applies_20 : decode cX2_applies 20 = .ok (.ifCond .lt 34, 3) := dk_155 0 34 (dk_at dksX2_applies_0 20 rfl rfl)
theorem dX2_applies_23 : decode cX2_applies 23 = .ok (.aload_n 0, 1) := dk_42 (dk_at dksX2_applies_0 23 rfl rfl)
theorem dX2_applies_24 : decode cX2_applies 24 = .ok (.getfield 62, 3) := dk_180 0 62 (dk_at dksX2_applies_1 0 rfl rfl)
theorem dX2_applies_27 : decode cX2_applies 27 = .ok (.aload_n 0, 1) := dk_42 (dk_at dksX2_applies_1 3 rfl rfl)
theorem dX2_applies_28 : decode cX2_applies 28 = .ok (.getfield 140, 3) := dk_180 0 140 (dk_at dksX2_applies_1 4 rfl rfl)
theorem dX2_applies_31 : decode cX2_applies 31 = .ok (.aload_n 0, 1) := dk_42 (dk_at dksX2_applies_1 7 rfl rfl)
theorem dX2_applies_32 : decode cX2_applies 32 = .ok (.iload_n 1, 1) := dk_27 (dk_at dksX2_applies_1 8 rfl rfl)
theorem dX2_applies_33 : decode cX2_applies 33 = .ok (.iload_n 2, 1) := dk_28 (dk_at dksX2_applies_1 9 rfl rfl)
theorem dX2_applies_34 : decode cX2_applies 34 = .ok (.invokevirtual 187, 3) := dk_182 0 187 (dk_at dksX2_applies_1 10 rfl rfl)
theorem dX2_applies_37 : decode cX2_applies 37 = .ok (.iastore, 1) := dk_79 (dk_at dksX2_applies_1 13 rfl rfl)
theorem dX2_applies_38 : decode cX2_applies 38 = .ok (.aload_n 0, 1) := dk_42 (dk_at dksX2_applies_1 14 rfl rfl)
theorem dX2_applies_39 : decode cX2_applies 39 = .ok (.dup, 1) := dk_89 (dk_at dksX2_applies_1 15 rfl rfl)
theorem dX2_applies_40 : decode cX2_applies 40 = .ok (.getfield 140, 3) := dk_180 0 140 (dk_at dksX2_applies_1 16 rfl rfl)
theorem dX2_applies_43 : decode cX2_applies 43 = .ok (.iconst 1, 1) := dk_4 (dk_at dksX2_applies_1 19 rfl rfl)
theorem dX2_applies_44 : decode cX2_applies 44 = .ok (.iadd, 1) := dk_96 (dk_at dksX2_applies_1 20 rfl rfl)
theorem dX2_applies_45 : decode cX2_applies 45 = .ok (.putfield 140, 3) := dk_181 0 140 (dk_at dksX2_applies_1 21 rfl rfl)
theorem dX2_applies_48 : decode cX2_applies 48 = .ok (.iinc 2 (-1), 3) := dk_132 2 255 (dk_at dksX2_applies_2 0 rfl rfl)
theorem dX2_applies_51 : decode cX2_applies 51 = .ok (.goto (-32), 3) := dk_167 255 224 (dk_at dksX2_applies_2 3 rfl rfl)
theorem dX2_applies_54 : decode cX2_applies 54 = .ok (.aload_n 0, 1) := dk_42 (dk_at dksX2_applies_2 6 rfl rfl)
theorem dX2_applies_55 : decode cX2_applies 55 = .ok (.getfield 68, 3) := dk_180 0 68 (dk_at dksX2_applies_2 7 rfl rfl)
theorem dX2_applies_58 : decode cX2_applies 58 = .ok (.aload_n 0, 1) := dk_42 (dk_at dksX2_applies_2 10 rfl rfl)
theorem dX2_applies_59 : decode cX2_applies 59 = .ok (.getfield 143, 3) := dk_180 0 143 (dk_at dksX2_applies_2 11 rfl rfl)
theorem dX2_applies_62 : decode cX2_applies 62 = .ok (.iload_n 1, 1) := dk_27 (dk_at dksX2_applies_2 14 rfl rfl)
theorem dX2_applies_63 : decode cX2_applies 63 = .ok (.iastore, 1) := dk_79 (dk_at dksX2_applies_2 15 rfl rfl)
theorem dX2_applies_64 : decode cX2_applies 64 = .ok (.aload_n 0, 1) := dk_42 (dk_at dksX2_applies_2 16 rfl rfl)
theorem dX2_applies_65 : decode cX2_applies 65 = .ok (.dup, 1) := dk_89 (dk_at dksX2_applies_2 17 rfl rfl)
theorem dX2_applies_66 : decode cX2_applies 66 = .ok (.getfield 143, 3) := dk_180 0 143 (dk_at dksX2_applies_2 18 rfl rfl)
theorem dX2_applies_69 : decode cX2_applies 69 = .ok (.iconst 1, 1) := dk_4 (dk_at dksX2_applies_2 21 rfl rfl)
theorem dX2_applies_70 : decode cX2_applies 70 = .ok (.iadd, 1) := dk_96 (dk_at dksX2_applies_2 22 rfl rfl)
theorem dX2_applies_71 : decode cX2_applies 71 = .ok (.putfield 143, 3) := dk_181 0 143 (dk_at dksX2_applies_3 0 rfl rfl)
theorem dX2_applies_74 : decode cX2_applies 74 = .ok (.return_, 1) := dk_177 (dk_at dksX2_applies_3 3 rfl rfl)
abbrev cX2_parseState : ByteArray := prog_14_method_95_code
def yX2_parseState : MethodName := ⟨RX2, "parseState", "()I"⟩
def dkwX2_parseState_0 : List UInt8 := [42, 42, 180, 0, 134, 182, 0, 184, 172]
abbrev dktX2_parseState_0 : List UInt8 := dkwX2_parseState_0 ++ []
theorem dksX2_parseState_0 : cX2_parseState.data.toList.drop 0 = dktX2_parseState_0 := by decide +kernel
theorem dX2_parseState_0 : decode cX2_parseState 0 = .ok (.aload_n 0, 1) := dk_42 (dk_at dksX2_parseState_0 0 rfl rfl)
theorem dX2_parseState_1 : decode cX2_parseState 1 = .ok (.aload_n 0, 1) := dk_42 (dk_at dksX2_parseState_0 1 rfl rfl)
theorem dX2_parseState_2 : decode cX2_parseState 2 = .ok (.getfield 134, 3) := dk_180 0 134 (dk_at dksX2_parseState_0 2 rfl rfl)
theorem dX2_parseState_5 : decode cX2_parseState 5 = .ok (.invokevirtual 184, 3) := dk_182 0 184 (dk_at dksX2_parseState_0 5 rfl rfl)
theorem dX2_parseState_8 : decode cX2_parseState 8 = .ok (.ireturn, 1) := dk_172 (dk_at dksX2_parseState_0 8 rfl rfl)
abbrev cX2_tokenCount : ByteArray := prog_14_method_96_code
def yX2_tokenCount : MethodName := ⟨RX2, "tokenCount", "()I"⟩
def dkwX2_tokenCount_0 : List UInt8 := [42, 42, 180, 0, 137, 182, 0, 184, 172]
abbrev dktX2_tokenCount_0 : List UInt8 := dkwX2_tokenCount_0 ++ []
theorem dksX2_tokenCount_0 : cX2_tokenCount.data.toList.drop 0 = dktX2_tokenCount_0 := by decide +kernel
theorem dX2_tokenCount_0 : decode cX2_tokenCount 0 = .ok (.aload_n 0, 1) := dk_42 (dk_at dksX2_tokenCount_0 0 rfl rfl)
theorem dX2_tokenCount_1 : decode cX2_tokenCount 1 = .ok (.aload_n 0, 1) := dk_42 (dk_at dksX2_tokenCount_0 1 rfl rfl)
theorem dX2_tokenCount_2 : decode cX2_tokenCount 2 = .ok (.getfield 137, 3) := dk_180 0 137 (dk_at dksX2_tokenCount_0 2 rfl rfl)
theorem dX2_tokenCount_5 : decode cX2_tokenCount 5 = .ok (.invokevirtual 184, 3) := dk_182 0 184 (dk_at dksX2_tokenCount_0 5 rfl rfl)
theorem dX2_tokenCount_8 : decode cX2_tokenCount 8 = .ok (.ireturn, 1) := dk_172 (dk_at dksX2_tokenCount_0 8 rfl rfl)
abbrev cX2_stackDepth : ByteArray := prog_14_method_97_code
def yX2_stackDepth : MethodName := ⟨RX2, "stackDepth", "()I"⟩
def dkwX2_stackDepth_0 : List UInt8 := [42, 42, 180, 0, 140, 182, 0, 184, 172]
abbrev dktX2_stackDepth_0 : List UInt8 := dkwX2_stackDepth_0 ++ []
theorem dksX2_stackDepth_0 : cX2_stackDepth.data.toList.drop 0 = dktX2_stackDepth_0 := by decide +kernel
theorem dX2_stackDepth_0 : decode cX2_stackDepth 0 = .ok (.aload_n 0, 1) := dk_42 (dk_at dksX2_stackDepth_0 0 rfl rfl)
theorem dX2_stackDepth_1 : decode cX2_stackDepth 1 = .ok (.aload_n 0, 1) := dk_42 (dk_at dksX2_stackDepth_0 1 rfl rfl)
theorem dX2_stackDepth_2 : decode cX2_stackDepth 2 = .ok (.getfield 140, 3) := dk_180 0 140 (dk_at dksX2_stackDepth_0 2 rfl rfl)
theorem dX2_stackDepth_5 : decode cX2_stackDepth 5 = .ok (.invokevirtual 184, 3) := dk_182 0 184 (dk_at dksX2_stackDepth_0 5 rfl rfl)
theorem dX2_stackDepth_8 : decode cX2_stackDepth 8 = .ok (.ireturn, 1) := dk_172 (dk_at dksX2_stackDepth_0 8 rfl rfl)
abbrev cX2_stackAt : ByteArray := prog_14_method_98_code
def yX2_stackAt : MethodName := ⟨RX2, "stackAt", "(I)I"⟩
def dkwX2_stackAt_1 : List UInt8 := [180, 0, 140, 4, 100, 27, 100, 46, 167, 0, 4, 2, 182, 0, 184, 172]
abbrev dktX2_stackAt_1 : List UInt8 := dkwX2_stackAt_1 ++ []
def dkwX2_stackAt_0 : List UInt8 := [42, 27, 133, 9, 42, 180, 0, 140, 4, 100, 133, 184, 0, 103, 153, 0, 19, 42, 180, 0, 62, 42]
abbrev dktX2_stackAt_0 : List UInt8 := dkwX2_stackAt_0 ++ dktX2_stackAt_1
theorem dksX2_stackAt_0 : cX2_stackAt.data.toList.drop 0 = dktX2_stackAt_0 := by decide +kernel
theorem dksX2_stackAt_1 : cX2_stackAt.data.toList.drop 22 = dktX2_stackAt_1 := dk_seg dksX2_stackAt_0 22 rfl rfl
theorem dX2_stackAt_0 : decode cX2_stackAt 0 = .ok (.aload_n 0, 1) := dk_42 (dk_at dksX2_stackAt_0 0 rfl rfl)
theorem dX2_stackAt_1 : decode cX2_stackAt 1 = .ok (.iload_n 1, 1) := dk_27 (dk_at dksX2_stackAt_0 1 rfl rfl)
theorem dX2_stackAt_2 : decode cX2_stackAt 2 = .ok (.i2l, 1) := dk_133 (dk_at dksX2_stackAt_0 2 rfl rfl)
theorem dX2_stackAt_3 : decode cX2_stackAt 3 = .ok (.lconst 0, 1) := dk_9 (dk_at dksX2_stackAt_0 3 rfl rfl)
theorem dX2_stackAt_4 : decode cX2_stackAt 4 = .ok (.aload_n 0, 1) := dk_42 (dk_at dksX2_stackAt_0 4 rfl rfl)
theorem dX2_stackAt_5 : decode cX2_stackAt 5 = .ok (.getfield 140, 3) := dk_180 0 140 (dk_at dksX2_stackAt_0 5 rfl rfl)
theorem dX2_stackAt_8 : decode cX2_stackAt 8 = .ok (.iconst 1, 1) := dk_4 (dk_at dksX2_stackAt_0 8 rfl rfl)
theorem dX2_stackAt_9 : decode cX2_stackAt 9 = .ok (.isub, 1) := dk_100 (dk_at dksX2_stackAt_0 9 rfl rfl)
theorem dX2_stackAt_10 : decode cX2_stackAt 10 = .ok (.i2l, 1) := dk_133 (dk_at dksX2_stackAt_0 10 rfl rfl)
theorem dX2_stackAt_11 : decode cX2_stackAt 11 = .ok (.invokestatic 103, 3) := dk_184 0 103 (dk_at dksX2_stackAt_0 11 rfl rfl)
theorem dX2_stackAt_14 : decode cX2_stackAt 14 = .ok (.ifCond .eq 19, 3) := dk_153 0 19 (dk_at dksX2_stackAt_0 14 rfl rfl)
theorem dX2_stackAt_17 : decode cX2_stackAt 17 = .ok (.aload_n 0, 1) := dk_42 (dk_at dksX2_stackAt_0 17 rfl rfl)
theorem dX2_stackAt_18 : decode cX2_stackAt 18 = .ok (.getfield 62, 3) := dk_180 0 62 (dk_at dksX2_stackAt_0 18 rfl rfl)
theorem dX2_stackAt_21 : decode cX2_stackAt 21 = .ok (.aload_n 0, 1) := dk_42 (dk_at dksX2_stackAt_0 21 rfl rfl)
theorem dX2_stackAt_22 : decode cX2_stackAt 22 = .ok (.getfield 140, 3) := dk_180 0 140 (dk_at dksX2_stackAt_1 0 rfl rfl)
theorem dX2_stackAt_25 : decode cX2_stackAt 25 = .ok (.iconst 1, 1) := dk_4 (dk_at dksX2_stackAt_1 3 rfl rfl)
theorem dX2_stackAt_26 : decode cX2_stackAt 26 = .ok (.isub, 1) := dk_100 (dk_at dksX2_stackAt_1 4 rfl rfl)
theorem dX2_stackAt_27 : decode cX2_stackAt 27 = .ok (.iload_n 1, 1) := dk_27 (dk_at dksX2_stackAt_1 5 rfl rfl)
theorem dX2_stackAt_28 : decode cX2_stackAt 28 = .ok (.isub, 1) := dk_100 (dk_at dksX2_stackAt_1 6 rfl rfl)
theorem dX2_stackAt_29 : decode cX2_stackAt 29 = .ok (.iaload, 1) := dk_46 (dk_at dksX2_stackAt_1 7 rfl rfl)
theorem dX2_stackAt_30 : decode cX2_stackAt 30 = .ok (.goto 4, 3) := dk_167 0 4 (dk_at dksX2_stackAt_1 8 rfl rfl)
theorem dX2_stackAt_33 : decode cX2_stackAt 33 = .ok (.iconst (-1), 1) := dk_2 (dk_at dksX2_stackAt_1 11 rfl rfl)
theorem dX2_stackAt_34 : decode cX2_stackAt 34 = .ok (.invokevirtual 184, 3) := dk_182 0 184 (dk_at dksX2_stackAt_1 12 rfl rfl)
theorem dX2_stackAt_37 : decode cX2_stackAt 37 = .ok (.ireturn, 1) := dk_172 (dk_at dksX2_stackAt_1 15 rfl rfl)
abbrev cX2_expected : ByteArray := prog_14_method_100_code
def yX2_expected : MethodName := ⟨RX2, "expected", "()I"⟩
def dkwX2_expected_3 : List UInt8 := [29, 46, 27, 160, 0, 11, 28, 42, 29, 182, 1, 106, 128, 61, 132, 3, 1, 167, 255, 227, 28, 172]
abbrev dktX2_expected_3 : List UInt8 := dkwX2_expected_3 ++ []
def dkwX2_expected_2 : List UInt8 := [42, 182, 0, 227, 42, 182, 1, 19, 3, 61, 3, 62, 29, 42, 180, 0, 113, 162, 0, 27, 42, 180, 0, 7]
abbrev dktX2_expected_2 : List UInt8 := dkwX2_expected_2 ++ dktX2_expected_3
def dkwX2_expected_1 : List UInt8 := [172, 42, 180, 0, 62, 42, 180, 0, 140, 4, 100, 46, 60, 27, 184, 0, 167, 153, 0, 7, 4, 27, 120, 172]
abbrev dktX2_expected_1 : List UInt8 := dkwX2_expected_1 ++ dktX2_expected_2
def dkwX2_expected_0 : List UInt8 := [42, 3, 181, 0, 93, 42, 180, 0, 134, 154, 0, 5, 3, 172, 42, 180, 0, 140, 154, 0, 7, 17, 16, 0]
abbrev dktX2_expected_0 : List UInt8 := dkwX2_expected_0 ++ dktX2_expected_1
theorem dksX2_expected_0 : cX2_expected.data.toList.drop 0 = dktX2_expected_0 := by decide +kernel
theorem dksX2_expected_1 : cX2_expected.data.toList.drop 24 = dktX2_expected_1 := dk_seg dksX2_expected_0 24 rfl rfl
theorem dksX2_expected_2 : cX2_expected.data.toList.drop 48 = dktX2_expected_2 := dk_seg dksX2_expected_1 24 rfl rfl
theorem dksX2_expected_3 : cX2_expected.data.toList.drop 72 = dktX2_expected_3 := dk_seg dksX2_expected_2 24 rfl rfl
theorem dX2_expected_0 : decode cX2_expected 0 = .ok (.aload_n 0, 1) := dk_42 (dk_at dksX2_expected_0 0 rfl rfl)
theorem dX2_expected_1 : decode cX2_expected 1 = .ok (.iconst 0, 1) := dk_3 (dk_at dksX2_expected_0 1 rfl rfl)
theorem dX2_expected_2 : decode cX2_expected 2 = .ok (.putfield 93, 3) := dk_181 0 93 (dk_at dksX2_expected_0 2 rfl rfl)
theorem dX2_expected_5 : decode cX2_expected 5 = .ok (.aload_n 0, 1) := dk_42 (dk_at dksX2_expected_0 5 rfl rfl)
theorem dX2_expected_6 : decode cX2_expected 6 = .ok (.getfield 134, 3) := dk_180 0 134 (dk_at dksX2_expected_0 6 rfl rfl)
theorem dX2_expected_9 : decode cX2_expected 9 = .ok (.ifCond .ne 5, 3) := dk_154 0 5 (dk_at dksX2_expected_0 9 rfl rfl)
theorem dX2_expected_12 : decode cX2_expected 12 = .ok (.iconst 0, 1) := dk_3 (dk_at dksX2_expected_0 12 rfl rfl)
theorem dX2_expected_13 : decode cX2_expected 13 = .ok (.ireturn, 1) := dk_172 (dk_at dksX2_expected_0 13 rfl rfl)
theorem dX2_expected_14 : decode cX2_expected 14 = .ok (.aload_n 0, 1) := dk_42 (dk_at dksX2_expected_0 14 rfl rfl)
theorem dX2_expected_15 : decode cX2_expected 15 = .ok (.getfield 140, 3) := dk_180 0 140 (dk_at dksX2_expected_0 15 rfl rfl)
theorem dX2_expected_18 : decode cX2_expected 18 = .ok (.ifCond .ne 7, 3) := dk_154 0 7 (dk_at dksX2_expected_0 18 rfl rfl)
theorem dX2_expected_21 : decode cX2_expected 21 = .ok (.sipush 4096, 3) := dk_17 16 0 (dk_at dksX2_expected_0 21 rfl rfl)
theorem dX2_expected_24 : decode cX2_expected 24 = .ok (.ireturn, 1) := dk_172 (dk_at dksX2_expected_1 0 rfl rfl)
theorem dX2_expected_25 : decode cX2_expected 25 = .ok (.aload_n 0, 1) := dk_42 (dk_at dksX2_expected_1 1 rfl rfl)
theorem dX2_expected_26 : decode cX2_expected 26 = .ok (.getfield 62, 3) := dk_180 0 62 (dk_at dksX2_expected_1 2 rfl rfl)
theorem dX2_expected_29 : decode cX2_expected 29 = .ok (.aload_n 0, 1) := dk_42 (dk_at dksX2_expected_1 5 rfl rfl)
theorem dX2_expected_30 : decode cX2_expected 30 = .ok (.getfield 140, 3) := dk_180 0 140 (dk_at dksX2_expected_1 6 rfl rfl)
theorem dX2_expected_33 : decode cX2_expected 33 = .ok (.iconst 1, 1) := dk_4 (dk_at dksX2_expected_1 9 rfl rfl)
theorem dX2_expected_34 : decode cX2_expected 34 = .ok (.isub, 1) := dk_100 (dk_at dksX2_expected_1 10 rfl rfl)
theorem dX2_expected_35 : decode cX2_expected 35 = .ok (.iaload, 1) := dk_46 (dk_at dksX2_expected_1 11 rfl rfl)
theorem dX2_expected_36 : decode cX2_expected 36 = .ok (.istore_n 1, 1) := dk_60 (dk_at dksX2_expected_1 12 rfl rfl)
theorem dX2_expected_37 : decode cX2_expected 37 = .ok (.iload_n 1, 1) := dk_27 (dk_at dksX2_expected_1 13 rfl rfl)
theorem dX2_expected_38 : decode cX2_expected 38 = .ok (.invokestatic 167, 3) := dk_184 0 167 (dk_at dksX2_expected_1 14 rfl rfl)
theorem dX2_expected_41 : decode cX2_expected 41 = .ok (.ifCond .eq 7, 3) := dk_153 0 7 (dk_at dksX2_expected_1 17 rfl rfl)
theorem dX2_expected_44 : decode cX2_expected 44 = .ok (.iconst 1, 1) := dk_4 (dk_at dksX2_expected_1 20 rfl rfl)
theorem dX2_expected_45 : decode cX2_expected 45 = .ok (.iload_n 1, 1) := dk_27 (dk_at dksX2_expected_1 21 rfl rfl)
theorem dX2_expected_46 : decode cX2_expected 46 = .ok (.ishl, 1) := dk_120 (dk_at dksX2_expected_1 22 rfl rfl)
theorem dX2_expected_47 : decode cX2_expected 47 = .ok (.ireturn, 1) := dk_172 (dk_at dksX2_expected_1 23 rfl rfl)
theorem dX2_expected_48 : decode cX2_expected 48 = .ok (.aload_n 0, 1) := dk_42 (dk_at dksX2_expected_2 0 rfl rfl)
theorem dX2_expected_49 : decode cX2_expected 49 = .ok (.invokevirtual 227, 3) := dk_182 0 227 (dk_at dksX2_expected_2 1 rfl rfl)
theorem dX2_expected_52 : decode cX2_expected 52 = .ok (.aload_n 0, 1) := dk_42 (dk_at dksX2_expected_2 4 rfl rfl)
theorem dX2_expected_53 : decode cX2_expected 53 = .ok (.invokevirtual 275, 3) := dk_182 1 19 (dk_at dksX2_expected_2 5 rfl rfl)
theorem dX2_expected_56 : decode cX2_expected 56 = .ok (.iconst 0, 1) := dk_3 (dk_at dksX2_expected_2 8 rfl rfl)
theorem dX2_expected_57 : decode cX2_expected 57 = .ok (.istore_n 2, 1) := dk_61 (dk_at dksX2_expected_2 9 rfl rfl)
theorem dX2_expected_58 : decode cX2_expected 58 = .ok (.iconst 0, 1) := dk_3 (dk_at dksX2_expected_2 10 rfl rfl)
theorem dX2_expected_59 : decode cX2_expected 59 = .ok (.istore_n 3, 1) := dk_62 (dk_at dksX2_expected_2 11 rfl rfl)
theorem dX2_expected_60 : decode cX2_expected 60 = .ok (.iload_n 3, 1) := dk_29 (dk_at dksX2_expected_2 12 rfl rfl)
theorem dX2_expected_61 : decode cX2_expected 61 = .ok (.aload_n 0, 1) := dk_42 (dk_at dksX2_expected_2 13 rfl rfl)
theorem dX2_expected_62 : decode cX2_expected 62 = .ok (.getfield 113, 3) := dk_180 0 113 (dk_at dksX2_expected_2 14 rfl rfl)
theorem dX2_expected_65 : decode cX2_expected 65 = .ok (.if_icmp .ge 27, 3) := dk_162 0 27 (dk_at dksX2_expected_2 17 rfl rfl)
theorem dX2_expected_68 : decode cX2_expected 68 = .ok (.aload_n 0, 1) := dk_42 (dk_at dksX2_expected_2 20 rfl rfl)
theorem dX2_expected_69 : decode cX2_expected 69 = .ok (.getfield 7, 3) := dk_180 0 7 (dk_at dksX2_expected_2 21 rfl rfl)
theorem dX2_expected_72 : decode cX2_expected 72 = .ok (.iload_n 3, 1) := dk_29 (dk_at dksX2_expected_3 0 rfl rfl)
theorem dX2_expected_73 : decode cX2_expected 73 = .ok (.iaload, 1) := dk_46 (dk_at dksX2_expected_3 1 rfl rfl)
theorem dX2_expected_74 : decode cX2_expected 74 = .ok (.iload_n 1, 1) := dk_27 (dk_at dksX2_expected_3 2 rfl rfl)
theorem dX2_expected_75 : decode cX2_expected 75 = .ok (.if_icmp .ne 11, 3) := dk_160 0 11 (dk_at dksX2_expected_3 3 rfl rfl)
theorem dX2_expected_78 : decode cX2_expected 78 = .ok (.iload_n 2, 1) := dk_28 (dk_at dksX2_expected_3 6 rfl rfl)
theorem dX2_expected_79 : decode cX2_expected 79 = .ok (.aload_n 0, 1) := dk_42 (dk_at dksX2_expected_3 7 rfl rfl)
theorem dX2_expected_80 : decode cX2_expected 80 = .ok (.iload_n 3, 1) := dk_29 (dk_at dksX2_expected_3 8 rfl rfl)
theorem dX2_expected_81 : decode cX2_expected 81 = .ok (.invokevirtual 362, 3) := dk_182 1 106 (dk_at dksX2_expected_3 9 rfl rfl)
theorem dX2_expected_84 : decode cX2_expected 84 = .ok (.ior, 1) := dk_128 (dk_at dksX2_expected_3 12 rfl rfl)
theorem dX2_expected_85 : decode cX2_expected 85 = .ok (.istore_n 2, 1) := dk_61 (dk_at dksX2_expected_3 13 rfl rfl)
theorem dX2_expected_86 : decode cX2_expected 86 = .ok (.iinc 3 1, 3) := dk_132 3 1 (dk_at dksX2_expected_3 14 rfl rfl)
theorem dX2_expected_89 : decode cX2_expected 89 = .ok (.goto (-29), 3) := dk_167 255 227 (dk_at dksX2_expected_3 17 rfl rfl)
theorem dX2_expected_92 : decode cX2_expected 92 = .ok (.iload_n 2, 1) := dk_28 (dk_at dksX2_expected_3 20 rfl rfl)
theorem dX2_expected_93 : decode cX2_expected 93 = .ok (.ireturn, 1) := dk_172 (dk_at dksX2_expected_3 21 rfl rfl)
abbrev cX2_expectedBy : ByteArray := prog_14_method_99_code
def yX2_expectedBy : MethodName := ⟨RX2, "expectedBy", "(I)I"⟩
def dkwX2_expectedBy_3 : List UInt8 := [167, 255, 205, 28, 172]
abbrev dktX2_expectedBy_3 : List UInt8 := dkwX2_expectedBy_3 ++ []
def dkwX2_expectedBy_2 : List UInt8 := [184, 0, 246, 96, 51, 153, 0, 9, 28, 4, 29, 120, 128, 61, 132, 4, 1, 167, 255, 220, 132, 3, 1]
abbrev dktX2_expectedBy_2 : List UInt8 := dkwX2_expectedBy_2 ++ dktX2_expectedBy_3
def dkwX2_expectedBy_1 : List UInt8 := [3, 54, 4, 21, 4, 16, 13, 162, 0, 35, 42, 180, 0, 50, 17, 0, 183, 27, 104, 29, 21, 4]
abbrev dktX2_expectedBy_1 : List UInt8 := dkwX2_expectedBy_1 ++ dktX2_expectedBy_2
def dkwX2_expectedBy_0 : List UInt8 := [42, 180, 1, 85, 4, 160, 0, 9, 42, 27, 182, 0, 234, 172, 3, 61, 3, 62, 29, 16, 13, 162, 0, 51]
abbrev dktX2_expectedBy_0 : List UInt8 := dkwX2_expectedBy_0 ++ dktX2_expectedBy_1
theorem dksX2_expectedBy_0 : cX2_expectedBy.data.toList.drop 0 = dktX2_expectedBy_0 := by decide +kernel
theorem dksX2_expectedBy_1 : cX2_expectedBy.data.toList.drop 24 = dktX2_expectedBy_1 := dk_seg dksX2_expectedBy_0 24 rfl rfl
theorem dksX2_expectedBy_2 : cX2_expectedBy.data.toList.drop 46 = dktX2_expectedBy_2 := dk_seg dksX2_expectedBy_1 22 rfl rfl
theorem dksX2_expectedBy_3 : cX2_expectedBy.data.toList.drop 69 = dktX2_expectedBy_3 := dk_seg dksX2_expectedBy_2 23 rfl rfl
theorem dX2_expectedBy_0 : decode cX2_expectedBy 0 = .ok (.aload_n 0, 1) := dk_42 (dk_at dksX2_expectedBy_0 0 rfl rfl)
theorem dX2_expectedBy_1 : decode cX2_expectedBy 1 = .ok (.getfield 341, 3) := dk_180 1 85 (dk_at dksX2_expectedBy_0 1 rfl rfl)
theorem dX2_expectedBy_4 : decode cX2_expectedBy 4 = .ok (.iconst 1, 1) := dk_4 (dk_at dksX2_expectedBy_0 4 rfl rfl)
theorem dX2_expectedBy_5 : decode cX2_expectedBy 5 = .ok (.if_icmp .ne 9, 3) := dk_160 0 9 (dk_at dksX2_expectedBy_0 5 rfl rfl)
theorem dX2_expectedBy_8 : decode cX2_expectedBy 8 = .ok (.aload_n 0, 1) := dk_42 (dk_at dksX2_expectedBy_0 8 rfl rfl)
theorem dX2_expectedBy_9 : decode cX2_expectedBy 9 = .ok (.iload_n 1, 1) := dk_27 (dk_at dksX2_expectedBy_0 9 rfl rfl)
theorem dX2_expectedBy_10 : decode cX2_expectedBy 10 = .ok (.invokevirtual 234, 3) := dk_182 0 234 (dk_at dksX2_expectedBy_0 10 rfl rfl)
theorem dX2_expectedBy_13 : decode cX2_expectedBy 13 = .ok (.ireturn, 1) := dk_172 (dk_at dksX2_expectedBy_0 13 rfl rfl)
theorem dX2_expectedBy_14 : decode cX2_expectedBy 14 = .ok (.iconst 0, 1) := dk_3 (dk_at dksX2_expectedBy_0 14 rfl rfl)
theorem dX2_expectedBy_15 : decode cX2_expectedBy 15 = .ok (.istore_n 2, 1) := dk_61 (dk_at dksX2_expectedBy_0 15 rfl rfl)
theorem dX2_expectedBy_16 : decode cX2_expectedBy 16 = .ok (.iconst 0, 1) := dk_3 (dk_at dksX2_expectedBy_0 16 rfl rfl)
theorem dX2_expectedBy_17 : decode cX2_expectedBy 17 = .ok (.istore_n 3, 1) := dk_62 (dk_at dksX2_expectedBy_0 17 rfl rfl)
theorem dX2_expectedBy_18 : decode cX2_expectedBy 18 = .ok (.iload_n 3, 1) := dk_29 (dk_at dksX2_expectedBy_0 18 rfl rfl)
theorem dX2_expectedBy_19 : decode cX2_expectedBy 19 = .ok (.bipush 13, 2) := dk_16 13 (dk_at dksX2_expectedBy_0 19 rfl rfl)
theorem dX2_expectedBy_21 : decode cX2_expectedBy 21 = .ok (.if_icmp .ge 51, 3) := dk_162 0 51 (dk_at dksX2_expectedBy_0 21 rfl rfl)
theorem dX2_expectedBy_24 : decode cX2_expectedBy 24 = .ok (.iconst 0, 1) := dk_3 (dk_at dksX2_expectedBy_1 0 rfl rfl)
theorem dX2_expectedBy_25 : decode cX2_expectedBy 25 = .ok (.istore 4, 2) := dk_54 4 (dk_at dksX2_expectedBy_1 1 rfl rfl)
theorem dX2_expectedBy_27 : decode cX2_expectedBy 27 = .ok (.iload 4, 2) := dk_21 4 (dk_at dksX2_expectedBy_1 3 rfl rfl)
theorem dX2_expectedBy_29 : decode cX2_expectedBy 29 = .ok (.bipush 13, 2) := dk_16 13 (dk_at dksX2_expectedBy_1 5 rfl rfl)
theorem dX2_expectedBy_31 : decode cX2_expectedBy 31 = .ok (.if_icmp .ge 35, 3) := dk_162 0 35 (dk_at dksX2_expectedBy_1 7 rfl rfl)
theorem dX2_expectedBy_34 : decode cX2_expectedBy 34 = .ok (.aload_n 0, 1) := dk_42 (dk_at dksX2_expectedBy_1 10 rfl rfl)
theorem dX2_expectedBy_35 : decode cX2_expectedBy 35 = .ok (.getfield 50, 3) := dk_180 0 50 (dk_at dksX2_expectedBy_1 11 rfl rfl)
theorem dX2_expectedBy_38 : decode cX2_expectedBy 38 = .ok (.sipush 183, 3) := dk_17 0 183 (dk_at dksX2_expectedBy_1 14 rfl rfl)
theorem dX2_expectedBy_41 : decode cX2_expectedBy 41 = .ok (.iload_n 1, 1) := dk_27 (dk_at dksX2_expectedBy_1 17 rfl rfl)
theorem dX2_expectedBy_42 : decode cX2_expectedBy 42 = .ok (.imul, 1) := dk_104 (dk_at dksX2_expectedBy_1 18 rfl rfl)
theorem dX2_expectedBy_43 : decode cX2_expectedBy 43 = .ok (.iload_n 3, 1) := dk_29 (dk_at dksX2_expectedBy_1 19 rfl rfl)
theorem dX2_expectedBy_44 : decode cX2_expectedBy 44 = .ok (.iload 4, 2) := dk_21 4 (dk_at dksX2_expectedBy_1 20 rfl rfl)
theorem dX2_expectedBy_46 : decode cX2_expectedBy 46 = .ok (.invokestatic 246, 3) := dk_184 0 246 (dk_at dksX2_expectedBy_2 0 rfl rfl)
theorem dX2_expectedBy_49 : decode cX2_expectedBy 49 = .ok (.iadd, 1) := dk_96 (dk_at dksX2_expectedBy_2 3 rfl rfl)
theorem dX2_expectedBy_50 : decode cX2_expectedBy 50 = .ok (.baload, 1) := dk_51 (dk_at dksX2_expectedBy_2 4 rfl rfl)
theorem dX2_expectedBy_51 : decode cX2_expectedBy 51 = .ok (.ifCond .eq 9, 3) := dk_153 0 9 (dk_at dksX2_expectedBy_2 5 rfl rfl)
theorem dX2_expectedBy_54 : decode cX2_expectedBy 54 = .ok (.iload_n 2, 1) := dk_28 (dk_at dksX2_expectedBy_2 8 rfl rfl)
theorem dX2_expectedBy_55 : decode cX2_expectedBy 55 = .ok (.iconst 1, 1) := dk_4 (dk_at dksX2_expectedBy_2 9 rfl rfl)
theorem dX2_expectedBy_56 : decode cX2_expectedBy 56 = .ok (.iload_n 3, 1) := dk_29 (dk_at dksX2_expectedBy_2 10 rfl rfl)
theorem dX2_expectedBy_57 : decode cX2_expectedBy 57 = .ok (.ishl, 1) := dk_120 (dk_at dksX2_expectedBy_2 11 rfl rfl)
theorem dX2_expectedBy_58 : decode cX2_expectedBy 58 = .ok (.ior, 1) := dk_128 (dk_at dksX2_expectedBy_2 12 rfl rfl)
theorem dX2_expectedBy_59 : decode cX2_expectedBy 59 = .ok (.istore_n 2, 1) := dk_61 (dk_at dksX2_expectedBy_2 13 rfl rfl)
theorem dX2_expectedBy_60 : decode cX2_expectedBy 60 = .ok (.iinc 4 1, 3) := dk_132 4 1 (dk_at dksX2_expectedBy_2 14 rfl rfl)
theorem dX2_expectedBy_63 : decode cX2_expectedBy 63 = .ok (.goto (-36), 3) := dk_167 255 220 (dk_at dksX2_expectedBy_2 17 rfl rfl)
theorem dX2_expectedBy_66 : decode cX2_expectedBy 66 = .ok (.iinc 3 1, 3) := dk_132 3 1 (dk_at dksX2_expectedBy_2 20 rfl rfl)
theorem dX2_expectedBy_69 : decode cX2_expectedBy 69 = .ok (.goto (-51), 3) := dk_167 255 205 (dk_at dksX2_expectedBy_3 0 rfl rfl)
theorem dX2_expectedBy_72 : decode cX2_expectedBy 72 = .ok (.iload_n 2, 1) := dk_28 (dk_at dksX2_expectedBy_3 3 rfl rfl)
theorem dX2_expectedBy_73 : decode cX2_expectedBy 73 = .ok (.ireturn, 1) := dk_172 (dk_at dksX2_expectedBy_3 4 rfl rfl)
abbrev cX2_appliedCount : ByteArray := prog_14_method_101_code
def yX2_appliedCount : MethodName := ⟨RX2, "appliedCount", "()I"⟩
def dkwX2_appliedCount_0 : List UInt8 := [42, 42, 180, 0, 143, 182, 0, 184, 172]
abbrev dktX2_appliedCount_0 : List UInt8 := dkwX2_appliedCount_0 ++ []
theorem dksX2_appliedCount_0 : cX2_appliedCount.data.toList.drop 0 = dktX2_appliedCount_0 := by decide +kernel
theorem dX2_appliedCount_0 : decode cX2_appliedCount 0 = .ok (.aload_n 0, 1) := dk_42 (dk_at dksX2_appliedCount_0 0 rfl rfl)
theorem dX2_appliedCount_1 : decode cX2_appliedCount 1 = .ok (.aload_n 0, 1) := dk_42 (dk_at dksX2_appliedCount_0 1 rfl rfl)
theorem dX2_appliedCount_2 : decode cX2_appliedCount 2 = .ok (.getfield 143, 3) := dk_180 0 143 (dk_at dksX2_appliedCount_0 2 rfl rfl)
theorem dX2_appliedCount_5 : decode cX2_appliedCount 5 = .ok (.invokevirtual 184, 3) := dk_182 0 184 (dk_at dksX2_appliedCount_0 5 rfl rfl)
theorem dX2_appliedCount_8 : decode cX2_appliedCount 8 = .ok (.ireturn, 1) := dk_172 (dk_at dksX2_appliedCount_0 8 rfl rfl)
abbrev cX2_appliedRule : ByteArray := prog_14_method_102_code
def yX2_appliedRule : MethodName := ⟨RX2, "appliedRule", "(I)I"⟩
def dkwX2_appliedRule_1 : List UInt8 := [167, 0, 4, 2, 182, 0, 184, 172]
abbrev dktX2_appliedRule_1 : List UInt8 := dkwX2_appliedRule_1 ++ []
def dkwX2_appliedRule_0 : List UInt8 := [42, 27, 133, 9, 42, 180, 0, 143, 4, 100, 133, 184, 0, 103, 153, 0, 12, 42, 180, 0, 68, 27, 46]
abbrev dktX2_appliedRule_0 : List UInt8 := dkwX2_appliedRule_0 ++ dktX2_appliedRule_1
theorem dksX2_appliedRule_0 : cX2_appliedRule.data.toList.drop 0 = dktX2_appliedRule_0 := by decide +kernel
theorem dksX2_appliedRule_1 : cX2_appliedRule.data.toList.drop 23 = dktX2_appliedRule_1 := dk_seg dksX2_appliedRule_0 23 rfl rfl
theorem dX2_appliedRule_0 : decode cX2_appliedRule 0 = .ok (.aload_n 0, 1) := dk_42 (dk_at dksX2_appliedRule_0 0 rfl rfl)
theorem dX2_appliedRule_1 : decode cX2_appliedRule 1 = .ok (.iload_n 1, 1) := dk_27 (dk_at dksX2_appliedRule_0 1 rfl rfl)
theorem dX2_appliedRule_2 : decode cX2_appliedRule 2 = .ok (.i2l, 1) := dk_133 (dk_at dksX2_appliedRule_0 2 rfl rfl)
theorem dX2_appliedRule_3 : decode cX2_appliedRule 3 = .ok (.lconst 0, 1) := dk_9 (dk_at dksX2_appliedRule_0 3 rfl rfl)
theorem dX2_appliedRule_4 : decode cX2_appliedRule 4 = .ok (.aload_n 0, 1) := dk_42 (dk_at dksX2_appliedRule_0 4 rfl rfl)
theorem dX2_appliedRule_5 : decode cX2_appliedRule 5 = .ok (.getfield 143, 3) := dk_180 0 143 (dk_at dksX2_appliedRule_0 5 rfl rfl)
theorem dX2_appliedRule_8 : decode cX2_appliedRule 8 = .ok (.iconst 1, 1) := dk_4 (dk_at dksX2_appliedRule_0 8 rfl rfl)
theorem dX2_appliedRule_9 : decode cX2_appliedRule 9 = .ok (.isub, 1) := dk_100 (dk_at dksX2_appliedRule_0 9 rfl rfl)
theorem dX2_appliedRule_10 : decode cX2_appliedRule 10 = .ok (.i2l, 1) := dk_133 (dk_at dksX2_appliedRule_0 10 rfl rfl)
theorem dX2_appliedRule_11 : decode cX2_appliedRule 11 = .ok (.invokestatic 103, 3) := dk_184 0 103 (dk_at dksX2_appliedRule_0 11 rfl rfl)
theorem dX2_appliedRule_14 : decode cX2_appliedRule 14 = .ok (.ifCond .eq 12, 3) := dk_153 0 12 (dk_at dksX2_appliedRule_0 14 rfl rfl)
theorem dX2_appliedRule_17 : decode cX2_appliedRule 17 = .ok (.aload_n 0, 1) := dk_42 (dk_at dksX2_appliedRule_0 17 rfl rfl)
theorem dX2_appliedRule_18 : decode cX2_appliedRule 18 = .ok (.getfield 68, 3) := dk_180 0 68 (dk_at dksX2_appliedRule_0 18 rfl rfl)
theorem dX2_appliedRule_21 : decode cX2_appliedRule 21 = .ok (.iload_n 1, 1) := dk_27 (dk_at dksX2_appliedRule_0 21 rfl rfl)
theorem dX2_appliedRule_22 : decode cX2_appliedRule 22 = .ok (.iaload, 1) := dk_46 (dk_at dksX2_appliedRule_0 22 rfl rfl)
theorem dX2_appliedRule_23 : decode cX2_appliedRule 23 = .ok (.goto 4, 3) := dk_167 0 4 (dk_at dksX2_appliedRule_1 0 rfl rfl)
theorem dX2_appliedRule_26 : decode cX2_appliedRule 26 = .ok (.iconst (-1), 1) := dk_2 (dk_at dksX2_appliedRule_1 3 rfl rfl)
theorem dX2_appliedRule_27 : decode cX2_appliedRule 27 = .ok (.invokevirtual 184, 3) := dk_182 0 184 (dk_at dksX2_appliedRule_1 4 rfl rfl)
theorem dX2_appliedRule_30 : decode cX2_appliedRule 30 = .ok (.ireturn, 1) := dk_172 (dk_at dksX2_appliedRule_1 7 rfl rfl)
abbrev cX2_errorCount : ByteArray := prog_14_method_103_code
def yX2_errorCount : MethodName := ⟨RX2, "errorCount", "()I"⟩
def dkwX2_errorCount_0 : List UInt8 := [42, 42, 180, 0, 146, 182, 0, 184, 172]
abbrev dktX2_errorCount_0 : List UInt8 := dkwX2_errorCount_0 ++ []
theorem dksX2_errorCount_0 : cX2_errorCount.data.toList.drop 0 = dktX2_errorCount_0 := by decide +kernel
theorem dX2_errorCount_0 : decode cX2_errorCount 0 = .ok (.aload_n 0, 1) := dk_42 (dk_at dksX2_errorCount_0 0 rfl rfl)
theorem dX2_errorCount_1 : decode cX2_errorCount 1 = .ok (.aload_n 0, 1) := dk_42 (dk_at dksX2_errorCount_0 1 rfl rfl)
theorem dX2_errorCount_2 : decode cX2_errorCount 2 = .ok (.getfield 146, 3) := dk_180 0 146 (dk_at dksX2_errorCount_0 2 rfl rfl)
theorem dX2_errorCount_5 : decode cX2_errorCount 5 = .ok (.invokevirtual 184, 3) := dk_182 0 184 (dk_at dksX2_errorCount_0 5 rfl rfl)
theorem dX2_errorCount_8 : decode cX2_errorCount 8 = .ok (.ireturn, 1) := dk_172 (dk_at dksX2_errorCount_0 8 rfl rfl)
abbrev cX2_errorToken : ByteArray := prog_14_method_105_code
def yX2_errorToken : MethodName := ⟨RX2, "errorToken", "(I)I"⟩
def dkwX2_errorToken_0 : List UInt8 := [42, 42, 27, 182, 1, 109, 182, 0, 177, 153, 0, 12, 42, 180, 0, 71, 27, 46, 167, 0, 4, 3, 172]
abbrev dktX2_errorToken_0 : List UInt8 := dkwX2_errorToken_0 ++ []
theorem dksX2_errorToken_0 : cX2_errorToken.data.toList.drop 0 = dktX2_errorToken_0 := by decide +kernel
theorem dX2_errorToken_0 : decode cX2_errorToken 0 = .ok (.aload_n 0, 1) := dk_42 (dk_at dksX2_errorToken_0 0 rfl rfl)
theorem dX2_errorToken_1 : decode cX2_errorToken 1 = .ok (.aload_n 0, 1) := dk_42 (dk_at dksX2_errorToken_0 1 rfl rfl)
theorem dX2_errorToken_2 : decode cX2_errorToken 2 = .ok (.iload_n 1, 1) := dk_27 (dk_at dksX2_errorToken_0 2 rfl rfl)
theorem dX2_errorToken_3 : decode cX2_errorToken 3 = .ok (.invokevirtual 365, 3) := dk_182 1 109 (dk_at dksX2_errorToken_0 3 rfl rfl)
theorem dX2_errorToken_6 : decode cX2_errorToken 6 = .ok (.invokevirtual 177, 3) := dk_182 0 177 (dk_at dksX2_errorToken_0 6 rfl rfl)
theorem dX2_errorToken_9 : decode cX2_errorToken 9 = .ok (.ifCond .eq 12, 3) := dk_153 0 12 (dk_at dksX2_errorToken_0 9 rfl rfl)
theorem dX2_errorToken_12 : decode cX2_errorToken 12 = .ok (.aload_n 0, 1) := dk_42 (dk_at dksX2_errorToken_0 12 rfl rfl)
theorem dX2_errorToken_13 : decode cX2_errorToken 13 = .ok (.getfield 71, 3) := dk_180 0 71 (dk_at dksX2_errorToken_0 13 rfl rfl)
theorem dX2_errorToken_16 : decode cX2_errorToken 16 = .ok (.iload_n 1, 1) := dk_27 (dk_at dksX2_errorToken_0 16 rfl rfl)
theorem dX2_errorToken_17 : decode cX2_errorToken 17 = .ok (.iaload, 1) := dk_46 (dk_at dksX2_errorToken_0 17 rfl rfl)
theorem dX2_errorToken_18 : decode cX2_errorToken 18 = .ok (.goto 4, 3) := dk_167 0 4 (dk_at dksX2_errorToken_0 18 rfl rfl)
theorem dX2_errorToken_21 : decode cX2_errorToken 21 = .ok (.iconst 0, 1) := dk_3 (dk_at dksX2_errorToken_0 21 rfl rfl)
theorem dX2_errorToken_22 : decode cX2_errorToken 22 = .ok (.ireturn, 1) := dk_172 (dk_at dksX2_errorToken_0 22 rfl rfl)
abbrev cX2_isError : ByteArray := prog_14_method_104_code
def yX2_isError : MethodName := ⟨RX2, "isError", "(I)Z"⟩
def dkwX2_isError_0 : List UInt8 := [27, 133, 9, 42, 180, 0, 146, 4, 100, 133, 184, 0, 103, 172]
abbrev dktX2_isError_0 : List UInt8 := dkwX2_isError_0 ++ []
theorem dksX2_isError_0 : cX2_isError.data.toList.drop 0 = dktX2_isError_0 := by decide +kernel
theorem dX2_isError_0 : decode cX2_isError 0 = .ok (.iload_n 1, 1) := dk_27 (dk_at dksX2_isError_0 0 rfl rfl)
theorem dX2_isError_1 : decode cX2_isError 1 = .ok (.i2l, 1) := dk_133 (dk_at dksX2_isError_0 1 rfl rfl)
theorem dX2_isError_2 : decode cX2_isError 2 = .ok (.lconst 0, 1) := dk_9 (dk_at dksX2_isError_0 2 rfl rfl)
theorem dX2_isError_3 : decode cX2_isError 3 = .ok (.aload_n 0, 1) := dk_42 (dk_at dksX2_isError_0 3 rfl rfl)
theorem dX2_isError_4 : decode cX2_isError 4 = .ok (.getfield 146, 3) := dk_180 0 146 (dk_at dksX2_isError_0 4 rfl rfl)
theorem dX2_isError_7 : decode cX2_isError 7 = .ok (.iconst 1, 1) := dk_4 (dk_at dksX2_isError_0 7 rfl rfl)
theorem dX2_isError_8 : decode cX2_isError 8 = .ok (.isub, 1) := dk_100 (dk_at dksX2_isError_0 8 rfl rfl)
theorem dX2_isError_9 : decode cX2_isError 9 = .ok (.i2l, 1) := dk_133 (dk_at dksX2_isError_0 9 rfl rfl)
theorem dX2_isError_10 : decode cX2_isError 10 = .ok (.invokestatic 103, 3) := dk_184 0 103 (dk_at dksX2_isError_0 10 rfl rfl)
theorem dX2_isError_13 : decode cX2_isError 13 = .ok (.ireturn, 1) := dk_172 (dk_at dksX2_isError_0 13 rfl rfl)
abbrev cX2_errorSymbol : ByteArray := prog_14_method_106_code
def yX2_errorSymbol : MethodName := ⟨RX2, "errorSymbol", "(I)I"⟩
def dkwX2_errorSymbol_0 : List UInt8 := [42, 42, 27, 182, 1, 109, 182, 0, 177, 153, 0, 12, 42, 180, 0, 74, 27, 46, 167, 0, 4, 3, 172]
abbrev dktX2_errorSymbol_0 : List UInt8 := dkwX2_errorSymbol_0 ++ []
theorem dksX2_errorSymbol_0 : cX2_errorSymbol.data.toList.drop 0 = dktX2_errorSymbol_0 := by decide +kernel
theorem dX2_errorSymbol_0 : decode cX2_errorSymbol 0 = .ok (.aload_n 0, 1) := dk_42 (dk_at dksX2_errorSymbol_0 0 rfl rfl)
theorem dX2_errorSymbol_1 : decode cX2_errorSymbol 1 = .ok (.aload_n 0, 1) := dk_42 (dk_at dksX2_errorSymbol_0 1 rfl rfl)
theorem dX2_errorSymbol_2 : decode cX2_errorSymbol 2 = .ok (.iload_n 1, 1) := dk_27 (dk_at dksX2_errorSymbol_0 2 rfl rfl)
theorem dX2_errorSymbol_3 : decode cX2_errorSymbol 3 = .ok (.invokevirtual 365, 3) := dk_182 1 109 (dk_at dksX2_errorSymbol_0 3 rfl rfl)
theorem dX2_errorSymbol_6 : decode cX2_errorSymbol 6 = .ok (.invokevirtual 177, 3) := dk_182 0 177 (dk_at dksX2_errorSymbol_0 6 rfl rfl)
theorem dX2_errorSymbol_9 : decode cX2_errorSymbol 9 = .ok (.ifCond .eq 12, 3) := dk_153 0 12 (dk_at dksX2_errorSymbol_0 9 rfl rfl)
theorem dX2_errorSymbol_12 : decode cX2_errorSymbol 12 = .ok (.aload_n 0, 1) := dk_42 (dk_at dksX2_errorSymbol_0 12 rfl rfl)
theorem dX2_errorSymbol_13 : decode cX2_errorSymbol 13 = .ok (.getfield 74, 3) := dk_180 0 74 (dk_at dksX2_errorSymbol_0 13 rfl rfl)
theorem dX2_errorSymbol_16 : decode cX2_errorSymbol 16 = .ok (.iload_n 1, 1) := dk_27 (dk_at dksX2_errorSymbol_0 16 rfl rfl)
theorem dX2_errorSymbol_17 : decode cX2_errorSymbol 17 = .ok (.iaload, 1) := dk_46 (dk_at dksX2_errorSymbol_0 17 rfl rfl)
theorem dX2_errorSymbol_18 : decode cX2_errorSymbol 18 = .ok (.goto 4, 3) := dk_167 0 4 (dk_at dksX2_errorSymbol_0 18 rfl rfl)
theorem dX2_errorSymbol_21 : decode cX2_errorSymbol 21 = .ok (.iconst 0, 1) := dk_3 (dk_at dksX2_errorSymbol_0 21 rfl rfl)
theorem dX2_errorSymbol_22 : decode cX2_errorSymbol 22 = .ok (.ireturn, 1) := dk_172 (dk_at dksX2_errorSymbol_0 22 rfl rfl)
abbrev cX2_wasSkipped : ByteArray := prog_14_method_107_code
def yX2_wasSkipped : MethodName := ⟨RX2, "wasSkipped", "(I)Z"⟩
def dkwX2_wasSkipped_1 : List UInt8 := [167, 0, 4, 3, 172]
abbrev dktX2_wasSkipped_1 : List UInt8 := dkwX2_wasSkipped_1 ++ []
def dkwX2_wasSkipped_0 : List UInt8 := [42, 42, 27, 182, 1, 109, 182, 0, 177, 153, 0, 16, 42, 180, 0, 77, 27, 51, 153, 0, 7, 4]
abbrev dktX2_wasSkipped_0 : List UInt8 := dkwX2_wasSkipped_0 ++ dktX2_wasSkipped_1
theorem dksX2_wasSkipped_0 : cX2_wasSkipped.data.toList.drop 0 = dktX2_wasSkipped_0 := by decide +kernel
theorem dksX2_wasSkipped_1 : cX2_wasSkipped.data.toList.drop 22 = dktX2_wasSkipped_1 := dk_seg dksX2_wasSkipped_0 22 rfl rfl
theorem dX2_wasSkipped_0 : decode cX2_wasSkipped 0 = .ok (.aload_n 0, 1) := dk_42 (dk_at dksX2_wasSkipped_0 0 rfl rfl)
theorem dX2_wasSkipped_1 : decode cX2_wasSkipped 1 = .ok (.aload_n 0, 1) := dk_42 (dk_at dksX2_wasSkipped_0 1 rfl rfl)
theorem dX2_wasSkipped_2 : decode cX2_wasSkipped 2 = .ok (.iload_n 1, 1) := dk_27 (dk_at dksX2_wasSkipped_0 2 rfl rfl)
theorem dX2_wasSkipped_3 : decode cX2_wasSkipped 3 = .ok (.invokevirtual 365, 3) := dk_182 1 109 (dk_at dksX2_wasSkipped_0 3 rfl rfl)
theorem dX2_wasSkipped_6 : decode cX2_wasSkipped 6 = .ok (.invokevirtual 177, 3) := dk_182 0 177 (dk_at dksX2_wasSkipped_0 6 rfl rfl)
theorem dX2_wasSkipped_9 : decode cX2_wasSkipped 9 = .ok (.ifCond .eq 16, 3) := dk_153 0 16 (dk_at dksX2_wasSkipped_0 9 rfl rfl)
theorem dX2_wasSkipped_12 : decode cX2_wasSkipped 12 = .ok (.aload_n 0, 1) := dk_42 (dk_at dksX2_wasSkipped_0 12 rfl rfl)
theorem dX2_wasSkipped_13 : decode cX2_wasSkipped 13 = .ok (.getfield 77, 3) := dk_180 0 77 (dk_at dksX2_wasSkipped_0 13 rfl rfl)
theorem dX2_wasSkipped_16 : decode cX2_wasSkipped 16 = .ok (.iload_n 1, 1) := dk_27 (dk_at dksX2_wasSkipped_0 16 rfl rfl)
theorem dX2_wasSkipped_17 : decode cX2_wasSkipped 17 = .ok (.baload, 1) := dk_51 (dk_at dksX2_wasSkipped_0 17 rfl rfl)
theorem dX2_wasSkipped_18 : decode cX2_wasSkipped 18 = .ok (.ifCond .eq 7, 3) := dk_153 0 7 (dk_at dksX2_wasSkipped_0 18 rfl rfl)
theorem dX2_wasSkipped_21 : decode cX2_wasSkipped 21 = .ok (.iconst 1, 1) := dk_4 (dk_at dksX2_wasSkipped_0 21 rfl rfl)
theorem dX2_wasSkipped_22 : decode cX2_wasSkipped 22 = .ok (.goto 4, 3) := dk_167 0 4 (dk_at dksX2_wasSkipped_1 0 rfl rfl)
theorem dX2_wasSkipped_25 : decode cX2_wasSkipped 25 = .ok (.iconst 0, 1) := dk_3 (dk_at dksX2_wasSkipped_1 3 rfl rfl)
theorem dX2_wasSkipped_26 : decode cX2_wasSkipped 26 = .ok (.ireturn, 1) := dk_172 (dk_at dksX2_wasSkipped_1 4 rfl rfl)
abbrev cX2_derivations : ByteArray := prog_14_method_115_code
def yX2_derivations : MethodName := ⟨RX2, "derivations", "()I"⟩
def dkwX2_derivations_0 : List UInt8 := [42, 42, 182, 1, 134, 182, 0, 177, 153, 0, 10, 42, 182, 1, 137, 167, 0, 4, 3, 172]
abbrev dktX2_derivations_0 : List UInt8 := dkwX2_derivations_0 ++ []
theorem dksX2_derivations_0 : cX2_derivations.data.toList.drop 0 = dktX2_derivations_0 := by decide +kernel
theorem dX2_derivations_0 : decode cX2_derivations 0 = .ok (.aload_n 0, 1) := dk_42 (dk_at dksX2_derivations_0 0 rfl rfl)
theorem dX2_derivations_1 : decode cX2_derivations 1 = .ok (.aload_n 0, 1) := dk_42 (dk_at dksX2_derivations_0 1 rfl rfl)
theorem dX2_derivations_2 : decode cX2_derivations 2 = .ok (.invokevirtual 390, 3) := dk_182 1 134 (dk_at dksX2_derivations_0 2 rfl rfl)
theorem dX2_derivations_5 : decode cX2_derivations 5 = .ok (.invokevirtual 177, 3) := dk_182 0 177 (dk_at dksX2_derivations_0 5 rfl rfl)
theorem dX2_derivations_8 : decode cX2_derivations 8 = .ok (.ifCond .eq 10, 3) := dk_153 0 10 (dk_at dksX2_derivations_0 8 rfl rfl)
theorem dX2_derivations_11 : decode cX2_derivations 11 = .ok (.aload_n 0, 1) := dk_42 (dk_at dksX2_derivations_0 11 rfl rfl)
theorem dX2_derivations_12 : decode cX2_derivations 12 = .ok (.invokevirtual 393, 3) := dk_182 1 137 (dk_at dksX2_derivations_0 12 rfl rfl)
theorem dX2_derivations_15 : decode cX2_derivations 15 = .ok (.goto 4, 3) := dk_167 0 4 (dk_at dksX2_derivations_0 15 rfl rfl)
theorem dX2_derivations_18 : decode cX2_derivations 18 = .ok (.iconst 0, 1) := dk_3 (dk_at dksX2_derivations_0 18 rfl rfl)
theorem dX2_derivations_19 : decode cX2_derivations 19 = .ok (.ireturn, 1) := dk_172 (dk_at dksX2_derivations_0 19 rfl rfl)
abbrev cX2_mayCount : ByteArray := prog_14_method_114_code
def yX2_mayCount : MethodName := ⟨RX2, "mayCount", "()Z"⟩
def dkwX2_mayCount_1 : List UInt8 := [167, 0, 4, 3, 172]
abbrev dktX2_mayCount_1 : List UInt8 := dkwX2_mayCount_1 ++ []
def dkwX2_mayCount_0 : List UInt8 := [42, 180, 0, 134, 153, 0, 23, 42, 180, 0, 137, 16, 16, 163, 0, 14, 42, 182, 1, 131, 154, 0, 7, 4]
abbrev dktX2_mayCount_0 : List UInt8 := dkwX2_mayCount_0 ++ dktX2_mayCount_1
theorem dksX2_mayCount_0 : cX2_mayCount.data.toList.drop 0 = dktX2_mayCount_0 := by decide +kernel
theorem dksX2_mayCount_1 : cX2_mayCount.data.toList.drop 24 = dktX2_mayCount_1 := dk_seg dksX2_mayCount_0 24 rfl rfl
theorem dX2_mayCount_0 : decode cX2_mayCount 0 = .ok (.aload_n 0, 1) := dk_42 (dk_at dksX2_mayCount_0 0 rfl rfl)
theorem dX2_mayCount_1 : decode cX2_mayCount 1 = .ok (.getfield 134, 3) := dk_180 0 134 (dk_at dksX2_mayCount_0 1 rfl rfl)
theorem dX2_mayCount_4 : decode cX2_mayCount 4 = .ok (.ifCond .eq 23, 3) := dk_153 0 23 (dk_at dksX2_mayCount_0 4 rfl rfl)
theorem dX2_mayCount_7 : decode cX2_mayCount 7 = .ok (.aload_n 0, 1) := dk_42 (dk_at dksX2_mayCount_0 7 rfl rfl)
theorem dX2_mayCount_8 : decode cX2_mayCount 8 = .ok (.getfield 137, 3) := dk_180 0 137 (dk_at dksX2_mayCount_0 8 rfl rfl)
theorem dX2_mayCount_11 : decode cX2_mayCount 11 = .ok (.bipush 16, 2) := dk_16 16 (dk_at dksX2_mayCount_0 11 rfl rfl)
theorem dX2_mayCount_13 : decode cX2_mayCount 13 = .ok (.if_icmp .gt 14, 3) := dk_163 0 14 (dk_at dksX2_mayCount_0 13 rfl rfl)
theorem dX2_mayCount_16 : decode cX2_mayCount 16 = .ok (.aload_n 0, 1) := dk_42 (dk_at dksX2_mayCount_0 16 rfl rfl)
theorem dX2_mayCount_17 : decode cX2_mayCount 17 = .ok (.invokevirtual 387, 3) := dk_182 1 131 (dk_at dksX2_mayCount_0 17 rfl rfl)
theorem dX2_mayCount_20 : decode cX2_mayCount 20 = .ok (.ifCond .ne 7, 3) := dk_154 0 7 (dk_at dksX2_mayCount_0 20 rfl rfl)
theorem dX2_mayCount_23 : decode cX2_mayCount 23 = .ok (.iconst 1, 1) := dk_4 (dk_at dksX2_mayCount_0 23 rfl rfl)
theorem dX2_mayCount_24 : decode cX2_mayCount 24 = .ok (.goto 4, 3) := dk_167 0 4 (dk_at dksX2_mayCount_1 0 rfl rfl)
theorem dX2_mayCount_27 : decode cX2_mayCount 27 = .ok (.iconst 0, 1) := dk_3 (dk_at dksX2_mayCount_1 3 rfl rfl)
theorem dX2_mayCount_28 : decode cX2_mayCount 28 = .ok (.ireturn, 1) := dk_172 (dk_at dksX2_mayCount_1 4 rfl rfl)
abbrev cX2_isAnyRecursive : ByteArray := prog_14_method_72_code
def yX2_isAnyRecursive : MethodName := ⟨RX2, "isAnyRecursive", "()Z"⟩
def dkwX2_isAnyRecursive_1 : List UInt8 := [153, 0, 5, 4, 172, 132, 1, 1, 167, 255, 232, 3, 172]
abbrev dktX2_isAnyRecursive_1 : List UInt8 := dkwX2_isAnyRecursive_1 ++ []
def dkwX2_isAnyRecursive_0 : List UInt8 := [42, 182, 1, 32, 3, 60, 27, 16, 12, 162, 0, 24, 42, 180, 0, 53, 27, 46, 27, 184, 0, 198]
abbrev dktX2_isAnyRecursive_0 : List UInt8 := dkwX2_isAnyRecursive_0 ++ dktX2_isAnyRecursive_1
theorem dksX2_isAnyRecursive_0 : cX2_isAnyRecursive.data.toList.drop 0 = dktX2_isAnyRecursive_0 := by decide +kernel
theorem dksX2_isAnyRecursive_1 : cX2_isAnyRecursive.data.toList.drop 22 = dktX2_isAnyRecursive_1 := dk_seg dksX2_isAnyRecursive_0 22 rfl rfl
theorem dX2_isAnyRecursive_0 : decode cX2_isAnyRecursive 0 = .ok (.aload_n 0, 1) := dk_42 (dk_at dksX2_isAnyRecursive_0 0 rfl rfl)
theorem dX2_isAnyRecursive_1 : decode cX2_isAnyRecursive 1 = .ok (.invokevirtual 288, 3) := dk_182 1 32 (dk_at dksX2_isAnyRecursive_0 1 rfl rfl)
theorem dX2_isAnyRecursive_4 : decode cX2_isAnyRecursive 4 = .ok (.iconst 0, 1) := dk_3 (dk_at dksX2_isAnyRecursive_0 4 rfl rfl)
theorem dX2_isAnyRecursive_5 : decode cX2_isAnyRecursive 5 = .ok (.istore_n 1, 1) := dk_60 (dk_at dksX2_isAnyRecursive_0 5 rfl rfl)
theorem dX2_isAnyRecursive_6 : decode cX2_isAnyRecursive 6 = .ok (.iload_n 1, 1) := dk_27 (dk_at dksX2_isAnyRecursive_0 6 rfl rfl)
theorem dX2_isAnyRecursive_7 : decode cX2_isAnyRecursive 7 = .ok (.bipush 12, 2) := dk_16 12 (dk_at dksX2_isAnyRecursive_0 7 rfl rfl)
theorem dX2_isAnyRecursive_9 : decode cX2_isAnyRecursive 9 = .ok (.if_icmp .ge 24, 3) := dk_162 0 24 (dk_at dksX2_isAnyRecursive_0 9 rfl rfl)
theorem dX2_isAnyRecursive_12 : decode cX2_isAnyRecursive 12 = .ok (.aload_n 0, 1) := dk_42 (dk_at dksX2_isAnyRecursive_0 12 rfl rfl)
theorem dX2_isAnyRecursive_13 : decode cX2_isAnyRecursive 13 = .ok (.getfield 53, 3) := dk_180 0 53 (dk_at dksX2_isAnyRecursive_0 13 rfl rfl)
theorem dX2_isAnyRecursive_16 : decode cX2_isAnyRecursive 16 = .ok (.iload_n 1, 1) := dk_27 (dk_at dksX2_isAnyRecursive_0 16 rfl rfl)
theorem dX2_isAnyRecursive_17 : decode cX2_isAnyRecursive 17 = .ok (.iaload, 1) := dk_46 (dk_at dksX2_isAnyRecursive_0 17 rfl rfl)
theorem dX2_isAnyRecursive_18 : decode cX2_isAnyRecursive 18 = .ok (.iload_n 1, 1) := dk_27 (dk_at dksX2_isAnyRecursive_0 18 rfl rfl)
theorem dX2_isAnyRecursive_19 : decode cX2_isAnyRecursive 19 = .ok (.invokestatic 198, 3) := dk_184 0 198 (dk_at dksX2_isAnyRecursive_0 19 rfl rfl)
theorem dX2_isAnyRecursive_22 : decode cX2_isAnyRecursive 22 = .ok (.ifCond .eq 5, 3) := dk_153 0 5 (dk_at dksX2_isAnyRecursive_1 0 rfl rfl)
theorem dX2_isAnyRecursive_25 : decode cX2_isAnyRecursive 25 = .ok (.iconst 1, 1) := dk_4 (dk_at dksX2_isAnyRecursive_1 3 rfl rfl)
theorem dX2_isAnyRecursive_26 : decode cX2_isAnyRecursive 26 = .ok (.ireturn, 1) := dk_172 (dk_at dksX2_isAnyRecursive_1 4 rfl rfl)
theorem dX2_isAnyRecursive_27 : decode cX2_isAnyRecursive 27 = .ok (.iinc 1 1, 3) := dk_132 1 1 (dk_at dksX2_isAnyRecursive_1 5 rfl rfl)
theorem dX2_isAnyRecursive_30 : decode cX2_isAnyRecursive 30 = .ok (.goto (-24), 3) := dk_167 255 232 (dk_at dksX2_isAnyRecursive_1 8 rfl rfl)
theorem dX2_isAnyRecursive_33 : decode cX2_isAnyRecursive 33 = .ok (.iconst 0, 1) := dk_3 (dk_at dksX2_isAnyRecursive_1 11 rfl rfl)
theorem dX2_isAnyRecursive_34 : decode cX2_isAnyRecursive 34 = .ok (.ireturn, 1) := dk_172 (dk_at dksX2_isAnyRecursive_1 12 rfl rfl)
abbrev cX2_counted : ByteArray := prog_14_method_113_code
def yX2_counted : MethodName := ⟨RX2, "counted", "()I"⟩
def dkwX2_counted_5 : List UInt8 := [167, 0, 5, 31, 136, 172]
abbrev dktX2_counted_5 : List UInt8 := dkwX2_counted_5 ++ []
def dkwX2_counted_4 : List UInt8 := [180, 0, 80, 3, 3, 42, 180, 0, 137, 184, 1, 120, 47, 64, 31, 20, 1, 112, 148, 158, 0, 8, 18, 230]
abbrev dktX2_counted_4 : List UInt8 := dkwX2_counted_4 ++ dktX2_counted_5
def dkwX2_counted_3 : List UInt8 := [182, 1, 128, 132, 3, 1, 167, 255, 228, 132, 2, 1, 167, 255, 214, 132, 1, 255, 167, 255, 202, 42]
abbrev dktX2_counted_3 : List UInt8 := dkwX2_counted_3 ++ dktX2_counted_4
def dkwX2_counted_2 : List UInt8 := [62, 29, 16, 12, 162, 0, 28, 42, 180, 0, 53, 29, 46, 184, 1, 125, 28, 160, 0, 9, 42, 29, 27]
abbrev dktX2_counted_2 : List UInt8 := dkwX2_counted_2 ++ dktX2_counted_3
def dkwX2_counted_1 : List UInt8 := [132, 1, 1, 167, 255, 237, 42, 180, 0, 137, 60, 27, 155, 0, 56, 3, 61, 28, 16, 12, 163, 0, 42, 3]
abbrev dktX2_counted_1 : List UInt8 := dkwX2_counted_1 ++ dktX2_counted_2
def dkwX2_counted_0 : List UInt8 := [42, 182, 1, 32, 3, 60, 27, 42, 180, 0, 80, 190, 162, 0, 16, 42, 180, 0, 80, 27, 9, 80]
abbrev dktX2_counted_0 : List UInt8 := dkwX2_counted_0 ++ dktX2_counted_1
theorem dksX2_counted_0 : cX2_counted.data.toList.drop 0 = dktX2_counted_0 := by decide +kernel
theorem dksX2_counted_1 : cX2_counted.data.toList.drop 22 = dktX2_counted_1 := dk_seg dksX2_counted_0 22 rfl rfl
theorem dksX2_counted_2 : cX2_counted.data.toList.drop 46 = dktX2_counted_2 := dk_seg dksX2_counted_1 24 rfl rfl
theorem dksX2_counted_3 : cX2_counted.data.toList.drop 69 = dktX2_counted_3 := dk_seg dksX2_counted_2 23 rfl rfl
theorem dksX2_counted_4 : cX2_counted.data.toList.drop 91 = dktX2_counted_4 := dk_seg dksX2_counted_3 22 rfl rfl
theorem dksX2_counted_5 : cX2_counted.data.toList.drop 115 = dktX2_counted_5 := dk_seg dksX2_counted_4 24 rfl rfl
theorem dX2_counted_0 : decode cX2_counted 0 = .ok (.aload_n 0, 1) := dk_42 (dk_at dksX2_counted_0 0 rfl rfl)
theorem dX2_counted_1 : decode cX2_counted 1 = .ok (.invokevirtual 288, 3) := dk_182 1 32 (dk_at dksX2_counted_0 1 rfl rfl)
theorem dX2_counted_4 : decode cX2_counted 4 = .ok (.iconst 0, 1) := dk_3 (dk_at dksX2_counted_0 4 rfl rfl)
theorem dX2_counted_5 : decode cX2_counted 5 = .ok (.istore_n 1, 1) := dk_60 (dk_at dksX2_counted_0 5 rfl rfl)
theorem dX2_counted_6 : decode cX2_counted 6 = .ok (.iload_n 1, 1) := dk_27 (dk_at dksX2_counted_0 6 rfl rfl)
theorem dX2_counted_7 : decode cX2_counted 7 = .ok (.aload_n 0, 1) := dk_42 (dk_at dksX2_counted_0 7 rfl rfl)
theorem dX2_counted_8 : decode cX2_counted 8 = .ok (.getfield 80, 3) := dk_180 0 80 (dk_at dksX2_counted_0 8 rfl rfl)
theorem dX2_counted_11 : decode cX2_counted 11 = .ok (.arraylength, 1) := dk_190 (dk_at dksX2_counted_0 11 rfl rfl)
theorem dX2_counted_12 : decode cX2_counted 12 = .ok (.if_icmp .ge 16, 3) := dk_162 0 16 (dk_at dksX2_counted_0 12 rfl rfl)
theorem dX2_counted_15 : decode cX2_counted 15 = .ok (.aload_n 0, 1) := dk_42 (dk_at dksX2_counted_0 15 rfl rfl)
theorem dX2_counted_16 : decode cX2_counted 16 = .ok (.getfield 80, 3) := dk_180 0 80 (dk_at dksX2_counted_0 16 rfl rfl)
theorem dX2_counted_19 : decode cX2_counted 19 = .ok (.iload_n 1, 1) := dk_27 (dk_at dksX2_counted_0 19 rfl rfl)
theorem dX2_counted_20 : decode cX2_counted 20 = .ok (.lconst 0, 1) := dk_9 (dk_at dksX2_counted_0 20 rfl rfl)
theorem dX2_counted_21 : decode cX2_counted 21 = .ok (.lastore, 1) := dk_80 (dk_at dksX2_counted_0 21 rfl rfl)
theorem dX2_counted_22 : decode cX2_counted 22 = .ok (.iinc 1 1, 3) := dk_132 1 1 (dk_at dksX2_counted_1 0 rfl rfl)
theorem dX2_counted_25 : decode cX2_counted 25 = .ok (.goto (-19), 3) := dk_167 255 237 (dk_at dksX2_counted_1 3 rfl rfl)
theorem dX2_counted_28 : decode cX2_counted 28 = .ok (.aload_n 0, 1) := dk_42 (dk_at dksX2_counted_1 6 rfl rfl)
theorem dX2_counted_29 : decode cX2_counted 29 = .ok (.getfield 137, 3) := dk_180 0 137 (dk_at dksX2_counted_1 7 rfl rfl)
theorem dX2_counted_32 : decode cX2_counted 32 = .ok (.istore_n 1, 1) := dk_60 (dk_at dksX2_counted_1 10 rfl rfl)
theorem dX2_counted_33 : decode cX2_counted 33 = .ok (.iload_n 1, 1) := dk_27 (dk_at dksX2_counted_1 11 rfl rfl)
theorem dX2_counted_34 : decode cX2_counted 34 = .ok (.ifCond .lt 56, 3) := dk_155 0 56 (dk_at dksX2_counted_1 12 rfl rfl)
theorem dX2_counted_37 : decode cX2_counted 37 = .ok (.iconst 0, 1) := dk_3 (dk_at dksX2_counted_1 15 rfl rfl)
theorem dX2_counted_38 : decode cX2_counted 38 = .ok (.istore_n 2, 1) := dk_61 (dk_at dksX2_counted_1 16 rfl rfl)
theorem dX2_counted_39 : decode cX2_counted 39 = .ok (.iload_n 2, 1) := dk_28 (dk_at dksX2_counted_1 17 rfl rfl)
theorem dX2_counted_40 : decode cX2_counted 40 = .ok (.bipush 12, 2) := dk_16 12 (dk_at dksX2_counted_1 18 rfl rfl)
theorem dX2_counted_42 : decode cX2_counted 42 = .ok (.if_icmp .gt 42, 3) := dk_163 0 42 (dk_at dksX2_counted_1 20 rfl rfl)
theorem dX2_counted_45 : decode cX2_counted 45 = .ok (.iconst 0, 1) := dk_3 (dk_at dksX2_counted_1 23 rfl rfl)
theorem dX2_counted_46 : decode cX2_counted 46 = .ok (.istore_n 3, 1) := dk_62 (dk_at dksX2_counted_2 0 rfl rfl)
theorem dX2_counted_47 : decode cX2_counted 47 = .ok (.iload_n 3, 1) := dk_29 (dk_at dksX2_counted_2 1 rfl rfl)
theorem dX2_counted_48 : decode cX2_counted 48 = .ok (.bipush 12, 2) := dk_16 12 (dk_at dksX2_counted_2 2 rfl rfl)
theorem dX2_counted_50 : decode cX2_counted 50 = .ok (.if_icmp .ge 28, 3) := dk_162 0 28 (dk_at dksX2_counted_2 4 rfl rfl)
theorem dX2_counted_53 : decode cX2_counted 53 = .ok (.aload_n 0, 1) := dk_42 (dk_at dksX2_counted_2 7 rfl rfl)
theorem dX2_counted_54 : decode cX2_counted 54 = .ok (.getfield 53, 3) := dk_180 0 53 (dk_at dksX2_counted_2 8 rfl rfl)
theorem dX2_counted_57 : decode cX2_counted 57 = .ok (.iload_n 3, 1) := dk_29 (dk_at dksX2_counted_2 11 rfl rfl)
theorem dX2_counted_58 : decode cX2_counted 58 = .ok (.iaload, 1) := dk_46 (dk_at dksX2_counted_2 12 rfl rfl)
theorem dX2_counted_59 : decode cX2_counted 59 = .ok (.invokestatic 381, 3) := dk_184 1 125 (dk_at dksX2_counted_2 13 rfl rfl)
theorem dX2_counted_62 : decode cX2_counted 62 = .ok (.iload_n 2, 1) := dk_28 (dk_at dksX2_counted_2 16 rfl rfl)
theorem dX2_counted_63 : decode cX2_counted 63 = .ok (.if_icmp .ne 9, 3) := dk_160 0 9 (dk_at dksX2_counted_2 17 rfl rfl)
theorem dX2_counted_66 : decode cX2_counted 66 = .ok (.aload_n 0, 1) := dk_42 (dk_at dksX2_counted_2 20 rfl rfl)
theorem dX2_counted_67 : decode cX2_counted 67 = .ok (.iload_n 3, 1) := dk_29 (dk_at dksX2_counted_2 21 rfl rfl)
theorem dX2_counted_68 : decode cX2_counted 68 = .ok (.iload_n 1, 1) := dk_27 (dk_at dksX2_counted_2 22 rfl rfl)
theorem dX2_counted_69 : decode cX2_counted 69 = .ok (.invokevirtual 384, 3) := dk_182 1 128 (dk_at dksX2_counted_3 0 rfl rfl)
theorem dX2_counted_72 : decode cX2_counted 72 = .ok (.iinc 3 1, 3) := dk_132 3 1 (dk_at dksX2_counted_3 3 rfl rfl)
theorem dX2_counted_75 : decode cX2_counted 75 = .ok (.goto (-28), 3) := dk_167 255 228 (dk_at dksX2_counted_3 6 rfl rfl)
theorem dX2_counted_78 : decode cX2_counted 78 = .ok (.iinc 2 1, 3) := dk_132 2 1 (dk_at dksX2_counted_3 9 rfl rfl)
theorem dX2_counted_81 : decode cX2_counted 81 = .ok (.goto (-42), 3) := dk_167 255 214 (dk_at dksX2_counted_3 12 rfl rfl)
theorem dX2_counted_84 : decode cX2_counted 84 = .ok (.iinc 1 (-1), 3) := dk_132 1 255 (dk_at dksX2_counted_3 15 rfl rfl)
theorem dX2_counted_87 : decode cX2_counted 87 = .ok (.goto (-54), 3) := dk_167 255 202 (dk_at dksX2_counted_3 18 rfl rfl)
theorem dX2_counted_90 : decode cX2_counted 90 = .ok (.aload_n 0, 1) := dk_42 (dk_at dksX2_counted_3 21 rfl rfl)
theorem dX2_counted_91 : decode cX2_counted 91 = .ok (.getfield 80, 3) := dk_180 0 80 (dk_at dksX2_counted_4 0 rfl rfl)
theorem dX2_counted_94 : decode cX2_counted 94 = .ok (.iconst 0, 1) := dk_3 (dk_at dksX2_counted_4 3 rfl rfl)
theorem dX2_counted_95 : decode cX2_counted 95 = .ok (.iconst 0, 1) := dk_3 (dk_at dksX2_counted_4 4 rfl rfl)
theorem dX2_counted_96 : decode cX2_counted 96 = .ok (.aload_n 0, 1) := dk_42 (dk_at dksX2_counted_4 5 rfl rfl)
theorem dX2_counted_97 : decode cX2_counted 97 = .ok (.getfield 137, 3) := dk_180 0 137 (dk_at dksX2_counted_4 6 rfl rfl)
theorem dX2_counted_100 : decode cX2_counted 100 = .ok (.invokestatic 376, 3) := dk_184 1 120 (dk_at dksX2_counted_4 9 rfl rfl)
theorem dX2_counted_103 : decode cX2_counted 103 = .ok (.laload, 1) := dk_47 (dk_at dksX2_counted_4 12 rfl rfl)
theorem dX2_counted_104 : decode cX2_counted 104 = .ok (.lstore_n 1, 1) := dk_64 (dk_at dksX2_counted_4 13 rfl rfl)
theorem dX2_counted_105 : decode cX2_counted 105 = .ok (.lload_n 1, 1) := dk_31 (dk_at dksX2_counted_4 14 rfl rfl)
theorem dX2_counted_106 : decode cX2_counted 106 = .ok (.ldc2_w 368, 3) := dk_20 1 112 (dk_at dksX2_counted_4 15 rfl rfl)
theorem dX2_counted_109 : decode cX2_counted 109 = .ok (.lcmp, 1) := dk_148 (dk_at dksX2_counted_4 18 rfl rfl)
theorem dX2_counted_110 : decode cX2_counted 110 = .ok (.ifCond .le 8, 3) := dk_158 0 8 (dk_at dksX2_counted_4 19 rfl rfl)
theorem dX2_counted_113 : decode cX2_counted 113 = .ok (.ldc 230, 2) := dk_18 230 (dk_at dksX2_counted_4 22 rfl rfl)
theorem dX2_counted_115 : decode cX2_counted 115 = .ok (.goto 5, 3) := dk_167 0 5 (dk_at dksX2_counted_5 0 rfl rfl)
theorem dX2_counted_118 : decode cX2_counted 118 = .ok (.lload_n 1, 1) := dk_31 (dk_at dksX2_counted_5 3 rfl rfl)
theorem dX2_counted_119 : decode cX2_counted 119 = .ok (.l2i, 1) := dk_136 (dk_at dksX2_counted_5 4 rfl rfl)
theorem dX2_counted_120 : decode cX2_counted 120 = .ok (.ireturn, 1) := dk_172 (dk_at dksX2_counted_5 5 rfl rfl)
abbrev cX2_bits : ByteArray := prog_14_method_112_code
def yX2_bits : MethodName := ⟨RX2, "bits", "(I)I"⟩
def dkwX2_bits_1 : List UInt8 := [27, 172]
abbrev dktX2_bits_1 : List UInt8 := dkwX2_bits_1 ++ []
def dkwX2_bits_0 : List UInt8 := [3, 60, 3, 61, 28, 16, 12, 162, 0, 17, 27, 26, 28, 122, 4, 126, 96, 60, 132, 2, 1, 167, 255, 239]
abbrev dktX2_bits_0 : List UInt8 := dkwX2_bits_0 ++ dktX2_bits_1
theorem dksX2_bits_0 : cX2_bits.data.toList.drop 0 = dktX2_bits_0 := by decide +kernel
theorem dksX2_bits_1 : cX2_bits.data.toList.drop 24 = dktX2_bits_1 := dk_seg dksX2_bits_0 24 rfl rfl
theorem dX2_bits_0 : decode cX2_bits 0 = .ok (.iconst 0, 1) := dk_3 (dk_at dksX2_bits_0 0 rfl rfl)
theorem dX2_bits_1 : decode cX2_bits 1 = .ok (.istore_n 1, 1) := dk_60 (dk_at dksX2_bits_0 1 rfl rfl)
theorem dX2_bits_2 : decode cX2_bits 2 = .ok (.iconst 0, 1) := dk_3 (dk_at dksX2_bits_0 2 rfl rfl)
theorem dX2_bits_3 : decode cX2_bits 3 = .ok (.istore_n 2, 1) := dk_61 (dk_at dksX2_bits_0 3 rfl rfl)
theorem dX2_bits_4 : decode cX2_bits 4 = .ok (.iload_n 2, 1) := dk_28 (dk_at dksX2_bits_0 4 rfl rfl)
theorem dX2_bits_5 : decode cX2_bits 5 = .ok (.bipush 12, 2) := dk_16 12 (dk_at dksX2_bits_0 5 rfl rfl)
theorem dX2_bits_7 : decode cX2_bits 7 = .ok (.if_icmp .ge 17, 3) := dk_162 0 17 (dk_at dksX2_bits_0 7 rfl rfl)
theorem dX2_bits_10 : decode cX2_bits 10 = .ok (.iload_n 1, 1) := dk_27 (dk_at dksX2_bits_0 10 rfl rfl)
theorem dX2_bits_11 : decode cX2_bits 11 = .ok (.iload_n 0, 1) := dk_26 (dk_at dksX2_bits_0 11 rfl rfl)
theorem dX2_bits_12 : decode cX2_bits 12 = .ok (.iload_n 2, 1) := dk_28 (dk_at dksX2_bits_0 12 rfl rfl)
theorem dX2_bits_13 : decode cX2_bits 13 = .ok (.ishr, 1) := dk_122 (dk_at dksX2_bits_0 13 rfl rfl)
theorem dX2_bits_14 : decode cX2_bits 14 = .ok (.iconst 1, 1) := dk_4 (dk_at dksX2_bits_0 14 rfl rfl)
theorem dX2_bits_15 : decode cX2_bits 15 = .ok (.iand, 1) := dk_126 (dk_at dksX2_bits_0 15 rfl rfl)
theorem dX2_bits_16 : decode cX2_bits 16 = .ok (.iadd, 1) := dk_96 (dk_at dksX2_bits_0 16 rfl rfl)
theorem dX2_bits_17 : decode cX2_bits 17 = .ok (.istore_n 1, 1) := dk_60 (dk_at dksX2_bits_0 17 rfl rfl)
theorem dX2_bits_18 : decode cX2_bits 18 = .ok (.iinc 2 1, 3) := dk_132 2 1 (dk_at dksX2_bits_0 18 rfl rfl)
theorem dX2_bits_21 : decode cX2_bits 21 = .ok (.goto (-17), 3) := dk_167 255 239 (dk_at dksX2_bits_0 21 rfl rfl)
theorem dX2_bits_24 : decode cX2_bits 24 = .ok (.iload_n 1, 1) := dk_27 (dk_at dksX2_bits_1 0 rfl rfl)
theorem dX2_bits_25 : decode cX2_bits 25 = .ok (.ireturn, 1) := dk_172 (dk_at dksX2_bits_1 1 rfl rfl)
abbrev cX2_spansOf : ByteArray := prog_14_method_111_code
def yX2_spansOf : MethodName := ⟨RX2, "spansOf", "(II)V"⟩
def dkwX2_spansOf_6 : List UInt8 := [132, 4, 1, 167, 255, 209, 132, 3, 1, 167, 255, 109, 177]
abbrev dktX2_spansOf_6 : List UInt8 := dkwX2_spansOf_6 ++ []
def dkwX2_spansOf_5 : List UInt8 := [180, 0, 80, 27, 28, 21, 4, 184, 1, 120, 47, 42, 180, 0, 84, 21, 4, 47, 97, 184, 1, 116, 80]
abbrev dktX2_spansOf_5 : List UInt8 := dkwX2_spansOf_5 ++ dktX2_spansOf_6
def dkwX2_spansOf_4 : List UInt8 := [54, 4, 21, 4, 42, 180, 0, 137, 163, 0, 44, 42, 180, 0, 80, 27, 28, 21, 4, 184, 1, 120, 42]
abbrev dktX2_spansOf_4 : List UInt8 := dkwX2_spansOf_4 ++ dktX2_spansOf_5
def dkwX2_spansOf_3 : List UInt8 := [29, 46, 162, 0, 20, 42, 42, 29, 21, 4, 182, 0, 187, 182, 1, 123, 132, 4, 1, 167, 255, 231, 28]
abbrev dktX2_spansOf_3 : List UInt8 := dkwX2_spansOf_3 ++ dktX2_spansOf_4
def dkwX2_spansOf_2 : List UInt8 := [160, 0, 7, 10, 167, 0, 4, 9, 80, 132, 4, 1, 167, 255, 226, 3, 54, 4, 21, 4, 42, 180, 0, 13]
abbrev dktX2_spansOf_2 : List UInt8 := dkwX2_spansOf_2 ++ dktX2_spansOf_3
def dkwX2_spansOf_1 : List UInt8 := [167, 0, 123, 3, 54, 4, 21, 4, 42, 180, 0, 137, 163, 0, 27, 42, 180, 0, 84, 21, 4, 21, 4, 28]
abbrev dktX2_spansOf_1 : List UInt8 := dkwX2_spansOf_1 ++ dktX2_spansOf_2
def dkwX2_spansOf_0 : List UInt8 := [3, 62, 29, 42, 180, 0, 113, 162, 0, 145, 42, 180, 0, 7, 29, 46, 16, 20, 27, 96, 159, 0, 6]
abbrev dktX2_spansOf_0 : List UInt8 := dkwX2_spansOf_0 ++ dktX2_spansOf_1
theorem dksX2_spansOf_0 : cX2_spansOf.data.toList.drop 0 = dktX2_spansOf_0 := by decide +kernel
theorem dksX2_spansOf_1 : cX2_spansOf.data.toList.drop 23 = dktX2_spansOf_1 := dk_seg dksX2_spansOf_0 23 rfl rfl
theorem dksX2_spansOf_2 : cX2_spansOf.data.toList.drop 47 = dktX2_spansOf_2 := dk_seg dksX2_spansOf_1 24 rfl rfl
theorem dksX2_spansOf_3 : cX2_spansOf.data.toList.drop 71 = dktX2_spansOf_3 := dk_seg dksX2_spansOf_2 24 rfl rfl
theorem dksX2_spansOf_4 : cX2_spansOf.data.toList.drop 94 = dktX2_spansOf_4 := dk_seg dksX2_spansOf_3 23 rfl rfl
theorem dksX2_spansOf_5 : cX2_spansOf.data.toList.drop 117 = dktX2_spansOf_5 := dk_seg dksX2_spansOf_4 23 rfl rfl
theorem dksX2_spansOf_6 : cX2_spansOf.data.toList.drop 140 = dktX2_spansOf_6 := dk_seg dksX2_spansOf_5 23 rfl rfl
theorem dX2_spansOf_0 : decode cX2_spansOf 0 = .ok (.iconst 0, 1) := dk_3 (dk_at dksX2_spansOf_0 0 rfl rfl)
theorem dX2_spansOf_1 : decode cX2_spansOf 1 = .ok (.istore_n 3, 1) := dk_62 (dk_at dksX2_spansOf_0 1 rfl rfl)
theorem dX2_spansOf_2 : decode cX2_spansOf 2 = .ok (.iload_n 3, 1) := dk_29 (dk_at dksX2_spansOf_0 2 rfl rfl)
theorem dX2_spansOf_3 : decode cX2_spansOf 3 = .ok (.aload_n 0, 1) := dk_42 (dk_at dksX2_spansOf_0 3 rfl rfl)
theorem dX2_spansOf_4 : decode cX2_spansOf 4 = .ok (.getfield 113, 3) := dk_180 0 113 (dk_at dksX2_spansOf_0 4 rfl rfl)
theorem dX2_spansOf_7 : decode cX2_spansOf 7 = .ok (.if_icmp .ge 145, 3) := dk_162 0 145 (dk_at dksX2_spansOf_0 7 rfl rfl)
theorem dX2_spansOf_10 : decode cX2_spansOf 10 = .ok (.aload_n 0, 1) := dk_42 (dk_at dksX2_spansOf_0 10 rfl rfl)
theorem dX2_spansOf_11 : decode cX2_spansOf 11 = .ok (.getfield 7, 3) := dk_180 0 7 (dk_at dksX2_spansOf_0 11 rfl rfl)
theorem dX2_spansOf_14 : decode cX2_spansOf 14 = .ok (.iload_n 3, 1) := dk_29 (dk_at dksX2_spansOf_0 14 rfl rfl)
theorem dX2_spansOf_15 : decode cX2_spansOf 15 = .ok (.iaload, 1) := dk_46 (dk_at dksX2_spansOf_0 15 rfl rfl)
theorem dX2_spansOf_16 : decode cX2_spansOf 16 = .ok (.bipush 20, 2) := dk_16 20 (dk_at dksX2_spansOf_0 16 rfl rfl)
theorem dX2_spansOf_18 : decode cX2_spansOf 18 = .ok (.iload_n 1, 1) := dk_27 (dk_at dksX2_spansOf_0 18 rfl rfl)
theorem dX2_spansOf_19 : decode cX2_spansOf 19 = .ok (.iadd, 1) := dk_96 (dk_at dksX2_spansOf_0 19 rfl rfl)
theorem dX2_spansOf_20 : decode cX2_spansOf 20 = .ok (.if_icmp .eq 6, 3) := dk_159 0 6 (dk_at dksX2_spansOf_0 20 rfl rfl)
theorem dX2_spansOf_23 : decode cX2_spansOf 23 = .ok (.goto 123, 3) := dk_167 0 123 (dk_at dksX2_spansOf_1 0 rfl rfl)
theorem dX2_spansOf_26 : decode cX2_spansOf 26 = .ok (.iconst 0, 1) := dk_3 (dk_at dksX2_spansOf_1 3 rfl rfl)
theorem dX2_spansOf_27 : decode cX2_spansOf 27 = .ok (.istore 4, 2) := dk_54 4 (dk_at dksX2_spansOf_1 4 rfl rfl)
theorem dX2_spansOf_29 : decode cX2_spansOf 29 = .ok (.iload 4, 2) := dk_21 4 (dk_at dksX2_spansOf_1 6 rfl rfl)
theorem dX2_spansOf_31 : decode cX2_spansOf 31 = .ok (.aload_n 0, 1) := dk_42 (dk_at dksX2_spansOf_1 8 rfl rfl)
theorem dX2_spansOf_32 : decode cX2_spansOf 32 = .ok (.getfield 137, 3) := dk_180 0 137 (dk_at dksX2_spansOf_1 9 rfl rfl)
theorem dX2_spansOf_35 : decode cX2_spansOf 35 = .ok (.if_icmp .gt 27, 3) := dk_163 0 27 (dk_at dksX2_spansOf_1 12 rfl rfl)
theorem dX2_spansOf_38 : decode cX2_spansOf 38 = .ok (.aload_n 0, 1) := dk_42 (dk_at dksX2_spansOf_1 15 rfl rfl)
theorem dX2_spansOf_39 : decode cX2_spansOf 39 = .ok (.getfield 84, 3) := dk_180 0 84 (dk_at dksX2_spansOf_1 16 rfl rfl)
theorem dX2_spansOf_42 : decode cX2_spansOf 42 = .ok (.iload 4, 2) := dk_21 4 (dk_at dksX2_spansOf_1 19 rfl rfl)
theorem dX2_spansOf_44 : decode cX2_spansOf 44 = .ok (.iload 4, 2) := dk_21 4 (dk_at dksX2_spansOf_1 21 rfl rfl)
theorem dX2_spansOf_46 : decode cX2_spansOf 46 = .ok (.iload_n 2, 1) := dk_28 (dk_at dksX2_spansOf_1 23 rfl rfl)
theorem dX2_spansOf_47 : decode cX2_spansOf 47 = .ok (.if_icmp .ne 7, 3) := dk_160 0 7 (dk_at dksX2_spansOf_2 0 rfl rfl)
theorem dX2_spansOf_50 : decode cX2_spansOf 50 = .ok (.lconst 1, 1) := dk_10 (dk_at dksX2_spansOf_2 3 rfl rfl)
theorem dX2_spansOf_51 : decode cX2_spansOf 51 = .ok (.goto 4, 3) := dk_167 0 4 (dk_at dksX2_spansOf_2 4 rfl rfl)
theorem dX2_spansOf_54 : decode cX2_spansOf 54 = .ok (.lconst 0, 1) := dk_9 (dk_at dksX2_spansOf_2 7 rfl rfl)
theorem dX2_spansOf_55 : decode cX2_spansOf 55 = .ok (.lastore, 1) := dk_80 (dk_at dksX2_spansOf_2 8 rfl rfl)
theorem dX2_spansOf_56 : decode cX2_spansOf 56 = .ok (.iinc 4 1, 3) := dk_132 4 1 (dk_at dksX2_spansOf_2 9 rfl rfl)
theorem dX2_spansOf_59 : decode cX2_spansOf 59 = .ok (.goto (-30), 3) := dk_167 255 226 (dk_at dksX2_spansOf_2 12 rfl rfl)
theorem dX2_spansOf_62 : decode cX2_spansOf 62 = .ok (.iconst 0, 1) := dk_3 (dk_at dksX2_spansOf_2 15 rfl rfl)
theorem dX2_spansOf_63 : decode cX2_spansOf 63 = .ok (.istore 4, 2) := dk_54 4 (dk_at dksX2_spansOf_2 16 rfl rfl)
theorem dX2_spansOf_65 : decode cX2_spansOf 65 = .ok (.iload 4, 2) := dk_21 4 (dk_at dksX2_spansOf_2 18 rfl rfl)
theorem dX2_spansOf_67 : decode cX2_spansOf 67 = .ok (.aload_n 0, 1) := dk_42 (dk_at dksX2_spansOf_2 20 rfl rfl)
theorem dX2_spansOf_68 : decode cX2_spansOf 68 = .ok (.getfield 13, 3) := dk_180 0 13 (dk_at dksX2_spansOf_2 21 rfl rfl)
theorem dX2_spansOf_71 : decode cX2_spansOf 71 = .ok (.iload_n 3, 1) := dk_29 (dk_at dksX2_spansOf_3 0 rfl rfl)
theorem dX2_spansOf_72 : decode cX2_spansOf 72 = .ok (.iaload, 1) := dk_46 (dk_at dksX2_spansOf_3 1 rfl rfl)
theorem dX2_spansOf_73 : decode cX2_spansOf 73 = .ok (.if_icmp .ge 20, 3) := dk_162 0 20 (dk_at dksX2_spansOf_3 2 rfl rfl)
theorem dX2_spansOf_76 : decode cX2_spansOf 76 = .ok (.aload_n 0, 1) := dk_42 (dk_at dksX2_spansOf_3 5 rfl rfl)
theorem dX2_spansOf_77 : decode cX2_spansOf 77 = .ok (.aload_n 0, 1) := dk_42 (dk_at dksX2_spansOf_3 6 rfl rfl)
theorem dX2_spansOf_78 : decode cX2_spansOf 78 = .ok (.iload_n 3, 1) := dk_29 (dk_at dksX2_spansOf_3 7 rfl rfl)
theorem dX2_spansOf_79 : decode cX2_spansOf 79 = .ok (.iload 4, 2) := dk_21 4 (dk_at dksX2_spansOf_3 8 rfl rfl)
theorem dX2_spansOf_81 : decode cX2_spansOf 81 = .ok (.invokevirtual 187, 3) := dk_182 0 187 (dk_at dksX2_spansOf_3 10 rfl rfl)
theorem dX2_spansOf_84 : decode cX2_spansOf 84 = .ok (.invokevirtual 379, 3) := dk_182 1 123 (dk_at dksX2_spansOf_3 13 rfl rfl)
theorem dX2_spansOf_87 : decode cX2_spansOf 87 = .ok (.iinc 4 1, 3) := dk_132 4 1 (dk_at dksX2_spansOf_3 16 rfl rfl)
theorem dX2_spansOf_90 : decode cX2_spansOf 90 = .ok (.goto (-25), 3) := dk_167 255 231 (dk_at dksX2_spansOf_3 19 rfl rfl)
theorem dX2_spansOf_93 : decode cX2_spansOf 93 = .ok (.iload_n 2, 1) := dk_28 (dk_at dksX2_spansOf_3 22 rfl rfl)
theorem dX2_spansOf_94 : decode cX2_spansOf 94 = .ok (.istore 4, 2) := dk_54 4 (dk_at dksX2_spansOf_4 0 rfl rfl)
theorem dX2_spansOf_96 : decode cX2_spansOf 96 = .ok (.iload 4, 2) := dk_21 4 (dk_at dksX2_spansOf_4 2 rfl rfl)
theorem dX2_spansOf_98 : decode cX2_spansOf 98 = .ok (.aload_n 0, 1) := dk_42 (dk_at dksX2_spansOf_4 4 rfl rfl)
theorem dX2_spansOf_99 : decode cX2_spansOf 99 = .ok (.getfield 137, 3) := dk_180 0 137 (dk_at dksX2_spansOf_4 5 rfl rfl)
theorem dX2_spansOf_102 : decode cX2_spansOf 102 = .ok (.if_icmp .gt 44, 3) := dk_163 0 44 (dk_at dksX2_spansOf_4 8 rfl rfl)
theorem dX2_spansOf_105 : decode cX2_spansOf 105 = .ok (.aload_n 0, 1) := dk_42 (dk_at dksX2_spansOf_4 11 rfl rfl)
theorem dX2_spansOf_106 : decode cX2_spansOf 106 = .ok (.getfield 80, 3) := dk_180 0 80 (dk_at dksX2_spansOf_4 12 rfl rfl)
theorem dX2_spansOf_109 : decode cX2_spansOf 109 = .ok (.iload_n 1, 1) := dk_27 (dk_at dksX2_spansOf_4 15 rfl rfl)
theorem dX2_spansOf_110 : decode cX2_spansOf 110 = .ok (.iload_n 2, 1) := dk_28 (dk_at dksX2_spansOf_4 16 rfl rfl)
theorem dX2_spansOf_111 : decode cX2_spansOf 111 = .ok (.iload 4, 2) := dk_21 4 (dk_at dksX2_spansOf_4 17 rfl rfl)
theorem dX2_spansOf_113 : decode cX2_spansOf 113 = .ok (.invokestatic 376, 3) := dk_184 1 120 (dk_at dksX2_spansOf_4 19 rfl rfl)
theorem dX2_spansOf_116 : decode cX2_spansOf 116 = .ok (.aload_n 0, 1) := dk_42 (dk_at dksX2_spansOf_4 22 rfl rfl)
theorem dX2_spansOf_117 : decode cX2_spansOf 117 = .ok (.getfield 80, 3) := dk_180 0 80 (dk_at dksX2_spansOf_5 0 rfl rfl)
theorem dX2_spansOf_120 : decode cX2_spansOf 120 = .ok (.iload_n 1, 1) := dk_27 (dk_at dksX2_spansOf_5 3 rfl rfl)
theorem dX2_spansOf_121 : decode cX2_spansOf 121 = .ok (.iload_n 2, 1) := dk_28 (dk_at dksX2_spansOf_5 4 rfl rfl)
theorem dX2_spansOf_122 : decode cX2_spansOf 122 = .ok (.iload 4, 2) := dk_21 4 (dk_at dksX2_spansOf_5 5 rfl rfl)
theorem dX2_spansOf_124 : decode cX2_spansOf 124 = .ok (.invokestatic 376, 3) := dk_184 1 120 (dk_at dksX2_spansOf_5 7 rfl rfl)
theorem dX2_spansOf_127 : decode cX2_spansOf 127 = .ok (.laload, 1) := dk_47 (dk_at dksX2_spansOf_5 10 rfl rfl)
theorem dX2_spansOf_128 : decode cX2_spansOf 128 = .ok (.aload_n 0, 1) := dk_42 (dk_at dksX2_spansOf_5 11 rfl rfl)
theorem dX2_spansOf_129 : decode cX2_spansOf 129 = .ok (.getfield 84, 3) := dk_180 0 84 (dk_at dksX2_spansOf_5 12 rfl rfl)
theorem dX2_spansOf_132 : decode cX2_spansOf 132 = .ok (.iload 4, 2) := dk_21 4 (dk_at dksX2_spansOf_5 15 rfl rfl)
theorem dX2_spansOf_134 : decode cX2_spansOf 134 = .ok (.laload, 1) := dk_47 (dk_at dksX2_spansOf_5 17 rfl rfl)
theorem dX2_spansOf_135 : decode cX2_spansOf 135 = .ok (.ladd, 1) := dk_97 (dk_at dksX2_spansOf_5 18 rfl rfl)
theorem dX2_spansOf_136 : decode cX2_spansOf 136 = .ok (.invokestatic 372, 3) := dk_184 1 116 (dk_at dksX2_spansOf_5 19 rfl rfl)
theorem dX2_spansOf_139 : decode cX2_spansOf 139 = .ok (.lastore, 1) := dk_80 (dk_at dksX2_spansOf_5 22 rfl rfl)
theorem dX2_spansOf_140 : decode cX2_spansOf 140 = .ok (.iinc 4 1, 3) := dk_132 4 1 (dk_at dksX2_spansOf_6 0 rfl rfl)
theorem dX2_spansOf_143 : decode cX2_spansOf 143 = .ok (.goto (-47), 3) := dk_167 255 209 (dk_at dksX2_spansOf_6 3 rfl rfl)
theorem dX2_spansOf_146 : decode cX2_spansOf 146 = .ok (.iinc 3 1, 3) := dk_132 3 1 (dk_at dksX2_spansOf_6 6 rfl rfl)
theorem dX2_spansOf_149 : decode cX2_spansOf 149 = .ok (.goto (-147), 3) := dk_167 255 109 (dk_at dksX2_spansOf_6 9 rfl rfl)
theorem dX2_spansOf_152 : decode cX2_spansOf 152 = .ok (.return_, 1) := dk_177 (dk_at dksX2_spansOf_6 12 rfl rfl)
abbrev cX2_follows : ByteArray := prog_14_method_110_code
def yX2_follows : MethodName := ⟨RX2, "follows", "(I)V"⟩
def dkwX2_follows_8 : List UInt8 := [167, 255, 233, 177]
abbrev dktX2_follows_8 : List UInt8 := dkwX2_follows_8 ++ []
def dkwX2_follows_7 : List UInt8 := [28, 42, 180, 0, 137, 163, 0, 21, 42, 180, 0, 84, 28, 42, 180, 0, 87, 28, 47, 80, 132, 2, 1]
abbrev dktX2_follows_7 : List UInt8 := dkwX2_follows_7 ++ dktX2_follows_8
def dkwX2_follows_6 : List UInt8 := [47, 105, 184, 1, 116, 97, 184, 1, 116, 80, 132, 3, 1, 167, 255, 205, 132, 2, 1, 167, 255, 121, 3, 61]
abbrev dktX2_follows_6 : List UInt8 := dkwX2_follows_6 ++ dktX2_follows_7
def dkwX2_follows_5 : List UInt8 := [180, 0, 87, 29, 47, 42, 180, 0, 84, 28, 47, 42, 180, 0, 80, 27, 16, 20, 100, 28, 29, 184, 1, 120]
abbrev dktX2_follows_5 : List UInt8 := dkwX2_follows_5 ++ dktX2_follows_6
def dkwX2_follows_4 : List UInt8 := [184, 1, 116, 80, 167, 0, 59, 28, 62, 29, 42, 180, 0, 137, 163, 0, 49, 42, 180, 0, 87, 29, 42]
abbrev dktX2_follows_4 : List UInt8 := dkwX2_follows_4 ++ dktX2_follows_5
def dkwX2_follows_3 : List UInt8 := [42, 180, 0, 87, 28, 4, 96, 42, 180, 0, 87, 28, 4, 96, 47, 42, 180, 0, 84, 28, 47, 97]
abbrev dktX2_follows_3 : List UInt8 := dkwX2_follows_3 ++ dktX2_follows_4
def dkwX2_follows_2 : List UInt8 := [184, 0, 167, 153, 0, 50, 28, 42, 180, 0, 137, 162, 0, 98, 42, 180, 0, 65, 28, 46, 27, 160, 0, 88]
abbrev dktX2_follows_2 : List UInt8 := dkwX2_follows_2 ++ dktX2_follows_3
def dkwX2_follows_1 : List UInt8 := [61, 28, 42, 180, 0, 137, 163, 0, 133, 42, 180, 0, 84, 28, 47, 9, 148, 154, 0, 6, 167, 0, 113, 27]
abbrev dktX2_follows_1 : List UInt8 := dkwX2_follows_1 ++ dktX2_follows_2
def dkwX2_follows_0 : List UInt8 := [3, 61, 28, 42, 180, 0, 137, 163, 0, 16, 42, 180, 0, 87, 28, 9, 80, 132, 2, 1, 167, 255, 238, 3]
abbrev dktX2_follows_0 : List UInt8 := dkwX2_follows_0 ++ dktX2_follows_1
theorem dksX2_follows_0 : cX2_follows.data.toList.drop 0 = dktX2_follows_0 := by decide +kernel
theorem dksX2_follows_1 : cX2_follows.data.toList.drop 24 = dktX2_follows_1 := dk_seg dksX2_follows_0 24 rfl rfl
theorem dksX2_follows_2 : cX2_follows.data.toList.drop 48 = dktX2_follows_2 := dk_seg dksX2_follows_1 24 rfl rfl
theorem dksX2_follows_3 : cX2_follows.data.toList.drop 72 = dktX2_follows_3 := dk_seg dksX2_follows_2 24 rfl rfl
theorem dksX2_follows_4 : cX2_follows.data.toList.drop 94 = dktX2_follows_4 := dk_seg dksX2_follows_3 22 rfl rfl
theorem dksX2_follows_5 : cX2_follows.data.toList.drop 117 = dktX2_follows_5 := dk_seg dksX2_follows_4 23 rfl rfl
theorem dksX2_follows_6 : cX2_follows.data.toList.drop 141 = dktX2_follows_6 := dk_seg dksX2_follows_5 24 rfl rfl
theorem dksX2_follows_7 : cX2_follows.data.toList.drop 165 = dktX2_follows_7 := dk_seg dksX2_follows_6 24 rfl rfl
theorem dksX2_follows_8 : cX2_follows.data.toList.drop 188 = dktX2_follows_8 := dk_seg dksX2_follows_7 23 rfl rfl
theorem dX2_follows_0 : decode cX2_follows 0 = .ok (.iconst 0, 1) := dk_3 (dk_at dksX2_follows_0 0 rfl rfl)
theorem dX2_follows_1 : decode cX2_follows 1 = .ok (.istore_n 2, 1) := dk_61 (dk_at dksX2_follows_0 1 rfl rfl)
theorem dX2_follows_2 : decode cX2_follows 2 = .ok (.iload_n 2, 1) := dk_28 (dk_at dksX2_follows_0 2 rfl rfl)
theorem dX2_follows_3 : decode cX2_follows 3 = .ok (.aload_n 0, 1) := dk_42 (dk_at dksX2_follows_0 3 rfl rfl)
theorem dX2_follows_4 : decode cX2_follows 4 = .ok (.getfield 137, 3) := dk_180 0 137 (dk_at dksX2_follows_0 4 rfl rfl)
theorem dX2_follows_7 : decode cX2_follows 7 = .ok (.if_icmp .gt 16, 3) := dk_163 0 16 (dk_at dksX2_follows_0 7 rfl rfl)
theorem dX2_follows_10 : decode cX2_follows 10 = .ok (.aload_n 0, 1) := dk_42 (dk_at dksX2_follows_0 10 rfl rfl)
theorem dX2_follows_11 : decode cX2_follows 11 = .ok (.getfield 87, 3) := dk_180 0 87 (dk_at dksX2_follows_0 11 rfl rfl)
theorem dX2_follows_14 : decode cX2_follows 14 = .ok (.iload_n 2, 1) := dk_28 (dk_at dksX2_follows_0 14 rfl rfl)
theorem dX2_follows_15 : decode cX2_follows 15 = .ok (.lconst 0, 1) := dk_9 (dk_at dksX2_follows_0 15 rfl rfl)
theorem dX2_follows_16 : decode cX2_follows 16 = .ok (.lastore, 1) := dk_80 (dk_at dksX2_follows_0 16 rfl rfl)
theorem dX2_follows_17 : decode cX2_follows 17 = .ok (.iinc 2 1, 3) := dk_132 2 1 (dk_at dksX2_follows_0 17 rfl rfl)
theorem dX2_follows_20 : decode cX2_follows 20 = .ok (.goto (-18), 3) := dk_167 255 238 (dk_at dksX2_follows_0 20 rfl rfl)
theorem dX2_follows_23 : decode cX2_follows 23 = .ok (.iconst 0, 1) := dk_3 (dk_at dksX2_follows_0 23 rfl rfl)
theorem dX2_follows_24 : decode cX2_follows 24 = .ok (.istore_n 2, 1) := dk_61 (dk_at dksX2_follows_1 0 rfl rfl)
theorem dX2_follows_25 : decode cX2_follows 25 = .ok (.iload_n 2, 1) := dk_28 (dk_at dksX2_follows_1 1 rfl rfl)
theorem dX2_follows_26 : decode cX2_follows 26 = .ok (.aload_n 0, 1) := dk_42 (dk_at dksX2_follows_1 2 rfl rfl)
theorem dX2_follows_27 : decode cX2_follows 27 = .ok (.getfield 137, 3) := dk_180 0 137 (dk_at dksX2_follows_1 3 rfl rfl)
theorem dX2_follows_30 : decode cX2_follows 30 = .ok (.if_icmp .gt 133, 3) := dk_163 0 133 (dk_at dksX2_follows_1 6 rfl rfl)
theorem dX2_follows_33 : decode cX2_follows 33 = .ok (.aload_n 0, 1) := dk_42 (dk_at dksX2_follows_1 9 rfl rfl)
theorem dX2_follows_34 : decode cX2_follows 34 = .ok (.getfield 84, 3) := dk_180 0 84 (dk_at dksX2_follows_1 10 rfl rfl)
theorem dX2_follows_37 : decode cX2_follows 37 = .ok (.iload_n 2, 1) := dk_28 (dk_at dksX2_follows_1 13 rfl rfl)
theorem dX2_follows_38 : decode cX2_follows 38 = .ok (.laload, 1) := dk_47 (dk_at dksX2_follows_1 14 rfl rfl)
theorem dX2_follows_39 : decode cX2_follows 39 = .ok (.lconst 0, 1) := dk_9 (dk_at dksX2_follows_1 15 rfl rfl)
theorem dX2_follows_40 : decode cX2_follows 40 = .ok (.lcmp, 1) := dk_148 (dk_at dksX2_follows_1 16 rfl rfl)
theorem dX2_follows_41 : decode cX2_follows 41 = .ok (.ifCond .ne 6, 3) := dk_154 0 6 (dk_at dksX2_follows_1 17 rfl rfl)
theorem dX2_follows_44 : decode cX2_follows 44 = .ok (.goto 113, 3) := dk_167 0 113 (dk_at dksX2_follows_1 20 rfl rfl)
theorem dX2_follows_47 : decode cX2_follows 47 = .ok (.iload_n 1, 1) := dk_27 (dk_at dksX2_follows_1 23 rfl rfl)
theorem dX2_follows_48 : decode cX2_follows 48 = .ok (.invokestatic 167, 3) := dk_184 0 167 (dk_at dksX2_follows_2 0 rfl rfl)
theorem dX2_follows_51 : decode cX2_follows 51 = .ok (.ifCond .eq 50, 3) := dk_153 0 50 (dk_at dksX2_follows_2 3 rfl rfl)
theorem dX2_follows_54 : decode cX2_follows 54 = .ok (.iload_n 2, 1) := dk_28 (dk_at dksX2_follows_2 6 rfl rfl)
theorem dX2_follows_55 : decode cX2_follows 55 = .ok (.aload_n 0, 1) := dk_42 (dk_at dksX2_follows_2 7 rfl rfl)
theorem dX2_follows_56 : decode cX2_follows 56 = .ok (.getfield 137, 3) := dk_180 0 137 (dk_at dksX2_follows_2 8 rfl rfl)
theorem dX2_follows_59 : decode cX2_follows 59 = .ok (.if_icmp .ge 98, 3) := dk_162 0 98 (dk_at dksX2_follows_2 11 rfl rfl)
theorem dX2_follows_62 : decode cX2_follows 62 = .ok (.aload_n 0, 1) := dk_42 (dk_at dksX2_follows_2 14 rfl rfl)
theorem dX2_follows_63 : decode cX2_follows 63 = .ok (.getfield 65, 3) := dk_180 0 65 (dk_at dksX2_follows_2 15 rfl rfl)
theorem dX2_follows_66 : decode cX2_follows 66 = .ok (.iload_n 2, 1) := dk_28 (dk_at dksX2_follows_2 18 rfl rfl)
theorem dX2_follows_67 : decode cX2_follows 67 = .ok (.iaload, 1) := dk_46 (dk_at dksX2_follows_2 19 rfl rfl)
theorem dX2_follows_68 : decode cX2_follows 68 = .ok (.iload_n 1, 1) := dk_27 (dk_at dksX2_follows_2 20 rfl rfl)
theorem dX2_follows_69 : decode cX2_follows 69 = .ok (.if_icmp .ne 88, 3) := dk_160 0 88 (dk_at dksX2_follows_2 21 rfl rfl)
theorem dX2_follows_72 : decode cX2_follows 72 = .ok (.aload_n 0, 1) := dk_42 (dk_at dksX2_follows_3 0 rfl rfl)
theorem dX2_follows_73 : decode cX2_follows 73 = .ok (.getfield 87, 3) := dk_180 0 87 (dk_at dksX2_follows_3 1 rfl rfl)
theorem dX2_follows_76 : decode cX2_follows 76 = .ok (.iload_n 2, 1) := dk_28 (dk_at dksX2_follows_3 4 rfl rfl)
theorem dX2_follows_77 : decode cX2_follows 77 = .ok (.iconst 1, 1) := dk_4 (dk_at dksX2_follows_3 5 rfl rfl)
theorem dX2_follows_78 : decode cX2_follows 78 = .ok (.iadd, 1) := dk_96 (dk_at dksX2_follows_3 6 rfl rfl)
theorem dX2_follows_79 : decode cX2_follows 79 = .ok (.aload_n 0, 1) := dk_42 (dk_at dksX2_follows_3 7 rfl rfl)
theorem dX2_follows_80 : decode cX2_follows 80 = .ok (.getfield 87, 3) := dk_180 0 87 (dk_at dksX2_follows_3 8 rfl rfl)
theorem dX2_follows_83 : decode cX2_follows 83 = .ok (.iload_n 2, 1) := dk_28 (dk_at dksX2_follows_3 11 rfl rfl)
theorem dX2_follows_84 : decode cX2_follows 84 = .ok (.iconst 1, 1) := dk_4 (dk_at dksX2_follows_3 12 rfl rfl)
theorem dX2_follows_85 : decode cX2_follows 85 = .ok (.iadd, 1) := dk_96 (dk_at dksX2_follows_3 13 rfl rfl)
theorem dX2_follows_86 : decode cX2_follows 86 = .ok (.laload, 1) := dk_47 (dk_at dksX2_follows_3 14 rfl rfl)
theorem dX2_follows_87 : decode cX2_follows 87 = .ok (.aload_n 0, 1) := dk_42 (dk_at dksX2_follows_3 15 rfl rfl)
theorem dX2_follows_88 : decode cX2_follows 88 = .ok (.getfield 84, 3) := dk_180 0 84 (dk_at dksX2_follows_3 16 rfl rfl)
theorem dX2_follows_91 : decode cX2_follows 91 = .ok (.iload_n 2, 1) := dk_28 (dk_at dksX2_follows_3 19 rfl rfl)
theorem dX2_follows_92 : decode cX2_follows 92 = .ok (.laload, 1) := dk_47 (dk_at dksX2_follows_3 20 rfl rfl)
theorem dX2_follows_93 : decode cX2_follows 93 = .ok (.ladd, 1) := dk_97 (dk_at dksX2_follows_3 21 rfl rfl)
theorem dX2_follows_94 : decode cX2_follows 94 = .ok (.invokestatic 372, 3) := dk_184 1 116 (dk_at dksX2_follows_4 0 rfl rfl)
theorem dX2_follows_97 : decode cX2_follows 97 = .ok (.lastore, 1) := dk_80 (dk_at dksX2_follows_4 3 rfl rfl)
theorem dX2_follows_98 : decode cX2_follows 98 = .ok (.goto 59, 3) := dk_167 0 59 (dk_at dksX2_follows_4 4 rfl rfl)
theorem dX2_follows_101 : decode cX2_follows 101 = .ok (.iload_n 2, 1) := dk_28 (dk_at dksX2_follows_4 7 rfl rfl)
theorem dX2_follows_102 : decode cX2_follows 102 = .ok (.istore_n 3, 1) := dk_62 (dk_at dksX2_follows_4 8 rfl rfl)
theorem dX2_follows_103 : decode cX2_follows 103 = .ok (.iload_n 3, 1) := dk_29 (dk_at dksX2_follows_4 9 rfl rfl)
theorem dX2_follows_104 : decode cX2_follows 104 = .ok (.aload_n 0, 1) := dk_42 (dk_at dksX2_follows_4 10 rfl rfl)
theorem dX2_follows_105 : decode cX2_follows 105 = .ok (.getfield 137, 3) := dk_180 0 137 (dk_at dksX2_follows_4 11 rfl rfl)
theorem dX2_follows_108 : decode cX2_follows 108 = .ok (.if_icmp .gt 49, 3) := dk_163 0 49 (dk_at dksX2_follows_4 14 rfl rfl)
theorem dX2_follows_111 : decode cX2_follows 111 = .ok (.aload_n 0, 1) := dk_42 (dk_at dksX2_follows_4 17 rfl rfl)
theorem dX2_follows_112 : decode cX2_follows 112 = .ok (.getfield 87, 3) := dk_180 0 87 (dk_at dksX2_follows_4 18 rfl rfl)
theorem dX2_follows_115 : decode cX2_follows 115 = .ok (.iload_n 3, 1) := dk_29 (dk_at dksX2_follows_4 21 rfl rfl)
theorem dX2_follows_116 : decode cX2_follows 116 = .ok (.aload_n 0, 1) := dk_42 (dk_at dksX2_follows_4 22 rfl rfl)
theorem dX2_follows_117 : decode cX2_follows 117 = .ok (.getfield 87, 3) := dk_180 0 87 (dk_at dksX2_follows_5 0 rfl rfl)
theorem dX2_follows_120 : decode cX2_follows 120 = .ok (.iload_n 3, 1) := dk_29 (dk_at dksX2_follows_5 3 rfl rfl)
theorem dX2_follows_121 : decode cX2_follows 121 = .ok (.laload, 1) := dk_47 (dk_at dksX2_follows_5 4 rfl rfl)
theorem dX2_follows_122 : decode cX2_follows 122 = .ok (.aload_n 0, 1) := dk_42 (dk_at dksX2_follows_5 5 rfl rfl)
theorem dX2_follows_123 : decode cX2_follows 123 = .ok (.getfield 84, 3) := dk_180 0 84 (dk_at dksX2_follows_5 6 rfl rfl)
theorem dX2_follows_126 : decode cX2_follows 126 = .ok (.iload_n 2, 1) := dk_28 (dk_at dksX2_follows_5 9 rfl rfl)
theorem dX2_follows_127 : decode cX2_follows 127 = .ok (.laload, 1) := dk_47 (dk_at dksX2_follows_5 10 rfl rfl)
theorem dX2_follows_128 : decode cX2_follows 128 = .ok (.aload_n 0, 1) := dk_42 (dk_at dksX2_follows_5 11 rfl rfl)
theorem dX2_follows_129 : decode cX2_follows 129 = .ok (.getfield 80, 3) := dk_180 0 80 (dk_at dksX2_follows_5 12 rfl rfl)
theorem dX2_follows_132 : decode cX2_follows 132 = .ok (.iload_n 1, 1) := dk_27 (dk_at dksX2_follows_5 15 rfl rfl)
theorem dX2_follows_133 : decode cX2_follows 133 = .ok (.bipush 20, 2) := dk_16 20 (dk_at dksX2_follows_5 16 rfl rfl)
theorem dX2_follows_135 : decode cX2_follows 135 = .ok (.isub, 1) := dk_100 (dk_at dksX2_follows_5 18 rfl rfl)
theorem dX2_follows_136 : decode cX2_follows 136 = .ok (.iload_n 2, 1) := dk_28 (dk_at dksX2_follows_5 19 rfl rfl)
theorem dX2_follows_137 : decode cX2_follows 137 = .ok (.iload_n 3, 1) := dk_29 (dk_at dksX2_follows_5 20 rfl rfl)
theorem dX2_follows_138 : decode cX2_follows 138 = .ok (.invokestatic 376, 3) := dk_184 1 120 (dk_at dksX2_follows_5 21 rfl rfl)
theorem dX2_follows_141 : decode cX2_follows 141 = .ok (.laload, 1) := dk_47 (dk_at dksX2_follows_6 0 rfl rfl)
theorem dX2_follows_142 : decode cX2_follows 142 = .ok (.lmul, 1) := dk_105 (dk_at dksX2_follows_6 1 rfl rfl)
theorem dX2_follows_143 : decode cX2_follows 143 = .ok (.invokestatic 372, 3) := dk_184 1 116 (dk_at dksX2_follows_6 2 rfl rfl)
theorem dX2_follows_146 : decode cX2_follows 146 = .ok (.ladd, 1) := dk_97 (dk_at dksX2_follows_6 5 rfl rfl)
theorem dX2_follows_147 : decode cX2_follows 147 = .ok (.invokestatic 372, 3) := dk_184 1 116 (dk_at dksX2_follows_6 6 rfl rfl)
theorem dX2_follows_150 : decode cX2_follows 150 = .ok (.lastore, 1) := dk_80 (dk_at dksX2_follows_6 9 rfl rfl)
theorem dX2_follows_151 : decode cX2_follows 151 = .ok (.iinc 3 1, 3) := dk_132 3 1 (dk_at dksX2_follows_6 10 rfl rfl)
theorem dX2_follows_154 : decode cX2_follows 154 = .ok (.goto (-51), 3) := dk_167 255 205 (dk_at dksX2_follows_6 13 rfl rfl)
theorem dX2_follows_157 : decode cX2_follows 157 = .ok (.iinc 2 1, 3) := dk_132 2 1 (dk_at dksX2_follows_6 16 rfl rfl)
theorem dX2_follows_160 : decode cX2_follows 160 = .ok (.goto (-135), 3) := dk_167 255 121 (dk_at dksX2_follows_6 19 rfl rfl)
theorem dX2_follows_163 : decode cX2_follows 163 = .ok (.iconst 0, 1) := dk_3 (dk_at dksX2_follows_6 22 rfl rfl)
theorem dX2_follows_164 : decode cX2_follows 164 = .ok (.istore_n 2, 1) := dk_61 (dk_at dksX2_follows_6 23 rfl rfl)
theorem dX2_follows_165 : decode cX2_follows 165 = .ok (.iload_n 2, 1) := dk_28 (dk_at dksX2_follows_7 0 rfl rfl)
theorem dX2_follows_166 : decode cX2_follows 166 = .ok (.aload_n 0, 1) := dk_42 (dk_at dksX2_follows_7 1 rfl rfl)
theorem dX2_follows_167 : decode cX2_follows 167 = .ok (.getfield 137, 3) := dk_180 0 137 (dk_at dksX2_follows_7 2 rfl rfl)
theorem dX2_follows_170 : decode cX2_follows 170 = .ok (.if_icmp .gt 21, 3) := dk_163 0 21 (dk_at dksX2_follows_7 5 rfl rfl)
theorem dX2_follows_173 : decode cX2_follows 173 = .ok (.aload_n 0, 1) := dk_42 (dk_at dksX2_follows_7 8 rfl rfl)
theorem dX2_follows_174 : decode cX2_follows 174 = .ok (.getfield 84, 3) := dk_180 0 84 (dk_at dksX2_follows_7 9 rfl rfl)
theorem dX2_follows_177 : decode cX2_follows 177 = .ok (.iload_n 2, 1) := dk_28 (dk_at dksX2_follows_7 12 rfl rfl)
theorem dX2_follows_178 : decode cX2_follows 178 = .ok (.aload_n 0, 1) := dk_42 (dk_at dksX2_follows_7 13 rfl rfl)
theorem dX2_follows_179 : decode cX2_follows 179 = .ok (.getfield 87, 3) := dk_180 0 87 (dk_at dksX2_follows_7 14 rfl rfl)
theorem dX2_follows_182 : decode cX2_follows 182 = .ok (.iload_n 2, 1) := dk_28 (dk_at dksX2_follows_7 17 rfl rfl)
theorem dX2_follows_183 : decode cX2_follows 183 = .ok (.laload, 1) := dk_47 (dk_at dksX2_follows_7 18 rfl rfl)
theorem dX2_follows_184 : decode cX2_follows 184 = .ok (.lastore, 1) := dk_80 (dk_at dksX2_follows_7 19 rfl rfl)
theorem dX2_follows_185 : decode cX2_follows 185 = .ok (.iinc 2 1, 3) := dk_132 2 1 (dk_at dksX2_follows_7 20 rfl rfl)
theorem dX2_follows_188 : decode cX2_follows 188 = .ok (.goto (-23), 3) := dk_167 255 233 (dk_at dksX2_follows_8 0 rfl rfl)
theorem dX2_follows_191 : decode cX2_follows 191 = .ok (.return_, 1) := dk_177 (dk_at dksX2_follows_8 3 rfl rfl)
abbrev cX2_capped : ByteArray := prog_14_method_109_code
def yX2_capped : MethodName := ⟨RX2, "capped", "(J)J"⟩
def dkwX2_capped_0 : List UInt8 := [30, 20, 1, 112, 148, 158, 0, 9, 20, 1, 114, 167, 0, 4, 30, 173]
abbrev dktX2_capped_0 : List UInt8 := dkwX2_capped_0 ++ []
theorem dksX2_capped_0 : cX2_capped.data.toList.drop 0 = dktX2_capped_0 := by decide +kernel
theorem dX2_capped_0 : decode cX2_capped 0 = .ok (.lload_n 0, 1) := dk_30 (dk_at dksX2_capped_0 0 rfl rfl)
theorem dX2_capped_1 : decode cX2_capped 1 = .ok (.ldc2_w 368, 3) := dk_20 1 112 (dk_at dksX2_capped_0 1 rfl rfl)
theorem dX2_capped_4 : decode cX2_capped 4 = .ok (.lcmp, 1) := dk_148 (dk_at dksX2_capped_0 4 rfl rfl)
theorem dX2_capped_5 : decode cX2_capped 5 = .ok (.ifCond .le 9, 3) := dk_158 0 9 (dk_at dksX2_capped_0 5 rfl rfl)
theorem dX2_capped_8 : decode cX2_capped 8 = .ok (.ldc2_w 370, 3) := dk_20 1 114 (dk_at dksX2_capped_0 8 rfl rfl)
theorem dX2_capped_11 : decode cX2_capped 11 = .ok (.goto 4, 3) := dk_167 0 4 (dk_at dksX2_capped_0 11 rfl rfl)
theorem dX2_capped_14 : decode cX2_capped 14 = .ok (.lload_n 0, 1) := dk_30 (dk_at dksX2_capped_0 14 rfl rfl)
theorem dX2_capped_15 : decode cX2_capped 15 = .ok (.lreturn, 1) := dk_173 (dk_at dksX2_capped_0 15 rfl rfl)
abbrev cX2_span : ByteArray := prog_14_method_108_code
def yX2_span : MethodName := ⟨RX2, "span", "(III)I"⟩
def dkwX2_span_0 : List UInt8 := [26, 16, 17, 104, 27, 96, 16, 17, 104, 28, 96, 172]
abbrev dktX2_span_0 : List UInt8 := dkwX2_span_0 ++ []
theorem dksX2_span_0 : cX2_span.data.toList.drop 0 = dktX2_span_0 := by decide +kernel
theorem dX2_span_0 : decode cX2_span 0 = .ok (.iload_n 0, 1) := dk_26 (dk_at dksX2_span_0 0 rfl rfl)
theorem dX2_span_1 : decode cX2_span 1 = .ok (.bipush 17, 2) := dk_16 17 (dk_at dksX2_span_0 1 rfl rfl)
theorem dX2_span_3 : decode cX2_span 3 = .ok (.imul, 1) := dk_104 (dk_at dksX2_span_0 3 rfl rfl)
theorem dX2_span_4 : decode cX2_span 4 = .ok (.iload_n 1, 1) := dk_27 (dk_at dksX2_span_0 4 rfl rfl)
theorem dX2_span_5 : decode cX2_span 5 = .ok (.iadd, 1) := dk_96 (dk_at dksX2_span_0 5 rfl rfl)
theorem dX2_span_6 : decode cX2_span 6 = .ok (.bipush 17, 2) := dk_16 17 (dk_at dksX2_span_0 6 rfl rfl)
theorem dX2_span_8 : decode cX2_span 8 = .ok (.imul, 1) := dk_104 (dk_at dksX2_span_0 8 rfl rfl)
theorem dX2_span_9 : decode cX2_span 9 = .ok (.iload_n 2, 1) := dk_28 (dk_at dksX2_span_0 9 rfl rfl)
theorem dX2_span_10 : decode cX2_span 10 = .ok (.iadd, 1) := dk_96 (dk_at dksX2_span_0 10 rfl rfl)
theorem dX2_span_11 : decode cX2_span 11 = .ok (.ireturn, 1) := dk_172 (dk_at dksX2_span_0 11 rfl rfl)
abbrev cX2_disagreements : ByteArray := prog_14_method_116_code
def yX2_disagreements : MethodName := ⟨RX2, "disagreements", "()I"⟩
def dkwX2_disagreements_2 : List UInt8 := [160, 0, 14, 42, 180, 0, 146, 158, 0, 7, 4, 167, 0, 4, 3, 184, 0, 97, 172]
abbrev dktX2_disagreements_2 : List UInt8 := dkwX2_disagreements_2 ++ []
def dkwX2_disagreements_1 : List UInt8 := [182, 1, 137, 60, 27, 4, 163, 0, 26, 27, 154, 0, 10, 42, 180, 0, 146, 153, 0, 15, 27, 4]
abbrev dktX2_disagreements_1 : List UInt8 := dkwX2_disagreements_1 ++ dktX2_disagreements_2
def dkwX2_disagreements_0 : List UInt8 := [42, 3, 181, 0, 93, 42, 180, 0, 134, 5, 160, 0, 10, 42, 182, 1, 134, 154, 0, 5, 3, 172, 42]
abbrev dktX2_disagreements_0 : List UInt8 := dkwX2_disagreements_0 ++ dktX2_disagreements_1
theorem dksX2_disagreements_0 : cX2_disagreements.data.toList.drop 0 = dktX2_disagreements_0 := by decide +kernel
theorem dksX2_disagreements_1 : cX2_disagreements.data.toList.drop 23 = dktX2_disagreements_1 := dk_seg dksX2_disagreements_0 23 rfl rfl
theorem dksX2_disagreements_2 : cX2_disagreements.data.toList.drop 45 = dktX2_disagreements_2 := dk_seg dksX2_disagreements_1 22 rfl rfl
theorem dX2_disagreements_0 : decode cX2_disagreements 0 = .ok (.aload_n 0, 1) := dk_42 (dk_at dksX2_disagreements_0 0 rfl rfl)
theorem dX2_disagreements_1 : decode cX2_disagreements 1 = .ok (.iconst 0, 1) := dk_3 (dk_at dksX2_disagreements_0 1 rfl rfl)
theorem dX2_disagreements_2 : decode cX2_disagreements 2 = .ok (.putfield 93, 3) := dk_181 0 93 (dk_at dksX2_disagreements_0 2 rfl rfl)
theorem dX2_disagreements_5 : decode cX2_disagreements 5 = .ok (.aload_n 0, 1) := dk_42 (dk_at dksX2_disagreements_0 5 rfl rfl)
theorem dX2_disagreements_6 : decode cX2_disagreements 6 = .ok (.getfield 134, 3) := dk_180 0 134 (dk_at dksX2_disagreements_0 6 rfl rfl)
theorem dX2_disagreements_9 : decode cX2_disagreements 9 = .ok (.iconst 2, 1) := dk_5 (dk_at dksX2_disagreements_0 9 rfl rfl)
theorem dX2_disagreements_10 : decode cX2_disagreements 10 = .ok (.if_icmp .ne 10, 3) := dk_160 0 10 (dk_at dksX2_disagreements_0 10 rfl rfl)
theorem dX2_disagreements_13 : decode cX2_disagreements 13 = .ok (.aload_n 0, 1) := dk_42 (dk_at dksX2_disagreements_0 13 rfl rfl)
theorem dX2_disagreements_14 : decode cX2_disagreements 14 = .ok (.invokevirtual 390, 3) := dk_182 1 134 (dk_at dksX2_disagreements_0 14 rfl rfl)
theorem dX2_disagreements_17 : decode cX2_disagreements 17 = .ok (.ifCond .ne 5, 3) := dk_154 0 5 (dk_at dksX2_disagreements_0 17 rfl rfl)
theorem dX2_disagreements_20 : decode cX2_disagreements 20 = .ok (.iconst 0, 1) := dk_3 (dk_at dksX2_disagreements_0 20 rfl rfl)
theorem dX2_disagreements_21 : decode cX2_disagreements 21 = .ok (.ireturn, 1) := dk_172 (dk_at dksX2_disagreements_0 21 rfl rfl)
theorem dX2_disagreements_22 : decode cX2_disagreements 22 = .ok (.aload_n 0, 1) := dk_42 (dk_at dksX2_disagreements_0 22 rfl rfl)
theorem dX2_disagreements_23 : decode cX2_disagreements 23 = .ok (.invokevirtual 393, 3) := dk_182 1 137 (dk_at dksX2_disagreements_1 0 rfl rfl)
theorem dX2_disagreements_26 : decode cX2_disagreements 26 = .ok (.istore_n 1, 1) := dk_60 (dk_at dksX2_disagreements_1 3 rfl rfl)
theorem dX2_disagreements_27 : decode cX2_disagreements 27 = .ok (.iload_n 1, 1) := dk_27 (dk_at dksX2_disagreements_1 4 rfl rfl)
theorem dX2_disagreements_28 : decode cX2_disagreements 28 = .ok (.iconst 1, 1) := dk_4 (dk_at dksX2_disagreements_1 5 rfl rfl)
theorem dX2_disagreements_29 : decode cX2_disagreements 29 = .ok (.if_icmp .gt 26, 3) := dk_163 0 26 (dk_at dksX2_disagreements_1 6 rfl rfl)
theorem dX2_disagreements_32 : decode cX2_disagreements 32 = .ok (.iload_n 1, 1) := dk_27 (dk_at dksX2_disagreements_1 9 rfl rfl)
theorem dX2_disagreements_33 : decode cX2_disagreements 33 = .ok (.ifCond .ne 10, 3) := dk_154 0 10 (dk_at dksX2_disagreements_1 10 rfl rfl)
theorem dX2_disagreements_36 : decode cX2_disagreements 36 = .ok (.aload_n 0, 1) := dk_42 (dk_at dksX2_disagreements_1 13 rfl rfl)
theorem dX2_disagreements_37 : decode cX2_disagreements 37 = .ok (.getfield 146, 3) := dk_180 0 146 (dk_at dksX2_disagreements_1 14 rfl rfl)
theorem dX2_disagreements_40 : decode cX2_disagreements 40 = .ok (.ifCond .eq 15, 3) := dk_153 0 15 (dk_at dksX2_disagreements_1 17 rfl rfl)
theorem dX2_disagreements_43 : decode cX2_disagreements 43 = .ok (.iload_n 1, 1) := dk_27 (dk_at dksX2_disagreements_1 20 rfl rfl)
theorem dX2_disagreements_44 : decode cX2_disagreements 44 = .ok (.iconst 1, 1) := dk_4 (dk_at dksX2_disagreements_1 21 rfl rfl)
theorem dX2_disagreements_45 : decode cX2_disagreements 45 = .ok (.if_icmp .ne 14, 3) := dk_160 0 14 (dk_at dksX2_disagreements_2 0 rfl rfl)
theorem dX2_disagreements_48 : decode cX2_disagreements 48 = .ok (.aload_n 0, 1) := dk_42 (dk_at dksX2_disagreements_2 3 rfl rfl)
theorem dX2_disagreements_49 : decode cX2_disagreements 49 = .ok (.getfield 146, 3) := dk_180 0 146 (dk_at dksX2_disagreements_2 4 rfl rfl)
theorem dX2_disagreements_52 : decode cX2_disagreements 52 = .ok (.ifCond .le 7, 3) := dk_158 0 7 (dk_at dksX2_disagreements_2 7 rfl rfl)
theorem dX2_disagreements_55 : decode cX2_disagreements 55 = .ok (.iconst 1, 1) := dk_4 (dk_at dksX2_disagreements_2 10 rfl rfl)
theorem dX2_disagreements_56 : decode cX2_disagreements 56 = .ok (.goto 4, 3) := dk_167 0 4 (dk_at dksX2_disagreements_2 11 rfl rfl)
theorem dX2_disagreements_59 : decode cX2_disagreements 59 = .ok (.iconst 0, 1) := dk_3 (dk_at dksX2_disagreements_2 14 rfl rfl)
theorem dX2_disagreements_60 : decode cX2_disagreements 60 = .ok (.invokestatic 97, 3) := dk_184 0 97 (dk_at dksX2_disagreements_2 15 rfl rfl)
theorem dX2_disagreements_63 : decode cX2_disagreements 63 = .ok (.ireturn, 1) := dk_172 (dk_at dksX2_disagreements_2 18 rfl rfl)
abbrev cX2_meanLength : ByteArray := prog_14_method_117_code
def yX2_meanLength : MethodName := ⟨RX2, "meanLength", "()D"⟩
def dkwX2_meanLength_2 : List UInt8 := [180, 0, 113, 135, 111, 175]
abbrev dktX2_meanLength_2 : List UInt8 := dkwX2_meanLength_2 ++ []
def dkwX2_meanLength_1 : List UInt8 := [96, 60, 132, 2, 1, 167, 255, 236, 42, 180, 0, 113, 154, 0, 7, 14, 167, 0, 11, 27, 135, 42]
abbrev dktX2_meanLength_1 : List UInt8 := dkwX2_meanLength_1 ++ dktX2_meanLength_2
def dkwX2_meanLength_0 : List UInt8 := [42, 3, 181, 0, 93, 3, 60, 3, 61, 28, 42, 180, 0, 113, 162, 0, 18, 27, 42, 180, 0, 13, 28, 46]
abbrev dktX2_meanLength_0 : List UInt8 := dkwX2_meanLength_0 ++ dktX2_meanLength_1
theorem dksX2_meanLength_0 : cX2_meanLength.data.toList.drop 0 = dktX2_meanLength_0 := by decide +kernel
theorem dksX2_meanLength_1 : cX2_meanLength.data.toList.drop 24 = dktX2_meanLength_1 := dk_seg dksX2_meanLength_0 24 rfl rfl
theorem dksX2_meanLength_2 : cX2_meanLength.data.toList.drop 46 = dktX2_meanLength_2 := dk_seg dksX2_meanLength_1 22 rfl rfl
theorem dX2_meanLength_0 : decode cX2_meanLength 0 = .ok (.aload_n 0, 1) := dk_42 (dk_at dksX2_meanLength_0 0 rfl rfl)
theorem dX2_meanLength_1 : decode cX2_meanLength 1 = .ok (.iconst 0, 1) := dk_3 (dk_at dksX2_meanLength_0 1 rfl rfl)
theorem dX2_meanLength_2 : decode cX2_meanLength 2 = .ok (.putfield 93, 3) := dk_181 0 93 (dk_at dksX2_meanLength_0 2 rfl rfl)
theorem dX2_meanLength_5 : decode cX2_meanLength 5 = .ok (.iconst 0, 1) := dk_3 (dk_at dksX2_meanLength_0 5 rfl rfl)
theorem dX2_meanLength_6 : decode cX2_meanLength 6 = .ok (.istore_n 1, 1) := dk_60 (dk_at dksX2_meanLength_0 6 rfl rfl)
theorem dX2_meanLength_7 : decode cX2_meanLength 7 = .ok (.iconst 0, 1) := dk_3 (dk_at dksX2_meanLength_0 7 rfl rfl)
theorem dX2_meanLength_8 : decode cX2_meanLength 8 = .ok (.istore_n 2, 1) := dk_61 (dk_at dksX2_meanLength_0 8 rfl rfl)
theorem dX2_meanLength_9 : decode cX2_meanLength 9 = .ok (.iload_n 2, 1) := dk_28 (dk_at dksX2_meanLength_0 9 rfl rfl)
theorem dX2_meanLength_10 : decode cX2_meanLength 10 = .ok (.aload_n 0, 1) := dk_42 (dk_at dksX2_meanLength_0 10 rfl rfl)
theorem dX2_meanLength_11 : decode cX2_meanLength 11 = .ok (.getfield 113, 3) := dk_180 0 113 (dk_at dksX2_meanLength_0 11 rfl rfl)
theorem dX2_meanLength_14 : decode cX2_meanLength 14 = .ok (.if_icmp .ge 18, 3) := dk_162 0 18 (dk_at dksX2_meanLength_0 14 rfl rfl)
theorem dX2_meanLength_17 : decode cX2_meanLength 17 = .ok (.iload_n 1, 1) := dk_27 (dk_at dksX2_meanLength_0 17 rfl rfl)
theorem dX2_meanLength_18 : decode cX2_meanLength 18 = .ok (.aload_n 0, 1) := dk_42 (dk_at dksX2_meanLength_0 18 rfl rfl)
theorem dX2_meanLength_19 : decode cX2_meanLength 19 = .ok (.getfield 13, 3) := dk_180 0 13 (dk_at dksX2_meanLength_0 19 rfl rfl)
theorem dX2_meanLength_22 : decode cX2_meanLength 22 = .ok (.iload_n 2, 1) := dk_28 (dk_at dksX2_meanLength_0 22 rfl rfl)
theorem dX2_meanLength_23 : decode cX2_meanLength 23 = .ok (.iaload, 1) := dk_46 (dk_at dksX2_meanLength_0 23 rfl rfl)
theorem dX2_meanLength_24 : decode cX2_meanLength 24 = .ok (.iadd, 1) := dk_96 (dk_at dksX2_meanLength_1 0 rfl rfl)
theorem dX2_meanLength_25 : decode cX2_meanLength 25 = .ok (.istore_n 1, 1) := dk_60 (dk_at dksX2_meanLength_1 1 rfl rfl)
theorem dX2_meanLength_26 : decode cX2_meanLength 26 = .ok (.iinc 2 1, 3) := dk_132 2 1 (dk_at dksX2_meanLength_1 2 rfl rfl)
theorem dX2_meanLength_29 : decode cX2_meanLength 29 = .ok (.goto (-20), 3) := dk_167 255 236 (dk_at dksX2_meanLength_1 5 rfl rfl)
theorem dX2_meanLength_32 : decode cX2_meanLength 32 = .ok (.aload_n 0, 1) := dk_42 (dk_at dksX2_meanLength_1 8 rfl rfl)
theorem dX2_meanLength_33 : decode cX2_meanLength 33 = .ok (.getfield 113, 3) := dk_180 0 113 (dk_at dksX2_meanLength_1 9 rfl rfl)
theorem dX2_meanLength_36 : decode cX2_meanLength 36 = .ok (.ifCond .ne 7, 3) := dk_154 0 7 (dk_at dksX2_meanLength_1 12 rfl rfl)
theorem dX2_meanLength_39 : decode cX2_meanLength 39 = .ok (.dconst 0, 1) := dk_14 (dk_at dksX2_meanLength_1 15 rfl rfl)
theorem dX2_meanLength_40 : decode cX2_meanLength 40 = .ok (.goto 11, 3) := dk_167 0 11 (dk_at dksX2_meanLength_1 16 rfl rfl)
theorem dX2_meanLength_43 : decode cX2_meanLength 43 = .ok (.iload_n 1, 1) := dk_27 (dk_at dksX2_meanLength_1 19 rfl rfl)
theorem dX2_meanLength_44 : decode cX2_meanLength 44 = .ok (.i2d, 1) := dk_135 (dk_at dksX2_meanLength_1 20 rfl rfl)
theorem dX2_meanLength_45 : decode cX2_meanLength 45 = .ok (.aload_n 0, 1) := dk_42 (dk_at dksX2_meanLength_1 21 rfl rfl)
theorem dX2_meanLength_46 : decode cX2_meanLength 46 = .ok (.getfield 113, 3) := dk_180 0 113 (dk_at dksX2_meanLength_2 0 rfl rfl)
theorem dX2_meanLength_49 : decode cX2_meanLength 49 = .ok (.i2d, 1) := dk_135 (dk_at dksX2_meanLength_2 3 rfl rfl)
theorem dX2_meanLength_50 : decode cX2_meanLength 50 = .ok (.ddiv, 1) := dk_111 (dk_at dksX2_meanLength_2 4 rfl rfl)
theorem dX2_meanLength_51 : decode cX2_meanLength 51 = .ok (.dreturn, 1) := dk_175 (dk_at dksX2_meanLength_2 5 rfl rfl)
abbrev cX2_tableShare : ByteArray := prog_14_method_118_code
def yX2_tableShare : MethodName := ⟨RX2, "tableShare", "()F"⟩
def dkwX2_tableShare_2 : List UInt8 := [42, 3, 182, 0, 243, 134, 16, 13, 27, 184, 1, 125, 104, 134, 110, 174]
abbrev dktX2_tableShare_2 : List UInt8 := dkwX2_tableShare_2 ++ []
def dkwX2_tableShare_1 : List UInt8 := [46, 16, 20, 100, 120, 128, 60, 132, 2, 1, 167, 255, 231, 42, 180, 0, 113, 154, 0, 7, 11, 167, 0, 18]
abbrev dktX2_tableShare_1 : List UInt8 := dkwX2_tableShare_1 ++ dktX2_tableShare_2
def dkwX2_tableShare_0 : List UInt8 := [42, 3, 181, 0, 93, 3, 60, 3, 61, 28, 42, 180, 0, 113, 162, 0, 23, 27, 4, 42, 180, 0, 7, 28]
abbrev dktX2_tableShare_0 : List UInt8 := dkwX2_tableShare_0 ++ dktX2_tableShare_1
theorem dksX2_tableShare_0 : cX2_tableShare.data.toList.drop 0 = dktX2_tableShare_0 := by decide +kernel
theorem dksX2_tableShare_1 : cX2_tableShare.data.toList.drop 24 = dktX2_tableShare_1 := dk_seg dksX2_tableShare_0 24 rfl rfl
theorem dksX2_tableShare_2 : cX2_tableShare.data.toList.drop 48 = dktX2_tableShare_2 := dk_seg dksX2_tableShare_1 24 rfl rfl
theorem dX2_tableShare_0 : decode cX2_tableShare 0 = .ok (.aload_n 0, 1) := dk_42 (dk_at dksX2_tableShare_0 0 rfl rfl)
theorem dX2_tableShare_1 : decode cX2_tableShare 1 = .ok (.iconst 0, 1) := dk_3 (dk_at dksX2_tableShare_0 1 rfl rfl)
theorem dX2_tableShare_2 : decode cX2_tableShare 2 = .ok (.putfield 93, 3) := dk_181 0 93 (dk_at dksX2_tableShare_0 2 rfl rfl)
theorem dX2_tableShare_5 : decode cX2_tableShare 5 = .ok (.iconst 0, 1) := dk_3 (dk_at dksX2_tableShare_0 5 rfl rfl)
theorem dX2_tableShare_6 : decode cX2_tableShare 6 = .ok (.istore_n 1, 1) := dk_60 (dk_at dksX2_tableShare_0 6 rfl rfl)
theorem dX2_tableShare_7 : decode cX2_tableShare 7 = .ok (.iconst 0, 1) := dk_3 (dk_at dksX2_tableShare_0 7 rfl rfl)
theorem dX2_tableShare_8 : decode cX2_tableShare 8 = .ok (.istore_n 2, 1) := dk_61 (dk_at dksX2_tableShare_0 8 rfl rfl)
theorem dX2_tableShare_9 : decode cX2_tableShare 9 = .ok (.iload_n 2, 1) := dk_28 (dk_at dksX2_tableShare_0 9 rfl rfl)
theorem dX2_tableShare_10 : decode cX2_tableShare 10 = .ok (.aload_n 0, 1) := dk_42 (dk_at dksX2_tableShare_0 10 rfl rfl)
theorem dX2_tableShare_11 : decode cX2_tableShare 11 = .ok (.getfield 113, 3) := dk_180 0 113 (dk_at dksX2_tableShare_0 11 rfl rfl)
theorem dX2_tableShare_14 : decode cX2_tableShare 14 = .ok (.if_icmp .ge 23, 3) := dk_162 0 23 (dk_at dksX2_tableShare_0 14 rfl rfl)
theorem dX2_tableShare_17 : decode cX2_tableShare 17 = .ok (.iload_n 1, 1) := dk_27 (dk_at dksX2_tableShare_0 17 rfl rfl)
theorem dX2_tableShare_18 : decode cX2_tableShare 18 = .ok (.iconst 1, 1) := dk_4 (dk_at dksX2_tableShare_0 18 rfl rfl)
theorem dX2_tableShare_19 : decode cX2_tableShare 19 = .ok (.aload_n 0, 1) := dk_42 (dk_at dksX2_tableShare_0 19 rfl rfl)
theorem dX2_tableShare_20 : decode cX2_tableShare 20 = .ok (.getfield 7, 3) := dk_180 0 7 (dk_at dksX2_tableShare_0 20 rfl rfl)
theorem dX2_tableShare_23 : decode cX2_tableShare 23 = .ok (.iload_n 2, 1) := dk_28 (dk_at dksX2_tableShare_0 23 rfl rfl)
theorem dX2_tableShare_24 : decode cX2_tableShare 24 = .ok (.iaload, 1) := dk_46 (dk_at dksX2_tableShare_1 0 rfl rfl)
theorem dX2_tableShare_25 : decode cX2_tableShare 25 = .ok (.bipush 20, 2) := dk_16 20 (dk_at dksX2_tableShare_1 1 rfl rfl)
theorem dX2_tableShare_27 : decode cX2_tableShare 27 = .ok (.isub, 1) := dk_100 (dk_at dksX2_tableShare_1 3 rfl rfl)
theorem dX2_tableShare_28 : decode cX2_tableShare 28 = .ok (.ishl, 1) := dk_120 (dk_at dksX2_tableShare_1 4 rfl rfl)
theorem dX2_tableShare_29 : decode cX2_tableShare 29 = .ok (.ior, 1) := dk_128 (dk_at dksX2_tableShare_1 5 rfl rfl)
theorem dX2_tableShare_30 : decode cX2_tableShare 30 = .ok (.istore_n 1, 1) := dk_60 (dk_at dksX2_tableShare_1 6 rfl rfl)
theorem dX2_tableShare_31 : decode cX2_tableShare 31 = .ok (.iinc 2 1, 3) := dk_132 2 1 (dk_at dksX2_tableShare_1 7 rfl rfl)
theorem dX2_tableShare_34 : decode cX2_tableShare 34 = .ok (.goto (-25), 3) := dk_167 255 231 (dk_at dksX2_tableShare_1 10 rfl rfl)
theorem dX2_tableShare_37 : decode cX2_tableShare 37 = .ok (.aload_n 0, 1) := dk_42 (dk_at dksX2_tableShare_1 13 rfl rfl)
theorem dX2_tableShare_38 : decode cX2_tableShare 38 = .ok (.getfield 113, 3) := dk_180 0 113 (dk_at dksX2_tableShare_1 14 rfl rfl)
theorem dX2_tableShare_41 : decode cX2_tableShare 41 = .ok (.ifCond .ne 7, 3) := dk_154 0 7 (dk_at dksX2_tableShare_1 17 rfl rfl)
theorem dX2_tableShare_44 : decode cX2_tableShare 44 = .ok (.fconst 0, 1) := dk_11 (dk_at dksX2_tableShare_1 20 rfl rfl)
theorem dX2_tableShare_45 : decode cX2_tableShare 45 = .ok (.goto 18, 3) := dk_167 0 18 (dk_at dksX2_tableShare_1 21 rfl rfl)
theorem dX2_tableShare_48 : decode cX2_tableShare 48 = .ok (.aload_n 0, 1) := dk_42 (dk_at dksX2_tableShare_2 0 rfl rfl)
theorem dX2_tableShare_49 : decode cX2_tableShare 49 = .ok (.iconst 0, 1) := dk_3 (dk_at dksX2_tableShare_2 1 rfl rfl)
theorem dX2_tableShare_50 : decode cX2_tableShare 50 = .ok (.invokevirtual 243, 3) := dk_182 0 243 (dk_at dksX2_tableShare_2 2 rfl rfl)
theorem dX2_tableShare_53 : decode cX2_tableShare 53 = .ok (.i2f, 1) := dk_134 (dk_at dksX2_tableShare_2 5 rfl rfl)
theorem dX2_tableShare_54 : decode cX2_tableShare 54 = .ok (.bipush 13, 2) := dk_16 13 (dk_at dksX2_tableShare_2 6 rfl rfl)
theorem dX2_tableShare_56 : decode cX2_tableShare 56 = .ok (.iload_n 1, 1) := dk_27 (dk_at dksX2_tableShare_2 8 rfl rfl)
theorem dX2_tableShare_57 : decode cX2_tableShare 57 = .ok (.invokestatic 381, 3) := dk_184 1 125 (dk_at dksX2_tableShare_2 9 rfl rfl)
theorem dX2_tableShare_60 : decode cX2_tableShare 60 = .ok (.imul, 1) := dk_104 (dk_at dksX2_tableShare_2 12 rfl rfl)
theorem dX2_tableShare_61 : decode cX2_tableShare 61 = .ok (.i2f, 1) := dk_134 (dk_at dksX2_tableShare_2 13 rfl rfl)
theorem dX2_tableShare_62 : decode cX2_tableShare 62 = .ok (.fdiv, 1) := dk_110 (dk_at dksX2_tableShare_2 14 rfl rfl)
theorem dX2_tableShare_63 : decode cX2_tableShare 63 = .ok (.freturn, 1) := dk_174 (dk_at dksX2_tableShare_2 15 rfl rfl)
abbrev cX2_writeRule : ByteArray := prog_14_method_119_code
def yX2_writeRule : MethodName := ⟨RX2, "writeRule", "(I)I"⟩
def dkwX2_writeRule_5 : List UInt8 := [167, 255, 188, 42, 180, 1, 140, 172]
abbrev dktX2_writeRule_5 : List UInt8 := dkwX2_writeRule_5 ++ []
def dkwX2_writeRule_4 : List UInt8 := [27, 28, 182, 0, 187, 96, 16, 20, 100, 79, 42, 89, 180, 1, 140, 4, 96, 181, 1, 140, 132, 2, 1]
abbrev dktX2_writeRule_4 : List UInt8 := dkwX2_writeRule_4 ++ dktX2_writeRule_5
def dkwX2_writeRule_3 : List UInt8 := [182, 0, 187, 184, 0, 167, 153, 0, 15, 16, 97, 42, 27, 28, 182, 0, 187, 96, 167, 0, 15, 16, 65, 42]
abbrev dktX2_writeRule_3 : List UInt8 := dkwX2_writeRule_3 ++ dktX2_writeRule_4
def dkwX2_writeRule_2 : List UInt8 := [61, 28, 42, 180, 0, 13, 27, 46, 162, 0, 64, 42, 180, 0, 90, 42, 180, 1, 140, 42, 27, 28]
abbrev dktX2_writeRule_2 : List UInt8 := dkwX2_writeRule_2 ++ dktX2_writeRule_3
def dkwX2_writeRule_1 : List UInt8 := [180, 0, 7, 27, 46, 96, 16, 20, 100, 79, 42, 180, 0, 90, 4, 16, 61, 79, 42, 5, 181, 1, 140, 3]
abbrev dktX2_writeRule_1 : List UInt8 := dkwX2_writeRule_1 ++ dktX2_writeRule_2
def dkwX2_writeRule_0 : List UInt8 := [42, 42, 27, 182, 0, 164, 182, 0, 177, 154, 0, 5, 3, 172, 42, 180, 0, 90, 3, 16, 65, 42]
abbrev dktX2_writeRule_0 : List UInt8 := dkwX2_writeRule_0 ++ dktX2_writeRule_1
theorem dksX2_writeRule_0 : cX2_writeRule.data.toList.drop 0 = dktX2_writeRule_0 := by decide +kernel
theorem dksX2_writeRule_1 : cX2_writeRule.data.toList.drop 22 = dktX2_writeRule_1 := dk_seg dksX2_writeRule_0 22 rfl rfl
theorem dksX2_writeRule_2 : cX2_writeRule.data.toList.drop 46 = dktX2_writeRule_2 := dk_seg dksX2_writeRule_1 24 rfl rfl
theorem dksX2_writeRule_3 : cX2_writeRule.data.toList.drop 68 = dktX2_writeRule_3 := dk_seg dksX2_writeRule_2 22 rfl rfl
theorem dksX2_writeRule_4 : cX2_writeRule.data.toList.drop 92 = dktX2_writeRule_4 := dk_seg dksX2_writeRule_3 24 rfl rfl
theorem dksX2_writeRule_5 : cX2_writeRule.data.toList.drop 115 = dktX2_writeRule_5 := dk_seg dksX2_writeRule_4 23 rfl rfl
theorem dX2_writeRule_0 : decode cX2_writeRule 0 = .ok (.aload_n 0, 1) := dk_42 (dk_at dksX2_writeRule_0 0 rfl rfl)
theorem dX2_writeRule_1 : decode cX2_writeRule 1 = .ok (.aload_n 0, 1) := dk_42 (dk_at dksX2_writeRule_0 1 rfl rfl)
theorem dX2_writeRule_2 : decode cX2_writeRule 2 = .ok (.iload_n 1, 1) := dk_27 (dk_at dksX2_writeRule_0 2 rfl rfl)
theorem dX2_writeRule_3 : decode cX2_writeRule 3 = .ok (.invokevirtual 164, 3) := dk_182 0 164 (dk_at dksX2_writeRule_0 3 rfl rfl)
theorem dX2_writeRule_6 : decode cX2_writeRule 6 = .ok (.invokevirtual 177, 3) := dk_182 0 177 (dk_at dksX2_writeRule_0 6 rfl rfl)
theorem dX2_writeRule_9 : decode cX2_writeRule 9 = .ok (.ifCond .ne 5, 3) := dk_154 0 5 (dk_at dksX2_writeRule_0 9 rfl rfl)
theorem dX2_writeRule_12 : decode cX2_writeRule 12 = .ok (.iconst 0, 1) := dk_3 (dk_at dksX2_writeRule_0 12 rfl rfl)
theorem dX2_writeRule_13 : decode cX2_writeRule 13 = .ok (.ireturn, 1) := dk_172 (dk_at dksX2_writeRule_0 13 rfl rfl)
theorem dX2_writeRule_14 : decode cX2_writeRule 14 = .ok (.aload_n 0, 1) := dk_42 (dk_at dksX2_writeRule_0 14 rfl rfl)
theorem dX2_writeRule_15 : decode cX2_writeRule 15 = .ok (.getfield 90, 3) := dk_180 0 90 (dk_at dksX2_writeRule_0 15 rfl rfl)
theorem dX2_writeRule_18 : decode cX2_writeRule 18 = .ok (.iconst 0, 1) := dk_3 (dk_at dksX2_writeRule_0 18 rfl rfl)
theorem dX2_writeRule_19 : decode cX2_writeRule 19 = .ok (.bipush 65, 2) := dk_16 65 (dk_at dksX2_writeRule_0 19 rfl rfl)
theorem dX2_writeRule_21 : decode cX2_writeRule 21 = .ok (.aload_n 0, 1) := dk_42 (dk_at dksX2_writeRule_0 21 rfl rfl)
theorem dX2_writeRule_22 : decode cX2_writeRule 22 = .ok (.getfield 7, 3) := dk_180 0 7 (dk_at dksX2_writeRule_1 0 rfl rfl)
theorem dX2_writeRule_25 : decode cX2_writeRule 25 = .ok (.iload_n 1, 1) := dk_27 (dk_at dksX2_writeRule_1 3 rfl rfl)
theorem dX2_writeRule_26 : decode cX2_writeRule 26 = .ok (.iaload, 1) := dk_46 (dk_at dksX2_writeRule_1 4 rfl rfl)
theorem dX2_writeRule_27 : decode cX2_writeRule 27 = .ok (.iadd, 1) := dk_96 (dk_at dksX2_writeRule_1 5 rfl rfl)
theorem dX2_writeRule_28 : decode cX2_writeRule 28 = .ok (.bipush 20, 2) := dk_16 20 (dk_at dksX2_writeRule_1 6 rfl rfl)
theorem dX2_writeRule_30 : decode cX2_writeRule 30 = .ok (.isub, 1) := dk_100 (dk_at dksX2_writeRule_1 8 rfl rfl)
theorem dX2_writeRule_31 : decode cX2_writeRule 31 = .ok (.iastore, 1) := dk_79 (dk_at dksX2_writeRule_1 9 rfl rfl)
theorem dX2_writeRule_32 : decode cX2_writeRule 32 = .ok (.aload_n 0, 1) := dk_42 (dk_at dksX2_writeRule_1 10 rfl rfl)
theorem dX2_writeRule_33 : decode cX2_writeRule 33 = .ok (.getfield 90, 3) := dk_180 0 90 (dk_at dksX2_writeRule_1 11 rfl rfl)
theorem dX2_writeRule_36 : decode cX2_writeRule 36 = .ok (.iconst 1, 1) := dk_4 (dk_at dksX2_writeRule_1 14 rfl rfl)
theorem dX2_writeRule_37 : decode cX2_writeRule 37 = .ok (.bipush 61, 2) := dk_16 61 (dk_at dksX2_writeRule_1 15 rfl rfl)
theorem dX2_writeRule_39 : decode cX2_writeRule 39 = .ok (.iastore, 1) := dk_79 (dk_at dksX2_writeRule_1 17 rfl rfl)
theorem dX2_writeRule_40 : decode cX2_writeRule 40 = .ok (.aload_n 0, 1) := dk_42 (dk_at dksX2_writeRule_1 18 rfl rfl)
theorem dX2_writeRule_41 : decode cX2_writeRule 41 = .ok (.iconst 2, 1) := dk_5 (dk_at dksX2_writeRule_1 19 rfl rfl)
theorem dX2_writeRule_42 : decode cX2_writeRule 42 = .ok (.putfield 396, 3) := dk_181 1 140 (dk_at dksX2_writeRule_1 20 rfl rfl)
theorem dX2_writeRule_45 : decode cX2_writeRule 45 = .ok (.iconst 0, 1) := dk_3 (dk_at dksX2_writeRule_1 23 rfl rfl)
theorem dX2_writeRule_46 : decode cX2_writeRule 46 = .ok (.istore_n 2, 1) := dk_61 (dk_at dksX2_writeRule_2 0 rfl rfl)
theorem dX2_writeRule_47 : decode cX2_writeRule 47 = .ok (.iload_n 2, 1) := dk_28 (dk_at dksX2_writeRule_2 1 rfl rfl)
theorem dX2_writeRule_48 : decode cX2_writeRule 48 = .ok (.aload_n 0, 1) := dk_42 (dk_at dksX2_writeRule_2 2 rfl rfl)
theorem dX2_writeRule_49 : decode cX2_writeRule 49 = .ok (.getfield 13, 3) := dk_180 0 13 (dk_at dksX2_writeRule_2 3 rfl rfl)
theorem dX2_writeRule_52 : decode cX2_writeRule 52 = .ok (.iload_n 1, 1) := dk_27 (dk_at dksX2_writeRule_2 6 rfl rfl)
theorem dX2_writeRule_53 : decode cX2_writeRule 53 = .ok (.iaload, 1) := dk_46 (dk_at dksX2_writeRule_2 7 rfl rfl)
theorem dX2_writeRule_54 : decode cX2_writeRule 54 = .ok (.if_icmp .ge 64, 3) := dk_162 0 64 (dk_at dksX2_writeRule_2 8 rfl rfl)
theorem dX2_writeRule_57 : decode cX2_writeRule 57 = .ok (.aload_n 0, 1) := dk_42 (dk_at dksX2_writeRule_2 11 rfl rfl)
theorem dX2_writeRule_58 : decode cX2_writeRule 58 = .ok (.getfield 90, 3) := dk_180 0 90 (dk_at dksX2_writeRule_2 12 rfl rfl)
theorem dX2_writeRule_61 : decode cX2_writeRule 61 = .ok (.aload_n 0, 1) := dk_42 (dk_at dksX2_writeRule_2 15 rfl rfl)
theorem dX2_writeRule_62 : decode cX2_writeRule 62 = .ok (.getfield 396, 3) := dk_180 1 140 (dk_at dksX2_writeRule_2 16 rfl rfl)
theorem dX2_writeRule_65 : decode cX2_writeRule 65 = .ok (.aload_n 0, 1) := dk_42 (dk_at dksX2_writeRule_2 19 rfl rfl)
theorem dX2_writeRule_66 : decode cX2_writeRule 66 = .ok (.iload_n 1, 1) := dk_27 (dk_at dksX2_writeRule_2 20 rfl rfl)
theorem dX2_writeRule_67 : decode cX2_writeRule 67 = .ok (.iload_n 2, 1) := dk_28 (dk_at dksX2_writeRule_2 21 rfl rfl)
theorem dX2_writeRule_68 : decode cX2_writeRule 68 = .ok (.invokevirtual 187, 3) := dk_182 0 187 (dk_at dksX2_writeRule_3 0 rfl rfl)
theorem dX2_writeRule_71 : decode cX2_writeRule 71 = .ok (.invokestatic 167, 3) := dk_184 0 167 (dk_at dksX2_writeRule_3 3 rfl rfl)
theorem dX2_writeRule_74 : decode cX2_writeRule 74 = .ok (.ifCond .eq 15, 3) := dk_153 0 15 (dk_at dksX2_writeRule_3 6 rfl rfl)
theorem dX2_writeRule_77 : decode cX2_writeRule 77 = .ok (.bipush 97, 2) := dk_16 97 (dk_at dksX2_writeRule_3 9 rfl rfl)
theorem dX2_writeRule_79 : decode cX2_writeRule 79 = .ok (.aload_n 0, 1) := dk_42 (dk_at dksX2_writeRule_3 11 rfl rfl)
theorem dX2_writeRule_80 : decode cX2_writeRule 80 = .ok (.iload_n 1, 1) := dk_27 (dk_at dksX2_writeRule_3 12 rfl rfl)
theorem dX2_writeRule_81 : decode cX2_writeRule 81 = .ok (.iload_n 2, 1) := dk_28 (dk_at dksX2_writeRule_3 13 rfl rfl)
theorem dX2_writeRule_82 : decode cX2_writeRule 82 = .ok (.invokevirtual 187, 3) := dk_182 0 187 (dk_at dksX2_writeRule_3 14 rfl rfl)
theorem dX2_writeRule_85 : decode cX2_writeRule 85 = .ok (.iadd, 1) := dk_96 (dk_at dksX2_writeRule_3 17 rfl rfl)
theorem dX2_writeRule_86 : decode cX2_writeRule 86 = .ok (.goto 15, 3) := dk_167 0 15 (dk_at dksX2_writeRule_3 18 rfl rfl)
theorem dX2_writeRule_89 : decode cX2_writeRule 89 = .ok (.bipush 65, 2) := dk_16 65 (dk_at dksX2_writeRule_3 21 rfl rfl)
theorem dX2_writeRule_91 : decode cX2_writeRule 91 = .ok (.aload_n 0, 1) := dk_42 (dk_at dksX2_writeRule_3 23 rfl rfl)
theorem dX2_writeRule_92 : decode cX2_writeRule 92 = .ok (.iload_n 1, 1) := dk_27 (dk_at dksX2_writeRule_4 0 rfl rfl)
theorem dX2_writeRule_93 : decode cX2_writeRule 93 = .ok (.iload_n 2, 1) := dk_28 (dk_at dksX2_writeRule_4 1 rfl rfl)
theorem dX2_writeRule_94 : decode cX2_writeRule 94 = .ok (.invokevirtual 187, 3) := dk_182 0 187 (dk_at dksX2_writeRule_4 2 rfl rfl)
theorem dX2_writeRule_97 : decode cX2_writeRule 97 = .ok (.iadd, 1) := dk_96 (dk_at dksX2_writeRule_4 5 rfl rfl)
theorem dX2_writeRule_98 : decode cX2_writeRule 98 = .ok (.bipush 20, 2) := dk_16 20 (dk_at dksX2_writeRule_4 6 rfl rfl)
theorem dX2_writeRule_100 : decode cX2_writeRule 100 = .ok (.isub, 1) := dk_100 (dk_at dksX2_writeRule_4 8 rfl rfl)
theorem dX2_writeRule_101 : decode cX2_writeRule 101 = .ok (.iastore, 1) := dk_79 (dk_at dksX2_writeRule_4 9 rfl rfl)
theorem dX2_writeRule_102 : decode cX2_writeRule 102 = .ok (.aload_n 0, 1) := dk_42 (dk_at dksX2_writeRule_4 10 rfl rfl)
theorem dX2_writeRule_103 : decode cX2_writeRule 103 = .ok (.dup, 1) := dk_89 (dk_at dksX2_writeRule_4 11 rfl rfl)
theorem dX2_writeRule_104 : decode cX2_writeRule 104 = .ok (.getfield 396, 3) := dk_180 1 140 (dk_at dksX2_writeRule_4 12 rfl rfl)
theorem dX2_writeRule_107 : decode cX2_writeRule 107 = .ok (.iconst 1, 1) := dk_4 (dk_at dksX2_writeRule_4 15 rfl rfl)
theorem dX2_writeRule_108 : decode cX2_writeRule 108 = .ok (.iadd, 1) := dk_96 (dk_at dksX2_writeRule_4 16 rfl rfl)
theorem dX2_writeRule_109 : decode cX2_writeRule 109 = .ok (.putfield 396, 3) := dk_181 1 140 (dk_at dksX2_writeRule_4 17 rfl rfl)
theorem dX2_writeRule_112 : decode cX2_writeRule 112 = .ok (.iinc 2 1, 3) := dk_132 2 1 (dk_at dksX2_writeRule_4 20 rfl rfl)
theorem dX2_writeRule_115 : decode cX2_writeRule 115 = .ok (.goto (-68), 3) := dk_167 255 188 (dk_at dksX2_writeRule_5 0 rfl rfl)
theorem dX2_writeRule_118 : decode cX2_writeRule 118 = .ok (.aload_n 0, 1) := dk_42 (dk_at dksX2_writeRule_5 3 rfl rfl)
theorem dX2_writeRule_119 : decode cX2_writeRule 119 = .ok (.getfield 396, 3) := dk_180 1 140 (dk_at dksX2_writeRule_5 4 rfl rfl)
theorem dX2_writeRule_122 : decode cX2_writeRule 122 = .ok (.ireturn, 1) := dk_172 (dk_at dksX2_writeRule_5 7 rfl rfl)
abbrev cX2_outputByte : ByteArray := prog_14_method_120_code
def yX2_outputByte : MethodName := ⟨RX2, "outputByte", "(I)I"⟩
def dkwX2_outputByte_1 : List UInt8 := [167, 0, 4, 2, 182, 0, 184, 172]
abbrev dktX2_outputByte_1 : List UInt8 := dkwX2_outputByte_1 ++ []
def dkwX2_outputByte_0 : List UInt8 := [42, 27, 133, 9, 42, 180, 1, 140, 4, 100, 133, 184, 0, 103, 153, 0, 12, 42, 180, 0, 90, 27, 46]
abbrev dktX2_outputByte_0 : List UInt8 := dkwX2_outputByte_0 ++ dktX2_outputByte_1
theorem dksX2_outputByte_0 : cX2_outputByte.data.toList.drop 0 = dktX2_outputByte_0 := by decide +kernel
theorem dksX2_outputByte_1 : cX2_outputByte.data.toList.drop 23 = dktX2_outputByte_1 := dk_seg dksX2_outputByte_0 23 rfl rfl
theorem dX2_outputByte_0 : decode cX2_outputByte 0 = .ok (.aload_n 0, 1) := dk_42 (dk_at dksX2_outputByte_0 0 rfl rfl)
theorem dX2_outputByte_1 : decode cX2_outputByte 1 = .ok (.iload_n 1, 1) := dk_27 (dk_at dksX2_outputByte_0 1 rfl rfl)
theorem dX2_outputByte_2 : decode cX2_outputByte 2 = .ok (.i2l, 1) := dk_133 (dk_at dksX2_outputByte_0 2 rfl rfl)
theorem dX2_outputByte_3 : decode cX2_outputByte 3 = .ok (.lconst 0, 1) := dk_9 (dk_at dksX2_outputByte_0 3 rfl rfl)
theorem dX2_outputByte_4 : decode cX2_outputByte 4 = .ok (.aload_n 0, 1) := dk_42 (dk_at dksX2_outputByte_0 4 rfl rfl)
theorem dX2_outputByte_5 : decode cX2_outputByte 5 = .ok (.getfield 396, 3) := dk_180 1 140 (dk_at dksX2_outputByte_0 5 rfl rfl)
theorem dX2_outputByte_8 : decode cX2_outputByte 8 = .ok (.iconst 1, 1) := dk_4 (dk_at dksX2_outputByte_0 8 rfl rfl)
theorem dX2_outputByte_9 : decode cX2_outputByte 9 = .ok (.isub, 1) := dk_100 (dk_at dksX2_outputByte_0 9 rfl rfl)
theorem dX2_outputByte_10 : decode cX2_outputByte 10 = .ok (.i2l, 1) := dk_133 (dk_at dksX2_outputByte_0 10 rfl rfl)
theorem dX2_outputByte_11 : decode cX2_outputByte 11 = .ok (.invokestatic 103, 3) := dk_184 0 103 (dk_at dksX2_outputByte_0 11 rfl rfl)
theorem dX2_outputByte_14 : decode cX2_outputByte 14 = .ok (.ifCond .eq 12, 3) := dk_153 0 12 (dk_at dksX2_outputByte_0 14 rfl rfl)
theorem dX2_outputByte_17 : decode cX2_outputByte 17 = .ok (.aload_n 0, 1) := dk_42 (dk_at dksX2_outputByte_0 17 rfl rfl)
theorem dX2_outputByte_18 : decode cX2_outputByte 18 = .ok (.getfield 90, 3) := dk_180 0 90 (dk_at dksX2_outputByte_0 18 rfl rfl)
theorem dX2_outputByte_21 : decode cX2_outputByte 21 = .ok (.iload_n 1, 1) := dk_27 (dk_at dksX2_outputByte_0 21 rfl rfl)
theorem dX2_outputByte_22 : decode cX2_outputByte 22 = .ok (.iaload, 1) := dk_46 (dk_at dksX2_outputByte_0 22 rfl rfl)
theorem dX2_outputByte_23 : decode cX2_outputByte 23 = .ok (.goto 4, 3) := dk_167 0 4 (dk_at dksX2_outputByte_1 0 rfl rfl)
theorem dX2_outputByte_26 : decode cX2_outputByte 26 = .ok (.iconst (-1), 1) := dk_2 (dk_at dksX2_outputByte_1 3 rfl rfl)
theorem dX2_outputByte_27 : decode cX2_outputByte 27 = .ok (.invokevirtual 184, 3) := dk_182 0 184 (dk_at dksX2_outputByte_1 4 rfl rfl)
theorem dX2_outputByte_30 : decode cX2_outputByte 30 = .ok (.ireturn, 1) := dk_172 (dk_at dksX2_outputByte_1 7 rfl rfl)
theorem q131 : (Jvm.Cond.initialized "SelahGeneratorModel") ∈ lw_all := lw_g (lw_at lw_m1 9 rfl) rfl
theorem q787 : (Jvm.Cond.selects "SelahGeneratorModel" ({ cls := "java/lang/Object", name := "getClass", desc := "()Ljava/lang/Class;" } : Jvm.MethodName) ({ cls := "java/lang/Object", name := "getClass", desc := "()Ljava/lang/Class;" } : Jvm.MethodName)) ∈ lw_all := lw_g (lw_at lw_m3 185 rfl) rfl
theorem q2370 : (Jvm.Cond.selects "SelahGeneratorModel" ({ cls := "java/lang/Object", name := "equals", desc := "(Ljava/lang/Object;)Z" } : Jvm.MethodName) ({ cls := "java/lang/Object", name := "equals", desc := "(Ljava/lang/Object;)Z" } : Jvm.MethodName)) ∈ lw_all := lw_g (lw_at lw_m10 88 rfl) rfl
theorem q2667 : (Jvm.Cond.instantiable "SelahGeneratorModel" (42 : Nat)) ∈ lw_all := lw_g (lw_at lw_m11 145 rfl) rfl
theorem q2669 : (Jvm.Cond.instanceMethod ({ cls := "SelahGeneratorModel", name := "<init>", desc := "()V" } : Jvm.MethodName)) ∈ lw_all := lw_g (lw_at lw_m11 147 rfl) rfl
theorem q2670 : (Jvm.Cond.code ({ cls := "SelahGeneratorModel", name := "<init>", desc := "()V" } : Jvm.MethodName) prog_14_method_1_code (1 : Nat) (Option.none : Option Jvm.ClassFile.FieldType)) ∈ lw_all := lw_g (lw_at lw_m11 148 rfl) rfl
theorem q2671 : (Jvm.Cond.methodLink "SelahGeneratorModel" (1 : Nat) ({ cls := "java/lang/Object", name := "<init>", desc := "()V" } : Jvm.MethodName)) ∈ lw_all := lw_g (lw_at lw_m11 149 rfl) rfl
theorem q2672 : (Jvm.Cond.fieldLink "SelahGeneratorModel" (7 : Nat) "SelahGeneratorModel" "left" "[I") ∈ lw_all := lw_g (lw_at lw_m11 150 rfl) rfl
theorem q2673 : (Jvm.Cond.fieldLink "SelahGeneratorModel" (13 : Nat) "SelahGeneratorModel" "length" "[I") ∈ lw_all := lw_g (lw_at lw_m11 151 rfl) rfl
theorem q2674 : (Jvm.Cond.fieldLink "SelahGeneratorModel" (16 : Nat) "SelahGeneratorModel" "right" "[I") ∈ lw_all := lw_g (lw_at lw_m11 152 rfl) rfl
theorem q2675 : (Jvm.Cond.fieldLink "SelahGeneratorModel" (19 : Nat) "SelahGeneratorModel" "heldLeft" "[I") ∈ lw_all := lw_g (lw_at lw_m11 153 rfl) rfl
theorem q2676 : (Jvm.Cond.fieldLink "SelahGeneratorModel" (22 : Nat) "SelahGeneratorModel" "heldLength" "[I") ∈ lw_all := lw_g (lw_at lw_m11 154 rfl) rfl
theorem q2677 : (Jvm.Cond.fieldLink "SelahGeneratorModel" (25 : Nat) "SelahGeneratorModel" "heldRight" "[I") ∈ lw_all := lw_g (lw_at lw_m11 155 rfl) rfl
theorem q2678 : (Jvm.Cond.fieldLink "SelahGeneratorModel" (113 : Nat) "SelahGeneratorModel" "rules" "I") ∈ lw_all := lw_g (lw_at lw_m11 156 rfl) rfl
theorem q2679 : (Jvm.Cond.fieldLink "SelahGeneratorModel" (124 : Nat) "SelahGeneratorModel" "heldRules" "I") ∈ lw_all := lw_g (lw_at lw_m11 157 rfl) rfl
theorem q2680 : (Jvm.Cond.fieldLink "SelahGeneratorModel" (93 : Nat) "SelahGeneratorModel" "code" "I") ∈ lw_all := lw_g (lw_at lw_m11 158 rfl) rfl
theorem q2681 : (Jvm.Cond.fieldLink "SelahGeneratorModel" (28 : Nat) "SelahGeneratorModel" "first" "[I") ∈ lw_all := lw_g (lw_at lw_m11 159 rfl) rfl
theorem q2682 : (Jvm.Cond.fieldLink "SelahGeneratorModel" (31 : Nat) "SelahGeneratorModel" "follow" "[I") ∈ lw_all := lw_g (lw_at lw_m11 160 rfl) rfl
theorem q2683 : (Jvm.Cond.fieldLink "SelahGeneratorModel" (195 : Nat) "SelahGeneratorModel" "nullable" "I") ∈ lw_all := lw_g (lw_at lw_m11 161 rfl) rfl
theorem q2684 : (Jvm.Cond.fieldLink "SelahGeneratorModel" (218 : Nat) "SelahGeneratorModel" "rounds" "I") ∈ lw_all := lw_g (lw_at lw_m11 162 rfl) rfl
theorem q2685 : (Jvm.Cond.fieldLink "SelahGeneratorModel" (127 : Nat) "SelahGeneratorModel" "isKnown" "Z") ∈ lw_all := lw_g (lw_at lw_m11 163 rfl) rfl
theorem q2686 : (Jvm.Cond.fieldLink "SelahGeneratorModel" (34 : Nat) "SelahGeneratorModel" "shortest" "[I") ∈ lw_all := lw_g (lw_at lw_m11 164 rfl) rfl
theorem q2687 : (Jvm.Cond.fieldLink "SelahGeneratorModel" (37 : Nat) "SelahGeneratorModel" "firsts" "[Z") ∈ lw_all := lw_g (lw_at lw_m11 165 rfl) rfl
theorem q2688 : (Jvm.Cond.fieldLink "SelahGeneratorModel" (41 : Nat) "SelahGeneratorModel" "follows" "[Z") ∈ lw_all := lw_g (lw_at lw_m11 166 rfl) rfl
theorem q2689 : (Jvm.Cond.fieldLink "SelahGeneratorModel" (44 : Nat) "SelahGeneratorModel" "now" "[Z") ∈ lw_all := lw_g (lw_at lw_m11 167 rfl) rfl
theorem q2690 : (Jvm.Cond.fieldLink "SelahGeneratorModel" (47 : Nat) "SelahGeneratorModel" "next" "[Z") ∈ lw_all := lw_g (lw_at lw_m11 168 rfl) rfl
theorem q2691 : (Jvm.Cond.fieldLink "SelahGeneratorModel" (131 : Nat) "SelahGeneratorModel" "arePairsKnown" "Z") ∈ lw_all := lw_g (lw_at lw_m11 169 rfl) rfl
theorem q2692 : (Jvm.Cond.fieldLink "SelahGeneratorModel" (50 : Nat) "SelahGeneratorModel" "pairs" "[Z") ∈ lw_all := lw_g (lw_at lw_m11 170 rfl) rfl
theorem q2693 : (Jvm.Cond.fieldLink "SelahGeneratorModel" (53 : Nat) "SelahGeneratorModel" "reached" "[I") ∈ lw_all := lw_g (lw_at lw_m11 171 rfl) rfl
theorem q2694 : (Jvm.Cond.fieldLink "SelahGeneratorModel" (56 : Nat) "SelahGeneratorModel" "tail" "[I") ∈ lw_all := lw_g (lw_at lw_m11 172 rfl) rfl
theorem q2695 : (Jvm.Cond.fieldLink "SelahGeneratorModel" (59 : Nat) "SelahGeneratorModel" "others" "[I") ∈ lw_all := lw_g (lw_at lw_m11 173 rfl) rfl
theorem q2696 : (Jvm.Cond.fieldLink "SelahGeneratorModel" (62 : Nat) "SelahGeneratorModel" "stack" "[I") ∈ lw_all := lw_g (lw_at lw_m11 174 rfl) rfl
theorem q2697 : (Jvm.Cond.fieldLink "SelahGeneratorModel" (65 : Nat) "SelahGeneratorModel" "tokens" "[I") ∈ lw_all := lw_g (lw_at lw_m11 175 rfl) rfl
theorem q2698 : (Jvm.Cond.fieldLink "SelahGeneratorModel" (68 : Nat) "SelahGeneratorModel" "appliedOnes" "[I") ∈ lw_all := lw_g (lw_at lw_m11 176 rfl) rfl
theorem q2699 : (Jvm.Cond.fieldLink "SelahGeneratorModel" (71 : Nat) "SelahGeneratorModel" "errorAt" "[I") ∈ lw_all := lw_g (lw_at lw_m11 177 rfl) rfl
theorem q2700 : (Jvm.Cond.fieldLink "SelahGeneratorModel" (74 : Nat) "SelahGeneratorModel" "errorBy" "[I") ∈ lw_all := lw_g (lw_at lw_m11 178 rfl) rfl
theorem q2701 : (Jvm.Cond.fieldLink "SelahGeneratorModel" (77 : Nat) "SelahGeneratorModel" "errorSkips" "[Z") ∈ lw_all := lw_g (lw_at lw_m11 179 rfl) rfl
theorem q2702 : (Jvm.Cond.fieldLink "SelahGeneratorModel" (134 : Nat) "SelahGeneratorModel" "state" "I") ∈ lw_all := lw_g (lw_at lw_m11 180 rfl) rfl
theorem q2703 : (Jvm.Cond.fieldLink "SelahGeneratorModel" (341 : Nat) "SelahGeneratorModel" "ahead" "I") ∈ lw_all := lw_g (lw_at lw_m11 181 rfl) rfl
theorem q2704 : (Jvm.Cond.fieldLink "SelahGeneratorModel" (137 : Nat) "SelahGeneratorModel" "given" "I") ∈ lw_all := lw_g (lw_at lw_m11 182 rfl) rfl
theorem q2705 : (Jvm.Cond.fieldLink "SelahGeneratorModel" (140 : Nat) "SelahGeneratorModel" "depth" "I") ∈ lw_all := lw_g (lw_at lw_m11 183 rfl) rfl
theorem q2706 : (Jvm.Cond.fieldLink "SelahGeneratorModel" (143 : Nat) "SelahGeneratorModel" "applied" "I") ∈ lw_all := lw_g (lw_at lw_m11 184 rfl) rfl
theorem q2707 : (Jvm.Cond.fieldLink "SelahGeneratorModel" (146 : Nat) "SelahGeneratorModel" "errors" "I") ∈ lw_all := lw_g (lw_at lw_m11 185 rfl) rfl
theorem q2708 : (Jvm.Cond.fieldLink "SelahGeneratorModel" (344 : Nat) "SelahGeneratorModel" "pending" "I") ∈ lw_all := lw_g (lw_at lw_m11 186 rfl) rfl
theorem q2709 : (Jvm.Cond.fieldLink "SelahGeneratorModel" (80 : Nat) "SelahGeneratorModel" "spans" "[J") ∈ lw_all := lw_g (lw_at lw_m11 187 rfl) rfl
theorem q2710 : (Jvm.Cond.fieldLink "SelahGeneratorModel" (84 : Nat) "SelahGeneratorModel" "ways" "[J") ∈ lw_all := lw_g (lw_at lw_m11 188 rfl) rfl
theorem q2711 : (Jvm.Cond.fieldLink "SelahGeneratorModel" (87 : Nat) "SelahGeneratorModel" "more" "[J") ∈ lw_all := lw_g (lw_at lw_m11 189 rfl) rfl
theorem q2712 : (Jvm.Cond.fieldLink "SelahGeneratorModel" (90 : Nat) "SelahGeneratorModel" "page" "[I") ∈ lw_all := lw_g (lw_at lw_m11 190 rfl) rfl
theorem q2713 : (Jvm.Cond.fieldLink "SelahGeneratorModel" (396 : Nat) "SelahGeneratorModel" "printed" "I") ∈ lw_all := lw_g (lw_at lw_m11 191 rfl) rfl
theorem q2714 : (Jvm.Cond.laysFinal "SelahGeneratorModel" "SelahGeneratorModel" "left" "[I") ∈ lw_all := lw_g (lw_at lw_m11 192 rfl) rfl
theorem q2715 : (Jvm.Cond.soleField "SelahGeneratorModel" "left") ∈ lw_all := lw_g (lw_at lw_m11 193 rfl) rfl
theorem q2716 : (Jvm.Cond.laysFinal "SelahGeneratorModel" "SelahGeneratorModel" "length" "[I") ∈ lw_all := lw_g (lw_at lw_m11 194 rfl) rfl
theorem q2717 : (Jvm.Cond.soleField "SelahGeneratorModel" "length") ∈ lw_all := lw_g (lw_at lw_m11 195 rfl) rfl
theorem q2718 : (Jvm.Cond.laysFinal "SelahGeneratorModel" "SelahGeneratorModel" "right" "[I") ∈ lw_all := lw_g (lw_at lw_m11 196 rfl) rfl
theorem q2719 : (Jvm.Cond.soleField "SelahGeneratorModel" "right") ∈ lw_all := lw_g (lw_at lw_m11 197 rfl) rfl
theorem q2720 : (Jvm.Cond.laysFinal "SelahGeneratorModel" "SelahGeneratorModel" "heldLeft" "[I") ∈ lw_all := lw_g (lw_at lw_m11 198 rfl) rfl
theorem q2721 : (Jvm.Cond.soleField "SelahGeneratorModel" "heldLeft") ∈ lw_all := lw_g (lw_at lw_m11 199 rfl) rfl
theorem q2722 : (Jvm.Cond.laysFinal "SelahGeneratorModel" "SelahGeneratorModel" "heldLength" "[I") ∈ lw_all := lw_g (lw_at lw_m11 200 rfl) rfl
theorem q2723 : (Jvm.Cond.soleField "SelahGeneratorModel" "heldLength") ∈ lw_all := lw_g (lw_at lw_m11 201 rfl) rfl
theorem q2724 : (Jvm.Cond.laysFinal "SelahGeneratorModel" "SelahGeneratorModel" "heldRight" "[I") ∈ lw_all := lw_g (lw_at lw_m11 202 rfl) rfl
theorem q2725 : (Jvm.Cond.soleField "SelahGeneratorModel" "heldRight") ∈ lw_all := lw_g (lw_at lw_m11 203 rfl) rfl
theorem q2726 : (Jvm.Cond.lays "SelahGeneratorModel" "SelahGeneratorModel" "rules" "I") ∈ lw_all := lw_g (lw_at lw_m11 204 rfl) rfl
theorem q2727 : (Jvm.Cond.soleField "SelahGeneratorModel" "rules") ∈ lw_all := lw_g (lw_at lw_m11 205 rfl) rfl
theorem q2728 : (Jvm.Cond.lays "SelahGeneratorModel" "SelahGeneratorModel" "heldRules" "I") ∈ lw_all := lw_g (lw_at lw_m11 206 rfl) rfl
theorem q2729 : (Jvm.Cond.soleField "SelahGeneratorModel" "heldRules") ∈ lw_all := lw_g (lw_at lw_m11 207 rfl) rfl
theorem q2730 : (Jvm.Cond.lays "SelahGeneratorModel" "SelahGeneratorModel" "code" "I") ∈ lw_all := lw_g (lw_at lw_m11 208 rfl) rfl
theorem q2731 : (Jvm.Cond.soleField "SelahGeneratorModel" "code") ∈ lw_all := lw_g (lw_at lw_m11 209 rfl) rfl
theorem q2732 : (Jvm.Cond.laysFinal "SelahGeneratorModel" "SelahGeneratorModel" "first" "[I") ∈ lw_all := lw_g (lw_at lw_m11 210 rfl) rfl
theorem q2733 : (Jvm.Cond.soleField "SelahGeneratorModel" "first") ∈ lw_all := lw_g (lw_at lw_m11 211 rfl) rfl
theorem q2734 : (Jvm.Cond.laysFinal "SelahGeneratorModel" "SelahGeneratorModel" "follow" "[I") ∈ lw_all := lw_g (lw_at lw_m11 212 rfl) rfl
theorem q2735 : (Jvm.Cond.soleField "SelahGeneratorModel" "follow") ∈ lw_all := lw_g (lw_at lw_m11 213 rfl) rfl
theorem q2736 : (Jvm.Cond.lays "SelahGeneratorModel" "SelahGeneratorModel" "nullable" "I") ∈ lw_all := lw_g (lw_at lw_m11 214 rfl) rfl
theorem q2737 : (Jvm.Cond.soleField "SelahGeneratorModel" "nullable") ∈ lw_all := lw_g (lw_at lw_m11 215 rfl) rfl
theorem q2738 : (Jvm.Cond.lays "SelahGeneratorModel" "SelahGeneratorModel" "rounds" "I") ∈ lw_all := lw_g (lw_at lw_m11 216 rfl) rfl
theorem q2739 : (Jvm.Cond.soleField "SelahGeneratorModel" "rounds") ∈ lw_all := lw_g (lw_at lw_m11 217 rfl) rfl
theorem q2740 : (Jvm.Cond.lays "SelahGeneratorModel" "SelahGeneratorModel" "isKnown" "Z") ∈ lw_all := lw_g (lw_at lw_m11 218 rfl) rfl
theorem q2741 : (Jvm.Cond.soleField "SelahGeneratorModel" "isKnown") ∈ lw_all := lw_g (lw_at lw_m11 219 rfl) rfl
theorem q2742 : (Jvm.Cond.laysFinal "SelahGeneratorModel" "SelahGeneratorModel" "shortest" "[I") ∈ lw_all := lw_g (lw_at lw_m11 220 rfl) rfl
theorem q2743 : (Jvm.Cond.soleField "SelahGeneratorModel" "shortest") ∈ lw_all := lw_g (lw_at lw_m11 221 rfl) rfl
theorem q2744 : (Jvm.Cond.laysFinal "SelahGeneratorModel" "SelahGeneratorModel" "firsts" "[Z") ∈ lw_all := lw_g (lw_at lw_m11 222 rfl) rfl
theorem q2745 : (Jvm.Cond.soleField "SelahGeneratorModel" "firsts") ∈ lw_all := lw_g (lw_at lw_m11 223 rfl) rfl
theorem q2746 : (Jvm.Cond.laysFinal "SelahGeneratorModel" "SelahGeneratorModel" "follows" "[Z") ∈ lw_all := lw_g (lw_at lw_m11 224 rfl) rfl
theorem q2747 : (Jvm.Cond.soleField "SelahGeneratorModel" "follows") ∈ lw_all := lw_g (lw_at lw_m11 225 rfl) rfl
theorem q2748 : (Jvm.Cond.laysFinal "SelahGeneratorModel" "SelahGeneratorModel" "now" "[Z") ∈ lw_all := lw_g (lw_at lw_m11 226 rfl) rfl
theorem q2749 : (Jvm.Cond.soleField "SelahGeneratorModel" "now") ∈ lw_all := lw_g (lw_at lw_m11 227 rfl) rfl
theorem q2750 : (Jvm.Cond.laysFinal "SelahGeneratorModel" "SelahGeneratorModel" "next" "[Z") ∈ lw_all := lw_g (lw_at lw_m11 228 rfl) rfl
theorem q2751 : (Jvm.Cond.soleField "SelahGeneratorModel" "next") ∈ lw_all := lw_g (lw_at lw_m11 229 rfl) rfl
theorem q2752 : (Jvm.Cond.lays "SelahGeneratorModel" "SelahGeneratorModel" "arePairsKnown" "Z") ∈ lw_all := lw_g (lw_at lw_m11 230 rfl) rfl
theorem q2753 : (Jvm.Cond.soleField "SelahGeneratorModel" "arePairsKnown") ∈ lw_all := lw_g (lw_at lw_m11 231 rfl) rfl
theorem q2754 : (Jvm.Cond.laysFinal "SelahGeneratorModel" "SelahGeneratorModel" "pairs" "[Z") ∈ lw_all := lw_g (lw_at lw_m11 232 rfl) rfl
theorem q2755 : (Jvm.Cond.soleField "SelahGeneratorModel" "pairs") ∈ lw_all := lw_g (lw_at lw_m11 233 rfl) rfl
theorem q2756 : (Jvm.Cond.laysFinal "SelahGeneratorModel" "SelahGeneratorModel" "reached" "[I") ∈ lw_all := lw_g (lw_at lw_m11 234 rfl) rfl
theorem q2757 : (Jvm.Cond.soleField "SelahGeneratorModel" "reached") ∈ lw_all := lw_g (lw_at lw_m11 235 rfl) rfl
theorem q2758 : (Jvm.Cond.laysFinal "SelahGeneratorModel" "SelahGeneratorModel" "tail" "[I") ∈ lw_all := lw_g (lw_at lw_m11 236 rfl) rfl
theorem q2759 : (Jvm.Cond.soleField "SelahGeneratorModel" "tail") ∈ lw_all := lw_g (lw_at lw_m11 237 rfl) rfl
theorem q2760 : (Jvm.Cond.laysFinal "SelahGeneratorModel" "SelahGeneratorModel" "others" "[I") ∈ lw_all := lw_g (lw_at lw_m11 238 rfl) rfl
theorem q2761 : (Jvm.Cond.soleField "SelahGeneratorModel" "others") ∈ lw_all := lw_g (lw_at lw_m11 239 rfl) rfl
theorem q2762 : (Jvm.Cond.laysFinal "SelahGeneratorModel" "SelahGeneratorModel" "stack" "[I") ∈ lw_all := lw_g (lw_at lw_m12 0 rfl) rfl
theorem q2763 : (Jvm.Cond.soleField "SelahGeneratorModel" "stack") ∈ lw_all := lw_g (lw_at lw_m12 1 rfl) rfl
theorem q2764 : (Jvm.Cond.laysFinal "SelahGeneratorModel" "SelahGeneratorModel" "tokens" "[I") ∈ lw_all := lw_g (lw_at lw_m12 2 rfl) rfl
theorem q2765 : (Jvm.Cond.soleField "SelahGeneratorModel" "tokens") ∈ lw_all := lw_g (lw_at lw_m12 3 rfl) rfl
theorem q2766 : (Jvm.Cond.laysFinal "SelahGeneratorModel" "SelahGeneratorModel" "appliedOnes" "[I") ∈ lw_all := lw_g (lw_at lw_m12 4 rfl) rfl
theorem q2767 : (Jvm.Cond.soleField "SelahGeneratorModel" "appliedOnes") ∈ lw_all := lw_g (lw_at lw_m12 5 rfl) rfl
theorem q2768 : (Jvm.Cond.laysFinal "SelahGeneratorModel" "SelahGeneratorModel" "errorAt" "[I") ∈ lw_all := lw_g (lw_at lw_m12 6 rfl) rfl
theorem q2769 : (Jvm.Cond.soleField "SelahGeneratorModel" "errorAt") ∈ lw_all := lw_g (lw_at lw_m12 7 rfl) rfl
theorem q2770 : (Jvm.Cond.laysFinal "SelahGeneratorModel" "SelahGeneratorModel" "errorBy" "[I") ∈ lw_all := lw_g (lw_at lw_m12 8 rfl) rfl
theorem q2771 : (Jvm.Cond.soleField "SelahGeneratorModel" "errorBy") ∈ lw_all := lw_g (lw_at lw_m12 9 rfl) rfl
theorem q2772 : (Jvm.Cond.laysFinal "SelahGeneratorModel" "SelahGeneratorModel" "errorSkips" "[Z") ∈ lw_all := lw_g (lw_at lw_m12 10 rfl) rfl
theorem q2773 : (Jvm.Cond.soleField "SelahGeneratorModel" "errorSkips") ∈ lw_all := lw_g (lw_at lw_m12 11 rfl) rfl
theorem q2774 : (Jvm.Cond.lays "SelahGeneratorModel" "SelahGeneratorModel" "state" "I") ∈ lw_all := lw_g (lw_at lw_m12 12 rfl) rfl
theorem q2775 : (Jvm.Cond.soleField "SelahGeneratorModel" "state") ∈ lw_all := lw_g (lw_at lw_m12 13 rfl) rfl
theorem q2776 : (Jvm.Cond.lays "SelahGeneratorModel" "SelahGeneratorModel" "ahead" "I") ∈ lw_all := lw_g (lw_at lw_m12 14 rfl) rfl
theorem q2777 : (Jvm.Cond.soleField "SelahGeneratorModel" "ahead") ∈ lw_all := lw_g (lw_at lw_m12 15 rfl) rfl
theorem q2778 : (Jvm.Cond.lays "SelahGeneratorModel" "SelahGeneratorModel" "given" "I") ∈ lw_all := lw_g (lw_at lw_m12 16 rfl) rfl
theorem q2779 : (Jvm.Cond.soleField "SelahGeneratorModel" "given") ∈ lw_all := lw_g (lw_at lw_m12 17 rfl) rfl
theorem q2780 : (Jvm.Cond.lays "SelahGeneratorModel" "SelahGeneratorModel" "depth" "I") ∈ lw_all := lw_g (lw_at lw_m12 18 rfl) rfl
theorem q2781 : (Jvm.Cond.soleField "SelahGeneratorModel" "depth") ∈ lw_all := lw_g (lw_at lw_m12 19 rfl) rfl
theorem q2782 : (Jvm.Cond.lays "SelahGeneratorModel" "SelahGeneratorModel" "applied" "I") ∈ lw_all := lw_g (lw_at lw_m12 20 rfl) rfl
theorem q2783 : (Jvm.Cond.soleField "SelahGeneratorModel" "applied") ∈ lw_all := lw_g (lw_at lw_m12 21 rfl) rfl
theorem q2784 : (Jvm.Cond.lays "SelahGeneratorModel" "SelahGeneratorModel" "errors" "I") ∈ lw_all := lw_g (lw_at lw_m12 22 rfl) rfl
theorem q2785 : (Jvm.Cond.soleField "SelahGeneratorModel" "errors") ∈ lw_all := lw_g (lw_at lw_m12 23 rfl) rfl
theorem q2786 : (Jvm.Cond.lays "SelahGeneratorModel" "SelahGeneratorModel" "pending" "I") ∈ lw_all := lw_g (lw_at lw_m12 24 rfl) rfl
theorem q2787 : (Jvm.Cond.soleField "SelahGeneratorModel" "pending") ∈ lw_all := lw_g (lw_at lw_m12 25 rfl) rfl
theorem q2788 : (Jvm.Cond.laysFinal "SelahGeneratorModel" "SelahGeneratorModel" "spans" "[J") ∈ lw_all := lw_g (lw_at lw_m12 26 rfl) rfl
theorem q2789 : (Jvm.Cond.soleField "SelahGeneratorModel" "spans") ∈ lw_all := lw_g (lw_at lw_m12 27 rfl) rfl
theorem q2790 : (Jvm.Cond.laysFinal "SelahGeneratorModel" "SelahGeneratorModel" "ways" "[J") ∈ lw_all := lw_g (lw_at lw_m12 28 rfl) rfl
theorem q2791 : (Jvm.Cond.soleField "SelahGeneratorModel" "ways") ∈ lw_all := lw_g (lw_at lw_m12 29 rfl) rfl
theorem q2792 : (Jvm.Cond.laysFinal "SelahGeneratorModel" "SelahGeneratorModel" "more" "[J") ∈ lw_all := lw_g (lw_at lw_m12 30 rfl) rfl
theorem q2793 : (Jvm.Cond.soleField "SelahGeneratorModel" "more") ∈ lw_all := lw_g (lw_at lw_m12 31 rfl) rfl
theorem q2794 : (Jvm.Cond.laysFinal "SelahGeneratorModel" "SelahGeneratorModel" "page" "[I") ∈ lw_all := lw_g (lw_at lw_m12 32 rfl) rfl
theorem q2795 : (Jvm.Cond.soleField "SelahGeneratorModel" "page") ∈ lw_all := lw_g (lw_at lw_m12 33 rfl) rfl
theorem q2796 : (Jvm.Cond.lays "SelahGeneratorModel" "SelahGeneratorModel" "printed" "I") ∈ lw_all := lw_g (lw_at lw_m12 34 rfl) rfl
theorem q2797 : (Jvm.Cond.soleField "SelahGeneratorModel" "printed") ∈ lw_all := lw_g (lw_at lw_m12 35 rfl) rfl
theorem q2798 : (Jvm.Cond.superclass "SelahGeneratorModel" "java/lang/Object") ∈ lw_all := lw_g (lw_at lw_m12 36 rfl) rfl
theorem q2801 : (Jvm.Cond.instanceMethod ({ cls := "SelahGeneratorModel", name := "thrown", desc := "()I" } : Jvm.MethodName)) ∈ lw_all := lw_g (lw_at lw_m12 39 rfl) rfl
theorem q2802 : (Jvm.Cond.selects "SelahGeneratorModel" ({ cls := "SelahGeneratorModel", name := "thrown", desc := "()I" } : Jvm.MethodName) ({ cls := "SelahGeneratorModel", name := "thrown", desc := "()I" } : Jvm.MethodName)) ∈ lw_all := lw_g (lw_at lw_m12 40 rfl) rfl
theorem q2803 : (Jvm.Cond.code ({ cls := "SelahGeneratorModel", name := "thrown", desc := "()I" } : Jvm.MethodName) prog_14_method_2_code (1 : Nat) (Option.some Jvm.ClassFile.FieldType.int)) ∈ lw_all := lw_g (lw_at lw_m12 41 rfl) rfl
theorem q2805 : (Jvm.Cond.instanceMethod ({ cls := "SelahGeneratorModel", name := "addRule", desc := "(I)I" } : Jvm.MethodName)) ∈ lw_all := lw_g (lw_at lw_m12 43 rfl) rfl
theorem q2806 : (Jvm.Cond.selects "SelahGeneratorModel" ({ cls := "SelahGeneratorModel", name := "addRule", desc := "(I)I" } : Jvm.MethodName) ({ cls := "SelahGeneratorModel", name := "addRule", desc := "(I)I" } : Jvm.MethodName)) ∈ lw_all := lw_g (lw_at lw_m12 44 rfl) rfl
theorem q2807 : (Jvm.Cond.code ({ cls := "SelahGeneratorModel", name := "addRule", desc := "(I)I" } : Jvm.MethodName) prog_14_method_24_code (2 : Nat) (Option.some Jvm.ClassFile.FieldType.int)) ∈ lw_all := lw_g (lw_at lw_m12 45 rfl) rfl
theorem q2808 : (Jvm.Cond.methodLink "SelahGeneratorModel" (149 : Nat) ({ cls := "SelahGeneratorModel", name := "isNonterminal", desc := "(I)Z" } : Jvm.MethodName)) ∈ lw_all := lw_g (lw_at lw_m12 46 rfl) rfl
theorem q2809 : (Jvm.Cond.static ({ cls := "SelahGeneratorModel", name := "isNonterminal", desc := "(I)Z" } : Jvm.MethodName)) ∈ lw_all := lw_g (lw_at lw_m12 47 rfl) rfl
theorem q2810 : (Jvm.Cond.code ({ cls := "SelahGeneratorModel", name := "isNonterminal", desc := "(I)Z" } : Jvm.MethodName) prog_14_method_10_code (1 : Nat) (Option.some Jvm.ClassFile.FieldType.boolean)) ∈ lw_all := lw_g (lw_at lw_m12 48 rfl) rfl
theorem q2811 : (Jvm.Cond.constantLong "SelahGeneratorModel" (107 : Nat) (20 : Int64)) ∈ lw_all := lw_g (lw_at lw_m12 49 rfl) rfl
theorem q2812 : (Jvm.Cond.constantLong "SelahGeneratorModel" (109 : Nat) (31 : Int64)) ∈ lw_all := lw_g (lw_at lw_m12 50 rfl) rfl
theorem q2813 : (Jvm.Cond.methodLink "SelahGeneratorModel" (103 : Nat) ({ cls := "SelahGeneratorModel", name := "isIn", desc := "(JJJ)Z" } : Jvm.MethodName)) ∈ lw_all := lw_g (lw_at lw_m12 51 rfl) rfl
theorem q2814 : (Jvm.Cond.static ({ cls := "SelahGeneratorModel", name := "isIn", desc := "(JJJ)Z" } : Jvm.MethodName)) ∈ lw_all := lw_g (lw_at lw_m12 52 rfl) rfl
theorem q2815 : (Jvm.Cond.code ({ cls := "SelahGeneratorModel", name := "isIn", desc := "(JJJ)Z" } : Jvm.MethodName) prog_14_method_3_code (6 : Nat) (Option.some Jvm.ClassFile.FieldType.boolean)) ∈ lw_all := lw_g (lw_at lw_m12 53 rfl) rfl
theorem q2816 : (Jvm.Cond.methodLink "SelahGeneratorModel" (153 : Nat) ({ cls := "SelahGeneratorModel", name := "goesBoth", desc := "(ZZ)Z" } : Jvm.MethodName)) ∈ lw_all := lw_g (lw_at lw_m12 54 rfl) rfl
theorem q2817 : (Jvm.Cond.privateMethod ({ cls := "SelahGeneratorModel", name := "goesBoth", desc := "(ZZ)Z" } : Jvm.MethodName)) ∈ lw_tbl := lw_at lw_m12 55 rfl
theorem q2818 : (Jvm.Cond.instanceMethod ({ cls := "SelahGeneratorModel", name := "goesBoth", desc := "(ZZ)Z" } : Jvm.MethodName)) ∈ lw_all := lw_g (lw_at lw_m12 56 rfl) rfl
theorem q2819 : (Jvm.Cond.code ({ cls := "SelahGeneratorModel", name := "goesBoth", desc := "(ZZ)Z" } : Jvm.MethodName) prog_14_method_6_code (3 : Nat) (Option.some Jvm.ClassFile.FieldType.boolean)) ∈ lw_all := lw_g (lw_at lw_m12 57 rfl) rfl
theorem q2820 : (Jvm.Cond.methodLink "SelahGeneratorModel" (157 : Nat) ({ cls := "SelahGeneratorModel", name := "changes", desc := "()V" } : Jvm.MethodName)) ∈ lw_all := lw_g (lw_at lw_m12 58 rfl) rfl
theorem q2821 : (Jvm.Cond.privateMethod ({ cls := "SelahGeneratorModel", name := "changes", desc := "()V" } : Jvm.MethodName)) ∈ lw_tbl := lw_at lw_m12 59 rfl
theorem q2822 : (Jvm.Cond.instanceMethod ({ cls := "SelahGeneratorModel", name := "changes", desc := "()V" } : Jvm.MethodName)) ∈ lw_all := lw_g (lw_at lw_m12 60 rfl) rfl
theorem q2823 : (Jvm.Cond.code ({ cls := "SelahGeneratorModel", name := "changes", desc := "()V" } : Jvm.MethodName) prog_14_method_23_code (1 : Nat) (Option.none : Option Jvm.ClassFile.FieldType)) ∈ lw_all := lw_g (lw_at lw_m12 61 rfl) rfl
theorem q2824 : (Jvm.Cond.methodLink "SelahGeneratorModel" (160 : Nat) ({ cls := "SelahGeneratorModel", name := "begins", desc := "(I)I" } : Jvm.MethodName)) ∈ lw_all := lw_g (lw_at lw_m12 62 rfl) rfl
theorem q2825 : (Jvm.Cond.privateMethod ({ cls := "SelahGeneratorModel", name := "begins", desc := "(I)I" } : Jvm.MethodName)) ∈ lw_tbl := lw_at lw_m12 63 rfl
theorem q2826 : (Jvm.Cond.instanceMethod ({ cls := "SelahGeneratorModel", name := "begins", desc := "(I)I" } : Jvm.MethodName)) ∈ lw_all := lw_g (lw_at lw_m12 64 rfl) rfl
theorem q2827 : (Jvm.Cond.code ({ cls := "SelahGeneratorModel", name := "begins", desc := "(I)I" } : Jvm.MethodName) prog_14_method_19_code (2 : Nat) (Option.some Jvm.ClassFile.FieldType.int)) ∈ lw_all := lw_g (lw_at lw_m12 65 rfl) rfl
theorem q2828 : (Jvm.Cond.methodLink "SelahGeneratorModel" (120 : Nat) ({ cls := "SelahGeneratorModel", name := "opens", desc := "(I)V" } : Jvm.MethodName)) ∈ lw_all := lw_g (lw_at lw_m12 66 rfl) rfl
theorem q2829 : (Jvm.Cond.privateMethod ({ cls := "SelahGeneratorModel", name := "opens", desc := "(I)V" } : Jvm.MethodName)) ∈ lw_tbl := lw_at lw_m12 67 rfl
theorem q2830 : (Jvm.Cond.instanceMethod ({ cls := "SelahGeneratorModel", name := "opens", desc := "(I)V" } : Jvm.MethodName)) ∈ lw_all := lw_g (lw_at lw_m12 68 rfl) rfl
theorem q2831 : (Jvm.Cond.code ({ cls := "SelahGeneratorModel", name := "opens", desc := "(I)V" } : Jvm.MethodName) prog_14_method_15_code (3 : Nat) (Option.none : Option Jvm.ClassFile.FieldType)) ∈ lw_all := lw_g (lw_at lw_m12 69 rfl) rfl
theorem q2832 : (Jvm.Cond.methodLink "SelahGeneratorModel" (116 : Nat) ({ cls := "SelahGeneratorModel", name := "copies", desc := "(II)V" } : Jvm.MethodName)) ∈ lw_all := lw_g (lw_at lw_m12 70 rfl) rfl
theorem q2833 : (Jvm.Cond.privateMethod ({ cls := "SelahGeneratorModel", name := "copies", desc := "(II)V" } : Jvm.MethodName)) ∈ lw_tbl := lw_at lw_m12 71 rfl
theorem q2834 : (Jvm.Cond.instanceMethod ({ cls := "SelahGeneratorModel", name := "copies", desc := "(II)V" } : Jvm.MethodName)) ∈ lw_all := lw_g (lw_at lw_m12 72 rfl) rfl
theorem q2835 : (Jvm.Cond.code ({ cls := "SelahGeneratorModel", name := "copies", desc := "(II)V" } : Jvm.MethodName) prog_14_method_16_code (4 : Nat) (Option.none : Option Jvm.ClassFile.FieldType)) ∈ lw_all := lw_g (lw_at lw_m12 73 rfl) rfl
theorem q2837 : (Jvm.Cond.instanceMethod ({ cls := "SelahGeneratorModel", name := "append", desc := "(II)I" } : Jvm.MethodName)) ∈ lw_all := lw_g (lw_at lw_m12 75 rfl) rfl
theorem q2838 : (Jvm.Cond.selects "SelahGeneratorModel" ({ cls := "SelahGeneratorModel", name := "append", desc := "(II)I" } : Jvm.MethodName) ({ cls := "SelahGeneratorModel", name := "append", desc := "(II)I" } : Jvm.MethodName)) ∈ lw_all := lw_g (lw_at lw_m12 76 rfl) rfl
theorem q2839 : (Jvm.Cond.code ({ cls := "SelahGeneratorModel", name := "append", desc := "(II)I" } : Jvm.MethodName) prog_14_method_25_code (3 : Nat) (Option.some Jvm.ClassFile.FieldType.int)) ∈ lw_all := lw_g (lw_at lw_m12 77 rfl) rfl
theorem q2840 : (Jvm.Cond.methodLink "SelahGeneratorModel" (164 : Nat) ({ cls := "SelahGeneratorModel", name := "isRule", desc := "(I)Z" } : Jvm.MethodName)) ∈ lw_all := lw_g (lw_at lw_m12 78 rfl) rfl
theorem q2841 : (Jvm.Cond.privateMethod ({ cls := "SelahGeneratorModel", name := "isRule", desc := "(I)Z" } : Jvm.MethodName)) ∈ lw_tbl := lw_at lw_m12 79 rfl
theorem q2842 : (Jvm.Cond.instanceMethod ({ cls := "SelahGeneratorModel", name := "isRule", desc := "(I)Z" } : Jvm.MethodName)) ∈ lw_all := lw_g (lw_at lw_m12 80 rfl) rfl
theorem q2843 : (Jvm.Cond.code ({ cls := "SelahGeneratorModel", name := "isRule", desc := "(I)Z" } : Jvm.MethodName) prog_14_method_12_code (2 : Nat) (Option.some Jvm.ClassFile.FieldType.boolean)) ∈ lw_all := lw_g (lw_at lw_m12 81 rfl) rfl
theorem q2844 : (Jvm.Cond.methodLink "SelahGeneratorModel" (167 : Nat) ({ cls := "SelahGeneratorModel", name := "isTerminal", desc := "(I)Z" } : Jvm.MethodName)) ∈ lw_all := lw_g (lw_at lw_m12 82 rfl) rfl
theorem q2845 : (Jvm.Cond.static ({ cls := "SelahGeneratorModel", name := "isTerminal", desc := "(I)Z" } : Jvm.MethodName)) ∈ lw_all := lw_g (lw_at lw_m12 83 rfl) rfl
theorem q2846 : (Jvm.Cond.code ({ cls := "SelahGeneratorModel", name := "isTerminal", desc := "(I)Z" } : Jvm.MethodName) prog_14_method_9_code (1 : Nat) (Option.some Jvm.ClassFile.FieldType.boolean)) ∈ lw_all := lw_g (lw_at lw_m12 84 rfl) rfl
theorem q2847 : (Jvm.Cond.constantLong "SelahGeneratorModel" (101 : Nat) (11 : Int64)) ∈ lw_all := lw_g (lw_at lw_m12 85 rfl) rfl
theorem q2848 : (Jvm.Cond.methodLink "SelahGeneratorModel" (170 : Nat) ({ cls := "SelahGeneratorModel", name := "goesThree", desc := "(ZZZ)Z" } : Jvm.MethodName)) ∈ lw_all := lw_g (lw_at lw_m12 86 rfl) rfl
theorem q2849 : (Jvm.Cond.privateMethod ({ cls := "SelahGeneratorModel", name := "goesThree", desc := "(ZZZ)Z" } : Jvm.MethodName)) ∈ lw_tbl := lw_at lw_m12 87 rfl
theorem q2850 : (Jvm.Cond.instanceMethod ({ cls := "SelahGeneratorModel", name := "goesThree", desc := "(ZZZ)Z" } : Jvm.MethodName)) ∈ lw_all := lw_g (lw_at lw_m12 88 rfl) rfl
theorem q2851 : (Jvm.Cond.code ({ cls := "SelahGeneratorModel", name := "goesThree", desc := "(ZZZ)Z" } : Jvm.MethodName) prog_14_method_7_code (4 : Nat) (Option.some Jvm.ClassFile.FieldType.boolean)) ∈ lw_all := lw_g (lw_at lw_m12 89 rfl) rfl
theorem q2852 : (Jvm.Cond.methodLink "SelahGeneratorModel" (174 : Nat) ({ cls := "SelahGeneratorModel", name := "puts", desc := "(II)V" } : Jvm.MethodName)) ∈ lw_all := lw_g (lw_at lw_m12 90 rfl) rfl
theorem q2853 : (Jvm.Cond.privateMethod ({ cls := "SelahGeneratorModel", name := "puts", desc := "(II)V" } : Jvm.MethodName)) ∈ lw_tbl := lw_at lw_m12 91 rfl
theorem q2854 : (Jvm.Cond.instanceMethod ({ cls := "SelahGeneratorModel", name := "puts", desc := "(II)V" } : Jvm.MethodName)) ∈ lw_all := lw_g (lw_at lw_m12 92 rfl) rfl
theorem q2855 : (Jvm.Cond.code ({ cls := "SelahGeneratorModel", name := "puts", desc := "(II)V" } : Jvm.MethodName) prog_14_method_18_code (3 : Nat) (Option.none : Option Jvm.ClassFile.FieldType)) ∈ lw_all := lw_g (lw_at lw_m12 93 rfl) rfl
theorem q2857 : (Jvm.Cond.instanceMethod ({ cls := "SelahGeneratorModel", name := "removeRule", desc := "(I)I" } : Jvm.MethodName)) ∈ lw_all := lw_g (lw_at lw_m12 95 rfl) rfl
theorem q2858 : (Jvm.Cond.selects "SelahGeneratorModel" ({ cls := "SelahGeneratorModel", name := "removeRule", desc := "(I)I" } : Jvm.MethodName) ({ cls := "SelahGeneratorModel", name := "removeRule", desc := "(I)I" } : Jvm.MethodName)) ∈ lw_all := lw_g (lw_at lw_m12 96 rfl) rfl
theorem q2859 : (Jvm.Cond.code ({ cls := "SelahGeneratorModel", name := "removeRule", desc := "(I)I" } : Jvm.MethodName) prog_14_method_26_code (2 : Nat) (Option.some Jvm.ClassFile.FieldType.int)) ∈ lw_all := lw_g (lw_at lw_m12 97 rfl) rfl
theorem q2860 : (Jvm.Cond.methodLink "SelahGeneratorModel" (177 : Nat) ({ cls := "SelahGeneratorModel", name := "goes", desc := "(Z)Z" } : Jvm.MethodName)) ∈ lw_all := lw_g (lw_at lw_m12 98 rfl) rfl
theorem q2861 : (Jvm.Cond.privateMethod ({ cls := "SelahGeneratorModel", name := "goes", desc := "(Z)Z" } : Jvm.MethodName)) ∈ lw_tbl := lw_at lw_m12 99 rfl
theorem q2862 : (Jvm.Cond.instanceMethod ({ cls := "SelahGeneratorModel", name := "goes", desc := "(Z)Z" } : Jvm.MethodName)) ∈ lw_all := lw_g (lw_at lw_m12 100 rfl) rfl
theorem q2863 : (Jvm.Cond.code ({ cls := "SelahGeneratorModel", name := "goes", desc := "(Z)Z" } : Jvm.MethodName) prog_14_method_5_code (2 : Nat) (Option.some Jvm.ClassFile.FieldType.boolean)) ∈ lw_all := lw_g (lw_at lw_m12 101 rfl) rfl
theorem q2864 : (Jvm.Cond.methodLink "SelahGeneratorModel" (97 : Nat) ({ cls := "SelahGeneratorModel", name := "truth", desc := "(Z)I" } : Jvm.MethodName)) ∈ lw_all := lw_g (lw_at lw_m12 102 rfl) rfl
theorem q2865 : (Jvm.Cond.static ({ cls := "SelahGeneratorModel", name := "truth", desc := "(Z)I" } : Jvm.MethodName)) ∈ lw_all := lw_g (lw_at lw_m12 103 rfl) rfl
theorem q2866 : (Jvm.Cond.code ({ cls := "SelahGeneratorModel", name := "truth", desc := "(Z)I" } : Jvm.MethodName) prog_14_method_4_code (1 : Nat) (Option.some Jvm.ClassFile.FieldType.int)) ∈ lw_all := lw_g (lw_at lw_m12 104 rfl) rfl
theorem q2867 : (Jvm.Cond.methodLink "SelahGeneratorModel" (181 : Nat) ({ cls := "SelahGeneratorModel", name := "closes", desc := "(I)V" } : Jvm.MethodName)) ∈ lw_all := lw_g (lw_at lw_m12 105 rfl) rfl
theorem q2868 : (Jvm.Cond.privateMethod ({ cls := "SelahGeneratorModel", name := "closes", desc := "(I)V" } : Jvm.MethodName)) ∈ lw_tbl := lw_at lw_m12 106 rfl
theorem q2869 : (Jvm.Cond.instanceMethod ({ cls := "SelahGeneratorModel", name := "closes", desc := "(I)V" } : Jvm.MethodName)) ∈ lw_all := lw_g (lw_at lw_m12 107 rfl) rfl
theorem q2870 : (Jvm.Cond.code ({ cls := "SelahGeneratorModel", name := "closes", desc := "(I)V" } : Jvm.MethodName) prog_14_method_17_code (3 : Nat) (Option.none : Option Jvm.ClassFile.FieldType)) ∈ lw_all := lw_g (lw_at lw_m12 108 rfl) rfl
theorem q2872 : (Jvm.Cond.instanceMethod ({ cls := "SelahGeneratorModel", name := "ruleCount", desc := "()I" } : Jvm.MethodName)) ∈ lw_all := lw_g (lw_at lw_m12 110 rfl) rfl
theorem q2873 : (Jvm.Cond.selects "SelahGeneratorModel" ({ cls := "SelahGeneratorModel", name := "ruleCount", desc := "()I" } : Jvm.MethodName) ({ cls := "SelahGeneratorModel", name := "ruleCount", desc := "()I" } : Jvm.MethodName)) ∈ lw_all := lw_g (lw_at lw_m12 111 rfl) rfl
theorem q2874 : (Jvm.Cond.code ({ cls := "SelahGeneratorModel", name := "ruleCount", desc := "()I" } : Jvm.MethodName) prog_14_method_27_code (1 : Nat) (Option.some Jvm.ClassFile.FieldType.int)) ∈ lw_all := lw_g (lw_at lw_m12 112 rfl) rfl
theorem q2875 : (Jvm.Cond.methodLink "SelahGeneratorModel" (184 : Nat) ({ cls := "SelahGeneratorModel", name := "tellsOf", desc := "(I)I" } : Jvm.MethodName)) ∈ lw_all := lw_g (lw_at lw_m12 113 rfl) rfl
theorem q2876 : (Jvm.Cond.privateMethod ({ cls := "SelahGeneratorModel", name := "tellsOf", desc := "(I)I" } : Jvm.MethodName)) ∈ lw_tbl := lw_at lw_m12 114 rfl
theorem q2877 : (Jvm.Cond.instanceMethod ({ cls := "SelahGeneratorModel", name := "tellsOf", desc := "(I)I" } : Jvm.MethodName)) ∈ lw_all := lw_g (lw_at lw_m12 115 rfl) rfl
theorem q2878 : (Jvm.Cond.code ({ cls := "SelahGeneratorModel", name := "tellsOf", desc := "(I)I" } : Jvm.MethodName) prog_14_method_8_code (2 : Nat) (Option.some Jvm.ClassFile.FieldType.int)) ∈ lw_all := lw_g (lw_at lw_m12 116 rfl) rfl
theorem q2880 : (Jvm.Cond.instanceMethod ({ cls := "SelahGeneratorModel", name := "leftOf", desc := "(I)I" } : Jvm.MethodName)) ∈ lw_all := lw_g (lw_at lw_m12 118 rfl) rfl
theorem q2881 : (Jvm.Cond.selects "SelahGeneratorModel" ({ cls := "SelahGeneratorModel", name := "leftOf", desc := "(I)I" } : Jvm.MethodName) ({ cls := "SelahGeneratorModel", name := "leftOf", desc := "(I)I" } : Jvm.MethodName)) ∈ lw_all := lw_g (lw_at lw_m12 119 rfl) rfl
theorem q2882 : (Jvm.Cond.code ({ cls := "SelahGeneratorModel", name := "leftOf", desc := "(I)I" } : Jvm.MethodName) prog_14_method_28_code (2 : Nat) (Option.some Jvm.ClassFile.FieldType.int)) ∈ lw_all := lw_g (lw_at lw_m12 120 rfl) rfl
theorem q2884 : (Jvm.Cond.instanceMethod ({ cls := "SelahGeneratorModel", name := "lengthOf", desc := "(I)I" } : Jvm.MethodName)) ∈ lw_all := lw_g (lw_at lw_m12 122 rfl) rfl
theorem q2885 : (Jvm.Cond.selects "SelahGeneratorModel" ({ cls := "SelahGeneratorModel", name := "lengthOf", desc := "(I)I" } : Jvm.MethodName) ({ cls := "SelahGeneratorModel", name := "lengthOf", desc := "(I)I" } : Jvm.MethodName)) ∈ lw_all := lw_g (lw_at lw_m12 123 rfl) rfl
theorem q2886 : (Jvm.Cond.code ({ cls := "SelahGeneratorModel", name := "lengthOf", desc := "(I)I" } : Jvm.MethodName) prog_14_method_29_code (2 : Nat) (Option.some Jvm.ClassFile.FieldType.int)) ∈ lw_all := lw_g (lw_at lw_m12 124 rfl) rfl
theorem q2888 : (Jvm.Cond.instanceMethod ({ cls := "SelahGeneratorModel", name := "symbolAt", desc := "(II)I" } : Jvm.MethodName)) ∈ lw_all := lw_g (lw_at lw_m12 126 rfl) rfl
theorem q2889 : (Jvm.Cond.selects "SelahGeneratorModel" ({ cls := "SelahGeneratorModel", name := "symbolAt", desc := "(II)I" } : Jvm.MethodName) ({ cls := "SelahGeneratorModel", name := "symbolAt", desc := "(II)I" } : Jvm.MethodName)) ∈ lw_all := lw_g (lw_at lw_m12 127 rfl) rfl
theorem q2890 : (Jvm.Cond.code ({ cls := "SelahGeneratorModel", name := "symbolAt", desc := "(II)I" } : Jvm.MethodName) prog_14_method_30_code (3 : Nat) (Option.some Jvm.ClassFile.FieldType.int)) ∈ lw_all := lw_g (lw_at lw_m12 128 rfl) rfl
theorem q2891 : (Jvm.Cond.methodLink "SelahGeneratorModel" (187 : Nat) ({ cls := "SelahGeneratorModel", name := "at", desc := "(II)I" } : Jvm.MethodName)) ∈ lw_all := lw_g (lw_at lw_m12 129 rfl) rfl
theorem q2892 : (Jvm.Cond.privateMethod ({ cls := "SelahGeneratorModel", name := "at", desc := "(II)I" } : Jvm.MethodName)) ∈ lw_tbl := lw_at lw_m12 130 rfl
theorem q2893 : (Jvm.Cond.instanceMethod ({ cls := "SelahGeneratorModel", name := "at", desc := "(II)I" } : Jvm.MethodName)) ∈ lw_all := lw_g (lw_at lw_m12 131 rfl) rfl
theorem q2894 : (Jvm.Cond.code ({ cls := "SelahGeneratorModel", name := "at", desc := "(II)I" } : Jvm.MethodName) prog_14_method_13_code (3 : Nat) (Option.some Jvm.ClassFile.FieldType.int)) ∈ lw_all := lw_g (lw_at lw_m12 132 rfl) rfl
theorem q2896 : (Jvm.Cond.instanceMethod ({ cls := "SelahGeneratorModel", name := "usedNonterminals", desc := "()I" } : Jvm.MethodName)) ∈ lw_all := lw_g (lw_at lw_m12 134 rfl) rfl
theorem q2897 : (Jvm.Cond.selects "SelahGeneratorModel" ({ cls := "SelahGeneratorModel", name := "usedNonterminals", desc := "()I" } : Jvm.MethodName) ({ cls := "SelahGeneratorModel", name := "usedNonterminals", desc := "()I" } : Jvm.MethodName)) ∈ lw_all := lw_g (lw_at lw_m12 135 rfl) rfl
theorem q2898 : (Jvm.Cond.code ({ cls := "SelahGeneratorModel", name := "usedNonterminals", desc := "()I" } : Jvm.MethodName) prog_14_method_32_code (1 : Nat) (Option.some Jvm.ClassFile.FieldType.int)) ∈ lw_all := lw_g (lw_at lw_m12 136 rfl) rfl
theorem q2899 : (Jvm.Cond.methodLink "SelahGeneratorModel" (191 : Nat) ({ cls := "SelahGeneratorModel", name := "used", desc := "()I" } : Jvm.MethodName)) ∈ lw_all := lw_g (lw_at lw_m12 137 rfl) rfl
theorem q2900 : (Jvm.Cond.privateMethod ({ cls := "SelahGeneratorModel", name := "used", desc := "()I" } : Jvm.MethodName)) ∈ lw_tbl := lw_at lw_m12 138 rfl
theorem q2901 : (Jvm.Cond.instanceMethod ({ cls := "SelahGeneratorModel", name := "used", desc := "()I" } : Jvm.MethodName)) ∈ lw_all := lw_g (lw_at lw_m12 139 rfl) rfl
theorem q2902 : (Jvm.Cond.code ({ cls := "SelahGeneratorModel", name := "used", desc := "()I" } : Jvm.MethodName) prog_14_method_31_code (4 : Nat) (Option.some Jvm.ClassFile.FieldType.int)) ∈ lw_all := lw_g (lw_at lw_m12 140 rfl) rfl
theorem q2904 : (Jvm.Cond.instanceMethod ({ cls := "SelahGeneratorModel", name := "isNullable", desc := "(I)Z" } : Jvm.MethodName)) ∈ lw_all := lw_g (lw_at lw_m12 142 rfl) rfl
theorem q2905 : (Jvm.Cond.selects "SelahGeneratorModel" ({ cls := "SelahGeneratorModel", name := "isNullable", desc := "(I)Z" } : Jvm.MethodName) ({ cls := "SelahGeneratorModel", name := "isNullable", desc := "(I)Z" } : Jvm.MethodName)) ∈ lw_all := lw_g (lw_at lw_m12 143 rfl) rfl
theorem q2906 : (Jvm.Cond.code ({ cls := "SelahGeneratorModel", name := "isNullable", desc := "(I)Z" } : Jvm.MethodName) prog_14_method_41_code (2 : Nat) (Option.some Jvm.ClassFile.FieldType.boolean)) ∈ lw_all := lw_g (lw_at lw_m12 144 rfl) rfl
theorem q2907 : (Jvm.Cond.methodLink "SelahGeneratorModel" (227 : Nat) ({ cls := "SelahGeneratorModel", name := "knows", desc := "()V" } : Jvm.MethodName)) ∈ lw_all := lw_g (lw_at lw_m12 145 rfl) rfl
theorem q2908 : (Jvm.Cond.privateMethod ({ cls := "SelahGeneratorModel", name := "knows", desc := "()V" } : Jvm.MethodName)) ∈ lw_tbl := lw_at lw_m12 146 rfl
theorem q2909 : (Jvm.Cond.instanceMethod ({ cls := "SelahGeneratorModel", name := "knows", desc := "()V" } : Jvm.MethodName)) ∈ lw_all := lw_g (lw_at lw_m12 147 rfl) rfl
theorem q2910 : (Jvm.Cond.code ({ cls := "SelahGeneratorModel", name := "knows", desc := "()V" } : Jvm.MethodName) prog_14_method_40_code (2 : Nat) (Option.none : Option Jvm.ClassFile.FieldType)) ∈ lw_all := lw_g (lw_at lw_m12 148 rfl) rfl
theorem q2911 : (Jvm.Cond.methodLink "SelahGeneratorModel" (214 : Nat) ({ cls := "SelahGeneratorModel", name := "addsNullable", desc := "()Z" } : Jvm.MethodName)) ∈ lw_all := lw_g (lw_at lw_m12 149 rfl) rfl
theorem q2912 : (Jvm.Cond.privateMethod ({ cls := "SelahGeneratorModel", name := "addsNullable", desc := "()Z" } : Jvm.MethodName)) ∈ lw_tbl := lw_at lw_m12 150 rfl
theorem q2913 : (Jvm.Cond.instanceMethod ({ cls := "SelahGeneratorModel", name := "addsNullable", desc := "()Z" } : Jvm.MethodName)) ∈ lw_all := lw_g (lw_at lw_m12 151 rfl) rfl
theorem q2914 : (Jvm.Cond.code ({ cls := "SelahGeneratorModel", name := "addsNullable", desc := "()Z" } : Jvm.MethodName) prog_14_method_39_code (3 : Nat) (Option.some Jvm.ClassFile.FieldType.boolean)) ∈ lw_all := lw_g (lw_at lw_m12 152 rfl) rfl
theorem q2915 : (Jvm.Cond.methodLink "SelahGeneratorModel" (208 : Nat) ({ cls := "SelahGeneratorModel", name := "areEmptyable", desc := "(II)Z" } : Jvm.MethodName)) ∈ lw_all := lw_g (lw_at lw_m12 153 rfl) rfl
theorem q2916 : (Jvm.Cond.privateMethod ({ cls := "SelahGeneratorModel", name := "areEmptyable", desc := "(II)Z" } : Jvm.MethodName)) ∈ lw_tbl := lw_at lw_m12 154 rfl
theorem q2917 : (Jvm.Cond.instanceMethod ({ cls := "SelahGeneratorModel", name := "areEmptyable", desc := "(II)Z" } : Jvm.MethodName)) ∈ lw_all := lw_g (lw_at lw_m12 155 rfl) rfl
theorem q2918 : (Jvm.Cond.code ({ cls := "SelahGeneratorModel", name := "areEmptyable", desc := "(II)Z" } : Jvm.MethodName) prog_14_method_34_code (4 : Nat) (Option.some Jvm.ClassFile.FieldType.boolean)) ∈ lw_all := lw_g (lw_at lw_m12 156 rfl) rfl
theorem q2919 : (Jvm.Cond.methodLink "SelahGeneratorModel" (202 : Nat) ({ cls := "SelahGeneratorModel", name := "isEmptyable", desc := "(I)Z" } : Jvm.MethodName)) ∈ lw_all := lw_g (lw_at lw_m12 157 rfl) rfl
theorem q2920 : (Jvm.Cond.privateMethod ({ cls := "SelahGeneratorModel", name := "isEmptyable", desc := "(I)Z" } : Jvm.MethodName)) ∈ lw_tbl := lw_at lw_m12 158 rfl
theorem q2921 : (Jvm.Cond.instanceMethod ({ cls := "SelahGeneratorModel", name := "isEmptyable", desc := "(I)Z" } : Jvm.MethodName)) ∈ lw_all := lw_g (lw_at lw_m12 159 rfl) rfl
theorem q2922 : (Jvm.Cond.code ({ cls := "SelahGeneratorModel", name := "isEmptyable", desc := "(I)Z" } : Jvm.MethodName) prog_14_method_33_code (2 : Nat) (Option.some Jvm.ClassFile.FieldType.boolean)) ∈ lw_all := lw_g (lw_at lw_m12 160 rfl) rfl
theorem q2923 : (Jvm.Cond.methodLink "SelahGeneratorModel" (198 : Nat) ({ cls := "SelahGeneratorModel", name := "has", desc := "(II)Z" } : Jvm.MethodName)) ∈ lw_all := lw_g (lw_at lw_m12 161 rfl) rfl
theorem q2924 : (Jvm.Cond.static ({ cls := "SelahGeneratorModel", name := "has", desc := "(II)Z" } : Jvm.MethodName)) ∈ lw_all := lw_g (lw_at lw_m12 162 rfl) rfl
theorem q2925 : (Jvm.Cond.code ({ cls := "SelahGeneratorModel", name := "has", desc := "(II)Z" } : Jvm.MethodName) prog_14_method_14_code (2 : Nat) (Option.some Jvm.ClassFile.FieldType.boolean)) ∈ lw_all := lw_g (lw_at lw_m12 163 rfl) rfl
theorem q2926 : (Jvm.Cond.methodLink "SelahGeneratorModel" (221 : Nat) ({ cls := "SelahGeneratorModel", name := "addsFirst", desc := "()Z" } : Jvm.MethodName)) ∈ lw_all := lw_g (lw_at lw_m12 164 rfl) rfl
theorem q2927 : (Jvm.Cond.privateMethod ({ cls := "SelahGeneratorModel", name := "addsFirst", desc := "()Z" } : Jvm.MethodName)) ∈ lw_tbl := lw_at lw_m12 165 rfl
theorem q2928 : (Jvm.Cond.instanceMethod ({ cls := "SelahGeneratorModel", name := "addsFirst", desc := "()Z" } : Jvm.MethodName)) ∈ lw_all := lw_g (lw_at lw_m12 166 rfl) rfl
theorem q2929 : (Jvm.Cond.code ({ cls := "SelahGeneratorModel", name := "addsFirst", desc := "()Z" } : Jvm.MethodName) prog_14_method_36_code (5 : Nat) (Option.some Jvm.ClassFile.FieldType.boolean)) ∈ lw_all := lw_g (lw_at lw_m12 167 rfl) rfl
theorem q2930 : (Jvm.Cond.methodLink "SelahGeneratorModel" (205 : Nat) ({ cls := "SelahGeneratorModel", name := "firstFrom", desc := "(II)I" } : Jvm.MethodName)) ∈ lw_all := lw_g (lw_at lw_m12 168 rfl) rfl
theorem q2931 : (Jvm.Cond.privateMethod ({ cls := "SelahGeneratorModel", name := "firstFrom", desc := "(II)I" } : Jvm.MethodName)) ∈ lw_tbl := lw_at lw_m12 169 rfl
theorem q2932 : (Jvm.Cond.instanceMethod ({ cls := "SelahGeneratorModel", name := "firstFrom", desc := "(II)I" } : Jvm.MethodName)) ∈ lw_all := lw_g (lw_at lw_m12 170 rfl) rfl
theorem q2933 : (Jvm.Cond.code ({ cls := "SelahGeneratorModel", name := "firstFrom", desc := "(II)I" } : Jvm.MethodName) prog_14_method_35_code (6 : Nat) (Option.some Jvm.ClassFile.FieldType.int)) ∈ lw_all := lw_g (lw_at lw_m12 171 rfl) rfl
theorem q2934 : (Jvm.Cond.methodLink "SelahGeneratorModel" (224 : Nat) ({ cls := "SelahGeneratorModel", name := "addsFollow", desc := "()Z" } : Jvm.MethodName)) ∈ lw_all := lw_g (lw_at lw_m12 172 rfl) rfl
theorem q2935 : (Jvm.Cond.privateMethod ({ cls := "SelahGeneratorModel", name := "addsFollow", desc := "()Z" } : Jvm.MethodName)) ∈ lw_tbl := lw_at lw_m12 173 rfl
theorem q2936 : (Jvm.Cond.instanceMethod ({ cls := "SelahGeneratorModel", name := "addsFollow", desc := "()Z" } : Jvm.MethodName)) ∈ lw_all := lw_g (lw_at lw_m12 174 rfl) rfl
theorem q2937 : (Jvm.Cond.code ({ cls := "SelahGeneratorModel", name := "addsFollow", desc := "()Z" } : Jvm.MethodName) prog_14_method_38_code (6 : Nat) (Option.some Jvm.ClassFile.FieldType.boolean)) ∈ lw_all := lw_g (lw_at lw_m12 175 rfl) rfl
theorem q2938 : (Jvm.Cond.methodLink "SelahGeneratorModel" (211 : Nat) ({ cls := "SelahGeneratorModel", name := "followBy", desc := "(II)I" } : Jvm.MethodName)) ∈ lw_all := lw_g (lw_at lw_m12 176 rfl) rfl
theorem q2939 : (Jvm.Cond.privateMethod ({ cls := "SelahGeneratorModel", name := "followBy", desc := "(II)I" } : Jvm.MethodName)) ∈ lw_tbl := lw_at lw_m12 177 rfl
theorem q2940 : (Jvm.Cond.instanceMethod ({ cls := "SelahGeneratorModel", name := "followBy", desc := "(II)I" } : Jvm.MethodName)) ∈ lw_all := lw_g (lw_at lw_m12 178 rfl) rfl
theorem q2941 : (Jvm.Cond.code ({ cls := "SelahGeneratorModel", name := "followBy", desc := "(II)I" } : Jvm.MethodName) prog_14_method_37_code (3 : Nat) (Option.some Jvm.ClassFile.FieldType.int)) ∈ lw_all := lw_g (lw_at lw_m12 179 rfl) rfl
theorem q2943 : (Jvm.Cond.instanceMethod ({ cls := "SelahGeneratorModel", name := "firstOf", desc := "(I)I" } : Jvm.MethodName)) ∈ lw_all := lw_g (lw_at lw_m12 181 rfl) rfl
theorem q2944 : (Jvm.Cond.selects "SelahGeneratorModel" ({ cls := "SelahGeneratorModel", name := "firstOf", desc := "(I)I" } : Jvm.MethodName) ({ cls := "SelahGeneratorModel", name := "firstOf", desc := "(I)I" } : Jvm.MethodName)) ∈ lw_all := lw_g (lw_at lw_m12 182 rfl) rfl
theorem q2945 : (Jvm.Cond.code ({ cls := "SelahGeneratorModel", name := "firstOf", desc := "(I)I" } : Jvm.MethodName) prog_14_method_42_code (2 : Nat) (Option.some Jvm.ClassFile.FieldType.int)) ∈ lw_all := lw_g (lw_at lw_m12 183 rfl) rfl
theorem q2947 : (Jvm.Cond.instanceMethod ({ cls := "SelahGeneratorModel", name := "followOf", desc := "(I)I" } : Jvm.MethodName)) ∈ lw_all := lw_g (lw_at lw_m12 185 rfl) rfl
theorem q2948 : (Jvm.Cond.selects "SelahGeneratorModel" ({ cls := "SelahGeneratorModel", name := "followOf", desc := "(I)I" } : Jvm.MethodName) ({ cls := "SelahGeneratorModel", name := "followOf", desc := "(I)I" } : Jvm.MethodName)) ∈ lw_all := lw_g (lw_at lw_m12 186 rfl) rfl
theorem q2949 : (Jvm.Cond.code ({ cls := "SelahGeneratorModel", name := "followOf", desc := "(I)I" } : Jvm.MethodName) prog_14_method_43_code (2 : Nat) (Option.some Jvm.ClassFile.FieldType.int)) ∈ lw_all := lw_g (lw_at lw_m12 187 rfl) rfl
theorem q2951 : (Jvm.Cond.instanceMethod ({ cls := "SelahGeneratorModel", name := "firstRounds", desc := "()I" } : Jvm.MethodName)) ∈ lw_all := lw_g (lw_at lw_m12 189 rfl) rfl
theorem q2952 : (Jvm.Cond.selects "SelahGeneratorModel" ({ cls := "SelahGeneratorModel", name := "firstRounds", desc := "()I" } : Jvm.MethodName) ({ cls := "SelahGeneratorModel", name := "firstRounds", desc := "()I" } : Jvm.MethodName)) ∈ lw_all := lw_g (lw_at lw_m12 190 rfl) rfl
theorem q2953 : (Jvm.Cond.code ({ cls := "SelahGeneratorModel", name := "firstRounds", desc := "()I" } : Jvm.MethodName) prog_14_method_44_code (1 : Nat) (Option.some Jvm.ClassFile.FieldType.int)) ∈ lw_all := lw_g (lw_at lw_m12 191 rfl) rfl
theorem q2955 : (Jvm.Cond.instanceMethod ({ cls := "SelahGeneratorModel", name := "shortestOf", desc := "(I)I" } : Jvm.MethodName)) ∈ lw_all := lw_g (lw_at lw_m12 193 rfl) rfl
theorem q2956 : (Jvm.Cond.selects "SelahGeneratorModel" ({ cls := "SelahGeneratorModel", name := "shortestOf", desc := "(I)I" } : Jvm.MethodName) ({ cls := "SelahGeneratorModel", name := "shortestOf", desc := "(I)I" } : Jvm.MethodName)) ∈ lw_all := lw_g (lw_at lw_m12 194 rfl) rfl
theorem q2957 : (Jvm.Cond.code ({ cls := "SelahGeneratorModel", name := "shortestOf", desc := "(I)I" } : Jvm.MethodName) prog_14_method_46_code (6 : Nat) (Option.some Jvm.ClassFile.FieldType.int)) ∈ lw_all := lw_g (lw_at lw_m12 195 rfl) rfl
theorem q2958 : (Jvm.Cond.methodLink "SelahGeneratorModel" (231 : Nat) ({ cls := "SelahGeneratorModel", name := "shortestBy", desc := "(I)I" } : Jvm.MethodName)) ∈ lw_all := lw_g (lw_at lw_m12 196 rfl) rfl
theorem q2959 : (Jvm.Cond.privateMethod ({ cls := "SelahGeneratorModel", name := "shortestBy", desc := "(I)I" } : Jvm.MethodName)) ∈ lw_tbl := lw_at lw_m12 197 rfl
theorem q2960 : (Jvm.Cond.instanceMethod ({ cls := "SelahGeneratorModel", name := "shortestBy", desc := "(I)I" } : Jvm.MethodName)) ∈ lw_all := lw_g (lw_at lw_m12 198 rfl) rfl
theorem q2961 : (Jvm.Cond.code ({ cls := "SelahGeneratorModel", name := "shortestBy", desc := "(I)I" } : Jvm.MethodName) prog_14_method_45_code (5 : Nat) (Option.some Jvm.ClassFile.FieldType.int)) ∈ lw_all := lw_g (lw_at lw_m12 199 rfl) rfl
theorem q2962 : (Jvm.Cond.constant "SelahGeneratorModel" (230 : Nat) (1000000 : Int32)) ∈ lw_all := lw_g (lw_at lw_m12 200 rfl) rfl
theorem q2964 : (Jvm.Cond.instanceMethod ({ cls := "SelahGeneratorModel", name := "predictionOf", desc := "(I)I" } : Jvm.MethodName)) ∈ lw_all := lw_g (lw_at lw_m12 202 rfl) rfl
theorem q2965 : (Jvm.Cond.selects "SelahGeneratorModel" ({ cls := "SelahGeneratorModel", name := "predictionOf", desc := "(I)I" } : Jvm.MethodName) ({ cls := "SelahGeneratorModel", name := "predictionOf", desc := "(I)I" } : Jvm.MethodName)) ∈ lw_all := lw_g (lw_at lw_m12 203 rfl) rfl
theorem q2966 : (Jvm.Cond.code ({ cls := "SelahGeneratorModel", name := "predictionOf", desc := "(I)I" } : Jvm.MethodName) prog_14_method_48_code (2 : Nat) (Option.some Jvm.ClassFile.FieldType.int)) ∈ lw_all := lw_g (lw_at lw_m12 204 rfl) rfl
theorem q2967 : (Jvm.Cond.methodLink "SelahGeneratorModel" (234 : Nat) ({ cls := "SelahGeneratorModel", name := "prediction", desc := "(I)I" } : Jvm.MethodName)) ∈ lw_all := lw_g (lw_at lw_m12 205 rfl) rfl
theorem q2968 : (Jvm.Cond.privateMethod ({ cls := "SelahGeneratorModel", name := "prediction", desc := "(I)I" } : Jvm.MethodName)) ∈ lw_tbl := lw_at lw_m12 206 rfl
theorem q2969 : (Jvm.Cond.instanceMethod ({ cls := "SelahGeneratorModel", name := "prediction", desc := "(I)I" } : Jvm.MethodName)) ∈ lw_all := lw_g (lw_at lw_m12 207 rfl) rfl
theorem q2970 : (Jvm.Cond.code ({ cls := "SelahGeneratorModel", name := "prediction", desc := "(I)I" } : Jvm.MethodName) prog_14_method_47_code (2 : Nat) (Option.some Jvm.ClassFile.FieldType.int)) ∈ lw_all := lw_g (lw_at lw_m12 208 rfl) rfl
theorem q2972 : (Jvm.Cond.instanceMethod ({ cls := "SelahGeneratorModel", name := "predicted", desc := "(II)I" } : Jvm.MethodName)) ∈ lw_all := lw_g (lw_at lw_m12 210 rfl) rfl
theorem q2973 : (Jvm.Cond.selects "SelahGeneratorModel" ({ cls := "SelahGeneratorModel", name := "predicted", desc := "(II)I" } : Jvm.MethodName) ({ cls := "SelahGeneratorModel", name := "predicted", desc := "(II)I" } : Jvm.MethodName)) ∈ lw_all := lw_g (lw_at lw_m12 211 rfl) rfl
theorem q2974 : (Jvm.Cond.code ({ cls := "SelahGeneratorModel", name := "predicted", desc := "(II)I" } : Jvm.MethodName) prog_14_method_50_code (3 : Nat) (Option.some Jvm.ClassFile.FieldType.int)) ∈ lw_all := lw_g (lw_at lw_m12 212 rfl) rfl
theorem q2975 : (Jvm.Cond.methodLink "SelahGeneratorModel" (237 : Nat) ({ cls := "SelahGeneratorModel", name := "isToken", desc := "(I)Z" } : Jvm.MethodName)) ∈ lw_all := lw_g (lw_at lw_m12 213 rfl) rfl
theorem q2976 : (Jvm.Cond.static ({ cls := "SelahGeneratorModel", name := "isToken", desc := "(I)Z" } : Jvm.MethodName)) ∈ lw_all := lw_g (lw_at lw_m12 214 rfl) rfl
theorem q2977 : (Jvm.Cond.code ({ cls := "SelahGeneratorModel", name := "isToken", desc := "(I)Z" } : Jvm.MethodName) prog_14_method_11_code (1 : Nat) (Option.some Jvm.ClassFile.FieldType.boolean)) ∈ lw_all := lw_g (lw_at lw_m12 215 rfl) rfl
theorem q2978 : (Jvm.Cond.constantLong "SelahGeneratorModel" (111 : Nat) (12 : Int64)) ∈ lw_all := lw_g (lw_at lw_m12 216 rfl) rfl
theorem q2979 : (Jvm.Cond.methodLink "SelahGeneratorModel" (240 : Nat) ({ cls := "SelahGeneratorModel", name := "predictedRule", desc := "(II)I" } : Jvm.MethodName)) ∈ lw_all := lw_g (lw_at lw_m12 217 rfl) rfl
theorem q2980 : (Jvm.Cond.privateMethod ({ cls := "SelahGeneratorModel", name := "predictedRule", desc := "(II)I" } : Jvm.MethodName)) ∈ lw_tbl := lw_at lw_m12 218 rfl
theorem q2981 : (Jvm.Cond.instanceMethod ({ cls := "SelahGeneratorModel", name := "predictedRule", desc := "(II)I" } : Jvm.MethodName)) ∈ lw_all := lw_g (lw_at lw_m12 219 rfl) rfl
theorem q2982 : (Jvm.Cond.code ({ cls := "SelahGeneratorModel", name := "predictedRule", desc := "(II)I" } : Jvm.MethodName) prog_14_method_49_code (5 : Nat) (Option.some Jvm.ClassFile.FieldType.int)) ∈ lw_all := lw_g (lw_at lw_m12 220 rfl) rfl
theorem q2984 : (Jvm.Cond.instanceMethod ({ cls := "SelahGeneratorModel", name := "conflicts", desc := "()I" } : Jvm.MethodName)) ∈ lw_all := lw_g (lw_at lw_m12 222 rfl) rfl
theorem q2985 : (Jvm.Cond.selects "SelahGeneratorModel" ({ cls := "SelahGeneratorModel", name := "conflicts", desc := "()I" } : Jvm.MethodName) ({ cls := "SelahGeneratorModel", name := "conflicts", desc := "()I" } : Jvm.MethodName)) ∈ lw_all := lw_g (lw_at lw_m12 223 rfl) rfl
theorem q2986 : (Jvm.Cond.code ({ cls := "SelahGeneratorModel", name := "conflicts", desc := "()I" } : Jvm.MethodName) prog_14_method_52_code (1 : Nat) (Option.some Jvm.ClassFile.FieldType.int)) ∈ lw_all := lw_g (lw_at lw_m12 224 rfl) rfl
theorem q2987 : (Jvm.Cond.methodLink "SelahGeneratorModel" (243 : Nat) ({ cls := "SelahGeneratorModel", name := "cells", desc := "(Z)I" } : Jvm.MethodName)) ∈ lw_all := lw_g (lw_at lw_m12 225 rfl) rfl
theorem q2988 : (Jvm.Cond.privateMethod ({ cls := "SelahGeneratorModel", name := "cells", desc := "(Z)I" } : Jvm.MethodName)) ∈ lw_tbl := lw_at lw_m12 226 rfl
theorem q2989 : (Jvm.Cond.instanceMethod ({ cls := "SelahGeneratorModel", name := "cells", desc := "(Z)I" } : Jvm.MethodName)) ∈ lw_all := lw_g (lw_at lw_m12 227 rfl) rfl
theorem q2990 : (Jvm.Cond.code ({ cls := "SelahGeneratorModel", name := "cells", desc := "(Z)I" } : Jvm.MethodName) prog_14_method_51_code (5 : Nat) (Option.some Jvm.ClassFile.FieldType.int)) ∈ lw_all := lw_g (lw_at lw_m12 228 rfl) rfl
theorem q2992 : (Jvm.Cond.instanceMethod ({ cls := "SelahGeneratorModel", name := "isLL1", desc := "()Z" } : Jvm.MethodName)) ∈ lw_all := lw_g (lw_at lw_m12 230 rfl) rfl
theorem q2993 : (Jvm.Cond.selects "SelahGeneratorModel" ({ cls := "SelahGeneratorModel", name := "isLL1", desc := "()Z" } : Jvm.MethodName) ({ cls := "SelahGeneratorModel", name := "isLL1", desc := "()Z" } : Jvm.MethodName)) ∈ lw_all := lw_g (lw_at lw_m12 231 rfl) rfl
theorem q2994 : (Jvm.Cond.code ({ cls := "SelahGeneratorModel", name := "isLL1", desc := "()Z" } : Jvm.MethodName) prog_14_method_53_code (1 : Nat) (Option.some Jvm.ClassFile.FieldType.boolean)) ∈ lw_all := lw_g (lw_at lw_m12 232 rfl) rfl
theorem q2996 : (Jvm.Cond.instanceMethod ({ cls := "SelahGeneratorModel", name := "pairCount", desc := "(I)I" } : Jvm.MethodName)) ∈ lw_all := lw_g (lw_at lw_m12 234 rfl) rfl
theorem q2997 : (Jvm.Cond.selects "SelahGeneratorModel" ({ cls := "SelahGeneratorModel", name := "pairCount", desc := "(I)I" } : Jvm.MethodName) ({ cls := "SelahGeneratorModel", name := "pairCount", desc := "(I)I" } : Jvm.MethodName)) ∈ lw_all := lw_g (lw_at lw_m12 235 rfl) rfl
theorem q2998 : (Jvm.Cond.code ({ cls := "SelahGeneratorModel", name := "pairCount", desc := "(I)I" } : Jvm.MethodName) prog_14_method_64_code (4 : Nat) (Option.some Jvm.ClassFile.FieldType.int)) ∈ lw_all := lw_g (lw_at lw_m12 236 rfl) rfl
theorem q2999 : (Jvm.Cond.methodLink "SelahGeneratorModel" (275 : Nat) ({ cls := "SelahGeneratorModel", name := "knowsPairs", desc := "()V" } : Jvm.MethodName)) ∈ lw_all := lw_g (lw_at lw_m12 237 rfl) rfl
theorem q3000 : (Jvm.Cond.privateMethod ({ cls := "SelahGeneratorModel", name := "knowsPairs", desc := "()V" } : Jvm.MethodName)) ∈ lw_tbl := lw_at lw_m12 238 rfl
theorem q3001 : (Jvm.Cond.instanceMethod ({ cls := "SelahGeneratorModel", name := "knowsPairs", desc := "()V" } : Jvm.MethodName)) ∈ lw_all := lw_g (lw_at lw_m12 239 rfl) rfl
theorem q3002 : (Jvm.Cond.code ({ cls := "SelahGeneratorModel", name := "knowsPairs", desc := "()V" } : Jvm.MethodName) prog_14_method_63_code (4 : Nat) (Option.none : Option Jvm.ClassFile.FieldType)) ∈ lw_all := lw_g (lw_at lw_m13 0 rfl) rfl
theorem q3003 : (Jvm.Cond.methodLink "SelahGeneratorModel" (246 : Nat) ({ cls := "SelahGeneratorModel", name := "pair", desc := "(II)I" } : Jvm.MethodName)) ∈ lw_all := lw_g (lw_at lw_m13 1 rfl) rfl
theorem q3004 : (Jvm.Cond.static ({ cls := "SelahGeneratorModel", name := "pair", desc := "(II)I" } : Jvm.MethodName)) ∈ lw_all := lw_g (lw_at lw_m13 2 rfl) rfl
theorem q3005 : (Jvm.Cond.code ({ cls := "SelahGeneratorModel", name := "pair", desc := "(II)I" } : Jvm.MethodName) prog_14_method_54_code (2 : Nat) (Option.some Jvm.ClassFile.FieldType.int)) ∈ lw_all := lw_g (lw_at lw_m13 3 rfl) rfl
theorem q3006 : (Jvm.Cond.methodLink "SelahGeneratorModel" (269 : Nat) ({ cls := "SelahGeneratorModel", name := "addsFirsts", desc := "()Z" } : Jvm.MethodName)) ∈ lw_all := lw_g (lw_at lw_m13 4 rfl) rfl
theorem q3007 : (Jvm.Cond.privateMethod ({ cls := "SelahGeneratorModel", name := "addsFirsts", desc := "()Z" } : Jvm.MethodName)) ∈ lw_tbl := lw_at lw_m13 5 rfl
theorem q3008 : (Jvm.Cond.instanceMethod ({ cls := "SelahGeneratorModel", name := "addsFirsts", desc := "()Z" } : Jvm.MethodName)) ∈ lw_all := lw_g (lw_at lw_m13 6 rfl) rfl
theorem q3009 : (Jvm.Cond.code ({ cls := "SelahGeneratorModel", name := "addsFirsts", desc := "()Z" } : Jvm.MethodName) prog_14_method_61_code (4 : Nat) (Option.some Jvm.ClassFile.FieldType.boolean)) ∈ lw_all := lw_g (lw_at lw_m13 7 rfl) rfl
theorem q3010 : (Jvm.Cond.methodLink "SelahGeneratorModel" (259 : Nat) ({ cls := "SelahGeneratorModel", name := "firstsFrom", desc := "(II)V" } : Jvm.MethodName)) ∈ lw_all := lw_g (lw_at lw_m13 8 rfl) rfl
theorem q3011 : (Jvm.Cond.privateMethod ({ cls := "SelahGeneratorModel", name := "firstsFrom", desc := "(II)V" } : Jvm.MethodName)) ∈ lw_tbl := lw_at lw_m13 9 rfl
theorem q3012 : (Jvm.Cond.instanceMethod ({ cls := "SelahGeneratorModel", name := "firstsFrom", desc := "(II)V" } : Jvm.MethodName)) ∈ lw_all := lw_g (lw_at lw_m13 10 rfl) rfl
theorem q3013 : (Jvm.Cond.code ({ cls := "SelahGeneratorModel", name := "firstsFrom", desc := "(II)V" } : Jvm.MethodName) prog_14_method_58_code (5 : Nat) (Option.none : Option Jvm.ClassFile.FieldType)) ∈ lw_all := lw_g (lw_at lw_m13 11 rfl) rfl
theorem q3014 : (Jvm.Cond.methodLink "SelahGeneratorModel" (252 : Nat) ({ cls := "SelahGeneratorModel", name := "continuesByToken", desc := "(I)V" } : Jvm.MethodName)) ∈ lw_all := lw_g (lw_at lw_m13 12 rfl) rfl
theorem q3015 : (Jvm.Cond.privateMethod ({ cls := "SelahGeneratorModel", name := "continuesByToken", desc := "(I)V" } : Jvm.MethodName)) ∈ lw_tbl := lw_at lw_m13 13 rfl
theorem q3016 : (Jvm.Cond.instanceMethod ({ cls := "SelahGeneratorModel", name := "continuesByToken", desc := "(I)V" } : Jvm.MethodName)) ∈ lw_all := lw_g (lw_at lw_m13 14 rfl) rfl
theorem q3017 : (Jvm.Cond.code ({ cls := "SelahGeneratorModel", name := "continuesByToken", desc := "(I)V" } : Jvm.MethodName) prog_14_method_57_code (3 : Nat) (Option.none : Option Jvm.ClassFile.FieldType)) ∈ lw_all := lw_g (lw_at lw_m13 15 rfl) rfl
theorem q3018 : (Jvm.Cond.methodLink "SelahGeneratorModel" (249 : Nat) ({ cls := "SelahGeneratorModel", name := "joined", desc := "(II)I" } : Jvm.MethodName)) ∈ lw_all := lw_g (lw_at lw_m13 16 rfl) rfl
theorem q3019 : (Jvm.Cond.static ({ cls := "SelahGeneratorModel", name := "joined", desc := "(II)I" } : Jvm.MethodName)) ∈ lw_all := lw_g (lw_at lw_m13 17 rfl) rfl
theorem q3020 : (Jvm.Cond.code ({ cls := "SelahGeneratorModel", name := "joined", desc := "(II)I" } : Jvm.MethodName) prog_14_method_55_code (2 : Nat) (Option.some Jvm.ClassFile.FieldType.int)) ∈ lw_all := lw_g (lw_at lw_m13 18 rfl) rfl
theorem q3021 : (Jvm.Cond.methodLink "SelahGeneratorModel" (255 : Nat) ({ cls := "SelahGeneratorModel", name := "continues", desc := "([ZI)V" } : Jvm.MethodName)) ∈ lw_all := lw_g (lw_at lw_m13 19 rfl) rfl
theorem q3022 : (Jvm.Cond.privateMethod ({ cls := "SelahGeneratorModel", name := "continues", desc := "([ZI)V" } : Jvm.MethodName)) ∈ lw_tbl := lw_at lw_m13 20 rfl
theorem q3023 : (Jvm.Cond.instanceMethod ({ cls := "SelahGeneratorModel", name := "continues", desc := "([ZI)V" } : Jvm.MethodName)) ∈ lw_all := lw_g (lw_at lw_m13 21 rfl) rfl
theorem q3024 : (Jvm.Cond.code ({ cls := "SelahGeneratorModel", name := "continues", desc := "([ZI)V" } : Jvm.MethodName) prog_14_method_56_code (5 : Nat) (Option.none : Option Jvm.ClassFile.FieldType)) ∈ lw_all := lw_g (lw_at lw_m13 22 rfl) rfl
theorem q3025 : (Jvm.Cond.methodLink "SelahGeneratorModel" (262 : Nat) ({ cls := "SelahGeneratorModel", name := "adds", desc := "([ZII)Z" } : Jvm.MethodName)) ∈ lw_all := lw_g (lw_at lw_m13 23 rfl) rfl
theorem q3026 : (Jvm.Cond.privateMethod ({ cls := "SelahGeneratorModel", name := "adds", desc := "([ZII)Z" } : Jvm.MethodName)) ∈ lw_tbl := lw_at lw_m13 24 rfl
theorem q3027 : (Jvm.Cond.instanceMethod ({ cls := "SelahGeneratorModel", name := "adds", desc := "([ZII)Z" } : Jvm.MethodName)) ∈ lw_all := lw_g (lw_at lw_m13 25 rfl) rfl
theorem q3028 : (Jvm.Cond.code ({ cls := "SelahGeneratorModel", name := "adds", desc := "([ZII)Z" } : Jvm.MethodName) prog_14_method_59_code (6 : Nat) (Option.some Jvm.ClassFile.FieldType.boolean)) ∈ lw_all := lw_g (lw_at lw_m13 26 rfl) rfl
theorem q3029 : (Jvm.Cond.methodLink "SelahGeneratorModel" (272 : Nat) ({ cls := "SelahGeneratorModel", name := "addsFollows", desc := "()Z" } : Jvm.MethodName)) ∈ lw_all := lw_g (lw_at lw_m13 27 rfl) rfl
theorem q3030 : (Jvm.Cond.privateMethod ({ cls := "SelahGeneratorModel", name := "addsFollows", desc := "()Z" } : Jvm.MethodName)) ∈ lw_tbl := lw_at lw_m13 28 rfl
theorem q3031 : (Jvm.Cond.instanceMethod ({ cls := "SelahGeneratorModel", name := "addsFollows", desc := "()Z" } : Jvm.MethodName)) ∈ lw_all := lw_g (lw_at lw_m13 29 rfl) rfl
theorem q3032 : (Jvm.Cond.code ({ cls := "SelahGeneratorModel", name := "addsFollows", desc := "()Z" } : Jvm.MethodName) prog_14_method_62_code (5 : Nat) (Option.some Jvm.ClassFile.FieldType.boolean)) ∈ lw_all := lw_g (lw_at lw_m13 30 rfl) rfl
theorem q3033 : (Jvm.Cond.methodLink "SelahGeneratorModel" (266 : Nat) ({ cls := "SelahGeneratorModel", name := "pairsFrom", desc := "(II)V" } : Jvm.MethodName)) ∈ lw_all := lw_g (lw_at lw_m13 31 rfl) rfl
theorem q3034 : (Jvm.Cond.privateMethod ({ cls := "SelahGeneratorModel", name := "pairsFrom", desc := "(II)V" } : Jvm.MethodName)) ∈ lw_tbl := lw_at lw_m13 32 rfl
theorem q3035 : (Jvm.Cond.instanceMethod ({ cls := "SelahGeneratorModel", name := "pairsFrom", desc := "(II)V" } : Jvm.MethodName)) ∈ lw_all := lw_g (lw_at lw_m13 33 rfl) rfl
theorem q3036 : (Jvm.Cond.code ({ cls := "SelahGeneratorModel", name := "pairsFrom", desc := "(II)V" } : Jvm.MethodName) prog_14_method_60_code (3 : Nat) (Option.none : Option Jvm.ClassFile.FieldType)) ∈ lw_all := lw_g (lw_at lw_m13 34 rfl) rfl
theorem q3038 : (Jvm.Cond.instanceMethod ({ cls := "SelahGeneratorModel", name := "predictedByPair", desc := "(III)I" } : Jvm.MethodName)) ∈ lw_all := lw_g (lw_at lw_m13 36 rfl) rfl
theorem q3039 : (Jvm.Cond.selects "SelahGeneratorModel" ({ cls := "SelahGeneratorModel", name := "predictedByPair", desc := "(III)I" } : Jvm.MethodName) ({ cls := "SelahGeneratorModel", name := "predictedByPair", desc := "(III)I" } : Jvm.MethodName)) ∈ lw_all := lw_g (lw_at lw_m13 37 rfl) rfl
theorem q3040 : (Jvm.Cond.code ({ cls := "SelahGeneratorModel", name := "predictedByPair", desc := "(III)I" } : Jvm.MethodName) prog_14_method_66_code (4 : Nat) (Option.some Jvm.ClassFile.FieldType.int)) ∈ lw_all := lw_g (lw_at lw_m13 38 rfl) rfl
theorem q3041 : (Jvm.Cond.methodLink "SelahGeneratorModel" (278 : Nat) ({ cls := "SelahGeneratorModel", name := "predictedByTwo", desc := "(III)I" } : Jvm.MethodName)) ∈ lw_all := lw_g (lw_at lw_m13 39 rfl) rfl
theorem q3042 : (Jvm.Cond.privateMethod ({ cls := "SelahGeneratorModel", name := "predictedByTwo", desc := "(III)I" } : Jvm.MethodName)) ∈ lw_tbl := lw_at lw_m13 40 rfl
theorem q3043 : (Jvm.Cond.instanceMethod ({ cls := "SelahGeneratorModel", name := "predictedByTwo", desc := "(III)I" } : Jvm.MethodName)) ∈ lw_all := lw_g (lw_at lw_m13 41 rfl) rfl
theorem q3044 : (Jvm.Cond.code ({ cls := "SelahGeneratorModel", name := "predictedByTwo", desc := "(III)I" } : Jvm.MethodName) prog_14_method_65_code (6 : Nat) (Option.some Jvm.ClassFile.FieldType.int)) ∈ lw_all := lw_g (lw_at lw_m13 42 rfl) rfl
theorem q3046 : (Jvm.Cond.instanceMethod ({ cls := "SelahGeneratorModel", name := "pairConflicts", desc := "()I" } : Jvm.MethodName)) ∈ lw_all := lw_g (lw_at lw_m13 44 rfl) rfl
theorem q3047 : (Jvm.Cond.selects "SelahGeneratorModel" ({ cls := "SelahGeneratorModel", name := "pairConflicts", desc := "()I" } : Jvm.MethodName) ({ cls := "SelahGeneratorModel", name := "pairConflicts", desc := "()I" } : Jvm.MethodName)) ∈ lw_all := lw_g (lw_at lw_m13 45 rfl) rfl
theorem q3048 : (Jvm.Cond.code ({ cls := "SelahGeneratorModel", name := "pairConflicts", desc := "()I" } : Jvm.MethodName) prog_14_method_69_code (1 : Nat) (Option.some Jvm.ClassFile.FieldType.int)) ∈ lw_all := lw_g (lw_at lw_m13 46 rfl) rfl
theorem q3049 : (Jvm.Cond.methodLink "SelahGeneratorModel" (285 : Nat) ({ cls := "SelahGeneratorModel", name := "pairsInConflict", desc := "()I" } : Jvm.MethodName)) ∈ lw_all := lw_g (lw_at lw_m13 47 rfl) rfl
theorem q3050 : (Jvm.Cond.privateMethod ({ cls := "SelahGeneratorModel", name := "pairsInConflict", desc := "()I" } : Jvm.MethodName)) ∈ lw_tbl := lw_at lw_m13 48 rfl
theorem q3051 : (Jvm.Cond.instanceMethod ({ cls := "SelahGeneratorModel", name := "pairsInConflict", desc := "()I" } : Jvm.MethodName)) ∈ lw_all := lw_g (lw_at lw_m13 49 rfl) rfl
theorem q3052 : (Jvm.Cond.code ({ cls := "SelahGeneratorModel", name := "pairsInConflict", desc := "()I" } : Jvm.MethodName) prog_14_method_68_code (4 : Nat) (Option.some Jvm.ClassFile.FieldType.int)) ∈ lw_all := lw_g (lw_at lw_m13 50 rfl) rfl
theorem q3053 : (Jvm.Cond.methodLink "SelahGeneratorModel" (282 : Nat) ({ cls := "SelahGeneratorModel", name := "areInConflict", desc := "(II)Z" } : Jvm.MethodName)) ∈ lw_all := lw_g (lw_at lw_m13 51 rfl) rfl
theorem q3054 : (Jvm.Cond.privateMethod ({ cls := "SelahGeneratorModel", name := "areInConflict", desc := "(II)Z" } : Jvm.MethodName)) ∈ lw_tbl := lw_at lw_m13 52 rfl
theorem q3055 : (Jvm.Cond.instanceMethod ({ cls := "SelahGeneratorModel", name := "areInConflict", desc := "(II)Z" } : Jvm.MethodName)) ∈ lw_all := lw_g (lw_at lw_m13 53 rfl) rfl
theorem q3056 : (Jvm.Cond.code ({ cls := "SelahGeneratorModel", name := "areInConflict", desc := "(II)Z" } : Jvm.MethodName) prog_14_method_67_code (4 : Nat) (Option.some Jvm.ClassFile.FieldType.boolean)) ∈ lw_all := lw_g (lw_at lw_m13 54 rfl) rfl
theorem q3058 : (Jvm.Cond.instanceMethod ({ cls := "SelahGeneratorModel", name := "isStrongLL2", desc := "()Z" } : Jvm.MethodName)) ∈ lw_all := lw_g (lw_at lw_m13 56 rfl) rfl
theorem q3059 : (Jvm.Cond.selects "SelahGeneratorModel" ({ cls := "SelahGeneratorModel", name := "isStrongLL2", desc := "()Z" } : Jvm.MethodName) ({ cls := "SelahGeneratorModel", name := "isStrongLL2", desc := "()Z" } : Jvm.MethodName)) ∈ lw_all := lw_g (lw_at lw_m13 57 rfl) rfl
theorem q3060 : (Jvm.Cond.code ({ cls := "SelahGeneratorModel", name := "isStrongLL2", desc := "()Z" } : Jvm.MethodName) prog_14_method_70_code (1 : Nat) (Option.some Jvm.ClassFile.FieldType.boolean)) ∈ lw_all := lw_g (lw_at lw_m13 58 rfl) rfl
theorem q3062 : (Jvm.Cond.instanceMethod ({ cls := "SelahGeneratorModel", name := "isLeftRecursive", desc := "(I)Z" } : Jvm.MethodName)) ∈ lw_all := lw_g (lw_at lw_m13 60 rfl) rfl
theorem q3063 : (Jvm.Cond.selects "SelahGeneratorModel" ({ cls := "SelahGeneratorModel", name := "isLeftRecursive", desc := "(I)Z" } : Jvm.MethodName) ({ cls := "SelahGeneratorModel", name := "isLeftRecursive", desc := "(I)Z" } : Jvm.MethodName)) ∈ lw_all := lw_g (lw_at lw_m13 61 rfl) rfl
theorem q3064 : (Jvm.Cond.code ({ cls := "SelahGeneratorModel", name := "isLeftRecursive", desc := "(I)Z" } : Jvm.MethodName) prog_14_method_73_code (2 : Nat) (Option.some Jvm.ClassFile.FieldType.boolean)) ∈ lw_all := lw_g (lw_at lw_m13 62 rfl) rfl
theorem q3065 : (Jvm.Cond.methodLink "SelahGeneratorModel" (288 : Nat) ({ cls := "SelahGeneratorModel", name := "reaches", desc := "()V" } : Jvm.MethodName)) ∈ lw_all := lw_g (lw_at lw_m13 63 rfl) rfl
theorem q3066 : (Jvm.Cond.privateMethod ({ cls := "SelahGeneratorModel", name := "reaches", desc := "()V" } : Jvm.MethodName)) ∈ lw_tbl := lw_at lw_m13 64 rfl
theorem q3067 : (Jvm.Cond.instanceMethod ({ cls := "SelahGeneratorModel", name := "reaches", desc := "()V" } : Jvm.MethodName)) ∈ lw_all := lw_g (lw_at lw_m13 65 rfl) rfl
theorem q3068 : (Jvm.Cond.code ({ cls := "SelahGeneratorModel", name := "reaches", desc := "()V" } : Jvm.MethodName) prog_14_method_71_code (3 : Nat) (Option.none : Option Jvm.ClassFile.FieldType)) ∈ lw_all := lw_g (lw_at lw_m13 66 rfl) rfl
theorem q3070 : (Jvm.Cond.instanceMethod ({ cls := "SelahGeneratorModel", name := "removeLeftRecursion", desc := "()I" } : Jvm.MethodName)) ∈ lw_all := lw_g (lw_at lw_m13 68 rfl) rfl
theorem q3071 : (Jvm.Cond.selects "SelahGeneratorModel" ({ cls := "SelahGeneratorModel", name := "removeLeftRecursion", desc := "()I" } : Jvm.MethodName) ({ cls := "SelahGeneratorModel", name := "removeLeftRecursion", desc := "()I" } : Jvm.MethodName)) ∈ lw_all := lw_g (lw_at lw_m13 69 rfl) rfl
theorem q3072 : (Jvm.Cond.code ({ cls := "SelahGeneratorModel", name := "removeLeftRecursion", desc := "()I" } : Jvm.MethodName) prog_14_method_81_code (2 : Nat) (Option.some Jvm.ClassFile.FieldType.int)) ∈ lw_all := lw_g (lw_at lw_m13 70 rfl) rfl
theorem q3073 : (Jvm.Cond.methodLink "SelahGeneratorModel" (312 : Nat) ({ cls := "SelahGeneratorModel", name := "holds", desc := "()V" } : Jvm.MethodName)) ∈ lw_all := lw_g (lw_at lw_m13 71 rfl) rfl
theorem q3074 : (Jvm.Cond.privateMethod ({ cls := "SelahGeneratorModel", name := "holds", desc := "()V" } : Jvm.MethodName)) ∈ lw_tbl := lw_at lw_m13 72 rfl
theorem q3075 : (Jvm.Cond.instanceMethod ({ cls := "SelahGeneratorModel", name := "holds", desc := "()V" } : Jvm.MethodName)) ∈ lw_all := lw_g (lw_at lw_m13 73 rfl) rfl
theorem q3076 : (Jvm.Cond.code ({ cls := "SelahGeneratorModel", name := "holds", desc := "()V" } : Jvm.MethodName) prog_14_method_21_code (2 : Nat) (Option.none : Option Jvm.ClassFile.FieldType)) ∈ lw_all := lw_g (lw_at lw_m13 74 rfl) rfl
theorem q3077 : (Jvm.Cond.methodLink "SelahGeneratorModel" (315 : Nat) ({ cls := "SelahGeneratorModel", name := "removes", desc := "()I" } : Jvm.MethodName)) ∈ lw_all := lw_g (lw_at lw_m13 75 rfl) rfl
theorem q3078 : (Jvm.Cond.privateMethod ({ cls := "SelahGeneratorModel", name := "removes", desc := "()I" } : Jvm.MethodName)) ∈ lw_tbl := lw_at lw_m13 76 rfl
theorem q3079 : (Jvm.Cond.instanceMethod ({ cls := "SelahGeneratorModel", name := "removes", desc := "()I" } : Jvm.MethodName)) ∈ lw_all := lw_g (lw_at lw_m13 77 rfl) rfl
theorem q3080 : (Jvm.Cond.code ({ cls := "SelahGeneratorModel", name := "removes", desc := "()I" } : Jvm.MethodName) prog_14_method_80_code (6 : Nat) (Option.some Jvm.ClassFile.FieldType.int)) ∈ lw_all := lw_g (lw_at lw_m13 78 rfl) rfl
theorem q3081 : (Jvm.Cond.methodLink "SelahGeneratorModel" (294 : Nat) ({ cls := "SelahGeneratorModel", name := "firstReplaceable", desc := "(II)I" } : Jvm.MethodName)) ∈ lw_all := lw_g (lw_at lw_m13 79 rfl) rfl
theorem q3082 : (Jvm.Cond.privateMethod ({ cls := "SelahGeneratorModel", name := "firstReplaceable", desc := "(II)I" } : Jvm.MethodName)) ∈ lw_tbl := lw_at lw_m13 80 rfl
theorem q3083 : (Jvm.Cond.instanceMethod ({ cls := "SelahGeneratorModel", name := "firstReplaceable", desc := "(II)I" } : Jvm.MethodName)) ∈ lw_all := lw_g (lw_at lw_m13 81 rfl) rfl
theorem q3084 : (Jvm.Cond.code ({ cls := "SelahGeneratorModel", name := "firstReplaceable", desc := "(II)I" } : Jvm.MethodName) prog_14_method_75_code (4 : Nat) (Option.some Jvm.ClassFile.FieldType.int)) ∈ lw_all := lw_g (lw_at lw_m13 82 rfl) rfl
theorem q3085 : (Jvm.Cond.methodLink "SelahGeneratorModel" (297 : Nat) ({ cls := "SelahGeneratorModel", name := "replaces", desc := "(I)V" } : Jvm.MethodName)) ∈ lw_all := lw_g (lw_at lw_m13 83 rfl) rfl
theorem q3086 : (Jvm.Cond.privateMethod ({ cls := "SelahGeneratorModel", name := "replaces", desc := "(I)V" } : Jvm.MethodName)) ∈ lw_tbl := lw_at lw_m13 84 rfl
theorem q3087 : (Jvm.Cond.instanceMethod ({ cls := "SelahGeneratorModel", name := "replaces", desc := "(I)V" } : Jvm.MethodName)) ∈ lw_all := lw_g (lw_at lw_m13 85 rfl) rfl
theorem q3088 : (Jvm.Cond.code ({ cls := "SelahGeneratorModel", name := "replaces", desc := "(I)V" } : Jvm.MethodName) prog_14_method_76_code (9 : Nat) (Option.none : Option Jvm.ClassFile.FieldType)) ∈ lw_all := lw_g (lw_at lw_m13 86 rfl) rfl
theorem q3089 : (Jvm.Cond.methodLink "SelahGeneratorModel" (300 : Nat) ({ cls := "SelahGeneratorModel", name := "isTooMuch", desc := "()Z" } : Jvm.MethodName)) ∈ lw_all := lw_g (lw_at lw_m13 87 rfl) rfl
theorem q3090 : (Jvm.Cond.privateMethod ({ cls := "SelahGeneratorModel", name := "isTooMuch", desc := "()Z" } : Jvm.MethodName)) ∈ lw_tbl := lw_at lw_m13 88 rfl
theorem q3091 : (Jvm.Cond.instanceMethod ({ cls := "SelahGeneratorModel", name := "isTooMuch", desc := "()Z" } : Jvm.MethodName)) ∈ lw_all := lw_g (lw_at lw_m13 89 rfl) rfl
theorem q3092 : (Jvm.Cond.code ({ cls := "SelahGeneratorModel", name := "isTooMuch", desc := "()Z" } : Jvm.MethodName) prog_14_method_20_code (2 : Nat) (Option.some Jvm.ClassFile.FieldType.boolean)) ∈ lw_all := lw_g (lw_at lw_m13 90 rfl) rfl
theorem q3093 : (Jvm.Cond.methodLink "SelahGeneratorModel" (303 : Nat) ({ cls := "SelahGeneratorModel", name := "isDirect", desc := "(I)Z" } : Jvm.MethodName)) ∈ lw_all := lw_g (lw_at lw_m13 91 rfl) rfl
theorem q3094 : (Jvm.Cond.privateMethod ({ cls := "SelahGeneratorModel", name := "isDirect", desc := "(I)Z" } : Jvm.MethodName)) ∈ lw_tbl := lw_at lw_m13 92 rfl
theorem q3095 : (Jvm.Cond.instanceMethod ({ cls := "SelahGeneratorModel", name := "isDirect", desc := "(I)Z" } : Jvm.MethodName)) ∈ lw_all := lw_g (lw_at lw_m13 93 rfl) rfl
theorem q3096 : (Jvm.Cond.code ({ cls := "SelahGeneratorModel", name := "isDirect", desc := "(I)Z" } : Jvm.MethodName) prog_14_method_78_code (3 : Nat) (Option.some Jvm.ClassFile.FieldType.boolean)) ∈ lw_all := lw_g (lw_at lw_m13 94 rfl) rfl
theorem q3097 : (Jvm.Cond.methodLink "SelahGeneratorModel" (291 : Nat) ({ cls := "SelahGeneratorModel", name := "beginsWithItself", desc := "(I)Z" } : Jvm.MethodName)) ∈ lw_all := lw_g (lw_at lw_m13 95 rfl) rfl
theorem q3098 : (Jvm.Cond.privateMethod ({ cls := "SelahGeneratorModel", name := "beginsWithItself", desc := "(I)Z" } : Jvm.MethodName)) ∈ lw_tbl := lw_at lw_m13 96 rfl
theorem q3099 : (Jvm.Cond.instanceMethod ({ cls := "SelahGeneratorModel", name := "beginsWithItself", desc := "(I)Z" } : Jvm.MethodName)) ∈ lw_all := lw_g (lw_at lw_m13 97 rfl) rfl
theorem q3100 : (Jvm.Cond.code ({ cls := "SelahGeneratorModel", name := "beginsWithItself", desc := "(I)Z" } : Jvm.MethodName) prog_14_method_77_code (2 : Nat) (Option.some Jvm.ClassFile.FieldType.boolean)) ∈ lw_all := lw_g (lw_at lw_m13 98 rfl) rfl
theorem q3101 : (Jvm.Cond.methodLink "SelahGeneratorModel" (306 : Nat) ({ cls := "SelahGeneratorModel", name := "unused", desc := "()I" } : Jvm.MethodName)) ∈ lw_all := lw_g (lw_at lw_m13 99 rfl) rfl
theorem q3102 : (Jvm.Cond.privateMethod ({ cls := "SelahGeneratorModel", name := "unused", desc := "()I" } : Jvm.MethodName)) ∈ lw_tbl := lw_at lw_m13 100 rfl
theorem q3103 : (Jvm.Cond.instanceMethod ({ cls := "SelahGeneratorModel", name := "unused", desc := "()I" } : Jvm.MethodName)) ∈ lw_all := lw_g (lw_at lw_m13 101 rfl) rfl
theorem q3104 : (Jvm.Cond.code ({ cls := "SelahGeneratorModel", name := "unused", desc := "()I" } : Jvm.MethodName) prog_14_method_74_code (3 : Nat) (Option.some Jvm.ClassFile.FieldType.int)) ∈ lw_all := lw_g (lw_at lw_m13 102 rfl) rfl
theorem q3105 : (Jvm.Cond.methodLink "SelahGeneratorModel" (309 : Nat) ({ cls := "SelahGeneratorModel", name := "turns", desc := "(II)V" } : Jvm.MethodName)) ∈ lw_all := lw_g (lw_at lw_m13 103 rfl) rfl
theorem q3106 : (Jvm.Cond.privateMethod ({ cls := "SelahGeneratorModel", name := "turns", desc := "(II)V" } : Jvm.MethodName)) ∈ lw_tbl := lw_at lw_m13 104 rfl
theorem q3107 : (Jvm.Cond.instanceMethod ({ cls := "SelahGeneratorModel", name := "turns", desc := "(II)V" } : Jvm.MethodName)) ∈ lw_all := lw_g (lw_at lw_m13 105 rfl) rfl
theorem q3108 : (Jvm.Cond.code ({ cls := "SelahGeneratorModel", name := "turns", desc := "(II)V" } : Jvm.MethodName) prog_14_method_79_code (9 : Nat) (Option.none : Option Jvm.ClassFile.FieldType)) ∈ lw_all := lw_g (lw_at lw_m13 106 rfl) rfl
theorem q3109 : (Jvm.Cond.methodLink "SelahGeneratorModel" (318 : Nat) ({ cls := "SelahGeneratorModel", name := "putBack", desc := "()V" } : Jvm.MethodName)) ∈ lw_all := lw_g (lw_at lw_m13 107 rfl) rfl
theorem q3110 : (Jvm.Cond.privateMethod ({ cls := "SelahGeneratorModel", name := "putBack", desc := "()V" } : Jvm.MethodName)) ∈ lw_tbl := lw_at lw_m13 108 rfl
theorem q3111 : (Jvm.Cond.instanceMethod ({ cls := "SelahGeneratorModel", name := "putBack", desc := "()V" } : Jvm.MethodName)) ∈ lw_all := lw_g (lw_at lw_m13 109 rfl) rfl
theorem q3112 : (Jvm.Cond.code ({ cls := "SelahGeneratorModel", name := "putBack", desc := "()V" } : Jvm.MethodName) prog_14_method_22_code (2 : Nat) (Option.none : Option Jvm.ClassFile.FieldType)) ∈ lw_all := lw_g (lw_at lw_m13 110 rfl) rfl
theorem q3114 : (Jvm.Cond.instanceMethod ({ cls := "SelahGeneratorModel", name := "factorOut", desc := "()I" } : Jvm.MethodName)) ∈ lw_all := lw_g (lw_at lw_m13 112 rfl) rfl
theorem q3115 : (Jvm.Cond.selects "SelahGeneratorModel" ({ cls := "SelahGeneratorModel", name := "factorOut", desc := "()I" } : Jvm.MethodName) ({ cls := "SelahGeneratorModel", name := "factorOut", desc := "()I" } : Jvm.MethodName)) ∈ lw_all := lw_g (lw_at lw_m13 113 rfl) rfl
theorem q3116 : (Jvm.Cond.code ({ cls := "SelahGeneratorModel", name := "factorOut", desc := "()I" } : Jvm.MethodName) prog_14_method_88_code (2 : Nat) (Option.some Jvm.ClassFile.FieldType.int)) ∈ lw_all := lw_g (lw_at lw_m13 114 rfl) rfl
theorem q3117 : (Jvm.Cond.methodLink "SelahGeneratorModel" (336 : Nat) ({ cls := "SelahGeneratorModel", name := "factorsAll", desc := "()I" } : Jvm.MethodName)) ∈ lw_all := lw_g (lw_at lw_m13 115 rfl) rfl
theorem q3118 : (Jvm.Cond.privateMethod ({ cls := "SelahGeneratorModel", name := "factorsAll", desc := "()I" } : Jvm.MethodName)) ∈ lw_tbl := lw_at lw_m13 116 rfl
theorem q3119 : (Jvm.Cond.instanceMethod ({ cls := "SelahGeneratorModel", name := "factorsAll", desc := "()I" } : Jvm.MethodName)) ∈ lw_all := lw_g (lw_at lw_m13 117 rfl) rfl
theorem q3120 : (Jvm.Cond.code ({ cls := "SelahGeneratorModel", name := "factorsAll", desc := "()I" } : Jvm.MethodName) prog_14_method_87_code (4 : Nat) (Option.some Jvm.ClassFile.FieldType.int)) ∈ lw_all := lw_g (lw_at lw_m13 118 rfl) rfl
theorem q3121 : (Jvm.Cond.methodLink "SelahGeneratorModel" (330 : Nat) ({ cls := "SelahGeneratorModel", name := "groupHead", desc := "()I" } : Jvm.MethodName)) ∈ lw_all := lw_g (lw_at lw_m13 119 rfl) rfl
theorem q3122 : (Jvm.Cond.privateMethod ({ cls := "SelahGeneratorModel", name := "groupHead", desc := "()I" } : Jvm.MethodName)) ∈ lw_tbl := lw_at lw_m13 120 rfl
theorem q3123 : (Jvm.Cond.instanceMethod ({ cls := "SelahGeneratorModel", name := "groupHead", desc := "()I" } : Jvm.MethodName)) ∈ lw_all := lw_g (lw_at lw_m13 121 rfl) rfl
theorem q3124 : (Jvm.Cond.code ({ cls := "SelahGeneratorModel", name := "groupHead", desc := "()I" } : Jvm.MethodName) prog_14_method_84_code (3 : Nat) (Option.some Jvm.ClassFile.FieldType.int)) ∈ lw_all := lw_g (lw_at lw_m13 122 rfl) rfl
theorem q3125 : (Jvm.Cond.methodLink "SelahGeneratorModel" (324 : Nat) ({ cls := "SelahGeneratorModel", name := "isShared", desc := "(I)Z" } : Jvm.MethodName)) ∈ lw_all := lw_g (lw_at lw_m13 123 rfl) rfl
theorem q3126 : (Jvm.Cond.privateMethod ({ cls := "SelahGeneratorModel", name := "isShared", desc := "(I)Z" } : Jvm.MethodName)) ∈ lw_tbl := lw_at lw_m13 124 rfl
theorem q3127 : (Jvm.Cond.instanceMethod ({ cls := "SelahGeneratorModel", name := "isShared", desc := "(I)Z" } : Jvm.MethodName)) ∈ lw_all := lw_g (lw_at lw_m13 125 rfl) rfl
theorem q3128 : (Jvm.Cond.code ({ cls := "SelahGeneratorModel", name := "isShared", desc := "(I)Z" } : Jvm.MethodName) prog_14_method_83_code (3 : Nat) (Option.some Jvm.ClassFile.FieldType.boolean)) ∈ lw_all := lw_g (lw_at lw_m13 126 rfl) rfl
theorem q3129 : (Jvm.Cond.methodLink "SelahGeneratorModel" (321 : Nat) ({ cls := "SelahGeneratorModel", name := "isAlike", desc := "(II)Z" } : Jvm.MethodName)) ∈ lw_all := lw_g (lw_at lw_m13 127 rfl) rfl
theorem q3130 : (Jvm.Cond.privateMethod ({ cls := "SelahGeneratorModel", name := "isAlike", desc := "(II)Z" } : Jvm.MethodName)) ∈ lw_tbl := lw_at lw_m13 128 rfl
theorem q3131 : (Jvm.Cond.instanceMethod ({ cls := "SelahGeneratorModel", name := "isAlike", desc := "(II)Z" } : Jvm.MethodName)) ∈ lw_all := lw_g (lw_at lw_m13 129 rfl) rfl
theorem q3132 : (Jvm.Cond.code ({ cls := "SelahGeneratorModel", name := "isAlike", desc := "(II)Z" } : Jvm.MethodName) prog_14_method_82_code (3 : Nat) (Option.some Jvm.ClassFile.FieldType.boolean)) ∈ lw_all := lw_g (lw_at lw_m13 130 rfl) rfl
theorem q3133 : (Jvm.Cond.methodLink "SelahGeneratorModel" (333 : Nat) ({ cls := "SelahGeneratorModel", name := "factors", desc := "(II)V" } : Jvm.MethodName)) ∈ lw_all := lw_g (lw_at lw_m13 131 rfl) rfl
theorem q3134 : (Jvm.Cond.privateMethod ({ cls := "SelahGeneratorModel", name := "factors", desc := "(II)V" } : Jvm.MethodName)) ∈ lw_tbl := lw_at lw_m13 132 rfl
theorem q3135 : (Jvm.Cond.instanceMethod ({ cls := "SelahGeneratorModel", name := "factors", desc := "(II)V" } : Jvm.MethodName)) ∈ lw_all := lw_g (lw_at lw_m13 133 rfl) rfl
theorem q3136 : (Jvm.Cond.code ({ cls := "SelahGeneratorModel", name := "factors", desc := "(II)V" } : Jvm.MethodName) prog_14_method_86_code (8 : Nat) (Option.none : Option Jvm.ClassFile.FieldType)) ∈ lw_all := lw_g (lw_at lw_m13 134 rfl) rfl
theorem q3137 : (Jvm.Cond.methodLink "SelahGeneratorModel" (327 : Nat) ({ cls := "SelahGeneratorModel", name := "sharedLength", desc := "(I)I" } : Jvm.MethodName)) ∈ lw_all := lw_g (lw_at lw_m13 135 rfl) rfl
theorem q3138 : (Jvm.Cond.privateMethod ({ cls := "SelahGeneratorModel", name := "sharedLength", desc := "(I)I" } : Jvm.MethodName)) ∈ lw_tbl := lw_at lw_m13 136 rfl
theorem q3139 : (Jvm.Cond.instanceMethod ({ cls := "SelahGeneratorModel", name := "sharedLength", desc := "(I)I" } : Jvm.MethodName)) ∈ lw_all := lw_g (lw_at lw_m13 137 rfl) rfl
theorem q3140 : (Jvm.Cond.code ({ cls := "SelahGeneratorModel", name := "sharedLength", desc := "(I)I" } : Jvm.MethodName) prog_14_method_85_code (5 : Nat) (Option.some Jvm.ClassFile.FieldType.int)) ∈ lw_all := lw_g (lw_at lw_m13 138 rfl) rfl
theorem q3142 : (Jvm.Cond.instanceMethod ({ cls := "SelahGeneratorModel", name := "start", desc := "(I)I" } : Jvm.MethodName)) ∈ lw_all := lw_g (lw_at lw_m13 140 rfl) rfl
theorem q3143 : (Jvm.Cond.selects "SelahGeneratorModel" ({ cls := "SelahGeneratorModel", name := "start", desc := "(I)I" } : Jvm.MethodName) ({ cls := "SelahGeneratorModel", name := "start", desc := "(I)I" } : Jvm.MethodName)) ∈ lw_all := lw_g (lw_at lw_m13 141 rfl) rfl
theorem q3144 : (Jvm.Cond.code ({ cls := "SelahGeneratorModel", name := "start", desc := "(I)I" } : Jvm.MethodName) prog_14_method_89_code (3 : Nat) (Option.some Jvm.ClassFile.FieldType.int)) ∈ lw_all := lw_g (lw_at lw_m13 142 rfl) rfl
theorem q3145 : (Jvm.Cond.constantLong "SelahGeneratorModel" (339 : Nat) (2 : Int64)) ∈ lw_all := lw_g (lw_at lw_m13 143 rfl) rfl
theorem q3147 : (Jvm.Cond.instanceMethod ({ cls := "SelahGeneratorModel", name := "give", desc := "(I)I" } : Jvm.MethodName)) ∈ lw_all := lw_g (lw_at lw_m13 145 rfl) rfl
theorem q3148 : (Jvm.Cond.selects "SelahGeneratorModel" ({ cls := "SelahGeneratorModel", name := "give", desc := "(I)I" } : Jvm.MethodName) ({ cls := "SelahGeneratorModel", name := "give", desc := "(I)I" } : Jvm.MethodName)) ∈ lw_all := lw_g (lw_at lw_m13 146 rfl) rfl
theorem q3149 : (Jvm.Cond.code ({ cls := "SelahGeneratorModel", name := "give", desc := "(I)I" } : Jvm.MethodName) prog_14_method_94_code (4 : Nat) (Option.some Jvm.ClassFile.FieldType.int)) ∈ lw_all := lw_g (lw_at lw_m13 147 rfl) rfl
theorem q3150 : (Jvm.Cond.methodLink "SelahGeneratorModel" (358 : Nat) ({ cls := "SelahGeneratorModel", name := "worksOff", desc := "(III)V" } : Jvm.MethodName)) ∈ lw_all := lw_g (lw_at lw_m13 148 rfl) rfl
theorem q3151 : (Jvm.Cond.privateMethod ({ cls := "SelahGeneratorModel", name := "worksOff", desc := "(III)V" } : Jvm.MethodName)) ∈ lw_tbl := lw_at lw_m13 149 rfl
theorem q3152 : (Jvm.Cond.instanceMethod ({ cls := "SelahGeneratorModel", name := "worksOff", desc := "(III)V" } : Jvm.MethodName)) ∈ lw_all := lw_g (lw_at lw_m13 150 rfl) rfl
theorem q3153 : (Jvm.Cond.code ({ cls := "SelahGeneratorModel", name := "worksOff", desc := "(III)V" } : Jvm.MethodName) prog_14_method_93_code (5 : Nat) (Option.none : Option Jvm.ClassFile.FieldType)) ∈ lw_all := lw_g (lw_at lw_m13 151 rfl) rfl
theorem q3154 : (Jvm.Cond.methodLink "SelahGeneratorModel" (354 : Nat) ({ cls := "SelahGeneratorModel", name := "worksOnce", desc := "(III)Z" } : Jvm.MethodName)) ∈ lw_all := lw_g (lw_at lw_m13 152 rfl) rfl
theorem q3155 : (Jvm.Cond.privateMethod ({ cls := "SelahGeneratorModel", name := "worksOnce", desc := "(III)Z" } : Jvm.MethodName)) ∈ lw_tbl := lw_at lw_m13 153 rfl
theorem q3156 : (Jvm.Cond.instanceMethod ({ cls := "SelahGeneratorModel", name := "worksOnce", desc := "(III)Z" } : Jvm.MethodName)) ∈ lw_all := lw_g (lw_at lw_m13 154 rfl) rfl
theorem q3157 : (Jvm.Cond.code ({ cls := "SelahGeneratorModel", name := "worksOnce", desc := "(III)Z" } : Jvm.MethodName) prog_14_method_92_code (7 : Nat) (Option.some Jvm.ClassFile.FieldType.boolean)) ∈ lw_all := lw_g (lw_at lw_m13 155 rfl) rfl
theorem q3158 : (Jvm.Cond.methodLink "SelahGeneratorModel" (347 : Nat) ({ cls := "SelahGeneratorModel", name := "errs", desc := "(IIZ)V" } : Jvm.MethodName)) ∈ lw_all := lw_g (lw_at lw_m13 156 rfl) rfl
theorem q3159 : (Jvm.Cond.privateMethod ({ cls := "SelahGeneratorModel", name := "errs", desc := "(IIZ)V" } : Jvm.MethodName)) ∈ lw_tbl := lw_at lw_m13 157 rfl
theorem q3160 : (Jvm.Cond.instanceMethod ({ cls := "SelahGeneratorModel", name := "errs", desc := "(IIZ)V" } : Jvm.MethodName)) ∈ lw_all := lw_g (lw_at lw_m13 158 rfl) rfl
theorem q3161 : (Jvm.Cond.code ({ cls := "SelahGeneratorModel", name := "errs", desc := "(IIZ)V" } : Jvm.MethodName) prog_14_method_90_code (4 : Nat) (Option.none : Option Jvm.ClassFile.FieldType)) ∈ lw_all := lw_g (lw_at lw_m13 159 rfl) rfl
theorem q3162 : (Jvm.Cond.methodLink "SelahGeneratorModel" (351 : Nat) ({ cls := "SelahGeneratorModel", name := "applies", desc := "(I)V" } : Jvm.MethodName)) ∈ lw_all := lw_g (lw_at lw_m13 160 rfl) rfl
theorem q3163 : (Jvm.Cond.privateMethod ({ cls := "SelahGeneratorModel", name := "applies", desc := "(I)V" } : Jvm.MethodName)) ∈ lw_tbl := lw_at lw_m13 161 rfl
theorem q3164 : (Jvm.Cond.instanceMethod ({ cls := "SelahGeneratorModel", name := "applies", desc := "(I)V" } : Jvm.MethodName)) ∈ lw_all := lw_g (lw_at lw_m13 162 rfl) rfl
theorem q3165 : (Jvm.Cond.code ({ cls := "SelahGeneratorModel", name := "applies", desc := "(I)V" } : Jvm.MethodName) prog_14_method_91_code (3 : Nat) (Option.none : Option Jvm.ClassFile.FieldType)) ∈ lw_all := lw_g (lw_at lw_m13 163 rfl) rfl
theorem q3167 : (Jvm.Cond.instanceMethod ({ cls := "SelahGeneratorModel", name := "parseState", desc := "()I" } : Jvm.MethodName)) ∈ lw_all := lw_g (lw_at lw_m13 165 rfl) rfl
theorem q3168 : (Jvm.Cond.selects "SelahGeneratorModel" ({ cls := "SelahGeneratorModel", name := "parseState", desc := "()I" } : Jvm.MethodName) ({ cls := "SelahGeneratorModel", name := "parseState", desc := "()I" } : Jvm.MethodName)) ∈ lw_all := lw_g (lw_at lw_m13 166 rfl) rfl
theorem q3169 : (Jvm.Cond.code ({ cls := "SelahGeneratorModel", name := "parseState", desc := "()I" } : Jvm.MethodName) prog_14_method_95_code (1 : Nat) (Option.some Jvm.ClassFile.FieldType.int)) ∈ lw_all := lw_g (lw_at lw_m13 167 rfl) rfl
theorem q3171 : (Jvm.Cond.instanceMethod ({ cls := "SelahGeneratorModel", name := "tokenCount", desc := "()I" } : Jvm.MethodName)) ∈ lw_all := lw_g (lw_at lw_m13 169 rfl) rfl
theorem q3172 : (Jvm.Cond.selects "SelahGeneratorModel" ({ cls := "SelahGeneratorModel", name := "tokenCount", desc := "()I" } : Jvm.MethodName) ({ cls := "SelahGeneratorModel", name := "tokenCount", desc := "()I" } : Jvm.MethodName)) ∈ lw_all := lw_g (lw_at lw_m13 170 rfl) rfl
theorem q3173 : (Jvm.Cond.code ({ cls := "SelahGeneratorModel", name := "tokenCount", desc := "()I" } : Jvm.MethodName) prog_14_method_96_code (1 : Nat) (Option.some Jvm.ClassFile.FieldType.int)) ∈ lw_all := lw_g (lw_at lw_m13 171 rfl) rfl
theorem q3175 : (Jvm.Cond.instanceMethod ({ cls := "SelahGeneratorModel", name := "stackDepth", desc := "()I" } : Jvm.MethodName)) ∈ lw_all := lw_g (lw_at lw_m13 173 rfl) rfl
theorem q3176 : (Jvm.Cond.selects "SelahGeneratorModel" ({ cls := "SelahGeneratorModel", name := "stackDepth", desc := "()I" } : Jvm.MethodName) ({ cls := "SelahGeneratorModel", name := "stackDepth", desc := "()I" } : Jvm.MethodName)) ∈ lw_all := lw_g (lw_at lw_m13 174 rfl) rfl
theorem q3177 : (Jvm.Cond.code ({ cls := "SelahGeneratorModel", name := "stackDepth", desc := "()I" } : Jvm.MethodName) prog_14_method_97_code (1 : Nat) (Option.some Jvm.ClassFile.FieldType.int)) ∈ lw_all := lw_g (lw_at lw_m13 175 rfl) rfl
theorem q3179 : (Jvm.Cond.instanceMethod ({ cls := "SelahGeneratorModel", name := "stackAt", desc := "(I)I" } : Jvm.MethodName)) ∈ lw_all := lw_g (lw_at lw_m13 177 rfl) rfl
theorem q3180 : (Jvm.Cond.selects "SelahGeneratorModel" ({ cls := "SelahGeneratorModel", name := "stackAt", desc := "(I)I" } : Jvm.MethodName) ({ cls := "SelahGeneratorModel", name := "stackAt", desc := "(I)I" } : Jvm.MethodName)) ∈ lw_all := lw_g (lw_at lw_m13 178 rfl) rfl
theorem q3181 : (Jvm.Cond.code ({ cls := "SelahGeneratorModel", name := "stackAt", desc := "(I)I" } : Jvm.MethodName) prog_14_method_98_code (2 : Nat) (Option.some Jvm.ClassFile.FieldType.int)) ∈ lw_all := lw_g (lw_at lw_m13 179 rfl) rfl
theorem q3183 : (Jvm.Cond.instanceMethod ({ cls := "SelahGeneratorModel", name := "expected", desc := "()I" } : Jvm.MethodName)) ∈ lw_all := lw_g (lw_at lw_m13 181 rfl) rfl
theorem q3184 : (Jvm.Cond.selects "SelahGeneratorModel" ({ cls := "SelahGeneratorModel", name := "expected", desc := "()I" } : Jvm.MethodName) ({ cls := "SelahGeneratorModel", name := "expected", desc := "()I" } : Jvm.MethodName)) ∈ lw_all := lw_g (lw_at lw_m13 182 rfl) rfl
theorem q3185 : (Jvm.Cond.code ({ cls := "SelahGeneratorModel", name := "expected", desc := "()I" } : Jvm.MethodName) prog_14_method_100_code (4 : Nat) (Option.some Jvm.ClassFile.FieldType.int)) ∈ lw_all := lw_g (lw_at lw_m13 183 rfl) rfl
theorem q3186 : (Jvm.Cond.methodLink "SelahGeneratorModel" (362 : Nat) ({ cls := "SelahGeneratorModel", name := "expectedBy", desc := "(I)I" } : Jvm.MethodName)) ∈ lw_all := lw_g (lw_at lw_m13 184 rfl) rfl
theorem q3187 : (Jvm.Cond.privateMethod ({ cls := "SelahGeneratorModel", name := "expectedBy", desc := "(I)I" } : Jvm.MethodName)) ∈ lw_tbl := lw_at lw_m13 185 rfl
theorem q3188 : (Jvm.Cond.instanceMethod ({ cls := "SelahGeneratorModel", name := "expectedBy", desc := "(I)I" } : Jvm.MethodName)) ∈ lw_all := lw_g (lw_at lw_m13 186 rfl) rfl
theorem q3189 : (Jvm.Cond.code ({ cls := "SelahGeneratorModel", name := "expectedBy", desc := "(I)I" } : Jvm.MethodName) prog_14_method_99_code (5 : Nat) (Option.some Jvm.ClassFile.FieldType.int)) ∈ lw_all := lw_g (lw_at lw_m13 187 rfl) rfl
theorem q3191 : (Jvm.Cond.instanceMethod ({ cls := "SelahGeneratorModel", name := "appliedCount", desc := "()I" } : Jvm.MethodName)) ∈ lw_all := lw_g (lw_at lw_m13 189 rfl) rfl
theorem q3192 : (Jvm.Cond.selects "SelahGeneratorModel" ({ cls := "SelahGeneratorModel", name := "appliedCount", desc := "()I" } : Jvm.MethodName) ({ cls := "SelahGeneratorModel", name := "appliedCount", desc := "()I" } : Jvm.MethodName)) ∈ lw_all := lw_g (lw_at lw_m13 190 rfl) rfl
theorem q3193 : (Jvm.Cond.code ({ cls := "SelahGeneratorModel", name := "appliedCount", desc := "()I" } : Jvm.MethodName) prog_14_method_101_code (1 : Nat) (Option.some Jvm.ClassFile.FieldType.int)) ∈ lw_all := lw_g (lw_at lw_m13 191 rfl) rfl
theorem q3195 : (Jvm.Cond.instanceMethod ({ cls := "SelahGeneratorModel", name := "appliedRule", desc := "(I)I" } : Jvm.MethodName)) ∈ lw_all := lw_g (lw_at lw_m13 193 rfl) rfl
theorem q3196 : (Jvm.Cond.selects "SelahGeneratorModel" ({ cls := "SelahGeneratorModel", name := "appliedRule", desc := "(I)I" } : Jvm.MethodName) ({ cls := "SelahGeneratorModel", name := "appliedRule", desc := "(I)I" } : Jvm.MethodName)) ∈ lw_all := lw_g (lw_at lw_m13 194 rfl) rfl
theorem q3197 : (Jvm.Cond.code ({ cls := "SelahGeneratorModel", name := "appliedRule", desc := "(I)I" } : Jvm.MethodName) prog_14_method_102_code (2 : Nat) (Option.some Jvm.ClassFile.FieldType.int)) ∈ lw_all := lw_g (lw_at lw_m13 195 rfl) rfl
theorem q3199 : (Jvm.Cond.instanceMethod ({ cls := "SelahGeneratorModel", name := "errorCount", desc := "()I" } : Jvm.MethodName)) ∈ lw_all := lw_g (lw_at lw_m13 197 rfl) rfl
theorem q3200 : (Jvm.Cond.selects "SelahGeneratorModel" ({ cls := "SelahGeneratorModel", name := "errorCount", desc := "()I" } : Jvm.MethodName) ({ cls := "SelahGeneratorModel", name := "errorCount", desc := "()I" } : Jvm.MethodName)) ∈ lw_all := lw_g (lw_at lw_m13 198 rfl) rfl
theorem q3201 : (Jvm.Cond.code ({ cls := "SelahGeneratorModel", name := "errorCount", desc := "()I" } : Jvm.MethodName) prog_14_method_103_code (1 : Nat) (Option.some Jvm.ClassFile.FieldType.int)) ∈ lw_all := lw_g (lw_at lw_m13 199 rfl) rfl
theorem q3203 : (Jvm.Cond.instanceMethod ({ cls := "SelahGeneratorModel", name := "errorToken", desc := "(I)I" } : Jvm.MethodName)) ∈ lw_all := lw_g (lw_at lw_m13 201 rfl) rfl
theorem q3204 : (Jvm.Cond.selects "SelahGeneratorModel" ({ cls := "SelahGeneratorModel", name := "errorToken", desc := "(I)I" } : Jvm.MethodName) ({ cls := "SelahGeneratorModel", name := "errorToken", desc := "(I)I" } : Jvm.MethodName)) ∈ lw_all := lw_g (lw_at lw_m13 202 rfl) rfl
theorem q3205 : (Jvm.Cond.code ({ cls := "SelahGeneratorModel", name := "errorToken", desc := "(I)I" } : Jvm.MethodName) prog_14_method_105_code (2 : Nat) (Option.some Jvm.ClassFile.FieldType.int)) ∈ lw_all := lw_g (lw_at lw_m13 203 rfl) rfl
theorem q3206 : (Jvm.Cond.methodLink "SelahGeneratorModel" (365 : Nat) ({ cls := "SelahGeneratorModel", name := "isError", desc := "(I)Z" } : Jvm.MethodName)) ∈ lw_all := lw_g (lw_at lw_m13 204 rfl) rfl
theorem q3207 : (Jvm.Cond.privateMethod ({ cls := "SelahGeneratorModel", name := "isError", desc := "(I)Z" } : Jvm.MethodName)) ∈ lw_tbl := lw_at lw_m13 205 rfl
theorem q3208 : (Jvm.Cond.instanceMethod ({ cls := "SelahGeneratorModel", name := "isError", desc := "(I)Z" } : Jvm.MethodName)) ∈ lw_all := lw_g (lw_at lw_m13 206 rfl) rfl
theorem q3209 : (Jvm.Cond.code ({ cls := "SelahGeneratorModel", name := "isError", desc := "(I)Z" } : Jvm.MethodName) prog_14_method_104_code (2 : Nat) (Option.some Jvm.ClassFile.FieldType.boolean)) ∈ lw_all := lw_g (lw_at lw_m13 207 rfl) rfl
theorem q3211 : (Jvm.Cond.instanceMethod ({ cls := "SelahGeneratorModel", name := "errorSymbol", desc := "(I)I" } : Jvm.MethodName)) ∈ lw_all := lw_g (lw_at lw_m13 209 rfl) rfl
theorem q3212 : (Jvm.Cond.selects "SelahGeneratorModel" ({ cls := "SelahGeneratorModel", name := "errorSymbol", desc := "(I)I" } : Jvm.MethodName) ({ cls := "SelahGeneratorModel", name := "errorSymbol", desc := "(I)I" } : Jvm.MethodName)) ∈ lw_all := lw_g (lw_at lw_m13 210 rfl) rfl
theorem q3213 : (Jvm.Cond.code ({ cls := "SelahGeneratorModel", name := "errorSymbol", desc := "(I)I" } : Jvm.MethodName) prog_14_method_106_code (2 : Nat) (Option.some Jvm.ClassFile.FieldType.int)) ∈ lw_all := lw_g (lw_at lw_m13 211 rfl) rfl
theorem q3215 : (Jvm.Cond.instanceMethod ({ cls := "SelahGeneratorModel", name := "wasSkipped", desc := "(I)Z" } : Jvm.MethodName)) ∈ lw_all := lw_g (lw_at lw_m13 213 rfl) rfl
theorem q3216 : (Jvm.Cond.selects "SelahGeneratorModel" ({ cls := "SelahGeneratorModel", name := "wasSkipped", desc := "(I)Z" } : Jvm.MethodName) ({ cls := "SelahGeneratorModel", name := "wasSkipped", desc := "(I)Z" } : Jvm.MethodName)) ∈ lw_all := lw_g (lw_at lw_m13 214 rfl) rfl
theorem q3217 : (Jvm.Cond.code ({ cls := "SelahGeneratorModel", name := "wasSkipped", desc := "(I)Z" } : Jvm.MethodName) prog_14_method_107_code (2 : Nat) (Option.some Jvm.ClassFile.FieldType.boolean)) ∈ lw_all := lw_g (lw_at lw_m13 215 rfl) rfl
theorem q3219 : (Jvm.Cond.instanceMethod ({ cls := "SelahGeneratorModel", name := "derivations", desc := "()I" } : Jvm.MethodName)) ∈ lw_all := lw_g (lw_at lw_m13 217 rfl) rfl
theorem q3220 : (Jvm.Cond.selects "SelahGeneratorModel" ({ cls := "SelahGeneratorModel", name := "derivations", desc := "()I" } : Jvm.MethodName) ({ cls := "SelahGeneratorModel", name := "derivations", desc := "()I" } : Jvm.MethodName)) ∈ lw_all := lw_g (lw_at lw_m13 218 rfl) rfl
theorem q3221 : (Jvm.Cond.code ({ cls := "SelahGeneratorModel", name := "derivations", desc := "()I" } : Jvm.MethodName) prog_14_method_115_code (1 : Nat) (Option.some Jvm.ClassFile.FieldType.int)) ∈ lw_all := lw_g (lw_at lw_m13 219 rfl) rfl
theorem q3222 : (Jvm.Cond.methodLink "SelahGeneratorModel" (390 : Nat) ({ cls := "SelahGeneratorModel", name := "mayCount", desc := "()Z" } : Jvm.MethodName)) ∈ lw_all := lw_g (lw_at lw_m13 220 rfl) rfl
theorem q3223 : (Jvm.Cond.privateMethod ({ cls := "SelahGeneratorModel", name := "mayCount", desc := "()Z" } : Jvm.MethodName)) ∈ lw_tbl := lw_at lw_m13 221 rfl
theorem q3224 : (Jvm.Cond.instanceMethod ({ cls := "SelahGeneratorModel", name := "mayCount", desc := "()Z" } : Jvm.MethodName)) ∈ lw_all := lw_g (lw_at lw_m13 222 rfl) rfl
theorem q3225 : (Jvm.Cond.code ({ cls := "SelahGeneratorModel", name := "mayCount", desc := "()Z" } : Jvm.MethodName) prog_14_method_114_code (1 : Nat) (Option.some Jvm.ClassFile.FieldType.boolean)) ∈ lw_all := lw_g (lw_at lw_m13 223 rfl) rfl
theorem q3226 : (Jvm.Cond.methodLink "SelahGeneratorModel" (387 : Nat) ({ cls := "SelahGeneratorModel", name := "isAnyRecursive", desc := "()Z" } : Jvm.MethodName)) ∈ lw_all := lw_g (lw_at lw_m13 224 rfl) rfl
theorem q3227 : (Jvm.Cond.privateMethod ({ cls := "SelahGeneratorModel", name := "isAnyRecursive", desc := "()Z" } : Jvm.MethodName)) ∈ lw_tbl := lw_at lw_m13 225 rfl
theorem q3228 : (Jvm.Cond.instanceMethod ({ cls := "SelahGeneratorModel", name := "isAnyRecursive", desc := "()Z" } : Jvm.MethodName)) ∈ lw_all := lw_g (lw_at lw_m13 226 rfl) rfl
theorem q3229 : (Jvm.Cond.code ({ cls := "SelahGeneratorModel", name := "isAnyRecursive", desc := "()Z" } : Jvm.MethodName) prog_14_method_72_code (2 : Nat) (Option.some Jvm.ClassFile.FieldType.boolean)) ∈ lw_all := lw_g (lw_at lw_m13 227 rfl) rfl
theorem q3230 : (Jvm.Cond.methodLink "SelahGeneratorModel" (393 : Nat) ({ cls := "SelahGeneratorModel", name := "counted", desc := "()I" } : Jvm.MethodName)) ∈ lw_all := lw_g (lw_at lw_m13 228 rfl) rfl
theorem q3231 : (Jvm.Cond.privateMethod ({ cls := "SelahGeneratorModel", name := "counted", desc := "()I" } : Jvm.MethodName)) ∈ lw_tbl := lw_at lw_m13 229 rfl
theorem q3232 : (Jvm.Cond.instanceMethod ({ cls := "SelahGeneratorModel", name := "counted", desc := "()I" } : Jvm.MethodName)) ∈ lw_all := lw_g (lw_at lw_m13 230 rfl) rfl
theorem q3233 : (Jvm.Cond.code ({ cls := "SelahGeneratorModel", name := "counted", desc := "()I" } : Jvm.MethodName) prog_14_method_113_code (4 : Nat) (Option.some Jvm.ClassFile.FieldType.int)) ∈ lw_all := lw_g (lw_at lw_m13 231 rfl) rfl
theorem q3234 : (Jvm.Cond.methodLink "SelahGeneratorModel" (381 : Nat) ({ cls := "SelahGeneratorModel", name := "bits", desc := "(I)I" } : Jvm.MethodName)) ∈ lw_all := lw_g (lw_at lw_m13 232 rfl) rfl
theorem q3235 : (Jvm.Cond.static ({ cls := "SelahGeneratorModel", name := "bits", desc := "(I)I" } : Jvm.MethodName)) ∈ lw_all := lw_g (lw_at lw_m13 233 rfl) rfl
theorem q3236 : (Jvm.Cond.code ({ cls := "SelahGeneratorModel", name := "bits", desc := "(I)I" } : Jvm.MethodName) prog_14_method_112_code (3 : Nat) (Option.some Jvm.ClassFile.FieldType.int)) ∈ lw_all := lw_g (lw_at lw_m13 234 rfl) rfl
theorem q3237 : (Jvm.Cond.methodLink "SelahGeneratorModel" (384 : Nat) ({ cls := "SelahGeneratorModel", name := "spansOf", desc := "(II)V" } : Jvm.MethodName)) ∈ lw_all := lw_g (lw_at lw_m13 235 rfl) rfl
theorem q3238 : (Jvm.Cond.privateMethod ({ cls := "SelahGeneratorModel", name := "spansOf", desc := "(II)V" } : Jvm.MethodName)) ∈ lw_tbl := lw_at lw_m13 236 rfl
theorem q3239 : (Jvm.Cond.instanceMethod ({ cls := "SelahGeneratorModel", name := "spansOf", desc := "(II)V" } : Jvm.MethodName)) ∈ lw_all := lw_g (lw_at lw_m13 237 rfl) rfl
theorem q3240 : (Jvm.Cond.code ({ cls := "SelahGeneratorModel", name := "spansOf", desc := "(II)V" } : Jvm.MethodName) prog_14_method_111_code (5 : Nat) (Option.none : Option Jvm.ClassFile.FieldType)) ∈ lw_all := lw_g (lw_at lw_m13 238 rfl) rfl
theorem q3241 : (Jvm.Cond.methodLink "SelahGeneratorModel" (379 : Nat) ({ cls := "SelahGeneratorModel", name := "follows", desc := "(I)V" } : Jvm.MethodName)) ∈ lw_all := lw_g (lw_at lw_m13 239 rfl) rfl
theorem q3242 : (Jvm.Cond.privateMethod ({ cls := "SelahGeneratorModel", name := "follows", desc := "(I)V" } : Jvm.MethodName)) ∈ lw_tbl := lw_at lw_m14 0 rfl
theorem q3243 : (Jvm.Cond.instanceMethod ({ cls := "SelahGeneratorModel", name := "follows", desc := "(I)V" } : Jvm.MethodName)) ∈ lw_all := lw_g (lw_at lw_m14 1 rfl) rfl
theorem q3244 : (Jvm.Cond.code ({ cls := "SelahGeneratorModel", name := "follows", desc := "(I)V" } : Jvm.MethodName) prog_14_method_110_code (4 : Nat) (Option.none : Option Jvm.ClassFile.FieldType)) ∈ lw_all := lw_g (lw_at lw_m14 2 rfl) rfl
theorem q3245 : (Jvm.Cond.methodLink "SelahGeneratorModel" (372 : Nat) ({ cls := "SelahGeneratorModel", name := "capped", desc := "(J)J" } : Jvm.MethodName)) ∈ lw_all := lw_g (lw_at lw_m14 3 rfl) rfl
theorem q3246 : (Jvm.Cond.static ({ cls := "SelahGeneratorModel", name := "capped", desc := "(J)J" } : Jvm.MethodName)) ∈ lw_all := lw_g (lw_at lw_m14 4 rfl) rfl
theorem q3247 : (Jvm.Cond.code ({ cls := "SelahGeneratorModel", name := "capped", desc := "(J)J" } : Jvm.MethodName) prog_14_method_109_code (2 : Nat) (Option.some Jvm.ClassFile.FieldType.long)) ∈ lw_all := lw_g (lw_at lw_m14 5 rfl) rfl
theorem q3248 : (Jvm.Cond.constantLong "SelahGeneratorModel" (368 : Nat) (1000000 : Int64)) ∈ lw_all := lw_g (lw_at lw_m14 6 rfl) rfl
theorem q3249 : (Jvm.Cond.constantLong "SelahGeneratorModel" (370 : Nat) (1000001 : Int64)) ∈ lw_all := lw_g (lw_at lw_m14 7 rfl) rfl
theorem q3250 : (Jvm.Cond.methodLink "SelahGeneratorModel" (376 : Nat) ({ cls := "SelahGeneratorModel", name := "span", desc := "(III)I" } : Jvm.MethodName)) ∈ lw_all := lw_g (lw_at lw_m14 8 rfl) rfl
theorem q3251 : (Jvm.Cond.static ({ cls := "SelahGeneratorModel", name := "span", desc := "(III)I" } : Jvm.MethodName)) ∈ lw_all := lw_g (lw_at lw_m14 9 rfl) rfl
theorem q3252 : (Jvm.Cond.code ({ cls := "SelahGeneratorModel", name := "span", desc := "(III)I" } : Jvm.MethodName) prog_14_method_108_code (3 : Nat) (Option.some Jvm.ClassFile.FieldType.int)) ∈ lw_all := lw_g (lw_at lw_m14 10 rfl) rfl
theorem q3254 : (Jvm.Cond.instanceMethod ({ cls := "SelahGeneratorModel", name := "disagreements", desc := "()I" } : Jvm.MethodName)) ∈ lw_all := lw_g (lw_at lw_m14 12 rfl) rfl
theorem q3255 : (Jvm.Cond.selects "SelahGeneratorModel" ({ cls := "SelahGeneratorModel", name := "disagreements", desc := "()I" } : Jvm.MethodName) ({ cls := "SelahGeneratorModel", name := "disagreements", desc := "()I" } : Jvm.MethodName)) ∈ lw_all := lw_g (lw_at lw_m14 13 rfl) rfl
theorem q3256 : (Jvm.Cond.code ({ cls := "SelahGeneratorModel", name := "disagreements", desc := "()I" } : Jvm.MethodName) prog_14_method_116_code (2 : Nat) (Option.some Jvm.ClassFile.FieldType.int)) ∈ lw_all := lw_g (lw_at lw_m14 14 rfl) rfl
theorem q3258 : (Jvm.Cond.instanceMethod ({ cls := "SelahGeneratorModel", name := "meanLength", desc := "()D" } : Jvm.MethodName)) ∈ lw_all := lw_g (lw_at lw_m14 16 rfl) rfl
theorem q3259 : (Jvm.Cond.selects "SelahGeneratorModel" ({ cls := "SelahGeneratorModel", name := "meanLength", desc := "()D" } : Jvm.MethodName) ({ cls := "SelahGeneratorModel", name := "meanLength", desc := "()D" } : Jvm.MethodName)) ∈ lw_all := lw_g (lw_at lw_m14 17 rfl) rfl
theorem q3260 : (Jvm.Cond.code ({ cls := "SelahGeneratorModel", name := "meanLength", desc := "()D" } : Jvm.MethodName) prog_14_method_117_code (3 : Nat) (Option.some Jvm.ClassFile.FieldType.double)) ∈ lw_all := lw_g (lw_at lw_m14 18 rfl) rfl
theorem q3262 : (Jvm.Cond.instanceMethod ({ cls := "SelahGeneratorModel", name := "tableShare", desc := "()F" } : Jvm.MethodName)) ∈ lw_all := lw_g (lw_at lw_m14 20 rfl) rfl
theorem q3263 : (Jvm.Cond.selects "SelahGeneratorModel" ({ cls := "SelahGeneratorModel", name := "tableShare", desc := "()F" } : Jvm.MethodName) ({ cls := "SelahGeneratorModel", name := "tableShare", desc := "()F" } : Jvm.MethodName)) ∈ lw_all := lw_g (lw_at lw_m14 21 rfl) rfl
theorem q3264 : (Jvm.Cond.code ({ cls := "SelahGeneratorModel", name := "tableShare", desc := "()F" } : Jvm.MethodName) prog_14_method_118_code (3 : Nat) (Option.some Jvm.ClassFile.FieldType.float)) ∈ lw_all := lw_g (lw_at lw_m14 22 rfl) rfl
theorem q3266 : (Jvm.Cond.instanceMethod ({ cls := "SelahGeneratorModel", name := "writeRule", desc := "(I)I" } : Jvm.MethodName)) ∈ lw_all := lw_g (lw_at lw_m14 24 rfl) rfl
theorem q3267 : (Jvm.Cond.selects "SelahGeneratorModel" ({ cls := "SelahGeneratorModel", name := "writeRule", desc := "(I)I" } : Jvm.MethodName) ({ cls := "SelahGeneratorModel", name := "writeRule", desc := "(I)I" } : Jvm.MethodName)) ∈ lw_all := lw_g (lw_at lw_m14 25 rfl) rfl
theorem q3268 : (Jvm.Cond.code ({ cls := "SelahGeneratorModel", name := "writeRule", desc := "(I)I" } : Jvm.MethodName) prog_14_method_119_code (3 : Nat) (Option.some Jvm.ClassFile.FieldType.int)) ∈ lw_all := lw_g (lw_at lw_m14 26 rfl) rfl
theorem q3270 : (Jvm.Cond.instanceMethod ({ cls := "SelahGeneratorModel", name := "outputByte", desc := "(I)I" } : Jvm.MethodName)) ∈ lw_all := lw_g (lw_at lw_m14 28 rfl) rfl
theorem q3271 : (Jvm.Cond.selects "SelahGeneratorModel" ({ cls := "SelahGeneratorModel", name := "outputByte", desc := "(I)I" } : Jvm.MethodName) ({ cls := "SelahGeneratorModel", name := "outputByte", desc := "(I)I" } : Jvm.MethodName)) ∈ lw_all := lw_g (lw_at lw_m14 29 rfl) rfl
theorem q3272 : (Jvm.Cond.code ({ cls := "SelahGeneratorModel", name := "outputByte", desc := "(I)I" } : Jvm.MethodName) prog_14_method_120_code (2 : Nat) (Option.some Jvm.ClassFile.FieldType.int)) ∈ lw_all := lw_g (lw_at lw_m14 30 rfl) rfl
theorem q3297 : (Jvm.Cond.castable "SelahGeneratorModel" "java/lang/Object") ∈ lw_tbl := lw_at lw_m14 55 rfl
theorem in_X2 : ∀ w ∈ wsX20, w ∈ lw_all := lw_in wsX20 [2714, 2716, 2718, 2720, 2722, 2724, 2726, 2728, 2730, 2732, 2734, 2736, 2738, 2740, 2742, 2744, 2746, 2748, 2750, 2752, 2754, 2756, 2758, 2760, 2762, 2764, 2766, 2768, 2770, 2772, 2774, 2776, 2778, 2780, 2782, 2784, 2786, 2788, 2790, 2792, 2794, 2796] (by decide +kernel) (by decide +kernel)
/-! the law's own entry -/
set_option maxRecDepth 100000
abbrev cL_law : ByteArray := code
def dkwL_law_77 : List UInt8 := [159, 0, 5, 3, 172, 132, 4, 4, 167, 248, 114, 4, 172]
abbrev dktL_law_77 : List UInt8 := dkwL_law_77 ++ []
def dkwL_law_76 : List UInt8 := [167, 0, 28, 43, 42, 21, 4, 4, 96, 46, 182, 0, 252, 44, 42, 21, 4, 4, 96, 46, 182, 0, 255]
abbrev dktL_law_76 : List UInt8 := dkwL_law_76 ++ dktL_law_77
def dkwL_law_75 : List UInt8 := [21, 5, 159, 0, 5, 3, 172, 21, 5, 154, 0, 15, 45, 3, 47, 21, 6, 133, 148, 153, 0, 5, 3, 172]
abbrev dktL_law_75 : List UInt8 := dkwL_law_75 ++ dktL_law_76
def dkwL_law_74 : List UInt8 := [96, 46, 45, 184, 0, 249, 54, 5, 44, 42, 21, 4, 4, 96, 46, 182, 0, 251, 54, 6, 44, 182, 0, 102]
abbrev dktL_law_74 : List UInt8 := dkwL_law_74 ++ dktL_law_75
def dkwL_law_73 : List UInt8 := [24, 5, 151, 153, 0, 11, 24, 7, 24, 7, 151, 154, 0, 5, 3, 172, 167, 0, 84, 43, 42, 21, 4, 4]
abbrev dktL_law_73 : List UInt8 := dkwL_law_73 ++ dktL_law_74
def dkwL_law_72 : List UInt8 := [43, 182, 0, 244, 141, 57, 5, 44, 182, 0, 248, 141, 57, 7, 24, 5, 24, 7, 151, 153, 0, 21, 24, 5]
abbrev dktL_law_72 : List UInt8 := dkwL_law_72 ++ dktL_law_73
def dkwL_law_71 : List UInt8 := [153, 0, 21, 24, 5, 24, 5, 151, 153, 0, 11, 24, 7, 24, 7, 151, 154, 0, 5, 3, 172, 167, 0, 127]
abbrev dktL_law_71 : List UInt8 := dkwL_law_71 ++ dktL_law_72
def dkwL_law_70 : List UInt8 := [159, 0, 170, 3, 172, 43, 182, 0, 239, 57, 5, 44, 182, 0, 243, 57, 7, 24, 5, 24, 7, 151]
abbrev dktL_law_70 : List UInt8 := dkwL_law_70 ++ dktL_law_71
def dkwL_law_69 : List UInt8 := [45, 3, 47, 21, 6, 133, 148, 153, 0, 5, 3, 172, 167, 0, 181, 43, 182, 0, 235, 44, 182, 0, 238]
abbrev dktL_law_69 : List UInt8 := dkwL_law_69 ++ dktL_law_70
def dkwL_law_68 : List UInt8 := [54, 5, 44, 182, 0, 234, 54, 6, 44, 182, 0, 102, 21, 5, 159, 0, 5, 3, 172, 21, 5, 154, 0, 15]
abbrev dktL_law_68 : List UInt8 := dkwL_law_68 ++ dktL_law_69
def dkwL_law_67 : List UInt8 := [21, 6, 153, 0, 7, 10, 167, 0, 4, 9, 148, 153, 0, 5, 3, 172, 167, 0, 225, 43, 45, 184, 0, 232]
abbrev dktL_law_67 : List UInt8 := dkwL_law_67 ++ dktL_law_68
def dkwL_law_66 : List UInt8 := [182, 0, 231, 54, 6, 44, 182, 0, 102, 21, 5, 159, 0, 5, 3, 172, 21, 5, 154, 0, 22, 45, 3, 47]
abbrev dktL_law_66 : List UInt8 := dkwL_law_66 ++ dktL_law_67
def dkwL_law_65 : List UInt8 := [167, 1, 32, 43, 42, 21, 4, 4, 96, 46, 45, 184, 0, 229, 54, 5, 44, 42, 21, 4, 4, 96, 46]
abbrev dktL_law_65 : List UInt8 := dkwL_law_65 ++ dktL_law_66
def dkwL_law_64 : List UInt8 := [21, 5, 159, 0, 5, 3, 172, 21, 5, 154, 0, 15, 45, 3, 47, 21, 6, 133, 148, 153, 0, 5, 3, 172]
abbrev dktL_law_64 : List UInt8 := dkwL_law_64 ++ dktL_law_65
def dkwL_law_63 : List UInt8 := [46, 45, 184, 0, 226, 54, 5, 44, 42, 21, 4, 4, 96, 46, 182, 0, 228, 54, 6, 44, 182, 0, 102]
abbrev dktL_law_63 : List UInt8 := dkwL_law_63 ++ dktL_law_64
def dkwL_law_62 : List UInt8 := [154, 0, 15, 45, 3, 47, 21, 6, 133, 148, 153, 0, 5, 3, 172, 167, 1, 88, 43, 42, 21, 4, 4, 96]
abbrev dktL_law_62 : List UInt8 := dkwL_law_62 ++ dktL_law_63
def dkwL_law_61 : List UInt8 := [21, 4, 4, 96, 46, 182, 0, 225, 54, 6, 44, 182, 0, 102, 21, 5, 159, 0, 5, 3, 172, 21, 5]
abbrev dktL_law_61 : List UInt8 := dkwL_law_61 ++ dktL_law_62
def dkwL_law_60 : List UInt8 := [182, 0, 222, 159, 1, 146, 3, 172, 43, 42, 21, 4, 4, 96, 46, 45, 184, 0, 223, 54, 5, 44, 42]
abbrev dktL_law_60 : List UInt8 := dkwL_law_60 ++ dktL_law_61
def dkwL_law_59 : List UInt8 := [46, 182, 0, 215, 44, 42, 21, 4, 4, 96, 46, 182, 0, 218, 159, 1, 159, 3, 172, 43, 182, 0, 219, 44]
abbrev dktL_law_59 : List UInt8 := dkwL_law_59 ++ dktL_law_60
def dkwL_law_58 : List UInt8 := [159, 1, 197, 3, 172, 43, 182, 0, 211, 44, 182, 0, 214, 159, 1, 184, 3, 172, 43, 42, 21, 4, 4, 96]
abbrev dktL_law_58 : List UInt8 := dkwL_law_58 ++ dktL_law_59
def dkwL_law_57 : List UInt8 := [44, 42, 21, 4, 4, 96, 46, 182, 0, 206, 159, 1, 210, 3, 172, 43, 182, 0, 207, 44, 182, 0, 210]
abbrev dktL_law_57 : List UInt8 := dkwL_law_57 ++ dktL_law_58
def dkwL_law_56 : List UInt8 := [172, 43, 182, 0, 199, 44, 182, 0, 202, 159, 1, 235, 3, 172, 43, 42, 21, 4, 4, 96, 46, 182, 0, 203]
abbrev dktL_law_56 : List UInt8 := dkwL_law_56 ++ dktL_law_57
def dkwL_law_55 : List UInt8 := [182, 0, 191, 44, 182, 0, 194, 159, 2, 5, 3, 172, 43, 182, 0, 195, 44, 182, 0, 198, 159, 1, 248, 3]
abbrev dktL_law_55 : List UInt8 := dkwL_law_55 ++ dktL_law_56
def dkwL_law_54 : List UInt8 := [172, 21, 5, 154, 0, 15, 45, 3, 47, 21, 6, 133, 148, 153, 0, 5, 3, 172, 167, 2, 16, 43]
abbrev dktL_law_54 : List UInt8 := dkwL_law_54 ++ dktL_law_55
def dkwL_law_53 : List UInt8 := [54, 5, 44, 42, 21, 4, 4, 96, 46, 182, 0, 190, 54, 6, 44, 182, 0, 102, 21, 5, 159, 0, 5, 3]
abbrev dktL_law_53 : List UInt8 := dkwL_law_53 ++ dktL_law_54
def dkwL_law_52 : List UInt8 := [21, 6, 133, 148, 153, 0, 5, 3, 172, 167, 2, 72, 43, 42, 21, 4, 4, 96, 46, 45, 184, 0, 188]
abbrev dktL_law_52 : List UInt8 := dkwL_law_52 ++ dktL_law_53
def dkwL_law_51 : List UInt8 := [182, 0, 187, 54, 6, 44, 182, 0, 102, 21, 5, 159, 0, 5, 3, 172, 21, 5, 154, 0, 15, 45, 3, 47]
abbrev dktL_law_51 : List UInt8 := dkwL_law_51 ++ dktL_law_52
def dkwL_law_50 : List UInt8 := [167, 2, 128, 43, 42, 21, 4, 4, 96, 46, 45, 184, 0, 185, 54, 5, 44, 42, 21, 4, 4, 96, 46]
abbrev dktL_law_50 : List UInt8 := dkwL_law_50 ++ dktL_law_51
def dkwL_law_49 : List UInt8 := [159, 0, 5, 3, 172, 21, 5, 154, 0, 15, 45, 3, 47, 21, 6, 133, 148, 153, 0, 5, 3, 172]
abbrev dktL_law_49 : List UInt8 := dkwL_law_49 ++ dktL_law_50
def dkwL_law_48 : List UInt8 := [167, 2, 172, 43, 45, 184, 0, 182, 54, 5, 44, 182, 0, 184, 54, 6, 44, 182, 0, 102, 21, 5]
abbrev dktL_law_48 : List UInt8 := dkwL_law_48 ++ dktL_law_49
def dkwL_law_47 : List UInt8 := [159, 0, 5, 3, 172, 21, 5, 154, 0, 15, 45, 3, 47, 21, 6, 133, 148, 153, 0, 5, 3, 172]
abbrev dktL_law_47 : List UInt8 := dkwL_law_47 ++ dktL_law_48
def dkwL_law_46 : List UInt8 := [172, 167, 2, 216, 43, 45, 184, 0, 178, 54, 5, 44, 182, 0, 181, 54, 6, 44, 182, 0, 102, 21, 5]
abbrev dktL_law_46 : List UInt8 := dkwL_law_46 ++ dktL_law_47
def dkwL_law_45 : List UInt8 := [172, 21, 5, 154, 0, 22, 45, 3, 47, 21, 6, 153, 0, 7, 10, 167, 0, 4, 9, 148, 153, 0, 5, 3]
abbrev dktL_law_45 : List UInt8 := dkwL_law_45 ++ dktL_law_46
def dkwL_law_44 : List UInt8 := [54, 5, 44, 42, 21, 4, 4, 96, 46, 182, 0, 177, 54, 6, 44, 182, 0, 102, 21, 5, 159, 0, 5, 3]
abbrev dktL_law_44 : List UInt8 := dkwL_law_44 ++ dktL_law_45
def dkwL_law_43 : List UInt8 := [182, 0, 171, 44, 182, 0, 174, 159, 3, 25, 3, 172, 43, 42, 21, 4, 4, 96, 46, 45, 184, 0, 175]
abbrev dktL_law_43 : List UInt8 := dkwL_law_43 ++ dktL_law_44
def dkwL_law_42 : List UInt8 := [153, 0, 5, 3, 172, 167, 3, 49, 43, 182, 0, 167, 44, 182, 0, 170, 159, 3, 38, 3, 172, 43]
abbrev dktL_law_42 : List UInt8 := dkwL_law_42 ++ dktL_law_43
def dkwL_law_41 : List UInt8 := [182, 0, 102, 21, 5, 159, 0, 5, 3, 172, 21, 5, 154, 0, 15, 45, 3, 47, 21, 6, 133, 148]
abbrev dktL_law_41 : List UInt8 := dkwL_law_41 ++ dktL_law_42
def dkwL_law_40 : List UInt8 := [42, 21, 4, 4, 96, 46, 42, 21, 4, 5, 96, 46, 42, 21, 4, 6, 96, 46, 182, 0, 166, 54, 6, 44]
abbrev dktL_law_40 : List UInt8 := dkwL_law_40 ++ dktL_law_41
def dkwL_law_39 : List UInt8 := [21, 4, 4, 96, 46, 42, 21, 4, 5, 96, 46, 42, 21, 4, 6, 96, 46, 45, 184, 0, 163, 54, 5, 44]
abbrev dktL_law_39 : List UInt8 := dkwL_law_39 ++ dktL_law_40
def dkwL_law_38 : List UInt8 := [172, 21, 5, 154, 0, 15, 45, 3, 47, 21, 6, 133, 148, 153, 0, 5, 3, 172, 167, 3, 129, 43, 42]
abbrev dktL_law_38 : List UInt8 := dkwL_law_38 ++ dktL_law_39
def dkwL_law_37 : List UInt8 := [54, 5, 44, 42, 21, 4, 4, 96, 46, 182, 0, 162, 54, 6, 44, 182, 0, 102, 21, 5, 159, 0, 5, 3]
abbrev dktL_law_37 : List UInt8 := dkwL_law_37 ++ dktL_law_38
def dkwL_law_36 : List UInt8 := [182, 0, 155, 44, 182, 0, 159, 159, 3, 187, 3, 172, 43, 42, 21, 4, 4, 96, 46, 45, 184, 0, 160]
abbrev dktL_law_36 : List UInt8 := dkwL_law_36 ++ dktL_law_37
def dkwL_law_35 : List UInt8 := [148, 153, 0, 5, 3, 172, 167, 3, 211, 43, 182, 0, 151, 44, 182, 0, 154, 159, 3, 200, 3, 172, 43]
abbrev dktL_law_35 : List UInt8 := dkwL_law_35 ++ dktL_law_36
def dkwL_law_34 : List UInt8 := [54, 6, 44, 182, 0, 102, 21, 5, 159, 0, 5, 3, 172, 21, 5, 154, 0, 15, 45, 3, 47, 21, 6, 133]
abbrev dktL_law_34 : List UInt8 := dkwL_law_34 ++ dktL_law_35
def dkwL_law_33 : List UInt8 := [46, 45, 184, 0, 148, 54, 5, 44, 42, 21, 4, 4, 96, 46, 42, 21, 4, 5, 96, 46, 182, 0, 150]
abbrev dktL_law_33 : List UInt8 := dkwL_law_33 ++ dktL_law_34
def dkwL_law_32 : List UInt8 := [21, 6, 133, 148, 153, 0, 5, 3, 172, 167, 4, 23, 43, 42, 21, 4, 4, 96, 46, 42, 21, 4, 5, 96]
abbrev dktL_law_32 : List UInt8 := dkwL_law_32 ++ dktL_law_33
def dkwL_law_31 : List UInt8 := [182, 0, 147, 54, 6, 44, 182, 0, 102, 21, 5, 159, 0, 5, 3, 172, 21, 5, 154, 0, 15, 45, 3, 47]
abbrev dktL_law_31 : List UInt8 := dkwL_law_31 ++ dktL_law_32
def dkwL_law_30 : List UInt8 := [167, 4, 79, 43, 42, 21, 4, 4, 96, 46, 45, 184, 0, 145, 54, 5, 44, 42, 21, 4, 4, 96, 46]
abbrev dktL_law_30 : List UInt8 := dkwL_law_30 ++ dktL_law_31
def dkwL_law_29 : List UInt8 := [159, 0, 5, 3, 172, 21, 5, 154, 0, 15, 45, 3, 47, 21, 6, 133, 148, 153, 0, 5, 3, 172]
abbrev dktL_law_29 : List UInt8 := dkwL_law_29 ++ dktL_law_30
def dkwL_law_28 : List UInt8 := [184, 0, 142, 54, 5, 44, 42, 21, 4, 4, 96, 46, 182, 0, 144, 54, 6, 44, 182, 0, 102, 21, 5]
abbrev dktL_law_28 : List UInt8 := dkwL_law_28 ++ dktL_law_29
def dkwL_law_27 : List UInt8 := [167, 4, 148, 43, 182, 0, 138, 44, 182, 0, 141, 159, 4, 137, 3, 172, 43, 42, 21, 4, 4, 96, 46, 45]
abbrev dktL_law_27 : List UInt8 := dkwL_law_27 ++ dktL_law_28
def dkwL_law_26 : List UInt8 := [21, 5, 159, 0, 5, 3, 172, 21, 5, 154, 0, 15, 45, 3, 47, 21, 6, 133, 148, 153, 0, 5, 3, 172]
abbrev dktL_law_26 : List UInt8 := dkwL_law_26 ++ dktL_law_27
def dkwL_law_25 : List UInt8 := [46, 45, 184, 0, 135, 54, 5, 44, 42, 21, 4, 4, 96, 46, 182, 0, 137, 54, 6, 44, 182, 0, 102]
abbrev dktL_law_25 : List UInt8 := dkwL_law_25 ++ dktL_law_26
def dkwL_law_24 : List UInt8 := [154, 0, 15, 45, 3, 47, 21, 6, 133, 148, 153, 0, 5, 3, 172, 167, 4, 204, 43, 42, 21, 4, 4, 96]
abbrev dktL_law_24 : List UInt8 := dkwL_law_24 ++ dktL_law_25
def dkwL_law_23 : List UInt8 := [21, 4, 4, 96, 46, 182, 0, 134, 54, 6, 44, 182, 0, 102, 21, 5, 159, 0, 5, 3, 172, 21, 5]
abbrev dktL_law_23 : List UInt8 := dkwL_law_23 ++ dktL_law_24
def dkwL_law_22 : List UInt8 := [153, 0, 5, 3, 172, 167, 5, 4, 43, 42, 21, 4, 4, 96, 46, 45, 184, 0, 132, 54, 5, 44, 42]
abbrev dktL_law_22 : List UInt8 := dkwL_law_22 ++ dktL_law_23
def dkwL_law_21 : List UInt8 := [159, 0, 5, 3, 172, 21, 5, 154, 0, 22, 45, 3, 47, 21, 6, 153, 0, 7, 10, 167, 0, 4, 9, 148]
abbrev dktL_law_21 : List UInt8 := dkwL_law_21 ++ dktL_law_22
def dkwL_law_20 : List UInt8 := [184, 0, 129, 54, 5, 44, 42, 21, 4, 4, 96, 46, 182, 0, 131, 54, 6, 44, 182, 0, 102, 21, 5]
abbrev dktL_law_20 : List UInt8 := dkwL_law_20 ++ dktL_law_21
def dkwL_law_19 : List UInt8 := [167, 5, 80, 43, 182, 0, 125, 44, 182, 0, 128, 159, 5, 69, 3, 172, 43, 42, 21, 4, 4, 96, 46, 45]
abbrev dktL_law_19 : List UInt8 := dkwL_law_19 ++ dktL_law_20
def dkwL_law_18 : List UInt8 := [159, 0, 5, 3, 172, 21, 5, 154, 0, 15, 45, 3, 47, 21, 6, 133, 148, 153, 0, 5, 3, 172]
abbrev dktL_law_18 : List UInt8 := dkwL_law_18 ++ dktL_law_19
def dkwL_law_17 : List UInt8 := [21, 4, 4, 96, 46, 42, 21, 4, 5, 96, 46, 182, 0, 124, 54, 6, 44, 182, 0, 102, 21, 5]
abbrev dktL_law_17 : List UInt8 := dkwL_law_17 ++ dktL_law_18
def dkwL_law_16 : List UInt8 := [167, 5, 148, 43, 42, 21, 4, 4, 96, 46, 42, 21, 4, 5, 96, 46, 45, 184, 0, 122, 54, 5, 44, 42]
abbrev dktL_law_16 : List UInt8 := dkwL_law_16 ++ dktL_law_17
def dkwL_law_15 : List UInt8 := [21, 5, 159, 0, 5, 3, 172, 21, 5, 154, 0, 15, 45, 3, 47, 21, 6, 133, 148, 153, 0, 5, 3, 172]
abbrev dktL_law_15 : List UInt8 := dkwL_law_15 ++ dktL_law_16
def dkwL_law_14 : List UInt8 := [46, 45, 184, 0, 119, 54, 5, 44, 42, 21, 4, 4, 96, 46, 182, 0, 121, 54, 6, 44, 182, 0, 102]
abbrev dktL_law_14 : List UInt8 := dkwL_law_14 ++ dktL_law_15
def dkwL_law_13 : List UInt8 := [154, 0, 15, 45, 3, 47, 21, 6, 133, 148, 153, 0, 5, 3, 172, 167, 5, 204, 43, 42, 21, 4, 4, 96]
abbrev dktL_law_13 : List UInt8 := dkwL_law_13 ++ dktL_law_14
def dkwL_law_12 : List UInt8 := [21, 4, 4, 96, 46, 182, 0, 118, 54, 6, 44, 182, 0, 102, 21, 5, 159, 0, 5, 3, 172, 21, 5]
abbrev dktL_law_12 : List UInt8 := dkwL_law_12 ++ dktL_law_13
def dkwL_law_11 : List UInt8 := [182, 0, 115, 159, 6, 6, 3, 172, 43, 42, 21, 4, 4, 96, 46, 45, 184, 0, 116, 54, 5, 44, 42]
abbrev dktL_law_11 : List UInt8 := dkwL_law_11 ++ dktL_law_12
def dkwL_law_10 : List UInt8 := [154, 0, 15, 45, 3, 47, 21, 6, 133, 148, 153, 0, 5, 3, 172, 167, 6, 17, 43, 182, 0, 112, 44]
abbrev dktL_law_10 : List UInt8 := dkwL_law_10 ++ dktL_law_11
def dkwL_law_9 : List UInt8 := [21, 4, 4, 96, 46, 182, 0, 111, 54, 6, 44, 182, 0, 102, 21, 5, 159, 0, 5, 3, 172, 21, 5]
abbrev dktL_law_9 : List UInt8 := dkwL_law_9 ++ dktL_law_10
def dkwL_law_8 : List UInt8 := [153, 0, 5, 3, 172, 167, 6, 73, 43, 42, 21, 4, 4, 96, 46, 45, 184, 0, 109, 54, 5, 44, 42]
abbrev dktL_law_8 : List UInt8 := dkwL_law_8 ++ dktL_law_9
def dkwL_law_7 : List UInt8 := [182, 0, 102, 21, 5, 159, 0, 5, 3, 172, 21, 5, 154, 0, 15, 45, 3, 47, 21, 6, 133, 148]
abbrev dktL_law_7 : List UInt8 := dkwL_law_7 ++ dktL_law_8
def dkwL_law_6 : List UInt8 := [184, 0, 105, 54, 5, 44, 42, 21, 4, 4, 96, 46, 42, 21, 4, 5, 96, 46, 182, 0, 108, 54, 6, 44]
abbrev dktL_law_6 : List UInt8 := dkwL_law_6 ++ dktL_law_7
def dkwL_law_5 : List UInt8 := [148, 153, 0, 5, 3, 172, 167, 6, 141, 43, 42, 21, 4, 4, 96, 46, 42, 21, 4, 5, 96, 46, 45]
abbrev dktL_law_5 : List UInt8 := dkwL_law_5 ++ dktL_law_6
def dkwL_law_4 : List UInt8 := [54, 6, 44, 182, 0, 102, 21, 5, 159, 0, 5, 3, 172, 21, 5, 154, 0, 15, 45, 3, 47, 21, 6, 133]
abbrev dktL_law_4 : List UInt8 := dkwL_law_4 ++ dktL_law_5
def dkwL_law_3 : List UInt8 := [43, 42, 21, 4, 4, 96, 46, 45, 184, 0, 96, 54, 5, 44, 42, 21, 4, 4, 96, 46, 182, 0, 101]
abbrev dktL_law_3 : List UInt8 := dkwL_law_3 ++ dktL_law_4
def dkwL_law_2 : List UInt8 := [170, 0, 0, 7, 123, 0, 0, 0, 0, 0, 0, 0, 42, 0, 0, 0, 185, 0, 0, 0, 241, 0, 0, 1, 53, 0, 0, 1, 109, 0, 0, 1, 122, 0, 0, 1, 178, 0, 0, 1, 234, 0, 0, 2, 46, 0, 0, 2, 59, 0, 0, 2, 122, 0, 0, 2, 178, 0, 0, 2, 234, 0, 0, 2, 247, 0, 0, 3, 47, 0, 0, 3, 103, 0, 0, 3, 171, 0, 0, 3, 184, 0, 0, 3, 197, 0, 0, 3, 253, 0, 0, 4, 77, 0, 0, 4, 90, 0, 0, 4, 103, 0, 0, 4, 166, 0, 0, 4, 210, 0, 0, 4, 254, 0, 0, 5, 54, 0, 0, 5, 110, 0, 0, 5, 123, 0, 0, 5, 136, 0, 0, 5, 149, 0, 0, 5, 174, 0, 0, 5, 187, 0, 0, 5, 200, 0, 0, 5, 225, 0, 0, 5, 238, 0, 0, 6, 38, 0, 0, 6, 94, 0, 0, 6, 157, 0, 0, 6, 201, 0, 0, 6, 214, 0, 0, 6, 255, 0, 0, 7, 42, 0, 0, 7, 98]
abbrev dktL_law_2 : List UInt8 := dkwL_law_2 ++ dktL_law_3
def dkwL_law_1 : List UInt8 := [21, 4, 42, 190, 7, 100, 163, 7, 139, 42, 21, 4, 46, 16, 63, 126]
abbrev dktL_law_1 : List UInt8 := dkwL_law_1 ++ dktL_law_2
def dkwL_law_0 : List UInt8 := [187, 0, 8, 89, 183, 0, 92, 76, 187, 0, 93, 89, 183, 0, 95, 77, 4, 188, 11, 78, 3, 54, 4]
abbrev dktL_law_0 : List UInt8 := dkwL_law_0 ++ dktL_law_1
theorem dksL_law_0 : cL_law.data.toList.drop 0 = dktL_law_0 := by decide +kernel
theorem dksL_law_1 : cL_law.data.toList.drop 23 = dktL_law_1 := dk_seg dksL_law_0 23 rfl rfl
theorem dksL_law_2 : cL_law.data.toList.drop 39 = dktL_law_2 := dk_seg dksL_law_1 16 rfl rfl
theorem dksL_law_3 : cL_law.data.toList.drop 224 = dktL_law_3 := dk_seg dksL_law_2 185 rfl rfl
theorem dksL_law_4 : cL_law.data.toList.drop 247 = dktL_law_4 := dk_seg dksL_law_3 23 rfl rfl
theorem dksL_law_5 : cL_law.data.toList.drop 271 = dktL_law_5 := dk_seg dksL_law_4 24 rfl rfl
theorem dksL_law_6 : cL_law.data.toList.drop 294 = dktL_law_6 := dk_seg dksL_law_5 23 rfl rfl
theorem dksL_law_7 : cL_law.data.toList.drop 318 = dktL_law_7 := dk_seg dksL_law_6 24 rfl rfl
theorem dksL_law_8 : cL_law.data.toList.drop 340 = dktL_law_8 := dk_seg dksL_law_7 22 rfl rfl
theorem dksL_law_9 : cL_law.data.toList.drop 363 = dktL_law_9 := dk_seg dksL_law_8 23 rfl rfl
theorem dksL_law_10 : cL_law.data.toList.drop 386 = dktL_law_10 := dk_seg dksL_law_9 23 rfl rfl
theorem dksL_law_11 : cL_law.data.toList.drop 409 = dktL_law_11 := dk_seg dksL_law_10 23 rfl rfl
theorem dksL_law_12 : cL_law.data.toList.drop 432 = dktL_law_12 := dk_seg dksL_law_11 23 rfl rfl
theorem dksL_law_13 : cL_law.data.toList.drop 455 = dktL_law_13 := dk_seg dksL_law_12 23 rfl rfl
theorem dksL_law_14 : cL_law.data.toList.drop 479 = dktL_law_14 := dk_seg dksL_law_13 24 rfl rfl
theorem dksL_law_15 : cL_law.data.toList.drop 502 = dktL_law_15 := dk_seg dksL_law_14 23 rfl rfl
theorem dksL_law_16 : cL_law.data.toList.drop 526 = dktL_law_16 := dk_seg dksL_law_15 24 rfl rfl
theorem dksL_law_17 : cL_law.data.toList.drop 550 = dktL_law_17 := dk_seg dksL_law_16 24 rfl rfl
theorem dksL_law_18 : cL_law.data.toList.drop 572 = dktL_law_18 := dk_seg dksL_law_17 22 rfl rfl
theorem dksL_law_19 : cL_law.data.toList.drop 594 = dktL_law_19 := dk_seg dksL_law_18 22 rfl rfl
theorem dksL_law_20 : cL_law.data.toList.drop 618 = dktL_law_20 := dk_seg dksL_law_19 24 rfl rfl
theorem dksL_law_21 : cL_law.data.toList.drop 641 = dktL_law_21 := dk_seg dksL_law_20 23 rfl rfl
theorem dksL_law_22 : cL_law.data.toList.drop 665 = dktL_law_22 := dk_seg dksL_law_21 24 rfl rfl
theorem dksL_law_23 : cL_law.data.toList.drop 688 = dktL_law_23 := dk_seg dksL_law_22 23 rfl rfl
theorem dksL_law_24 : cL_law.data.toList.drop 711 = dktL_law_24 := dk_seg dksL_law_23 23 rfl rfl
theorem dksL_law_25 : cL_law.data.toList.drop 735 = dktL_law_25 := dk_seg dksL_law_24 24 rfl rfl
theorem dksL_law_26 : cL_law.data.toList.drop 758 = dktL_law_26 := dk_seg dksL_law_25 23 rfl rfl
theorem dksL_law_27 : cL_law.data.toList.drop 782 = dktL_law_27 := dk_seg dksL_law_26 24 rfl rfl
theorem dksL_law_28 : cL_law.data.toList.drop 806 = dktL_law_28 := dk_seg dksL_law_27 24 rfl rfl
theorem dksL_law_29 : cL_law.data.toList.drop 829 = dktL_law_29 := dk_seg dksL_law_28 23 rfl rfl
theorem dksL_law_30 : cL_law.data.toList.drop 851 = dktL_law_30 := dk_seg dksL_law_29 22 rfl rfl
theorem dksL_law_31 : cL_law.data.toList.drop 874 = dktL_law_31 := dk_seg dksL_law_30 23 rfl rfl
theorem dksL_law_32 : cL_law.data.toList.drop 898 = dktL_law_32 := dk_seg dksL_law_31 24 rfl rfl
theorem dksL_law_33 : cL_law.data.toList.drop 922 = dktL_law_33 := dk_seg dksL_law_32 24 rfl rfl
theorem dksL_law_34 : cL_law.data.toList.drop 945 = dktL_law_34 := dk_seg dksL_law_33 23 rfl rfl
theorem dksL_law_35 : cL_law.data.toList.drop 969 = dktL_law_35 := dk_seg dksL_law_34 24 rfl rfl
theorem dksL_law_36 : cL_law.data.toList.drop 992 = dktL_law_36 := dk_seg dksL_law_35 23 rfl rfl
theorem dksL_law_37 : cL_law.data.toList.drop 1015 = dktL_law_37 := dk_seg dksL_law_36 23 rfl rfl
theorem dksL_law_38 : cL_law.data.toList.drop 1039 = dktL_law_38 := dk_seg dksL_law_37 24 rfl rfl
theorem dksL_law_39 : cL_law.data.toList.drop 1062 = dktL_law_39 := dk_seg dksL_law_38 23 rfl rfl
theorem dksL_law_40 : cL_law.data.toList.drop 1086 = dktL_law_40 := dk_seg dksL_law_39 24 rfl rfl
theorem dksL_law_41 : cL_law.data.toList.drop 1110 = dktL_law_41 := dk_seg dksL_law_40 24 rfl rfl
theorem dksL_law_42 : cL_law.data.toList.drop 1132 = dktL_law_42 := dk_seg dksL_law_41 22 rfl rfl
theorem dksL_law_43 : cL_law.data.toList.drop 1154 = dktL_law_43 := dk_seg dksL_law_42 22 rfl rfl
theorem dksL_law_44 : cL_law.data.toList.drop 1177 = dktL_law_44 := dk_seg dksL_law_43 23 rfl rfl
theorem dksL_law_45 : cL_law.data.toList.drop 1201 = dktL_law_45 := dk_seg dksL_law_44 24 rfl rfl
theorem dksL_law_46 : cL_law.data.toList.drop 1225 = dktL_law_46 := dk_seg dksL_law_45 24 rfl rfl
theorem dksL_law_47 : cL_law.data.toList.drop 1248 = dktL_law_47 := dk_seg dksL_law_46 23 rfl rfl
theorem dksL_law_48 : cL_law.data.toList.drop 1270 = dktL_law_48 := dk_seg dksL_law_47 22 rfl rfl
theorem dksL_law_49 : cL_law.data.toList.drop 1292 = dktL_law_49 := dk_seg dksL_law_48 22 rfl rfl
theorem dksL_law_50 : cL_law.data.toList.drop 1314 = dktL_law_50 := dk_seg dksL_law_49 22 rfl rfl
theorem dksL_law_51 : cL_law.data.toList.drop 1337 = dktL_law_51 := dk_seg dksL_law_50 23 rfl rfl
theorem dksL_law_52 : cL_law.data.toList.drop 1361 = dktL_law_52 := dk_seg dksL_law_51 24 rfl rfl
theorem dksL_law_53 : cL_law.data.toList.drop 1384 = dktL_law_53 := dk_seg dksL_law_52 23 rfl rfl
theorem dksL_law_54 : cL_law.data.toList.drop 1408 = dktL_law_54 := dk_seg dksL_law_53 24 rfl rfl
theorem dksL_law_55 : cL_law.data.toList.drop 1430 = dktL_law_55 := dk_seg dksL_law_54 22 rfl rfl
theorem dksL_law_56 : cL_law.data.toList.drop 1454 = dktL_law_56 := dk_seg dksL_law_55 24 rfl rfl
theorem dksL_law_57 : cL_law.data.toList.drop 1478 = dktL_law_57 := dk_seg dksL_law_56 24 rfl rfl
theorem dksL_law_58 : cL_law.data.toList.drop 1501 = dktL_law_58 := dk_seg dksL_law_57 23 rfl rfl
theorem dksL_law_59 : cL_law.data.toList.drop 1525 = dktL_law_59 := dk_seg dksL_law_58 24 rfl rfl
theorem dksL_law_60 : cL_law.data.toList.drop 1549 = dktL_law_60 := dk_seg dksL_law_59 24 rfl rfl
theorem dksL_law_61 : cL_law.data.toList.drop 1572 = dktL_law_61 := dk_seg dksL_law_60 23 rfl rfl
theorem dksL_law_62 : cL_law.data.toList.drop 1595 = dktL_law_62 := dk_seg dksL_law_61 23 rfl rfl
theorem dksL_law_63 : cL_law.data.toList.drop 1619 = dktL_law_63 := dk_seg dksL_law_62 24 rfl rfl
theorem dksL_law_64 : cL_law.data.toList.drop 1642 = dktL_law_64 := dk_seg dksL_law_63 23 rfl rfl
theorem dksL_law_65 : cL_law.data.toList.drop 1666 = dktL_law_65 := dk_seg dksL_law_64 24 rfl rfl
theorem dksL_law_66 : cL_law.data.toList.drop 1689 = dktL_law_66 := dk_seg dksL_law_65 23 rfl rfl
theorem dksL_law_67 : cL_law.data.toList.drop 1713 = dktL_law_67 := dk_seg dksL_law_66 24 rfl rfl
theorem dksL_law_68 : cL_law.data.toList.drop 1737 = dktL_law_68 := dk_seg dksL_law_67 24 rfl rfl
theorem dksL_law_69 : cL_law.data.toList.drop 1761 = dktL_law_69 := dk_seg dksL_law_68 24 rfl rfl
theorem dksL_law_70 : cL_law.data.toList.drop 1784 = dktL_law_70 := dk_seg dksL_law_69 23 rfl rfl
theorem dksL_law_71 : cL_law.data.toList.drop 1806 = dktL_law_71 := dk_seg dksL_law_70 22 rfl rfl
theorem dksL_law_72 : cL_law.data.toList.drop 1830 = dktL_law_72 := dk_seg dksL_law_71 24 rfl rfl
theorem dksL_law_73 : cL_law.data.toList.drop 1854 = dktL_law_73 := dk_seg dksL_law_72 24 rfl rfl
theorem dksL_law_74 : cL_law.data.toList.drop 1878 = dktL_law_74 := dk_seg dksL_law_73 24 rfl rfl
theorem dksL_law_75 : cL_law.data.toList.drop 1902 = dktL_law_75 := dk_seg dksL_law_74 24 rfl rfl
theorem dksL_law_76 : cL_law.data.toList.drop 1926 = dktL_law_76 := dk_seg dksL_law_75 24 rfl rfl
theorem dksL_law_77 : cL_law.data.toList.drop 1949 = dktL_law_77 := dk_seg dksL_law_76 23 rfl rfl
theorem dL_law_0 : decode cL_law 0 = .ok (.new 8, 3) := dk_187 0 8 (dk_at dksL_law_0 0 rfl rfl)
theorem dL_law_3 : decode cL_law 3 = .ok (.dup, 1) := dk_89 (dk_at dksL_law_0 3 rfl rfl)
theorem dL_law_4 : decode cL_law 4 = .ok (.invokespecial 92, 3) := dk_183 0 92 (dk_at dksL_law_0 4 rfl rfl)
theorem dL_law_7 : decode cL_law 7 = .ok (.astore_n 1, 1) := dk_76 (dk_at dksL_law_0 7 rfl rfl)
theorem dL_law_8 : decode cL_law 8 = .ok (.new 93, 3) := dk_187 0 93 (dk_at dksL_law_0 8 rfl rfl)
theorem dL_law_11 : decode cL_law 11 = .ok (.dup, 1) := dk_89 (dk_at dksL_law_0 11 rfl rfl)
theorem dL_law_12 : decode cL_law 12 = .ok (.invokespecial 95, 3) := dk_183 0 95 (dk_at dksL_law_0 12 rfl rfl)
theorem dL_law_15 : decode cL_law 15 = .ok (.astore_n 2, 1) := dk_77 (dk_at dksL_law_0 15 rfl rfl)
theorem dL_law_16 : decode cL_law 16 = .ok (.iconst 1, 1) := dk_4 (dk_at dksL_law_0 16 rfl rfl)
theorem dL_law_17 : decode cL_law 17 = .ok (.newarray .long, 2) := dk_188_11 (dk_at dksL_law_0 17 rfl rfl)
theorem dL_law_19 : decode cL_law 19 = .ok (.astore_n 3, 1) := dk_78 (dk_at dksL_law_0 19 rfl rfl)
theorem dL_law_20 : decode cL_law 20 = .ok (.iconst 0, 1) := dk_3 (dk_at dksL_law_0 20 rfl rfl)
theorem dL_law_21 : decode cL_law 21 = .ok (.istore 4, 2) := dk_54 4 (dk_at dksL_law_0 21 rfl rfl)
theorem dL_law_23 : decode cL_law 23 = .ok (.iload 4, 2) := dk_21 4 (dk_at dksL_law_1 0 rfl rfl)
theorem dL_law_25 : decode cL_law 25 = .ok (.aload_n 0, 1) := dk_42 (dk_at dksL_law_1 2 rfl rfl)
theorem dL_law_26 : decode cL_law 26 = .ok (.arraylength, 1) := dk_190 (dk_at dksL_law_1 3 rfl rfl)
theorem dL_law_27 : decode cL_law 27 = .ok (.iconst 4, 1) := dk_7 (dk_at dksL_law_1 4 rfl rfl)
theorem dL_law_28 : decode cL_law 28 = .ok (.isub, 1) := dk_100 (dk_at dksL_law_1 5 rfl rfl)
theorem dL_law_29 : decode cL_law 29 = .ok (.if_icmp .gt 1931, 3) := dk_163 7 139 (dk_at dksL_law_1 6 rfl rfl)
theorem dL_law_32 : decode cL_law 32 = .ok (.aload_n 0, 1) := dk_42 (dk_at dksL_law_1 9 rfl rfl)
theorem dL_law_33 : decode cL_law 33 = .ok (.iload 4, 2) := dk_21 4 (dk_at dksL_law_1 10 rfl rfl)
theorem dL_law_35 : decode cL_law 35 = .ok (.iaload, 1) := dk_46 (dk_at dksL_law_1 12 rfl rfl)
theorem dL_law_36 : decode cL_law 36 = .ok (.bipush 63, 2) := dk_16 63 (dk_at dksL_law_1 13 rfl rfl)
theorem dL_law_38 : decode cL_law 38 = .ok (.iand, 1) := dk_126 (dk_at dksL_law_1 15 rfl rfl)
theorem dL_law_39 : decode cL_law 39 = .ok (.tableswitch 1915 0 42 #[185, 241, 309, 365, 378, 434, 490, 558, 571, 634, 690, 746, 759, 815, 871, 939, 952, 965, 1021, 1101, 1114, 1127, 1190, 1234, 1278, 1334, 1390, 1403, 1416, 1429, 1454, 1467, 1480, 1505, 1518, 1574, 1630, 1693, 1737, 1750, 1791, 1834, 1890], 185) := by decide +kernel
theorem dL_law_224 : decode cL_law 224 = .ok (.aload_n 1, 1) := dk_43 (dk_at dksL_law_3 0 rfl rfl)
theorem dL_law_225 : decode cL_law 225 = .ok (.aload_n 0, 1) := dk_42 (dk_at dksL_law_3 1 rfl rfl)
theorem dL_law_226 : decode cL_law 226 = .ok (.iload 4, 2) := dk_21 4 (dk_at dksL_law_3 2 rfl rfl)
theorem dL_law_228 : decode cL_law 228 = .ok (.iconst 1, 1) := dk_4 (dk_at dksL_law_3 4 rfl rfl)
theorem dL_law_229 : decode cL_law 229 = .ok (.iadd, 1) := dk_96 (dk_at dksL_law_3 5 rfl rfl)
theorem dL_law_230 : decode cL_law 230 = .ok (.iaload, 1) := dk_46 (dk_at dksL_law_3 6 rfl rfl)
theorem dL_law_231 : decode cL_law 231 = .ok (.aload_n 3, 1) := dk_45 (dk_at dksL_law_3 7 rfl rfl)
theorem dL_law_232 : decode cL_law 232 = .ok (.invokestatic 96, 3) := dk_184 0 96 (dk_at dksL_law_3 8 rfl rfl)
theorem dL_law_235 : decode cL_law 235 = .ok (.istore 5, 2) := dk_54 5 (dk_at dksL_law_3 11 rfl rfl)
theorem dL_law_237 : decode cL_law 237 = .ok (.aload_n 2, 1) := dk_44 (dk_at dksL_law_3 13 rfl rfl)
theorem dL_law_238 : decode cL_law 238 = .ok (.aload_n 0, 1) := dk_42 (dk_at dksL_law_3 14 rfl rfl)
theorem dL_law_239 : decode cL_law 239 = .ok (.iload 4, 2) := dk_21 4 (dk_at dksL_law_3 15 rfl rfl)
theorem dL_law_241 : decode cL_law 241 = .ok (.iconst 1, 1) := dk_4 (dk_at dksL_law_3 17 rfl rfl)
theorem dL_law_242 : decode cL_law 242 = .ok (.iadd, 1) := dk_96 (dk_at dksL_law_3 18 rfl rfl)
theorem dL_law_243 : decode cL_law 243 = .ok (.iaload, 1) := dk_46 (dk_at dksL_law_3 19 rfl rfl)
theorem dL_law_244 : decode cL_law 244 = .ok (.invokevirtual 101, 3) := dk_182 0 101 (dk_at dksL_law_3 20 rfl rfl)
theorem dL_law_247 : decode cL_law 247 = .ok (.istore 6, 2) := dk_54 6 (dk_at dksL_law_4 0 rfl rfl)
theorem dL_law_249 : decode cL_law 249 = .ok (.aload_n 2, 1) := dk_44 (dk_at dksL_law_4 2 rfl rfl)
theorem dL_law_250 : decode cL_law 250 = .ok (.invokevirtual 102, 3) := dk_182 0 102 (dk_at dksL_law_4 3 rfl rfl)
theorem dL_law_253 : decode cL_law 253 = .ok (.iload 5, 2) := dk_21 5 (dk_at dksL_law_4 6 rfl rfl)
theorem dL_law_255 : decode cL_law 255 = .ok (.if_icmp .eq 5, 3) := dk_159 0 5 (dk_at dksL_law_4 8 rfl rfl)
theorem dL_law_258 : decode cL_law 258 = .ok (.iconst 0, 1) := dk_3 (dk_at dksL_law_4 11 rfl rfl)
theorem dL_law_259 : decode cL_law 259 = .ok (.ireturn, 1) := dk_172 (dk_at dksL_law_4 12 rfl rfl)
theorem dL_law_260 : decode cL_law 260 = .ok (.iload 5, 2) := dk_21 5 (dk_at dksL_law_4 13 rfl rfl)
theorem dL_law_262 : decode cL_law 262 = .ok (.ifCond .ne 15, 3) := dk_154 0 15 (dk_at dksL_law_4 15 rfl rfl)
theorem dL_law_265 : decode cL_law 265 = .ok (.aload_n 3, 1) := dk_45 (dk_at dksL_law_4 18 rfl rfl)
theorem dL_law_266 : decode cL_law 266 = .ok (.iconst 0, 1) := dk_3 (dk_at dksL_law_4 19 rfl rfl)
theorem dL_law_267 : decode cL_law 267 = .ok (.laload, 1) := dk_47 (dk_at dksL_law_4 20 rfl rfl)
theorem dL_law_268 : decode cL_law 268 = .ok (.iload 6, 2) := dk_21 6 (dk_at dksL_law_4 21 rfl rfl)
theorem dL_law_270 : decode cL_law 270 = .ok (.i2l, 1) := dk_133 (dk_at dksL_law_4 23 rfl rfl)
theorem dL_law_271 : decode cL_law 271 = .ok (.lcmp, 1) := dk_148 (dk_at dksL_law_5 0 rfl rfl)
theorem dL_law_272 : decode cL_law 272 = .ok (.ifCond .eq 5, 3) := dk_153 0 5 (dk_at dksL_law_5 1 rfl rfl)
theorem dL_law_275 : decode cL_law 275 = .ok (.iconst 0, 1) := dk_3 (dk_at dksL_law_5 4 rfl rfl)
theorem dL_law_276 : decode cL_law 276 = .ok (.ireturn, 1) := dk_172 (dk_at dksL_law_5 5 rfl rfl)
theorem dL_law_277 : decode cL_law 277 = .ok (.goto 1677, 3) := dk_167 6 141 (dk_at dksL_law_5 6 rfl rfl)
theorem dL_law_280 : decode cL_law 280 = .ok (.aload_n 1, 1) := dk_43 (dk_at dksL_law_5 9 rfl rfl)
theorem dL_law_281 : decode cL_law 281 = .ok (.aload_n 0, 1) := dk_42 (dk_at dksL_law_5 10 rfl rfl)
theorem dL_law_282 : decode cL_law 282 = .ok (.iload 4, 2) := dk_21 4 (dk_at dksL_law_5 11 rfl rfl)
theorem dL_law_284 : decode cL_law 284 = .ok (.iconst 1, 1) := dk_4 (dk_at dksL_law_5 13 rfl rfl)
theorem dL_law_285 : decode cL_law 285 = .ok (.iadd, 1) := dk_96 (dk_at dksL_law_5 14 rfl rfl)
theorem dL_law_286 : decode cL_law 286 = .ok (.iaload, 1) := dk_46 (dk_at dksL_law_5 15 rfl rfl)
theorem dL_law_287 : decode cL_law 287 = .ok (.aload_n 0, 1) := dk_42 (dk_at dksL_law_5 16 rfl rfl)
theorem dL_law_288 : decode cL_law 288 = .ok (.iload 4, 2) := dk_21 4 (dk_at dksL_law_5 17 rfl rfl)
theorem dL_law_290 : decode cL_law 290 = .ok (.iconst 2, 1) := dk_5 (dk_at dksL_law_5 19 rfl rfl)
theorem dL_law_291 : decode cL_law 291 = .ok (.iadd, 1) := dk_96 (dk_at dksL_law_5 20 rfl rfl)
theorem dL_law_292 : decode cL_law 292 = .ok (.iaload, 1) := dk_46 (dk_at dksL_law_5 21 rfl rfl)
theorem dL_law_293 : decode cL_law 293 = .ok (.aload_n 3, 1) := dk_45 (dk_at dksL_law_5 22 rfl rfl)
theorem dL_law_294 : decode cL_law 294 = .ok (.invokestatic 105, 3) := dk_184 0 105 (dk_at dksL_law_6 0 rfl rfl)
theorem dL_law_297 : decode cL_law 297 = .ok (.istore 5, 2) := dk_54 5 (dk_at dksL_law_6 3 rfl rfl)
theorem dL_law_299 : decode cL_law 299 = .ok (.aload_n 2, 1) := dk_44 (dk_at dksL_law_6 5 rfl rfl)
theorem dL_law_300 : decode cL_law 300 = .ok (.aload_n 0, 1) := dk_42 (dk_at dksL_law_6 6 rfl rfl)
theorem dL_law_301 : decode cL_law 301 = .ok (.iload 4, 2) := dk_21 4 (dk_at dksL_law_6 7 rfl rfl)
theorem dL_law_303 : decode cL_law 303 = .ok (.iconst 1, 1) := dk_4 (dk_at dksL_law_6 9 rfl rfl)
theorem dL_law_304 : decode cL_law 304 = .ok (.iadd, 1) := dk_96 (dk_at dksL_law_6 10 rfl rfl)
theorem dL_law_305 : decode cL_law 305 = .ok (.iaload, 1) := dk_46 (dk_at dksL_law_6 11 rfl rfl)
theorem dL_law_306 : decode cL_law 306 = .ok (.aload_n 0, 1) := dk_42 (dk_at dksL_law_6 12 rfl rfl)
theorem dL_law_307 : decode cL_law 307 = .ok (.iload 4, 2) := dk_21 4 (dk_at dksL_law_6 13 rfl rfl)
theorem dL_law_309 : decode cL_law 309 = .ok (.iconst 2, 1) := dk_5 (dk_at dksL_law_6 15 rfl rfl)
theorem dL_law_310 : decode cL_law 310 = .ok (.iadd, 1) := dk_96 (dk_at dksL_law_6 16 rfl rfl)
theorem dL_law_311 : decode cL_law 311 = .ok (.iaload, 1) := dk_46 (dk_at dksL_law_6 17 rfl rfl)
theorem dL_law_312 : decode cL_law 312 = .ok (.invokevirtual 108, 3) := dk_182 0 108 (dk_at dksL_law_6 18 rfl rfl)
theorem dL_law_315 : decode cL_law 315 = .ok (.istore 6, 2) := dk_54 6 (dk_at dksL_law_6 21 rfl rfl)
theorem dL_law_317 : decode cL_law 317 = .ok (.aload_n 2, 1) := dk_44 (dk_at dksL_law_6 23 rfl rfl)
theorem dL_law_318 : decode cL_law 318 = .ok (.invokevirtual 102, 3) := dk_182 0 102 (dk_at dksL_law_7 0 rfl rfl)
theorem dL_law_321 : decode cL_law 321 = .ok (.iload 5, 2) := dk_21 5 (dk_at dksL_law_7 3 rfl rfl)
theorem dL_law_323 : decode cL_law 323 = .ok (.if_icmp .eq 5, 3) := dk_159 0 5 (dk_at dksL_law_7 5 rfl rfl)
theorem dL_law_326 : decode cL_law 326 = .ok (.iconst 0, 1) := dk_3 (dk_at dksL_law_7 8 rfl rfl)
theorem dL_law_327 : decode cL_law 327 = .ok (.ireturn, 1) := dk_172 (dk_at dksL_law_7 9 rfl rfl)
theorem dL_law_328 : decode cL_law 328 = .ok (.iload 5, 2) := dk_21 5 (dk_at dksL_law_7 10 rfl rfl)
theorem dL_law_330 : decode cL_law 330 = .ok (.ifCond .ne 15, 3) := dk_154 0 15 (dk_at dksL_law_7 12 rfl rfl)
theorem dL_law_333 : decode cL_law 333 = .ok (.aload_n 3, 1) := dk_45 (dk_at dksL_law_7 15 rfl rfl)
theorem dL_law_334 : decode cL_law 334 = .ok (.iconst 0, 1) := dk_3 (dk_at dksL_law_7 16 rfl rfl)
theorem dL_law_335 : decode cL_law 335 = .ok (.laload, 1) := dk_47 (dk_at dksL_law_7 17 rfl rfl)
theorem dL_law_336 : decode cL_law 336 = .ok (.iload 6, 2) := dk_21 6 (dk_at dksL_law_7 18 rfl rfl)
theorem dL_law_338 : decode cL_law 338 = .ok (.i2l, 1) := dk_133 (dk_at dksL_law_7 20 rfl rfl)
theorem dL_law_339 : decode cL_law 339 = .ok (.lcmp, 1) := dk_148 (dk_at dksL_law_7 21 rfl rfl)
theorem dL_law_340 : decode cL_law 340 = .ok (.ifCond .eq 5, 3) := dk_153 0 5 (dk_at dksL_law_8 0 rfl rfl)
theorem dL_law_343 : decode cL_law 343 = .ok (.iconst 0, 1) := dk_3 (dk_at dksL_law_8 3 rfl rfl)
theorem dL_law_344 : decode cL_law 344 = .ok (.ireturn, 1) := dk_172 (dk_at dksL_law_8 4 rfl rfl)
theorem dL_law_345 : decode cL_law 345 = .ok (.goto 1609, 3) := dk_167 6 73 (dk_at dksL_law_8 5 rfl rfl)
theorem dL_law_348 : decode cL_law 348 = .ok (.aload_n 1, 1) := dk_43 (dk_at dksL_law_8 8 rfl rfl)
theorem dL_law_349 : decode cL_law 349 = .ok (.aload_n 0, 1) := dk_42 (dk_at dksL_law_8 9 rfl rfl)
theorem dL_law_350 : decode cL_law 350 = .ok (.iload 4, 2) := dk_21 4 (dk_at dksL_law_8 10 rfl rfl)
theorem dL_law_352 : decode cL_law 352 = .ok (.iconst 1, 1) := dk_4 (dk_at dksL_law_8 12 rfl rfl)
theorem dL_law_353 : decode cL_law 353 = .ok (.iadd, 1) := dk_96 (dk_at dksL_law_8 13 rfl rfl)
theorem dL_law_354 : decode cL_law 354 = .ok (.iaload, 1) := dk_46 (dk_at dksL_law_8 14 rfl rfl)
theorem dL_law_355 : decode cL_law 355 = .ok (.aload_n 3, 1) := dk_45 (dk_at dksL_law_8 15 rfl rfl)
theorem dL_law_356 : decode cL_law 356 = .ok (.invokestatic 109, 3) := dk_184 0 109 (dk_at dksL_law_8 16 rfl rfl)
theorem dL_law_359 : decode cL_law 359 = .ok (.istore 5, 2) := dk_54 5 (dk_at dksL_law_8 19 rfl rfl)
theorem dL_law_361 : decode cL_law 361 = .ok (.aload_n 2, 1) := dk_44 (dk_at dksL_law_8 21 rfl rfl)
theorem dL_law_362 : decode cL_law 362 = .ok (.aload_n 0, 1) := dk_42 (dk_at dksL_law_8 22 rfl rfl)
theorem dL_law_363 : decode cL_law 363 = .ok (.iload 4, 2) := dk_21 4 (dk_at dksL_law_9 0 rfl rfl)
theorem dL_law_365 : decode cL_law 365 = .ok (.iconst 1, 1) := dk_4 (dk_at dksL_law_9 2 rfl rfl)
theorem dL_law_366 : decode cL_law 366 = .ok (.iadd, 1) := dk_96 (dk_at dksL_law_9 3 rfl rfl)
theorem dL_law_367 : decode cL_law 367 = .ok (.iaload, 1) := dk_46 (dk_at dksL_law_9 4 rfl rfl)
theorem dL_law_368 : decode cL_law 368 = .ok (.invokevirtual 111, 3) := dk_182 0 111 (dk_at dksL_law_9 5 rfl rfl)
theorem dL_law_371 : decode cL_law 371 = .ok (.istore 6, 2) := dk_54 6 (dk_at dksL_law_9 8 rfl rfl)
theorem dL_law_373 : decode cL_law 373 = .ok (.aload_n 2, 1) := dk_44 (dk_at dksL_law_9 10 rfl rfl)
theorem dL_law_374 : decode cL_law 374 = .ok (.invokevirtual 102, 3) := dk_182 0 102 (dk_at dksL_law_9 11 rfl rfl)
theorem dL_law_377 : decode cL_law 377 = .ok (.iload 5, 2) := dk_21 5 (dk_at dksL_law_9 14 rfl rfl)
theorem dL_law_379 : decode cL_law 379 = .ok (.if_icmp .eq 5, 3) := dk_159 0 5 (dk_at dksL_law_9 16 rfl rfl)
theorem dL_law_382 : decode cL_law 382 = .ok (.iconst 0, 1) := dk_3 (dk_at dksL_law_9 19 rfl rfl)
theorem dL_law_383 : decode cL_law 383 = .ok (.ireturn, 1) := dk_172 (dk_at dksL_law_9 20 rfl rfl)
theorem dL_law_384 : decode cL_law 384 = .ok (.iload 5, 2) := dk_21 5 (dk_at dksL_law_9 21 rfl rfl)
theorem dL_law_386 : decode cL_law 386 = .ok (.ifCond .ne 15, 3) := dk_154 0 15 (dk_at dksL_law_10 0 rfl rfl)
theorem dL_law_389 : decode cL_law 389 = .ok (.aload_n 3, 1) := dk_45 (dk_at dksL_law_10 3 rfl rfl)
theorem dL_law_390 : decode cL_law 390 = .ok (.iconst 0, 1) := dk_3 (dk_at dksL_law_10 4 rfl rfl)
theorem dL_law_391 : decode cL_law 391 = .ok (.laload, 1) := dk_47 (dk_at dksL_law_10 5 rfl rfl)
theorem dL_law_392 : decode cL_law 392 = .ok (.iload 6, 2) := dk_21 6 (dk_at dksL_law_10 6 rfl rfl)
theorem dL_law_394 : decode cL_law 394 = .ok (.i2l, 1) := dk_133 (dk_at dksL_law_10 8 rfl rfl)
theorem dL_law_395 : decode cL_law 395 = .ok (.lcmp, 1) := dk_148 (dk_at dksL_law_10 9 rfl rfl)
theorem dL_law_396 : decode cL_law 396 = .ok (.ifCond .eq 5, 3) := dk_153 0 5 (dk_at dksL_law_10 10 rfl rfl)
theorem dL_law_399 : decode cL_law 399 = .ok (.iconst 0, 1) := dk_3 (dk_at dksL_law_10 13 rfl rfl)
theorem dL_law_400 : decode cL_law 400 = .ok (.ireturn, 1) := dk_172 (dk_at dksL_law_10 14 rfl rfl)
theorem dL_law_401 : decode cL_law 401 = .ok (.goto 1553, 3) := dk_167 6 17 (dk_at dksL_law_10 15 rfl rfl)
theorem dL_law_404 : decode cL_law 404 = .ok (.aload_n 1, 1) := dk_43 (dk_at dksL_law_10 18 rfl rfl)
theorem dL_law_405 : decode cL_law 405 = .ok (.invokevirtual 112, 3) := dk_182 0 112 (dk_at dksL_law_10 19 rfl rfl)
theorem dL_law_408 : decode cL_law 408 = .ok (.aload_n 2, 1) := dk_44 (dk_at dksL_law_10 22 rfl rfl)
theorem dL_law_409 : decode cL_law 409 = .ok (.invokevirtual 115, 3) := dk_182 0 115 (dk_at dksL_law_11 0 rfl rfl)
theorem dL_law_412 : decode cL_law 412 = .ok (.if_icmp .eq 1542, 3) := dk_159 6 6 (dk_at dksL_law_11 3 rfl rfl)
theorem dL_law_415 : decode cL_law 415 = .ok (.iconst 0, 1) := dk_3 (dk_at dksL_law_11 6 rfl rfl)
theorem dL_law_416 : decode cL_law 416 = .ok (.ireturn, 1) := dk_172 (dk_at dksL_law_11 7 rfl rfl)
theorem dL_law_417 : decode cL_law 417 = .ok (.aload_n 1, 1) := dk_43 (dk_at dksL_law_11 8 rfl rfl)
theorem dL_law_418 : decode cL_law 418 = .ok (.aload_n 0, 1) := dk_42 (dk_at dksL_law_11 9 rfl rfl)
theorem dL_law_419 : decode cL_law 419 = .ok (.iload 4, 2) := dk_21 4 (dk_at dksL_law_11 10 rfl rfl)
theorem dL_law_421 : decode cL_law 421 = .ok (.iconst 1, 1) := dk_4 (dk_at dksL_law_11 12 rfl rfl)
theorem dL_law_422 : decode cL_law 422 = .ok (.iadd, 1) := dk_96 (dk_at dksL_law_11 13 rfl rfl)
theorem dL_law_423 : decode cL_law 423 = .ok (.iaload, 1) := dk_46 (dk_at dksL_law_11 14 rfl rfl)
theorem dL_law_424 : decode cL_law 424 = .ok (.aload_n 3, 1) := dk_45 (dk_at dksL_law_11 15 rfl rfl)
theorem dL_law_425 : decode cL_law 425 = .ok (.invokestatic 116, 3) := dk_184 0 116 (dk_at dksL_law_11 16 rfl rfl)
theorem dL_law_428 : decode cL_law 428 = .ok (.istore 5, 2) := dk_54 5 (dk_at dksL_law_11 19 rfl rfl)
theorem dL_law_430 : decode cL_law 430 = .ok (.aload_n 2, 1) := dk_44 (dk_at dksL_law_11 21 rfl rfl)
theorem dL_law_431 : decode cL_law 431 = .ok (.aload_n 0, 1) := dk_42 (dk_at dksL_law_11 22 rfl rfl)
theorem dL_law_432 : decode cL_law 432 = .ok (.iload 4, 2) := dk_21 4 (dk_at dksL_law_12 0 rfl rfl)
theorem dL_law_434 : decode cL_law 434 = .ok (.iconst 1, 1) := dk_4 (dk_at dksL_law_12 2 rfl rfl)
theorem dL_law_435 : decode cL_law 435 = .ok (.iadd, 1) := dk_96 (dk_at dksL_law_12 3 rfl rfl)
theorem dL_law_436 : decode cL_law 436 = .ok (.iaload, 1) := dk_46 (dk_at dksL_law_12 4 rfl rfl)
theorem dL_law_437 : decode cL_law 437 = .ok (.invokevirtual 118, 3) := dk_182 0 118 (dk_at dksL_law_12 5 rfl rfl)
theorem dL_law_440 : decode cL_law 440 = .ok (.istore 6, 2) := dk_54 6 (dk_at dksL_law_12 8 rfl rfl)
theorem dL_law_442 : decode cL_law 442 = .ok (.aload_n 2, 1) := dk_44 (dk_at dksL_law_12 10 rfl rfl)
theorem dL_law_443 : decode cL_law 443 = .ok (.invokevirtual 102, 3) := dk_182 0 102 (dk_at dksL_law_12 11 rfl rfl)
theorem dL_law_446 : decode cL_law 446 = .ok (.iload 5, 2) := dk_21 5 (dk_at dksL_law_12 14 rfl rfl)
theorem dL_law_448 : decode cL_law 448 = .ok (.if_icmp .eq 5, 3) := dk_159 0 5 (dk_at dksL_law_12 16 rfl rfl)
theorem dL_law_451 : decode cL_law 451 = .ok (.iconst 0, 1) := dk_3 (dk_at dksL_law_12 19 rfl rfl)
theorem dL_law_452 : decode cL_law 452 = .ok (.ireturn, 1) := dk_172 (dk_at dksL_law_12 20 rfl rfl)
theorem dL_law_453 : decode cL_law 453 = .ok (.iload 5, 2) := dk_21 5 (dk_at dksL_law_12 21 rfl rfl)
theorem dL_law_455 : decode cL_law 455 = .ok (.ifCond .ne 15, 3) := dk_154 0 15 (dk_at dksL_law_13 0 rfl rfl)
theorem dL_law_458 : decode cL_law 458 = .ok (.aload_n 3, 1) := dk_45 (dk_at dksL_law_13 3 rfl rfl)
theorem dL_law_459 : decode cL_law 459 = .ok (.iconst 0, 1) := dk_3 (dk_at dksL_law_13 4 rfl rfl)
theorem dL_law_460 : decode cL_law 460 = .ok (.laload, 1) := dk_47 (dk_at dksL_law_13 5 rfl rfl)
theorem dL_law_461 : decode cL_law 461 = .ok (.iload 6, 2) := dk_21 6 (dk_at dksL_law_13 6 rfl rfl)
theorem dL_law_463 : decode cL_law 463 = .ok (.i2l, 1) := dk_133 (dk_at dksL_law_13 8 rfl rfl)
theorem dL_law_464 : decode cL_law 464 = .ok (.lcmp, 1) := dk_148 (dk_at dksL_law_13 9 rfl rfl)
theorem dL_law_465 : decode cL_law 465 = .ok (.ifCond .eq 5, 3) := dk_153 0 5 (dk_at dksL_law_13 10 rfl rfl)
theorem dL_law_468 : decode cL_law 468 = .ok (.iconst 0, 1) := dk_3 (dk_at dksL_law_13 13 rfl rfl)
theorem dL_law_469 : decode cL_law 469 = .ok (.ireturn, 1) := dk_172 (dk_at dksL_law_13 14 rfl rfl)
theorem dL_law_470 : decode cL_law 470 = .ok (.goto 1484, 3) := dk_167 5 204 (dk_at dksL_law_13 15 rfl rfl)
theorem dL_law_473 : decode cL_law 473 = .ok (.aload_n 1, 1) := dk_43 (dk_at dksL_law_13 18 rfl rfl)
theorem dL_law_474 : decode cL_law 474 = .ok (.aload_n 0, 1) := dk_42 (dk_at dksL_law_13 19 rfl rfl)
theorem dL_law_475 : decode cL_law 475 = .ok (.iload 4, 2) := dk_21 4 (dk_at dksL_law_13 20 rfl rfl)
theorem dL_law_477 : decode cL_law 477 = .ok (.iconst 1, 1) := dk_4 (dk_at dksL_law_13 22 rfl rfl)
theorem dL_law_478 : decode cL_law 478 = .ok (.iadd, 1) := dk_96 (dk_at dksL_law_13 23 rfl rfl)
theorem dL_law_479 : decode cL_law 479 = .ok (.iaload, 1) := dk_46 (dk_at dksL_law_14 0 rfl rfl)
theorem dL_law_480 : decode cL_law 480 = .ok (.aload_n 3, 1) := dk_45 (dk_at dksL_law_14 1 rfl rfl)
theorem dL_law_481 : decode cL_law 481 = .ok (.invokestatic 119, 3) := dk_184 0 119 (dk_at dksL_law_14 2 rfl rfl)
theorem dL_law_484 : decode cL_law 484 = .ok (.istore 5, 2) := dk_54 5 (dk_at dksL_law_14 5 rfl rfl)
theorem dL_law_486 : decode cL_law 486 = .ok (.aload_n 2, 1) := dk_44 (dk_at dksL_law_14 7 rfl rfl)
theorem dL_law_487 : decode cL_law 487 = .ok (.aload_n 0, 1) := dk_42 (dk_at dksL_law_14 8 rfl rfl)
theorem dL_law_488 : decode cL_law 488 = .ok (.iload 4, 2) := dk_21 4 (dk_at dksL_law_14 9 rfl rfl)
theorem dL_law_490 : decode cL_law 490 = .ok (.iconst 1, 1) := dk_4 (dk_at dksL_law_14 11 rfl rfl)
theorem dL_law_491 : decode cL_law 491 = .ok (.iadd, 1) := dk_96 (dk_at dksL_law_14 12 rfl rfl)
theorem dL_law_492 : decode cL_law 492 = .ok (.iaload, 1) := dk_46 (dk_at dksL_law_14 13 rfl rfl)
theorem dL_law_493 : decode cL_law 493 = .ok (.invokevirtual 121, 3) := dk_182 0 121 (dk_at dksL_law_14 14 rfl rfl)
theorem dL_law_496 : decode cL_law 496 = .ok (.istore 6, 2) := dk_54 6 (dk_at dksL_law_14 17 rfl rfl)
theorem dL_law_498 : decode cL_law 498 = .ok (.aload_n 2, 1) := dk_44 (dk_at dksL_law_14 19 rfl rfl)
theorem dL_law_499 : decode cL_law 499 = .ok (.invokevirtual 102, 3) := dk_182 0 102 (dk_at dksL_law_14 20 rfl rfl)
theorem dL_law_502 : decode cL_law 502 = .ok (.iload 5, 2) := dk_21 5 (dk_at dksL_law_15 0 rfl rfl)
theorem dL_law_504 : decode cL_law 504 = .ok (.if_icmp .eq 5, 3) := dk_159 0 5 (dk_at dksL_law_15 2 rfl rfl)
theorem dL_law_507 : decode cL_law 507 = .ok (.iconst 0, 1) := dk_3 (dk_at dksL_law_15 5 rfl rfl)
theorem dL_law_508 : decode cL_law 508 = .ok (.ireturn, 1) := dk_172 (dk_at dksL_law_15 6 rfl rfl)
theorem dL_law_509 : decode cL_law 509 = .ok (.iload 5, 2) := dk_21 5 (dk_at dksL_law_15 7 rfl rfl)
theorem dL_law_511 : decode cL_law 511 = .ok (.ifCond .ne 15, 3) := dk_154 0 15 (dk_at dksL_law_15 9 rfl rfl)
theorem dL_law_514 : decode cL_law 514 = .ok (.aload_n 3, 1) := dk_45 (dk_at dksL_law_15 12 rfl rfl)
theorem dL_law_515 : decode cL_law 515 = .ok (.iconst 0, 1) := dk_3 (dk_at dksL_law_15 13 rfl rfl)
theorem dL_law_516 : decode cL_law 516 = .ok (.laload, 1) := dk_47 (dk_at dksL_law_15 14 rfl rfl)
theorem dL_law_517 : decode cL_law 517 = .ok (.iload 6, 2) := dk_21 6 (dk_at dksL_law_15 15 rfl rfl)
theorem dL_law_519 : decode cL_law 519 = .ok (.i2l, 1) := dk_133 (dk_at dksL_law_15 17 rfl rfl)
theorem dL_law_520 : decode cL_law 520 = .ok (.lcmp, 1) := dk_148 (dk_at dksL_law_15 18 rfl rfl)
theorem dL_law_521 : decode cL_law 521 = .ok (.ifCond .eq 5, 3) := dk_153 0 5 (dk_at dksL_law_15 19 rfl rfl)
theorem dL_law_524 : decode cL_law 524 = .ok (.iconst 0, 1) := dk_3 (dk_at dksL_law_15 22 rfl rfl)
theorem dL_law_525 : decode cL_law 525 = .ok (.ireturn, 1) := dk_172 (dk_at dksL_law_15 23 rfl rfl)
theorem dL_law_526 : decode cL_law 526 = .ok (.goto 1428, 3) := dk_167 5 148 (dk_at dksL_law_16 0 rfl rfl)
theorem dL_law_529 : decode cL_law 529 = .ok (.aload_n 1, 1) := dk_43 (dk_at dksL_law_16 3 rfl rfl)
theorem dL_law_530 : decode cL_law 530 = .ok (.aload_n 0, 1) := dk_42 (dk_at dksL_law_16 4 rfl rfl)
theorem dL_law_531 : decode cL_law 531 = .ok (.iload 4, 2) := dk_21 4 (dk_at dksL_law_16 5 rfl rfl)
theorem dL_law_533 : decode cL_law 533 = .ok (.iconst 1, 1) := dk_4 (dk_at dksL_law_16 7 rfl rfl)
theorem dL_law_534 : decode cL_law 534 = .ok (.iadd, 1) := dk_96 (dk_at dksL_law_16 8 rfl rfl)
theorem dL_law_535 : decode cL_law 535 = .ok (.iaload, 1) := dk_46 (dk_at dksL_law_16 9 rfl rfl)
theorem dL_law_536 : decode cL_law 536 = .ok (.aload_n 0, 1) := dk_42 (dk_at dksL_law_16 10 rfl rfl)
theorem dL_law_537 : decode cL_law 537 = .ok (.iload 4, 2) := dk_21 4 (dk_at dksL_law_16 11 rfl rfl)
theorem dL_law_539 : decode cL_law 539 = .ok (.iconst 2, 1) := dk_5 (dk_at dksL_law_16 13 rfl rfl)
theorem dL_law_540 : decode cL_law 540 = .ok (.iadd, 1) := dk_96 (dk_at dksL_law_16 14 rfl rfl)
theorem dL_law_541 : decode cL_law 541 = .ok (.iaload, 1) := dk_46 (dk_at dksL_law_16 15 rfl rfl)
theorem dL_law_542 : decode cL_law 542 = .ok (.aload_n 3, 1) := dk_45 (dk_at dksL_law_16 16 rfl rfl)
theorem dL_law_543 : decode cL_law 543 = .ok (.invokestatic 122, 3) := dk_184 0 122 (dk_at dksL_law_16 17 rfl rfl)
theorem dL_law_546 : decode cL_law 546 = .ok (.istore 5, 2) := dk_54 5 (dk_at dksL_law_16 20 rfl rfl)
theorem dL_law_548 : decode cL_law 548 = .ok (.aload_n 2, 1) := dk_44 (dk_at dksL_law_16 22 rfl rfl)
theorem dL_law_549 : decode cL_law 549 = .ok (.aload_n 0, 1) := dk_42 (dk_at dksL_law_16 23 rfl rfl)
theorem dL_law_550 : decode cL_law 550 = .ok (.iload 4, 2) := dk_21 4 (dk_at dksL_law_17 0 rfl rfl)
theorem dL_law_552 : decode cL_law 552 = .ok (.iconst 1, 1) := dk_4 (dk_at dksL_law_17 2 rfl rfl)
theorem dL_law_553 : decode cL_law 553 = .ok (.iadd, 1) := dk_96 (dk_at dksL_law_17 3 rfl rfl)
theorem dL_law_554 : decode cL_law 554 = .ok (.iaload, 1) := dk_46 (dk_at dksL_law_17 4 rfl rfl)
theorem dL_law_555 : decode cL_law 555 = .ok (.aload_n 0, 1) := dk_42 (dk_at dksL_law_17 5 rfl rfl)
theorem dL_law_556 : decode cL_law 556 = .ok (.iload 4, 2) := dk_21 4 (dk_at dksL_law_17 6 rfl rfl)
theorem dL_law_558 : decode cL_law 558 = .ok (.iconst 2, 1) := dk_5 (dk_at dksL_law_17 8 rfl rfl)
theorem dL_law_559 : decode cL_law 559 = .ok (.iadd, 1) := dk_96 (dk_at dksL_law_17 9 rfl rfl)
theorem dL_law_560 : decode cL_law 560 = .ok (.iaload, 1) := dk_46 (dk_at dksL_law_17 10 rfl rfl)
theorem dL_law_561 : decode cL_law 561 = .ok (.invokevirtual 124, 3) := dk_182 0 124 (dk_at dksL_law_17 11 rfl rfl)
theorem dL_law_564 : decode cL_law 564 = .ok (.istore 6, 2) := dk_54 6 (dk_at dksL_law_17 14 rfl rfl)
theorem dL_law_566 : decode cL_law 566 = .ok (.aload_n 2, 1) := dk_44 (dk_at dksL_law_17 16 rfl rfl)
theorem dL_law_567 : decode cL_law 567 = .ok (.invokevirtual 102, 3) := dk_182 0 102 (dk_at dksL_law_17 17 rfl rfl)
theorem dL_law_570 : decode cL_law 570 = .ok (.iload 5, 2) := dk_21 5 (dk_at dksL_law_17 20 rfl rfl)
theorem dL_law_572 : decode cL_law 572 = .ok (.if_icmp .eq 5, 3) := dk_159 0 5 (dk_at dksL_law_18 0 rfl rfl)
theorem dL_law_575 : decode cL_law 575 = .ok (.iconst 0, 1) := dk_3 (dk_at dksL_law_18 3 rfl rfl)
theorem dL_law_576 : decode cL_law 576 = .ok (.ireturn, 1) := dk_172 (dk_at dksL_law_18 4 rfl rfl)
theorem dL_law_577 : decode cL_law 577 = .ok (.iload 5, 2) := dk_21 5 (dk_at dksL_law_18 5 rfl rfl)
theorem dL_law_579 : decode cL_law 579 = .ok (.ifCond .ne 15, 3) := dk_154 0 15 (dk_at dksL_law_18 7 rfl rfl)
theorem dL_law_582 : decode cL_law 582 = .ok (.aload_n 3, 1) := dk_45 (dk_at dksL_law_18 10 rfl rfl)
theorem dL_law_583 : decode cL_law 583 = .ok (.iconst 0, 1) := dk_3 (dk_at dksL_law_18 11 rfl rfl)
theorem dL_law_584 : decode cL_law 584 = .ok (.laload, 1) := dk_47 (dk_at dksL_law_18 12 rfl rfl)
theorem dL_law_585 : decode cL_law 585 = .ok (.iload 6, 2) := dk_21 6 (dk_at dksL_law_18 13 rfl rfl)
theorem dL_law_587 : decode cL_law 587 = .ok (.i2l, 1) := dk_133 (dk_at dksL_law_18 15 rfl rfl)
theorem dL_law_588 : decode cL_law 588 = .ok (.lcmp, 1) := dk_148 (dk_at dksL_law_18 16 rfl rfl)
theorem dL_law_589 : decode cL_law 589 = .ok (.ifCond .eq 5, 3) := dk_153 0 5 (dk_at dksL_law_18 17 rfl rfl)
theorem dL_law_592 : decode cL_law 592 = .ok (.iconst 0, 1) := dk_3 (dk_at dksL_law_18 20 rfl rfl)
theorem dL_law_593 : decode cL_law 593 = .ok (.ireturn, 1) := dk_172 (dk_at dksL_law_18 21 rfl rfl)
theorem dL_law_594 : decode cL_law 594 = .ok (.goto 1360, 3) := dk_167 5 80 (dk_at dksL_law_19 0 rfl rfl)
theorem dL_law_597 : decode cL_law 597 = .ok (.aload_n 1, 1) := dk_43 (dk_at dksL_law_19 3 rfl rfl)
theorem dL_law_598 : decode cL_law 598 = .ok (.invokevirtual 125, 3) := dk_182 0 125 (dk_at dksL_law_19 4 rfl rfl)
theorem dL_law_601 : decode cL_law 601 = .ok (.aload_n 2, 1) := dk_44 (dk_at dksL_law_19 7 rfl rfl)
theorem dL_law_602 : decode cL_law 602 = .ok (.invokevirtual 128, 3) := dk_182 0 128 (dk_at dksL_law_19 8 rfl rfl)
theorem dL_law_605 : decode cL_law 605 = .ok (.if_icmp .eq 1349, 3) := dk_159 5 69 (dk_at dksL_law_19 11 rfl rfl)
theorem dL_law_608 : decode cL_law 608 = .ok (.iconst 0, 1) := dk_3 (dk_at dksL_law_19 14 rfl rfl)
theorem dL_law_609 : decode cL_law 609 = .ok (.ireturn, 1) := dk_172 (dk_at dksL_law_19 15 rfl rfl)
theorem dL_law_610 : decode cL_law 610 = .ok (.aload_n 1, 1) := dk_43 (dk_at dksL_law_19 16 rfl rfl)
theorem dL_law_611 : decode cL_law 611 = .ok (.aload_n 0, 1) := dk_42 (dk_at dksL_law_19 17 rfl rfl)
theorem dL_law_612 : decode cL_law 612 = .ok (.iload 4, 2) := dk_21 4 (dk_at dksL_law_19 18 rfl rfl)
theorem dL_law_614 : decode cL_law 614 = .ok (.iconst 1, 1) := dk_4 (dk_at dksL_law_19 20 rfl rfl)
theorem dL_law_615 : decode cL_law 615 = .ok (.iadd, 1) := dk_96 (dk_at dksL_law_19 21 rfl rfl)
theorem dL_law_616 : decode cL_law 616 = .ok (.iaload, 1) := dk_46 (dk_at dksL_law_19 22 rfl rfl)
theorem dL_law_617 : decode cL_law 617 = .ok (.aload_n 3, 1) := dk_45 (dk_at dksL_law_19 23 rfl rfl)
theorem dL_law_618 : decode cL_law 618 = .ok (.invokestatic 129, 3) := dk_184 0 129 (dk_at dksL_law_20 0 rfl rfl)
theorem dL_law_621 : decode cL_law 621 = .ok (.istore 5, 2) := dk_54 5 (dk_at dksL_law_20 3 rfl rfl)
theorem dL_law_623 : decode cL_law 623 = .ok (.aload_n 2, 1) := dk_44 (dk_at dksL_law_20 5 rfl rfl)
theorem dL_law_624 : decode cL_law 624 = .ok (.aload_n 0, 1) := dk_42 (dk_at dksL_law_20 6 rfl rfl)
theorem dL_law_625 : decode cL_law 625 = .ok (.iload 4, 2) := dk_21 4 (dk_at dksL_law_20 7 rfl rfl)
theorem dL_law_627 : decode cL_law 627 = .ok (.iconst 1, 1) := dk_4 (dk_at dksL_law_20 9 rfl rfl)
theorem dL_law_628 : decode cL_law 628 = .ok (.iadd, 1) := dk_96 (dk_at dksL_law_20 10 rfl rfl)
theorem dL_law_629 : decode cL_law 629 = .ok (.iaload, 1) := dk_46 (dk_at dksL_law_20 11 rfl rfl)
theorem dL_law_630 : decode cL_law 630 = .ok (.invokevirtual 131, 3) := dk_182 0 131 (dk_at dksL_law_20 12 rfl rfl)
theorem dL_law_633 : decode cL_law 633 = .ok (.istore 6, 2) := dk_54 6 (dk_at dksL_law_20 15 rfl rfl)
theorem dL_law_635 : decode cL_law 635 = .ok (.aload_n 2, 1) := dk_44 (dk_at dksL_law_20 17 rfl rfl)
theorem dL_law_636 : decode cL_law 636 = .ok (.invokevirtual 102, 3) := dk_182 0 102 (dk_at dksL_law_20 18 rfl rfl)
theorem dL_law_639 : decode cL_law 639 = .ok (.iload 5, 2) := dk_21 5 (dk_at dksL_law_20 21 rfl rfl)
theorem dL_law_641 : decode cL_law 641 = .ok (.if_icmp .eq 5, 3) := dk_159 0 5 (dk_at dksL_law_21 0 rfl rfl)
theorem dL_law_644 : decode cL_law 644 = .ok (.iconst 0, 1) := dk_3 (dk_at dksL_law_21 3 rfl rfl)
theorem dL_law_645 : decode cL_law 645 = .ok (.ireturn, 1) := dk_172 (dk_at dksL_law_21 4 rfl rfl)
theorem dL_law_646 : decode cL_law 646 = .ok (.iload 5, 2) := dk_21 5 (dk_at dksL_law_21 5 rfl rfl)
theorem dL_law_648 : decode cL_law 648 = .ok (.ifCond .ne 22, 3) := dk_154 0 22 (dk_at dksL_law_21 7 rfl rfl)
theorem dL_law_651 : decode cL_law 651 = .ok (.aload_n 3, 1) := dk_45 (dk_at dksL_law_21 10 rfl rfl)
theorem dL_law_652 : decode cL_law 652 = .ok (.iconst 0, 1) := dk_3 (dk_at dksL_law_21 11 rfl rfl)
theorem dL_law_653 : decode cL_law 653 = .ok (.laload, 1) := dk_47 (dk_at dksL_law_21 12 rfl rfl)
theorem dL_law_654 : decode cL_law 654 = .ok (.iload 6, 2) := dk_21 6 (dk_at dksL_law_21 13 rfl rfl)
theorem dL_law_656 : decode cL_law 656 = .ok (.ifCond .eq 7, 3) := dk_153 0 7 (dk_at dksL_law_21 15 rfl rfl)
theorem dL_law_659 : decode cL_law 659 = .ok (.lconst 1, 1) := dk_10 (dk_at dksL_law_21 18 rfl rfl)
theorem dL_law_660 : decode cL_law 660 = .ok (.goto 4, 3) := dk_167 0 4 (dk_at dksL_law_21 19 rfl rfl)
theorem dL_law_663 : decode cL_law 663 = .ok (.lconst 0, 1) := dk_9 (dk_at dksL_law_21 22 rfl rfl)
theorem dL_law_664 : decode cL_law 664 = .ok (.lcmp, 1) := dk_148 (dk_at dksL_law_21 23 rfl rfl)
theorem dL_law_665 : decode cL_law 665 = .ok (.ifCond .eq 5, 3) := dk_153 0 5 (dk_at dksL_law_22 0 rfl rfl)
theorem dL_law_668 : decode cL_law 668 = .ok (.iconst 0, 1) := dk_3 (dk_at dksL_law_22 3 rfl rfl)
theorem dL_law_669 : decode cL_law 669 = .ok (.ireturn, 1) := dk_172 (dk_at dksL_law_22 4 rfl rfl)
theorem dL_law_670 : decode cL_law 670 = .ok (.goto 1284, 3) := dk_167 5 4 (dk_at dksL_law_22 5 rfl rfl)
theorem dL_law_673 : decode cL_law 673 = .ok (.aload_n 1, 1) := dk_43 (dk_at dksL_law_22 8 rfl rfl)
theorem dL_law_674 : decode cL_law 674 = .ok (.aload_n 0, 1) := dk_42 (dk_at dksL_law_22 9 rfl rfl)
theorem dL_law_675 : decode cL_law 675 = .ok (.iload 4, 2) := dk_21 4 (dk_at dksL_law_22 10 rfl rfl)
theorem dL_law_677 : decode cL_law 677 = .ok (.iconst 1, 1) := dk_4 (dk_at dksL_law_22 12 rfl rfl)
theorem dL_law_678 : decode cL_law 678 = .ok (.iadd, 1) := dk_96 (dk_at dksL_law_22 13 rfl rfl)
theorem dL_law_679 : decode cL_law 679 = .ok (.iaload, 1) := dk_46 (dk_at dksL_law_22 14 rfl rfl)
theorem dL_law_680 : decode cL_law 680 = .ok (.aload_n 3, 1) := dk_45 (dk_at dksL_law_22 15 rfl rfl)
theorem dL_law_681 : decode cL_law 681 = .ok (.invokestatic 132, 3) := dk_184 0 132 (dk_at dksL_law_22 16 rfl rfl)
theorem dL_law_684 : decode cL_law 684 = .ok (.istore 5, 2) := dk_54 5 (dk_at dksL_law_22 19 rfl rfl)
theorem dL_law_686 : decode cL_law 686 = .ok (.aload_n 2, 1) := dk_44 (dk_at dksL_law_22 21 rfl rfl)
theorem dL_law_687 : decode cL_law 687 = .ok (.aload_n 0, 1) := dk_42 (dk_at dksL_law_22 22 rfl rfl)
theorem dL_law_688 : decode cL_law 688 = .ok (.iload 4, 2) := dk_21 4 (dk_at dksL_law_23 0 rfl rfl)
theorem dL_law_690 : decode cL_law 690 = .ok (.iconst 1, 1) := dk_4 (dk_at dksL_law_23 2 rfl rfl)
theorem dL_law_691 : decode cL_law 691 = .ok (.iadd, 1) := dk_96 (dk_at dksL_law_23 3 rfl rfl)
theorem dL_law_692 : decode cL_law 692 = .ok (.iaload, 1) := dk_46 (dk_at dksL_law_23 4 rfl rfl)
theorem dL_law_693 : decode cL_law 693 = .ok (.invokevirtual 134, 3) := dk_182 0 134 (dk_at dksL_law_23 5 rfl rfl)
theorem dL_law_696 : decode cL_law 696 = .ok (.istore 6, 2) := dk_54 6 (dk_at dksL_law_23 8 rfl rfl)
theorem dL_law_698 : decode cL_law 698 = .ok (.aload_n 2, 1) := dk_44 (dk_at dksL_law_23 10 rfl rfl)
theorem dL_law_699 : decode cL_law 699 = .ok (.invokevirtual 102, 3) := dk_182 0 102 (dk_at dksL_law_23 11 rfl rfl)
theorem dL_law_702 : decode cL_law 702 = .ok (.iload 5, 2) := dk_21 5 (dk_at dksL_law_23 14 rfl rfl)
theorem dL_law_704 : decode cL_law 704 = .ok (.if_icmp .eq 5, 3) := dk_159 0 5 (dk_at dksL_law_23 16 rfl rfl)
theorem dL_law_707 : decode cL_law 707 = .ok (.iconst 0, 1) := dk_3 (dk_at dksL_law_23 19 rfl rfl)
theorem dL_law_708 : decode cL_law 708 = .ok (.ireturn, 1) := dk_172 (dk_at dksL_law_23 20 rfl rfl)
theorem dL_law_709 : decode cL_law 709 = .ok (.iload 5, 2) := dk_21 5 (dk_at dksL_law_23 21 rfl rfl)
theorem dL_law_711 : decode cL_law 711 = .ok (.ifCond .ne 15, 3) := dk_154 0 15 (dk_at dksL_law_24 0 rfl rfl)
theorem dL_law_714 : decode cL_law 714 = .ok (.aload_n 3, 1) := dk_45 (dk_at dksL_law_24 3 rfl rfl)
theorem dL_law_715 : decode cL_law 715 = .ok (.iconst 0, 1) := dk_3 (dk_at dksL_law_24 4 rfl rfl)
theorem dL_law_716 : decode cL_law 716 = .ok (.laload, 1) := dk_47 (dk_at dksL_law_24 5 rfl rfl)
theorem dL_law_717 : decode cL_law 717 = .ok (.iload 6, 2) := dk_21 6 (dk_at dksL_law_24 6 rfl rfl)
theorem dL_law_719 : decode cL_law 719 = .ok (.i2l, 1) := dk_133 (dk_at dksL_law_24 8 rfl rfl)
theorem dL_law_720 : decode cL_law 720 = .ok (.lcmp, 1) := dk_148 (dk_at dksL_law_24 9 rfl rfl)
theorem dL_law_721 : decode cL_law 721 = .ok (.ifCond .eq 5, 3) := dk_153 0 5 (dk_at dksL_law_24 10 rfl rfl)
theorem dL_law_724 : decode cL_law 724 = .ok (.iconst 0, 1) := dk_3 (dk_at dksL_law_24 13 rfl rfl)
theorem dL_law_725 : decode cL_law 725 = .ok (.ireturn, 1) := dk_172 (dk_at dksL_law_24 14 rfl rfl)
theorem dL_law_726 : decode cL_law 726 = .ok (.goto 1228, 3) := dk_167 4 204 (dk_at dksL_law_24 15 rfl rfl)
theorem dL_law_729 : decode cL_law 729 = .ok (.aload_n 1, 1) := dk_43 (dk_at dksL_law_24 18 rfl rfl)
theorem dL_law_730 : decode cL_law 730 = .ok (.aload_n 0, 1) := dk_42 (dk_at dksL_law_24 19 rfl rfl)
theorem dL_law_731 : decode cL_law 731 = .ok (.iload 4, 2) := dk_21 4 (dk_at dksL_law_24 20 rfl rfl)
theorem dL_law_733 : decode cL_law 733 = .ok (.iconst 1, 1) := dk_4 (dk_at dksL_law_24 22 rfl rfl)
theorem dL_law_734 : decode cL_law 734 = .ok (.iadd, 1) := dk_96 (dk_at dksL_law_24 23 rfl rfl)
theorem dL_law_735 : decode cL_law 735 = .ok (.iaload, 1) := dk_46 (dk_at dksL_law_25 0 rfl rfl)
theorem dL_law_736 : decode cL_law 736 = .ok (.aload_n 3, 1) := dk_45 (dk_at dksL_law_25 1 rfl rfl)
theorem dL_law_737 : decode cL_law 737 = .ok (.invokestatic 135, 3) := dk_184 0 135 (dk_at dksL_law_25 2 rfl rfl)
theorem dL_law_740 : decode cL_law 740 = .ok (.istore 5, 2) := dk_54 5 (dk_at dksL_law_25 5 rfl rfl)
theorem dL_law_742 : decode cL_law 742 = .ok (.aload_n 2, 1) := dk_44 (dk_at dksL_law_25 7 rfl rfl)
theorem dL_law_743 : decode cL_law 743 = .ok (.aload_n 0, 1) := dk_42 (dk_at dksL_law_25 8 rfl rfl)
theorem dL_law_744 : decode cL_law 744 = .ok (.iload 4, 2) := dk_21 4 (dk_at dksL_law_25 9 rfl rfl)
theorem dL_law_746 : decode cL_law 746 = .ok (.iconst 1, 1) := dk_4 (dk_at dksL_law_25 11 rfl rfl)
theorem dL_law_747 : decode cL_law 747 = .ok (.iadd, 1) := dk_96 (dk_at dksL_law_25 12 rfl rfl)
theorem dL_law_748 : decode cL_law 748 = .ok (.iaload, 1) := dk_46 (dk_at dksL_law_25 13 rfl rfl)
theorem dL_law_749 : decode cL_law 749 = .ok (.invokevirtual 137, 3) := dk_182 0 137 (dk_at dksL_law_25 14 rfl rfl)
theorem dL_law_752 : decode cL_law 752 = .ok (.istore 6, 2) := dk_54 6 (dk_at dksL_law_25 17 rfl rfl)
theorem dL_law_754 : decode cL_law 754 = .ok (.aload_n 2, 1) := dk_44 (dk_at dksL_law_25 19 rfl rfl)
theorem dL_law_755 : decode cL_law 755 = .ok (.invokevirtual 102, 3) := dk_182 0 102 (dk_at dksL_law_25 20 rfl rfl)
theorem dL_law_758 : decode cL_law 758 = .ok (.iload 5, 2) := dk_21 5 (dk_at dksL_law_26 0 rfl rfl)
theorem dL_law_760 : decode cL_law 760 = .ok (.if_icmp .eq 5, 3) := dk_159 0 5 (dk_at dksL_law_26 2 rfl rfl)
theorem dL_law_763 : decode cL_law 763 = .ok (.iconst 0, 1) := dk_3 (dk_at dksL_law_26 5 rfl rfl)
theorem dL_law_764 : decode cL_law 764 = .ok (.ireturn, 1) := dk_172 (dk_at dksL_law_26 6 rfl rfl)
theorem dL_law_765 : decode cL_law 765 = .ok (.iload 5, 2) := dk_21 5 (dk_at dksL_law_26 7 rfl rfl)
theorem dL_law_767 : decode cL_law 767 = .ok (.ifCond .ne 15, 3) := dk_154 0 15 (dk_at dksL_law_26 9 rfl rfl)
theorem dL_law_770 : decode cL_law 770 = .ok (.aload_n 3, 1) := dk_45 (dk_at dksL_law_26 12 rfl rfl)
theorem dL_law_771 : decode cL_law 771 = .ok (.iconst 0, 1) := dk_3 (dk_at dksL_law_26 13 rfl rfl)
theorem dL_law_772 : decode cL_law 772 = .ok (.laload, 1) := dk_47 (dk_at dksL_law_26 14 rfl rfl)
theorem dL_law_773 : decode cL_law 773 = .ok (.iload 6, 2) := dk_21 6 (dk_at dksL_law_26 15 rfl rfl)
theorem dL_law_775 : decode cL_law 775 = .ok (.i2l, 1) := dk_133 (dk_at dksL_law_26 17 rfl rfl)
theorem dL_law_776 : decode cL_law 776 = .ok (.lcmp, 1) := dk_148 (dk_at dksL_law_26 18 rfl rfl)
theorem dL_law_777 : decode cL_law 777 = .ok (.ifCond .eq 5, 3) := dk_153 0 5 (dk_at dksL_law_26 19 rfl rfl)
theorem dL_law_780 : decode cL_law 780 = .ok (.iconst 0, 1) := dk_3 (dk_at dksL_law_26 22 rfl rfl)
theorem dL_law_781 : decode cL_law 781 = .ok (.ireturn, 1) := dk_172 (dk_at dksL_law_26 23 rfl rfl)
theorem dL_law_782 : decode cL_law 782 = .ok (.goto 1172, 3) := dk_167 4 148 (dk_at dksL_law_27 0 rfl rfl)
theorem dL_law_785 : decode cL_law 785 = .ok (.aload_n 1, 1) := dk_43 (dk_at dksL_law_27 3 rfl rfl)
theorem dL_law_786 : decode cL_law 786 = .ok (.invokevirtual 138, 3) := dk_182 0 138 (dk_at dksL_law_27 4 rfl rfl)
theorem dL_law_789 : decode cL_law 789 = .ok (.aload_n 2, 1) := dk_44 (dk_at dksL_law_27 7 rfl rfl)
theorem dL_law_790 : decode cL_law 790 = .ok (.invokevirtual 141, 3) := dk_182 0 141 (dk_at dksL_law_27 8 rfl rfl)
theorem dL_law_793 : decode cL_law 793 = .ok (.if_icmp .eq 1161, 3) := dk_159 4 137 (dk_at dksL_law_27 11 rfl rfl)
theorem dL_law_796 : decode cL_law 796 = .ok (.iconst 0, 1) := dk_3 (dk_at dksL_law_27 14 rfl rfl)
theorem dL_law_797 : decode cL_law 797 = .ok (.ireturn, 1) := dk_172 (dk_at dksL_law_27 15 rfl rfl)
theorem dL_law_798 : decode cL_law 798 = .ok (.aload_n 1, 1) := dk_43 (dk_at dksL_law_27 16 rfl rfl)
theorem dL_law_799 : decode cL_law 799 = .ok (.aload_n 0, 1) := dk_42 (dk_at dksL_law_27 17 rfl rfl)
theorem dL_law_800 : decode cL_law 800 = .ok (.iload 4, 2) := dk_21 4 (dk_at dksL_law_27 18 rfl rfl)
theorem dL_law_802 : decode cL_law 802 = .ok (.iconst 1, 1) := dk_4 (dk_at dksL_law_27 20 rfl rfl)
theorem dL_law_803 : decode cL_law 803 = .ok (.iadd, 1) := dk_96 (dk_at dksL_law_27 21 rfl rfl)
theorem dL_law_804 : decode cL_law 804 = .ok (.iaload, 1) := dk_46 (dk_at dksL_law_27 22 rfl rfl)
theorem dL_law_805 : decode cL_law 805 = .ok (.aload_n 3, 1) := dk_45 (dk_at dksL_law_27 23 rfl rfl)
theorem dL_law_806 : decode cL_law 806 = .ok (.invokestatic 142, 3) := dk_184 0 142 (dk_at dksL_law_28 0 rfl rfl)
theorem dL_law_809 : decode cL_law 809 = .ok (.istore 5, 2) := dk_54 5 (dk_at dksL_law_28 3 rfl rfl)
theorem dL_law_811 : decode cL_law 811 = .ok (.aload_n 2, 1) := dk_44 (dk_at dksL_law_28 5 rfl rfl)
theorem dL_law_812 : decode cL_law 812 = .ok (.aload_n 0, 1) := dk_42 (dk_at dksL_law_28 6 rfl rfl)
theorem dL_law_813 : decode cL_law 813 = .ok (.iload 4, 2) := dk_21 4 (dk_at dksL_law_28 7 rfl rfl)
theorem dL_law_815 : decode cL_law 815 = .ok (.iconst 1, 1) := dk_4 (dk_at dksL_law_28 9 rfl rfl)
theorem dL_law_816 : decode cL_law 816 = .ok (.iadd, 1) := dk_96 (dk_at dksL_law_28 10 rfl rfl)
theorem dL_law_817 : decode cL_law 817 = .ok (.iaload, 1) := dk_46 (dk_at dksL_law_28 11 rfl rfl)
theorem dL_law_818 : decode cL_law 818 = .ok (.invokevirtual 144, 3) := dk_182 0 144 (dk_at dksL_law_28 12 rfl rfl)
theorem dL_law_821 : decode cL_law 821 = .ok (.istore 6, 2) := dk_54 6 (dk_at dksL_law_28 15 rfl rfl)
theorem dL_law_823 : decode cL_law 823 = .ok (.aload_n 2, 1) := dk_44 (dk_at dksL_law_28 17 rfl rfl)
theorem dL_law_824 : decode cL_law 824 = .ok (.invokevirtual 102, 3) := dk_182 0 102 (dk_at dksL_law_28 18 rfl rfl)
theorem dL_law_827 : decode cL_law 827 = .ok (.iload 5, 2) := dk_21 5 (dk_at dksL_law_28 21 rfl rfl)
theorem dL_law_829 : decode cL_law 829 = .ok (.if_icmp .eq 5, 3) := dk_159 0 5 (dk_at dksL_law_29 0 rfl rfl)
theorem dL_law_832 : decode cL_law 832 = .ok (.iconst 0, 1) := dk_3 (dk_at dksL_law_29 3 rfl rfl)
theorem dL_law_833 : decode cL_law 833 = .ok (.ireturn, 1) := dk_172 (dk_at dksL_law_29 4 rfl rfl)
theorem dL_law_834 : decode cL_law 834 = .ok (.iload 5, 2) := dk_21 5 (dk_at dksL_law_29 5 rfl rfl)
theorem dL_law_836 : decode cL_law 836 = .ok (.ifCond .ne 15, 3) := dk_154 0 15 (dk_at dksL_law_29 7 rfl rfl)
theorem dL_law_839 : decode cL_law 839 = .ok (.aload_n 3, 1) := dk_45 (dk_at dksL_law_29 10 rfl rfl)
theorem dL_law_840 : decode cL_law 840 = .ok (.iconst 0, 1) := dk_3 (dk_at dksL_law_29 11 rfl rfl)
theorem dL_law_841 : decode cL_law 841 = .ok (.laload, 1) := dk_47 (dk_at dksL_law_29 12 rfl rfl)
theorem dL_law_842 : decode cL_law 842 = .ok (.iload 6, 2) := dk_21 6 (dk_at dksL_law_29 13 rfl rfl)
theorem dL_law_844 : decode cL_law 844 = .ok (.i2l, 1) := dk_133 (dk_at dksL_law_29 15 rfl rfl)
theorem dL_law_845 : decode cL_law 845 = .ok (.lcmp, 1) := dk_148 (dk_at dksL_law_29 16 rfl rfl)
theorem dL_law_846 : decode cL_law 846 = .ok (.ifCond .eq 5, 3) := dk_153 0 5 (dk_at dksL_law_29 17 rfl rfl)
theorem dL_law_849 : decode cL_law 849 = .ok (.iconst 0, 1) := dk_3 (dk_at dksL_law_29 20 rfl rfl)
theorem dL_law_850 : decode cL_law 850 = .ok (.ireturn, 1) := dk_172 (dk_at dksL_law_29 21 rfl rfl)
theorem dL_law_851 : decode cL_law 851 = .ok (.goto 1103, 3) := dk_167 4 79 (dk_at dksL_law_30 0 rfl rfl)
theorem dL_law_854 : decode cL_law 854 = .ok (.aload_n 1, 1) := dk_43 (dk_at dksL_law_30 3 rfl rfl)
theorem dL_law_855 : decode cL_law 855 = .ok (.aload_n 0, 1) := dk_42 (dk_at dksL_law_30 4 rfl rfl)
theorem dL_law_856 : decode cL_law 856 = .ok (.iload 4, 2) := dk_21 4 (dk_at dksL_law_30 5 rfl rfl)
theorem dL_law_858 : decode cL_law 858 = .ok (.iconst 1, 1) := dk_4 (dk_at dksL_law_30 7 rfl rfl)
theorem dL_law_859 : decode cL_law 859 = .ok (.iadd, 1) := dk_96 (dk_at dksL_law_30 8 rfl rfl)
theorem dL_law_860 : decode cL_law 860 = .ok (.iaload, 1) := dk_46 (dk_at dksL_law_30 9 rfl rfl)
theorem dL_law_861 : decode cL_law 861 = .ok (.aload_n 3, 1) := dk_45 (dk_at dksL_law_30 10 rfl rfl)
theorem dL_law_862 : decode cL_law 862 = .ok (.invokestatic 145, 3) := dk_184 0 145 (dk_at dksL_law_30 11 rfl rfl)
theorem dL_law_865 : decode cL_law 865 = .ok (.istore 5, 2) := dk_54 5 (dk_at dksL_law_30 14 rfl rfl)
theorem dL_law_867 : decode cL_law 867 = .ok (.aload_n 2, 1) := dk_44 (dk_at dksL_law_30 16 rfl rfl)
theorem dL_law_868 : decode cL_law 868 = .ok (.aload_n 0, 1) := dk_42 (dk_at dksL_law_30 17 rfl rfl)
theorem dL_law_869 : decode cL_law 869 = .ok (.iload 4, 2) := dk_21 4 (dk_at dksL_law_30 18 rfl rfl)
theorem dL_law_871 : decode cL_law 871 = .ok (.iconst 1, 1) := dk_4 (dk_at dksL_law_30 20 rfl rfl)
theorem dL_law_872 : decode cL_law 872 = .ok (.iadd, 1) := dk_96 (dk_at dksL_law_30 21 rfl rfl)
theorem dL_law_873 : decode cL_law 873 = .ok (.iaload, 1) := dk_46 (dk_at dksL_law_30 22 rfl rfl)
theorem dL_law_874 : decode cL_law 874 = .ok (.invokevirtual 147, 3) := dk_182 0 147 (dk_at dksL_law_31 0 rfl rfl)
theorem dL_law_877 : decode cL_law 877 = .ok (.istore 6, 2) := dk_54 6 (dk_at dksL_law_31 3 rfl rfl)
theorem dL_law_879 : decode cL_law 879 = .ok (.aload_n 2, 1) := dk_44 (dk_at dksL_law_31 5 rfl rfl)
theorem dL_law_880 : decode cL_law 880 = .ok (.invokevirtual 102, 3) := dk_182 0 102 (dk_at dksL_law_31 6 rfl rfl)
theorem dL_law_883 : decode cL_law 883 = .ok (.iload 5, 2) := dk_21 5 (dk_at dksL_law_31 9 rfl rfl)
theorem dL_law_885 : decode cL_law 885 = .ok (.if_icmp .eq 5, 3) := dk_159 0 5 (dk_at dksL_law_31 11 rfl rfl)
theorem dL_law_888 : decode cL_law 888 = .ok (.iconst 0, 1) := dk_3 (dk_at dksL_law_31 14 rfl rfl)
theorem dL_law_889 : decode cL_law 889 = .ok (.ireturn, 1) := dk_172 (dk_at dksL_law_31 15 rfl rfl)
theorem dL_law_890 : decode cL_law 890 = .ok (.iload 5, 2) := dk_21 5 (dk_at dksL_law_31 16 rfl rfl)
theorem dL_law_892 : decode cL_law 892 = .ok (.ifCond .ne 15, 3) := dk_154 0 15 (dk_at dksL_law_31 18 rfl rfl)
theorem dL_law_895 : decode cL_law 895 = .ok (.aload_n 3, 1) := dk_45 (dk_at dksL_law_31 21 rfl rfl)
theorem dL_law_896 : decode cL_law 896 = .ok (.iconst 0, 1) := dk_3 (dk_at dksL_law_31 22 rfl rfl)
theorem dL_law_897 : decode cL_law 897 = .ok (.laload, 1) := dk_47 (dk_at dksL_law_31 23 rfl rfl)
theorem dL_law_898 : decode cL_law 898 = .ok (.iload 6, 2) := dk_21 6 (dk_at dksL_law_32 0 rfl rfl)
theorem dL_law_900 : decode cL_law 900 = .ok (.i2l, 1) := dk_133 (dk_at dksL_law_32 2 rfl rfl)
theorem dL_law_901 : decode cL_law 901 = .ok (.lcmp, 1) := dk_148 (dk_at dksL_law_32 3 rfl rfl)
theorem dL_law_902 : decode cL_law 902 = .ok (.ifCond .eq 5, 3) := dk_153 0 5 (dk_at dksL_law_32 4 rfl rfl)
theorem dL_law_905 : decode cL_law 905 = .ok (.iconst 0, 1) := dk_3 (dk_at dksL_law_32 7 rfl rfl)
theorem dL_law_906 : decode cL_law 906 = .ok (.ireturn, 1) := dk_172 (dk_at dksL_law_32 8 rfl rfl)
theorem dL_law_907 : decode cL_law 907 = .ok (.goto 1047, 3) := dk_167 4 23 (dk_at dksL_law_32 9 rfl rfl)
theorem dL_law_910 : decode cL_law 910 = .ok (.aload_n 1, 1) := dk_43 (dk_at dksL_law_32 12 rfl rfl)
theorem dL_law_911 : decode cL_law 911 = .ok (.aload_n 0, 1) := dk_42 (dk_at dksL_law_32 13 rfl rfl)
theorem dL_law_912 : decode cL_law 912 = .ok (.iload 4, 2) := dk_21 4 (dk_at dksL_law_32 14 rfl rfl)
theorem dL_law_914 : decode cL_law 914 = .ok (.iconst 1, 1) := dk_4 (dk_at dksL_law_32 16 rfl rfl)
theorem dL_law_915 : decode cL_law 915 = .ok (.iadd, 1) := dk_96 (dk_at dksL_law_32 17 rfl rfl)
theorem dL_law_916 : decode cL_law 916 = .ok (.iaload, 1) := dk_46 (dk_at dksL_law_32 18 rfl rfl)
theorem dL_law_917 : decode cL_law 917 = .ok (.aload_n 0, 1) := dk_42 (dk_at dksL_law_32 19 rfl rfl)
theorem dL_law_918 : decode cL_law 918 = .ok (.iload 4, 2) := dk_21 4 (dk_at dksL_law_32 20 rfl rfl)
theorem dL_law_920 : decode cL_law 920 = .ok (.iconst 2, 1) := dk_5 (dk_at dksL_law_32 22 rfl rfl)
theorem dL_law_921 : decode cL_law 921 = .ok (.iadd, 1) := dk_96 (dk_at dksL_law_32 23 rfl rfl)
theorem dL_law_922 : decode cL_law 922 = .ok (.iaload, 1) := dk_46 (dk_at dksL_law_33 0 rfl rfl)
theorem dL_law_923 : decode cL_law 923 = .ok (.aload_n 3, 1) := dk_45 (dk_at dksL_law_33 1 rfl rfl)
theorem dL_law_924 : decode cL_law 924 = .ok (.invokestatic 148, 3) := dk_184 0 148 (dk_at dksL_law_33 2 rfl rfl)
theorem dL_law_927 : decode cL_law 927 = .ok (.istore 5, 2) := dk_54 5 (dk_at dksL_law_33 5 rfl rfl)
theorem dL_law_929 : decode cL_law 929 = .ok (.aload_n 2, 1) := dk_44 (dk_at dksL_law_33 7 rfl rfl)
theorem dL_law_930 : decode cL_law 930 = .ok (.aload_n 0, 1) := dk_42 (dk_at dksL_law_33 8 rfl rfl)
theorem dL_law_931 : decode cL_law 931 = .ok (.iload 4, 2) := dk_21 4 (dk_at dksL_law_33 9 rfl rfl)
theorem dL_law_933 : decode cL_law 933 = .ok (.iconst 1, 1) := dk_4 (dk_at dksL_law_33 11 rfl rfl)
theorem dL_law_934 : decode cL_law 934 = .ok (.iadd, 1) := dk_96 (dk_at dksL_law_33 12 rfl rfl)
theorem dL_law_935 : decode cL_law 935 = .ok (.iaload, 1) := dk_46 (dk_at dksL_law_33 13 rfl rfl)
theorem dL_law_936 : decode cL_law 936 = .ok (.aload_n 0, 1) := dk_42 (dk_at dksL_law_33 14 rfl rfl)
theorem dL_law_937 : decode cL_law 937 = .ok (.iload 4, 2) := dk_21 4 (dk_at dksL_law_33 15 rfl rfl)
theorem dL_law_939 : decode cL_law 939 = .ok (.iconst 2, 1) := dk_5 (dk_at dksL_law_33 17 rfl rfl)
theorem dL_law_940 : decode cL_law 940 = .ok (.iadd, 1) := dk_96 (dk_at dksL_law_33 18 rfl rfl)
theorem dL_law_941 : decode cL_law 941 = .ok (.iaload, 1) := dk_46 (dk_at dksL_law_33 19 rfl rfl)
theorem dL_law_942 : decode cL_law 942 = .ok (.invokevirtual 150, 3) := dk_182 0 150 (dk_at dksL_law_33 20 rfl rfl)
theorem dL_law_945 : decode cL_law 945 = .ok (.istore 6, 2) := dk_54 6 (dk_at dksL_law_34 0 rfl rfl)
theorem dL_law_947 : decode cL_law 947 = .ok (.aload_n 2, 1) := dk_44 (dk_at dksL_law_34 2 rfl rfl)
theorem dL_law_948 : decode cL_law 948 = .ok (.invokevirtual 102, 3) := dk_182 0 102 (dk_at dksL_law_34 3 rfl rfl)
theorem dL_law_951 : decode cL_law 951 = .ok (.iload 5, 2) := dk_21 5 (dk_at dksL_law_34 6 rfl rfl)
theorem dL_law_953 : decode cL_law 953 = .ok (.if_icmp .eq 5, 3) := dk_159 0 5 (dk_at dksL_law_34 8 rfl rfl)
theorem dL_law_956 : decode cL_law 956 = .ok (.iconst 0, 1) := dk_3 (dk_at dksL_law_34 11 rfl rfl)
theorem dL_law_957 : decode cL_law 957 = .ok (.ireturn, 1) := dk_172 (dk_at dksL_law_34 12 rfl rfl)
theorem dL_law_958 : decode cL_law 958 = .ok (.iload 5, 2) := dk_21 5 (dk_at dksL_law_34 13 rfl rfl)
theorem dL_law_960 : decode cL_law 960 = .ok (.ifCond .ne 15, 3) := dk_154 0 15 (dk_at dksL_law_34 15 rfl rfl)
theorem dL_law_963 : decode cL_law 963 = .ok (.aload_n 3, 1) := dk_45 (dk_at dksL_law_34 18 rfl rfl)
theorem dL_law_964 : decode cL_law 964 = .ok (.iconst 0, 1) := dk_3 (dk_at dksL_law_34 19 rfl rfl)
theorem dL_law_965 : decode cL_law 965 = .ok (.laload, 1) := dk_47 (dk_at dksL_law_34 20 rfl rfl)
theorem dL_law_966 : decode cL_law 966 = .ok (.iload 6, 2) := dk_21 6 (dk_at dksL_law_34 21 rfl rfl)
theorem dL_law_968 : decode cL_law 968 = .ok (.i2l, 1) := dk_133 (dk_at dksL_law_34 23 rfl rfl)
theorem dL_law_969 : decode cL_law 969 = .ok (.lcmp, 1) := dk_148 (dk_at dksL_law_35 0 rfl rfl)
theorem dL_law_970 : decode cL_law 970 = .ok (.ifCond .eq 5, 3) := dk_153 0 5 (dk_at dksL_law_35 1 rfl rfl)
theorem dL_law_973 : decode cL_law 973 = .ok (.iconst 0, 1) := dk_3 (dk_at dksL_law_35 4 rfl rfl)
theorem dL_law_974 : decode cL_law 974 = .ok (.ireturn, 1) := dk_172 (dk_at dksL_law_35 5 rfl rfl)
theorem dL_law_975 : decode cL_law 975 = .ok (.goto 979, 3) := dk_167 3 211 (dk_at dksL_law_35 6 rfl rfl)
theorem dL_law_978 : decode cL_law 978 = .ok (.aload_n 1, 1) := dk_43 (dk_at dksL_law_35 9 rfl rfl)
theorem dL_law_979 : decode cL_law 979 = .ok (.invokevirtual 151, 3) := dk_182 0 151 (dk_at dksL_law_35 10 rfl rfl)
theorem dL_law_982 : decode cL_law 982 = .ok (.aload_n 2, 1) := dk_44 (dk_at dksL_law_35 13 rfl rfl)
theorem dL_law_983 : decode cL_law 983 = .ok (.invokevirtual 154, 3) := dk_182 0 154 (dk_at dksL_law_35 14 rfl rfl)
theorem dL_law_986 : decode cL_law 986 = .ok (.if_icmp .eq 968, 3) := dk_159 3 200 (dk_at dksL_law_35 17 rfl rfl)
theorem dL_law_989 : decode cL_law 989 = .ok (.iconst 0, 1) := dk_3 (dk_at dksL_law_35 20 rfl rfl)
theorem dL_law_990 : decode cL_law 990 = .ok (.ireturn, 1) := dk_172 (dk_at dksL_law_35 21 rfl rfl)
theorem dL_law_991 : decode cL_law 991 = .ok (.aload_n 1, 1) := dk_43 (dk_at dksL_law_35 22 rfl rfl)
theorem dL_law_992 : decode cL_law 992 = .ok (.invokevirtual 155, 3) := dk_182 0 155 (dk_at dksL_law_36 0 rfl rfl)
theorem dL_law_995 : decode cL_law 995 = .ok (.aload_n 2, 1) := dk_44 (dk_at dksL_law_36 3 rfl rfl)
theorem dL_law_996 : decode cL_law 996 = .ok (.invokevirtual 159, 3) := dk_182 0 159 (dk_at dksL_law_36 4 rfl rfl)
theorem dL_law_999 : decode cL_law 999 = .ok (.if_icmp .eq 955, 3) := dk_159 3 187 (dk_at dksL_law_36 7 rfl rfl)
theorem dL_law_1002 : decode cL_law 1002 = .ok (.iconst 0, 1) := dk_3 (dk_at dksL_law_36 10 rfl rfl)
theorem dL_law_1003 : decode cL_law 1003 = .ok (.ireturn, 1) := dk_172 (dk_at dksL_law_36 11 rfl rfl)
theorem dL_law_1004 : decode cL_law 1004 = .ok (.aload_n 1, 1) := dk_43 (dk_at dksL_law_36 12 rfl rfl)
theorem dL_law_1005 : decode cL_law 1005 = .ok (.aload_n 0, 1) := dk_42 (dk_at dksL_law_36 13 rfl rfl)
theorem dL_law_1006 : decode cL_law 1006 = .ok (.iload 4, 2) := dk_21 4 (dk_at dksL_law_36 14 rfl rfl)
theorem dL_law_1008 : decode cL_law 1008 = .ok (.iconst 1, 1) := dk_4 (dk_at dksL_law_36 16 rfl rfl)
theorem dL_law_1009 : decode cL_law 1009 = .ok (.iadd, 1) := dk_96 (dk_at dksL_law_36 17 rfl rfl)
theorem dL_law_1010 : decode cL_law 1010 = .ok (.iaload, 1) := dk_46 (dk_at dksL_law_36 18 rfl rfl)
theorem dL_law_1011 : decode cL_law 1011 = .ok (.aload_n 3, 1) := dk_45 (dk_at dksL_law_36 19 rfl rfl)
theorem dL_law_1012 : decode cL_law 1012 = .ok (.invokestatic 160, 3) := dk_184 0 160 (dk_at dksL_law_36 20 rfl rfl)
theorem dL_law_1015 : decode cL_law 1015 = .ok (.istore 5, 2) := dk_54 5 (dk_at dksL_law_37 0 rfl rfl)
theorem dL_law_1017 : decode cL_law 1017 = .ok (.aload_n 2, 1) := dk_44 (dk_at dksL_law_37 2 rfl rfl)
theorem dL_law_1018 : decode cL_law 1018 = .ok (.aload_n 0, 1) := dk_42 (dk_at dksL_law_37 3 rfl rfl)
theorem dL_law_1019 : decode cL_law 1019 = .ok (.iload 4, 2) := dk_21 4 (dk_at dksL_law_37 4 rfl rfl)
theorem dL_law_1021 : decode cL_law 1021 = .ok (.iconst 1, 1) := dk_4 (dk_at dksL_law_37 6 rfl rfl)
theorem dL_law_1022 : decode cL_law 1022 = .ok (.iadd, 1) := dk_96 (dk_at dksL_law_37 7 rfl rfl)
theorem dL_law_1023 : decode cL_law 1023 = .ok (.iaload, 1) := dk_46 (dk_at dksL_law_37 8 rfl rfl)
theorem dL_law_1024 : decode cL_law 1024 = .ok (.invokevirtual 162, 3) := dk_182 0 162 (dk_at dksL_law_37 9 rfl rfl)
theorem dL_law_1027 : decode cL_law 1027 = .ok (.istore 6, 2) := dk_54 6 (dk_at dksL_law_37 12 rfl rfl)
theorem dL_law_1029 : decode cL_law 1029 = .ok (.aload_n 2, 1) := dk_44 (dk_at dksL_law_37 14 rfl rfl)
theorem dL_law_1030 : decode cL_law 1030 = .ok (.invokevirtual 102, 3) := dk_182 0 102 (dk_at dksL_law_37 15 rfl rfl)
theorem dL_law_1033 : decode cL_law 1033 = .ok (.iload 5, 2) := dk_21 5 (dk_at dksL_law_37 18 rfl rfl)
theorem dL_law_1035 : decode cL_law 1035 = .ok (.if_icmp .eq 5, 3) := dk_159 0 5 (dk_at dksL_law_37 20 rfl rfl)
theorem dL_law_1038 : decode cL_law 1038 = .ok (.iconst 0, 1) := dk_3 (dk_at dksL_law_37 23 rfl rfl)
theorem dL_law_1039 : decode cL_law 1039 = .ok (.ireturn, 1) := dk_172 (dk_at dksL_law_38 0 rfl rfl)
theorem dL_law_1040 : decode cL_law 1040 = .ok (.iload 5, 2) := dk_21 5 (dk_at dksL_law_38 1 rfl rfl)
theorem dL_law_1042 : decode cL_law 1042 = .ok (.ifCond .ne 15, 3) := dk_154 0 15 (dk_at dksL_law_38 3 rfl rfl)
theorem dL_law_1045 : decode cL_law 1045 = .ok (.aload_n 3, 1) := dk_45 (dk_at dksL_law_38 6 rfl rfl)
theorem dL_law_1046 : decode cL_law 1046 = .ok (.iconst 0, 1) := dk_3 (dk_at dksL_law_38 7 rfl rfl)
theorem dL_law_1047 : decode cL_law 1047 = .ok (.laload, 1) := dk_47 (dk_at dksL_law_38 8 rfl rfl)
theorem dL_law_1048 : decode cL_law 1048 = .ok (.iload 6, 2) := dk_21 6 (dk_at dksL_law_38 9 rfl rfl)
theorem dL_law_1050 : decode cL_law 1050 = .ok (.i2l, 1) := dk_133 (dk_at dksL_law_38 11 rfl rfl)
theorem dL_law_1051 : decode cL_law 1051 = .ok (.lcmp, 1) := dk_148 (dk_at dksL_law_38 12 rfl rfl)
theorem dL_law_1052 : decode cL_law 1052 = .ok (.ifCond .eq 5, 3) := dk_153 0 5 (dk_at dksL_law_38 13 rfl rfl)
theorem dL_law_1055 : decode cL_law 1055 = .ok (.iconst 0, 1) := dk_3 (dk_at dksL_law_38 16 rfl rfl)
theorem dL_law_1056 : decode cL_law 1056 = .ok (.ireturn, 1) := dk_172 (dk_at dksL_law_38 17 rfl rfl)
theorem dL_law_1057 : decode cL_law 1057 = .ok (.goto 897, 3) := dk_167 3 129 (dk_at dksL_law_38 18 rfl rfl)
theorem dL_law_1060 : decode cL_law 1060 = .ok (.aload_n 1, 1) := dk_43 (dk_at dksL_law_38 21 rfl rfl)
theorem dL_law_1061 : decode cL_law 1061 = .ok (.aload_n 0, 1) := dk_42 (dk_at dksL_law_38 22 rfl rfl)
theorem dL_law_1062 : decode cL_law 1062 = .ok (.iload 4, 2) := dk_21 4 (dk_at dksL_law_39 0 rfl rfl)
theorem dL_law_1064 : decode cL_law 1064 = .ok (.iconst 1, 1) := dk_4 (dk_at dksL_law_39 2 rfl rfl)
theorem dL_law_1065 : decode cL_law 1065 = .ok (.iadd, 1) := dk_96 (dk_at dksL_law_39 3 rfl rfl)
theorem dL_law_1066 : decode cL_law 1066 = .ok (.iaload, 1) := dk_46 (dk_at dksL_law_39 4 rfl rfl)
theorem dL_law_1067 : decode cL_law 1067 = .ok (.aload_n 0, 1) := dk_42 (dk_at dksL_law_39 5 rfl rfl)
theorem dL_law_1068 : decode cL_law 1068 = .ok (.iload 4, 2) := dk_21 4 (dk_at dksL_law_39 6 rfl rfl)
theorem dL_law_1070 : decode cL_law 1070 = .ok (.iconst 2, 1) := dk_5 (dk_at dksL_law_39 8 rfl rfl)
theorem dL_law_1071 : decode cL_law 1071 = .ok (.iadd, 1) := dk_96 (dk_at dksL_law_39 9 rfl rfl)
theorem dL_law_1072 : decode cL_law 1072 = .ok (.iaload, 1) := dk_46 (dk_at dksL_law_39 10 rfl rfl)
theorem dL_law_1073 : decode cL_law 1073 = .ok (.aload_n 0, 1) := dk_42 (dk_at dksL_law_39 11 rfl rfl)
theorem dL_law_1074 : decode cL_law 1074 = .ok (.iload 4, 2) := dk_21 4 (dk_at dksL_law_39 12 rfl rfl)
theorem dL_law_1076 : decode cL_law 1076 = .ok (.iconst 3, 1) := dk_6 (dk_at dksL_law_39 14 rfl rfl)
theorem dL_law_1077 : decode cL_law 1077 = .ok (.iadd, 1) := dk_96 (dk_at dksL_law_39 15 rfl rfl)
theorem dL_law_1078 : decode cL_law 1078 = .ok (.iaload, 1) := dk_46 (dk_at dksL_law_39 16 rfl rfl)
theorem dL_law_1079 : decode cL_law 1079 = .ok (.aload_n 3, 1) := dk_45 (dk_at dksL_law_39 17 rfl rfl)
theorem dL_law_1080 : decode cL_law 1080 = .ok (.invokestatic 163, 3) := dk_184 0 163 (dk_at dksL_law_39 18 rfl rfl)
theorem dL_law_1083 : decode cL_law 1083 = .ok (.istore 5, 2) := dk_54 5 (dk_at dksL_law_39 21 rfl rfl)
theorem dL_law_1085 : decode cL_law 1085 = .ok (.aload_n 2, 1) := dk_44 (dk_at dksL_law_39 23 rfl rfl)
theorem dL_law_1086 : decode cL_law 1086 = .ok (.aload_n 0, 1) := dk_42 (dk_at dksL_law_40 0 rfl rfl)
theorem dL_law_1087 : decode cL_law 1087 = .ok (.iload 4, 2) := dk_21 4 (dk_at dksL_law_40 1 rfl rfl)
theorem dL_law_1089 : decode cL_law 1089 = .ok (.iconst 1, 1) := dk_4 (dk_at dksL_law_40 3 rfl rfl)
theorem dL_law_1090 : decode cL_law 1090 = .ok (.iadd, 1) := dk_96 (dk_at dksL_law_40 4 rfl rfl)
theorem dL_law_1091 : decode cL_law 1091 = .ok (.iaload, 1) := dk_46 (dk_at dksL_law_40 5 rfl rfl)
theorem dL_law_1092 : decode cL_law 1092 = .ok (.aload_n 0, 1) := dk_42 (dk_at dksL_law_40 6 rfl rfl)
theorem dL_law_1093 : decode cL_law 1093 = .ok (.iload 4, 2) := dk_21 4 (dk_at dksL_law_40 7 rfl rfl)
theorem dL_law_1095 : decode cL_law 1095 = .ok (.iconst 2, 1) := dk_5 (dk_at dksL_law_40 9 rfl rfl)
theorem dL_law_1096 : decode cL_law 1096 = .ok (.iadd, 1) := dk_96 (dk_at dksL_law_40 10 rfl rfl)
theorem dL_law_1097 : decode cL_law 1097 = .ok (.iaload, 1) := dk_46 (dk_at dksL_law_40 11 rfl rfl)
theorem dL_law_1098 : decode cL_law 1098 = .ok (.aload_n 0, 1) := dk_42 (dk_at dksL_law_40 12 rfl rfl)
theorem dL_law_1099 : decode cL_law 1099 = .ok (.iload 4, 2) := dk_21 4 (dk_at dksL_law_40 13 rfl rfl)
theorem dL_law_1101 : decode cL_law 1101 = .ok (.iconst 3, 1) := dk_6 (dk_at dksL_law_40 15 rfl rfl)
theorem dL_law_1102 : decode cL_law 1102 = .ok (.iadd, 1) := dk_96 (dk_at dksL_law_40 16 rfl rfl)
theorem dL_law_1103 : decode cL_law 1103 = .ok (.iaload, 1) := dk_46 (dk_at dksL_law_40 17 rfl rfl)
theorem dL_law_1104 : decode cL_law 1104 = .ok (.invokevirtual 166, 3) := dk_182 0 166 (dk_at dksL_law_40 18 rfl rfl)
theorem dL_law_1107 : decode cL_law 1107 = .ok (.istore 6, 2) := dk_54 6 (dk_at dksL_law_40 21 rfl rfl)
theorem dL_law_1109 : decode cL_law 1109 = .ok (.aload_n 2, 1) := dk_44 (dk_at dksL_law_40 23 rfl rfl)
theorem dL_law_1110 : decode cL_law 1110 = .ok (.invokevirtual 102, 3) := dk_182 0 102 (dk_at dksL_law_41 0 rfl rfl)
theorem dL_law_1113 : decode cL_law 1113 = .ok (.iload 5, 2) := dk_21 5 (dk_at dksL_law_41 3 rfl rfl)
theorem dL_law_1115 : decode cL_law 1115 = .ok (.if_icmp .eq 5, 3) := dk_159 0 5 (dk_at dksL_law_41 5 rfl rfl)
theorem dL_law_1118 : decode cL_law 1118 = .ok (.iconst 0, 1) := dk_3 (dk_at dksL_law_41 8 rfl rfl)
theorem dL_law_1119 : decode cL_law 1119 = .ok (.ireturn, 1) := dk_172 (dk_at dksL_law_41 9 rfl rfl)
theorem dL_law_1120 : decode cL_law 1120 = .ok (.iload 5, 2) := dk_21 5 (dk_at dksL_law_41 10 rfl rfl)
theorem dL_law_1122 : decode cL_law 1122 = .ok (.ifCond .ne 15, 3) := dk_154 0 15 (dk_at dksL_law_41 12 rfl rfl)
theorem dL_law_1125 : decode cL_law 1125 = .ok (.aload_n 3, 1) := dk_45 (dk_at dksL_law_41 15 rfl rfl)
theorem dL_law_1126 : decode cL_law 1126 = .ok (.iconst 0, 1) := dk_3 (dk_at dksL_law_41 16 rfl rfl)
theorem dL_law_1127 : decode cL_law 1127 = .ok (.laload, 1) := dk_47 (dk_at dksL_law_41 17 rfl rfl)
theorem dL_law_1128 : decode cL_law 1128 = .ok (.iload 6, 2) := dk_21 6 (dk_at dksL_law_41 18 rfl rfl)
theorem dL_law_1130 : decode cL_law 1130 = .ok (.i2l, 1) := dk_133 (dk_at dksL_law_41 20 rfl rfl)
theorem dL_law_1131 : decode cL_law 1131 = .ok (.lcmp, 1) := dk_148 (dk_at dksL_law_41 21 rfl rfl)
theorem dL_law_1132 : decode cL_law 1132 = .ok (.ifCond .eq 5, 3) := dk_153 0 5 (dk_at dksL_law_42 0 rfl rfl)
theorem dL_law_1135 : decode cL_law 1135 = .ok (.iconst 0, 1) := dk_3 (dk_at dksL_law_42 3 rfl rfl)
theorem dL_law_1136 : decode cL_law 1136 = .ok (.ireturn, 1) := dk_172 (dk_at dksL_law_42 4 rfl rfl)
theorem dL_law_1137 : decode cL_law 1137 = .ok (.goto 817, 3) := dk_167 3 49 (dk_at dksL_law_42 5 rfl rfl)
theorem dL_law_1140 : decode cL_law 1140 = .ok (.aload_n 1, 1) := dk_43 (dk_at dksL_law_42 8 rfl rfl)
theorem dL_law_1141 : decode cL_law 1141 = .ok (.invokevirtual 167, 3) := dk_182 0 167 (dk_at dksL_law_42 9 rfl rfl)
theorem dL_law_1144 : decode cL_law 1144 = .ok (.aload_n 2, 1) := dk_44 (dk_at dksL_law_42 12 rfl rfl)
theorem dL_law_1145 : decode cL_law 1145 = .ok (.invokevirtual 170, 3) := dk_182 0 170 (dk_at dksL_law_42 13 rfl rfl)
theorem dL_law_1148 : decode cL_law 1148 = .ok (.if_icmp .eq 806, 3) := dk_159 3 38 (dk_at dksL_law_42 16 rfl rfl)
theorem dL_law_1151 : decode cL_law 1151 = .ok (.iconst 0, 1) := dk_3 (dk_at dksL_law_42 19 rfl rfl)
theorem dL_law_1152 : decode cL_law 1152 = .ok (.ireturn, 1) := dk_172 (dk_at dksL_law_42 20 rfl rfl)
theorem dL_law_1153 : decode cL_law 1153 = .ok (.aload_n 1, 1) := dk_43 (dk_at dksL_law_42 21 rfl rfl)
theorem dL_law_1154 : decode cL_law 1154 = .ok (.invokevirtual 171, 3) := dk_182 0 171 (dk_at dksL_law_43 0 rfl rfl)
theorem dL_law_1157 : decode cL_law 1157 = .ok (.aload_n 2, 1) := dk_44 (dk_at dksL_law_43 3 rfl rfl)
theorem dL_law_1158 : decode cL_law 1158 = .ok (.invokevirtual 174, 3) := dk_182 0 174 (dk_at dksL_law_43 4 rfl rfl)
theorem dL_law_1161 : decode cL_law 1161 = .ok (.if_icmp .eq 793, 3) := dk_159 3 25 (dk_at dksL_law_43 7 rfl rfl)
theorem dL_law_1164 : decode cL_law 1164 = .ok (.iconst 0, 1) := dk_3 (dk_at dksL_law_43 10 rfl rfl)
theorem dL_law_1165 : decode cL_law 1165 = .ok (.ireturn, 1) := dk_172 (dk_at dksL_law_43 11 rfl rfl)
theorem dL_law_1166 : decode cL_law 1166 = .ok (.aload_n 1, 1) := dk_43 (dk_at dksL_law_43 12 rfl rfl)
theorem dL_law_1167 : decode cL_law 1167 = .ok (.aload_n 0, 1) := dk_42 (dk_at dksL_law_43 13 rfl rfl)
theorem dL_law_1168 : decode cL_law 1168 = .ok (.iload 4, 2) := dk_21 4 (dk_at dksL_law_43 14 rfl rfl)
theorem dL_law_1170 : decode cL_law 1170 = .ok (.iconst 1, 1) := dk_4 (dk_at dksL_law_43 16 rfl rfl)
theorem dL_law_1171 : decode cL_law 1171 = .ok (.iadd, 1) := dk_96 (dk_at dksL_law_43 17 rfl rfl)
theorem dL_law_1172 : decode cL_law 1172 = .ok (.iaload, 1) := dk_46 (dk_at dksL_law_43 18 rfl rfl)
theorem dL_law_1173 : decode cL_law 1173 = .ok (.aload_n 3, 1) := dk_45 (dk_at dksL_law_43 19 rfl rfl)
theorem dL_law_1174 : decode cL_law 1174 = .ok (.invokestatic 175, 3) := dk_184 0 175 (dk_at dksL_law_43 20 rfl rfl)
theorem dL_law_1177 : decode cL_law 1177 = .ok (.istore 5, 2) := dk_54 5 (dk_at dksL_law_44 0 rfl rfl)
theorem dL_law_1179 : decode cL_law 1179 = .ok (.aload_n 2, 1) := dk_44 (dk_at dksL_law_44 2 rfl rfl)
theorem dL_law_1180 : decode cL_law 1180 = .ok (.aload_n 0, 1) := dk_42 (dk_at dksL_law_44 3 rfl rfl)
theorem dL_law_1181 : decode cL_law 1181 = .ok (.iload 4, 2) := dk_21 4 (dk_at dksL_law_44 4 rfl rfl)
theorem dL_law_1183 : decode cL_law 1183 = .ok (.iconst 1, 1) := dk_4 (dk_at dksL_law_44 6 rfl rfl)
theorem dL_law_1184 : decode cL_law 1184 = .ok (.iadd, 1) := dk_96 (dk_at dksL_law_44 7 rfl rfl)
theorem dL_law_1185 : decode cL_law 1185 = .ok (.iaload, 1) := dk_46 (dk_at dksL_law_44 8 rfl rfl)
theorem dL_law_1186 : decode cL_law 1186 = .ok (.invokevirtual 177, 3) := dk_182 0 177 (dk_at dksL_law_44 9 rfl rfl)
theorem dL_law_1189 : decode cL_law 1189 = .ok (.istore 6, 2) := dk_54 6 (dk_at dksL_law_44 12 rfl rfl)
theorem dL_law_1191 : decode cL_law 1191 = .ok (.aload_n 2, 1) := dk_44 (dk_at dksL_law_44 14 rfl rfl)
theorem dL_law_1192 : decode cL_law 1192 = .ok (.invokevirtual 102, 3) := dk_182 0 102 (dk_at dksL_law_44 15 rfl rfl)
theorem dL_law_1195 : decode cL_law 1195 = .ok (.iload 5, 2) := dk_21 5 (dk_at dksL_law_44 18 rfl rfl)
theorem dL_law_1197 : decode cL_law 1197 = .ok (.if_icmp .eq 5, 3) := dk_159 0 5 (dk_at dksL_law_44 20 rfl rfl)
theorem dL_law_1200 : decode cL_law 1200 = .ok (.iconst 0, 1) := dk_3 (dk_at dksL_law_44 23 rfl rfl)
theorem dL_law_1201 : decode cL_law 1201 = .ok (.ireturn, 1) := dk_172 (dk_at dksL_law_45 0 rfl rfl)
theorem dL_law_1202 : decode cL_law 1202 = .ok (.iload 5, 2) := dk_21 5 (dk_at dksL_law_45 1 rfl rfl)
theorem dL_law_1204 : decode cL_law 1204 = .ok (.ifCond .ne 22, 3) := dk_154 0 22 (dk_at dksL_law_45 3 rfl rfl)
theorem dL_law_1207 : decode cL_law 1207 = .ok (.aload_n 3, 1) := dk_45 (dk_at dksL_law_45 6 rfl rfl)
theorem dL_law_1208 : decode cL_law 1208 = .ok (.iconst 0, 1) := dk_3 (dk_at dksL_law_45 7 rfl rfl)
theorem dL_law_1209 : decode cL_law 1209 = .ok (.laload, 1) := dk_47 (dk_at dksL_law_45 8 rfl rfl)
theorem dL_law_1210 : decode cL_law 1210 = .ok (.iload 6, 2) := dk_21 6 (dk_at dksL_law_45 9 rfl rfl)
theorem dL_law_1212 : decode cL_law 1212 = .ok (.ifCond .eq 7, 3) := dk_153 0 7 (dk_at dksL_law_45 11 rfl rfl)
theorem dL_law_1215 : decode cL_law 1215 = .ok (.lconst 1, 1) := dk_10 (dk_at dksL_law_45 14 rfl rfl)
theorem dL_law_1216 : decode cL_law 1216 = .ok (.goto 4, 3) := dk_167 0 4 (dk_at dksL_law_45 15 rfl rfl)
theorem dL_law_1219 : decode cL_law 1219 = .ok (.lconst 0, 1) := dk_9 (dk_at dksL_law_45 18 rfl rfl)
theorem dL_law_1220 : decode cL_law 1220 = .ok (.lcmp, 1) := dk_148 (dk_at dksL_law_45 19 rfl rfl)
theorem dL_law_1221 : decode cL_law 1221 = .ok (.ifCond .eq 5, 3) := dk_153 0 5 (dk_at dksL_law_45 20 rfl rfl)
theorem dL_law_1224 : decode cL_law 1224 = .ok (.iconst 0, 1) := dk_3 (dk_at dksL_law_45 23 rfl rfl)
theorem dL_law_1225 : decode cL_law 1225 = .ok (.ireturn, 1) := dk_172 (dk_at dksL_law_46 0 rfl rfl)
theorem dL_law_1226 : decode cL_law 1226 = .ok (.goto 728, 3) := dk_167 2 216 (dk_at dksL_law_46 1 rfl rfl)
theorem dL_law_1229 : decode cL_law 1229 = .ok (.aload_n 1, 1) := dk_43 (dk_at dksL_law_46 4 rfl rfl)
theorem dL_law_1230 : decode cL_law 1230 = .ok (.aload_n 3, 1) := dk_45 (dk_at dksL_law_46 5 rfl rfl)
theorem dL_law_1231 : decode cL_law 1231 = .ok (.invokestatic 178, 3) := dk_184 0 178 (dk_at dksL_law_46 6 rfl rfl)
theorem dL_law_1234 : decode cL_law 1234 = .ok (.istore 5, 2) := dk_54 5 (dk_at dksL_law_46 9 rfl rfl)
theorem dL_law_1236 : decode cL_law 1236 = .ok (.aload_n 2, 1) := dk_44 (dk_at dksL_law_46 11 rfl rfl)
theorem dL_law_1237 : decode cL_law 1237 = .ok (.invokevirtual 181, 3) := dk_182 0 181 (dk_at dksL_law_46 12 rfl rfl)
theorem dL_law_1240 : decode cL_law 1240 = .ok (.istore 6, 2) := dk_54 6 (dk_at dksL_law_46 15 rfl rfl)
theorem dL_law_1242 : decode cL_law 1242 = .ok (.aload_n 2, 1) := dk_44 (dk_at dksL_law_46 17 rfl rfl)
theorem dL_law_1243 : decode cL_law 1243 = .ok (.invokevirtual 102, 3) := dk_182 0 102 (dk_at dksL_law_46 18 rfl rfl)
theorem dL_law_1246 : decode cL_law 1246 = .ok (.iload 5, 2) := dk_21 5 (dk_at dksL_law_46 21 rfl rfl)
theorem dL_law_1248 : decode cL_law 1248 = .ok (.if_icmp .eq 5, 3) := dk_159 0 5 (dk_at dksL_law_47 0 rfl rfl)
theorem dL_law_1251 : decode cL_law 1251 = .ok (.iconst 0, 1) := dk_3 (dk_at dksL_law_47 3 rfl rfl)
theorem dL_law_1252 : decode cL_law 1252 = .ok (.ireturn, 1) := dk_172 (dk_at dksL_law_47 4 rfl rfl)
theorem dL_law_1253 : decode cL_law 1253 = .ok (.iload 5, 2) := dk_21 5 (dk_at dksL_law_47 5 rfl rfl)
theorem dL_law_1255 : decode cL_law 1255 = .ok (.ifCond .ne 15, 3) := dk_154 0 15 (dk_at dksL_law_47 7 rfl rfl)
theorem dL_law_1258 : decode cL_law 1258 = .ok (.aload_n 3, 1) := dk_45 (dk_at dksL_law_47 10 rfl rfl)
theorem dL_law_1259 : decode cL_law 1259 = .ok (.iconst 0, 1) := dk_3 (dk_at dksL_law_47 11 rfl rfl)
theorem dL_law_1260 : decode cL_law 1260 = .ok (.laload, 1) := dk_47 (dk_at dksL_law_47 12 rfl rfl)
theorem dL_law_1261 : decode cL_law 1261 = .ok (.iload 6, 2) := dk_21 6 (dk_at dksL_law_47 13 rfl rfl)
theorem dL_law_1263 : decode cL_law 1263 = .ok (.i2l, 1) := dk_133 (dk_at dksL_law_47 15 rfl rfl)
theorem dL_law_1264 : decode cL_law 1264 = .ok (.lcmp, 1) := dk_148 (dk_at dksL_law_47 16 rfl rfl)
theorem dL_law_1265 : decode cL_law 1265 = .ok (.ifCond .eq 5, 3) := dk_153 0 5 (dk_at dksL_law_47 17 rfl rfl)
theorem dL_law_1268 : decode cL_law 1268 = .ok (.iconst 0, 1) := dk_3 (dk_at dksL_law_47 20 rfl rfl)
theorem dL_law_1269 : decode cL_law 1269 = .ok (.ireturn, 1) := dk_172 (dk_at dksL_law_47 21 rfl rfl)
theorem dL_law_1270 : decode cL_law 1270 = .ok (.goto 684, 3) := dk_167 2 172 (dk_at dksL_law_48 0 rfl rfl)
theorem dL_law_1273 : decode cL_law 1273 = .ok (.aload_n 1, 1) := dk_43 (dk_at dksL_law_48 3 rfl rfl)
theorem dL_law_1274 : decode cL_law 1274 = .ok (.aload_n 3, 1) := dk_45 (dk_at dksL_law_48 4 rfl rfl)
theorem dL_law_1275 : decode cL_law 1275 = .ok (.invokestatic 182, 3) := dk_184 0 182 (dk_at dksL_law_48 5 rfl rfl)
theorem dL_law_1278 : decode cL_law 1278 = .ok (.istore 5, 2) := dk_54 5 (dk_at dksL_law_48 8 rfl rfl)
theorem dL_law_1280 : decode cL_law 1280 = .ok (.aload_n 2, 1) := dk_44 (dk_at dksL_law_48 10 rfl rfl)
theorem dL_law_1281 : decode cL_law 1281 = .ok (.invokevirtual 184, 3) := dk_182 0 184 (dk_at dksL_law_48 11 rfl rfl)
theorem dL_law_1284 : decode cL_law 1284 = .ok (.istore 6, 2) := dk_54 6 (dk_at dksL_law_48 14 rfl rfl)
theorem dL_law_1286 : decode cL_law 1286 = .ok (.aload_n 2, 1) := dk_44 (dk_at dksL_law_48 16 rfl rfl)
theorem dL_law_1287 : decode cL_law 1287 = .ok (.invokevirtual 102, 3) := dk_182 0 102 (dk_at dksL_law_48 17 rfl rfl)
theorem dL_law_1290 : decode cL_law 1290 = .ok (.iload 5, 2) := dk_21 5 (dk_at dksL_law_48 20 rfl rfl)
theorem dL_law_1292 : decode cL_law 1292 = .ok (.if_icmp .eq 5, 3) := dk_159 0 5 (dk_at dksL_law_49 0 rfl rfl)
theorem dL_law_1295 : decode cL_law 1295 = .ok (.iconst 0, 1) := dk_3 (dk_at dksL_law_49 3 rfl rfl)
theorem dL_law_1296 : decode cL_law 1296 = .ok (.ireturn, 1) := dk_172 (dk_at dksL_law_49 4 rfl rfl)
theorem dL_law_1297 : decode cL_law 1297 = .ok (.iload 5, 2) := dk_21 5 (dk_at dksL_law_49 5 rfl rfl)
theorem dL_law_1299 : decode cL_law 1299 = .ok (.ifCond .ne 15, 3) := dk_154 0 15 (dk_at dksL_law_49 7 rfl rfl)
theorem dL_law_1302 : decode cL_law 1302 = .ok (.aload_n 3, 1) := dk_45 (dk_at dksL_law_49 10 rfl rfl)
theorem dL_law_1303 : decode cL_law 1303 = .ok (.iconst 0, 1) := dk_3 (dk_at dksL_law_49 11 rfl rfl)
theorem dL_law_1304 : decode cL_law 1304 = .ok (.laload, 1) := dk_47 (dk_at dksL_law_49 12 rfl rfl)
theorem dL_law_1305 : decode cL_law 1305 = .ok (.iload 6, 2) := dk_21 6 (dk_at dksL_law_49 13 rfl rfl)
theorem dL_law_1307 : decode cL_law 1307 = .ok (.i2l, 1) := dk_133 (dk_at dksL_law_49 15 rfl rfl)
theorem dL_law_1308 : decode cL_law 1308 = .ok (.lcmp, 1) := dk_148 (dk_at dksL_law_49 16 rfl rfl)
theorem dL_law_1309 : decode cL_law 1309 = .ok (.ifCond .eq 5, 3) := dk_153 0 5 (dk_at dksL_law_49 17 rfl rfl)
theorem dL_law_1312 : decode cL_law 1312 = .ok (.iconst 0, 1) := dk_3 (dk_at dksL_law_49 20 rfl rfl)
theorem dL_law_1313 : decode cL_law 1313 = .ok (.ireturn, 1) := dk_172 (dk_at dksL_law_49 21 rfl rfl)
theorem dL_law_1314 : decode cL_law 1314 = .ok (.goto 640, 3) := dk_167 2 128 (dk_at dksL_law_50 0 rfl rfl)
theorem dL_law_1317 : decode cL_law 1317 = .ok (.aload_n 1, 1) := dk_43 (dk_at dksL_law_50 3 rfl rfl)
theorem dL_law_1318 : decode cL_law 1318 = .ok (.aload_n 0, 1) := dk_42 (dk_at dksL_law_50 4 rfl rfl)
theorem dL_law_1319 : decode cL_law 1319 = .ok (.iload 4, 2) := dk_21 4 (dk_at dksL_law_50 5 rfl rfl)
theorem dL_law_1321 : decode cL_law 1321 = .ok (.iconst 1, 1) := dk_4 (dk_at dksL_law_50 7 rfl rfl)
theorem dL_law_1322 : decode cL_law 1322 = .ok (.iadd, 1) := dk_96 (dk_at dksL_law_50 8 rfl rfl)
theorem dL_law_1323 : decode cL_law 1323 = .ok (.iaload, 1) := dk_46 (dk_at dksL_law_50 9 rfl rfl)
theorem dL_law_1324 : decode cL_law 1324 = .ok (.aload_n 3, 1) := dk_45 (dk_at dksL_law_50 10 rfl rfl)
theorem dL_law_1325 : decode cL_law 1325 = .ok (.invokestatic 185, 3) := dk_184 0 185 (dk_at dksL_law_50 11 rfl rfl)
theorem dL_law_1328 : decode cL_law 1328 = .ok (.istore 5, 2) := dk_54 5 (dk_at dksL_law_50 14 rfl rfl)
theorem dL_law_1330 : decode cL_law 1330 = .ok (.aload_n 2, 1) := dk_44 (dk_at dksL_law_50 16 rfl rfl)
theorem dL_law_1331 : decode cL_law 1331 = .ok (.aload_n 0, 1) := dk_42 (dk_at dksL_law_50 17 rfl rfl)
theorem dL_law_1332 : decode cL_law 1332 = .ok (.iload 4, 2) := dk_21 4 (dk_at dksL_law_50 18 rfl rfl)
theorem dL_law_1334 : decode cL_law 1334 = .ok (.iconst 1, 1) := dk_4 (dk_at dksL_law_50 20 rfl rfl)
theorem dL_law_1335 : decode cL_law 1335 = .ok (.iadd, 1) := dk_96 (dk_at dksL_law_50 21 rfl rfl)
theorem dL_law_1336 : decode cL_law 1336 = .ok (.iaload, 1) := dk_46 (dk_at dksL_law_50 22 rfl rfl)
theorem dL_law_1337 : decode cL_law 1337 = .ok (.invokevirtual 187, 3) := dk_182 0 187 (dk_at dksL_law_51 0 rfl rfl)
theorem dL_law_1340 : decode cL_law 1340 = .ok (.istore 6, 2) := dk_54 6 (dk_at dksL_law_51 3 rfl rfl)
theorem dL_law_1342 : decode cL_law 1342 = .ok (.aload_n 2, 1) := dk_44 (dk_at dksL_law_51 5 rfl rfl)
theorem dL_law_1343 : decode cL_law 1343 = .ok (.invokevirtual 102, 3) := dk_182 0 102 (dk_at dksL_law_51 6 rfl rfl)
theorem dL_law_1346 : decode cL_law 1346 = .ok (.iload 5, 2) := dk_21 5 (dk_at dksL_law_51 9 rfl rfl)
theorem dL_law_1348 : decode cL_law 1348 = .ok (.if_icmp .eq 5, 3) := dk_159 0 5 (dk_at dksL_law_51 11 rfl rfl)
theorem dL_law_1351 : decode cL_law 1351 = .ok (.iconst 0, 1) := dk_3 (dk_at dksL_law_51 14 rfl rfl)
theorem dL_law_1352 : decode cL_law 1352 = .ok (.ireturn, 1) := dk_172 (dk_at dksL_law_51 15 rfl rfl)
theorem dL_law_1353 : decode cL_law 1353 = .ok (.iload 5, 2) := dk_21 5 (dk_at dksL_law_51 16 rfl rfl)
theorem dL_law_1355 : decode cL_law 1355 = .ok (.ifCond .ne 15, 3) := dk_154 0 15 (dk_at dksL_law_51 18 rfl rfl)
theorem dL_law_1358 : decode cL_law 1358 = .ok (.aload_n 3, 1) := dk_45 (dk_at dksL_law_51 21 rfl rfl)
theorem dL_law_1359 : decode cL_law 1359 = .ok (.iconst 0, 1) := dk_3 (dk_at dksL_law_51 22 rfl rfl)
theorem dL_law_1360 : decode cL_law 1360 = .ok (.laload, 1) := dk_47 (dk_at dksL_law_51 23 rfl rfl)
theorem dL_law_1361 : decode cL_law 1361 = .ok (.iload 6, 2) := dk_21 6 (dk_at dksL_law_52 0 rfl rfl)
theorem dL_law_1363 : decode cL_law 1363 = .ok (.i2l, 1) := dk_133 (dk_at dksL_law_52 2 rfl rfl)
theorem dL_law_1364 : decode cL_law 1364 = .ok (.lcmp, 1) := dk_148 (dk_at dksL_law_52 3 rfl rfl)
theorem dL_law_1365 : decode cL_law 1365 = .ok (.ifCond .eq 5, 3) := dk_153 0 5 (dk_at dksL_law_52 4 rfl rfl)
theorem dL_law_1368 : decode cL_law 1368 = .ok (.iconst 0, 1) := dk_3 (dk_at dksL_law_52 7 rfl rfl)
theorem dL_law_1369 : decode cL_law 1369 = .ok (.ireturn, 1) := dk_172 (dk_at dksL_law_52 8 rfl rfl)
theorem dL_law_1370 : decode cL_law 1370 = .ok (.goto 584, 3) := dk_167 2 72 (dk_at dksL_law_52 9 rfl rfl)
theorem dL_law_1373 : decode cL_law 1373 = .ok (.aload_n 1, 1) := dk_43 (dk_at dksL_law_52 12 rfl rfl)
theorem dL_law_1374 : decode cL_law 1374 = .ok (.aload_n 0, 1) := dk_42 (dk_at dksL_law_52 13 rfl rfl)
theorem dL_law_1375 : decode cL_law 1375 = .ok (.iload 4, 2) := dk_21 4 (dk_at dksL_law_52 14 rfl rfl)
theorem dL_law_1377 : decode cL_law 1377 = .ok (.iconst 1, 1) := dk_4 (dk_at dksL_law_52 16 rfl rfl)
theorem dL_law_1378 : decode cL_law 1378 = .ok (.iadd, 1) := dk_96 (dk_at dksL_law_52 17 rfl rfl)
theorem dL_law_1379 : decode cL_law 1379 = .ok (.iaload, 1) := dk_46 (dk_at dksL_law_52 18 rfl rfl)
theorem dL_law_1380 : decode cL_law 1380 = .ok (.aload_n 3, 1) := dk_45 (dk_at dksL_law_52 19 rfl rfl)
theorem dL_law_1381 : decode cL_law 1381 = .ok (.invokestatic 188, 3) := dk_184 0 188 (dk_at dksL_law_52 20 rfl rfl)
theorem dL_law_1384 : decode cL_law 1384 = .ok (.istore 5, 2) := dk_54 5 (dk_at dksL_law_53 0 rfl rfl)
theorem dL_law_1386 : decode cL_law 1386 = .ok (.aload_n 2, 1) := dk_44 (dk_at dksL_law_53 2 rfl rfl)
theorem dL_law_1387 : decode cL_law 1387 = .ok (.aload_n 0, 1) := dk_42 (dk_at dksL_law_53 3 rfl rfl)
theorem dL_law_1388 : decode cL_law 1388 = .ok (.iload 4, 2) := dk_21 4 (dk_at dksL_law_53 4 rfl rfl)
theorem dL_law_1390 : decode cL_law 1390 = .ok (.iconst 1, 1) := dk_4 (dk_at dksL_law_53 6 rfl rfl)
theorem dL_law_1391 : decode cL_law 1391 = .ok (.iadd, 1) := dk_96 (dk_at dksL_law_53 7 rfl rfl)
theorem dL_law_1392 : decode cL_law 1392 = .ok (.iaload, 1) := dk_46 (dk_at dksL_law_53 8 rfl rfl)
theorem dL_law_1393 : decode cL_law 1393 = .ok (.invokevirtual 190, 3) := dk_182 0 190 (dk_at dksL_law_53 9 rfl rfl)
theorem dL_law_1396 : decode cL_law 1396 = .ok (.istore 6, 2) := dk_54 6 (dk_at dksL_law_53 12 rfl rfl)
theorem dL_law_1398 : decode cL_law 1398 = .ok (.aload_n 2, 1) := dk_44 (dk_at dksL_law_53 14 rfl rfl)
theorem dL_law_1399 : decode cL_law 1399 = .ok (.invokevirtual 102, 3) := dk_182 0 102 (dk_at dksL_law_53 15 rfl rfl)
theorem dL_law_1402 : decode cL_law 1402 = .ok (.iload 5, 2) := dk_21 5 (dk_at dksL_law_53 18 rfl rfl)
theorem dL_law_1404 : decode cL_law 1404 = .ok (.if_icmp .eq 5, 3) := dk_159 0 5 (dk_at dksL_law_53 20 rfl rfl)
theorem dL_law_1407 : decode cL_law 1407 = .ok (.iconst 0, 1) := dk_3 (dk_at dksL_law_53 23 rfl rfl)
theorem dL_law_1408 : decode cL_law 1408 = .ok (.ireturn, 1) := dk_172 (dk_at dksL_law_54 0 rfl rfl)
theorem dL_law_1409 : decode cL_law 1409 = .ok (.iload 5, 2) := dk_21 5 (dk_at dksL_law_54 1 rfl rfl)
theorem dL_law_1411 : decode cL_law 1411 = .ok (.ifCond .ne 15, 3) := dk_154 0 15 (dk_at dksL_law_54 3 rfl rfl)
theorem dL_law_1414 : decode cL_law 1414 = .ok (.aload_n 3, 1) := dk_45 (dk_at dksL_law_54 6 rfl rfl)
theorem dL_law_1415 : decode cL_law 1415 = .ok (.iconst 0, 1) := dk_3 (dk_at dksL_law_54 7 rfl rfl)
theorem dL_law_1416 : decode cL_law 1416 = .ok (.laload, 1) := dk_47 (dk_at dksL_law_54 8 rfl rfl)
theorem dL_law_1417 : decode cL_law 1417 = .ok (.iload 6, 2) := dk_21 6 (dk_at dksL_law_54 9 rfl rfl)
theorem dL_law_1419 : decode cL_law 1419 = .ok (.i2l, 1) := dk_133 (dk_at dksL_law_54 11 rfl rfl)
theorem dL_law_1420 : decode cL_law 1420 = .ok (.lcmp, 1) := dk_148 (dk_at dksL_law_54 12 rfl rfl)
theorem dL_law_1421 : decode cL_law 1421 = .ok (.ifCond .eq 5, 3) := dk_153 0 5 (dk_at dksL_law_54 13 rfl rfl)
theorem dL_law_1424 : decode cL_law 1424 = .ok (.iconst 0, 1) := dk_3 (dk_at dksL_law_54 16 rfl rfl)
theorem dL_law_1425 : decode cL_law 1425 = .ok (.ireturn, 1) := dk_172 (dk_at dksL_law_54 17 rfl rfl)
theorem dL_law_1426 : decode cL_law 1426 = .ok (.goto 528, 3) := dk_167 2 16 (dk_at dksL_law_54 18 rfl rfl)
theorem dL_law_1429 : decode cL_law 1429 = .ok (.aload_n 1, 1) := dk_43 (dk_at dksL_law_54 21 rfl rfl)
theorem dL_law_1430 : decode cL_law 1430 = .ok (.invokevirtual 191, 3) := dk_182 0 191 (dk_at dksL_law_55 0 rfl rfl)
theorem dL_law_1433 : decode cL_law 1433 = .ok (.aload_n 2, 1) := dk_44 (dk_at dksL_law_55 3 rfl rfl)
theorem dL_law_1434 : decode cL_law 1434 = .ok (.invokevirtual 194, 3) := dk_182 0 194 (dk_at dksL_law_55 4 rfl rfl)
theorem dL_law_1437 : decode cL_law 1437 = .ok (.if_icmp .eq 517, 3) := dk_159 2 5 (dk_at dksL_law_55 7 rfl rfl)
theorem dL_law_1440 : decode cL_law 1440 = .ok (.iconst 0, 1) := dk_3 (dk_at dksL_law_55 10 rfl rfl)
theorem dL_law_1441 : decode cL_law 1441 = .ok (.ireturn, 1) := dk_172 (dk_at dksL_law_55 11 rfl rfl)
theorem dL_law_1442 : decode cL_law 1442 = .ok (.aload_n 1, 1) := dk_43 (dk_at dksL_law_55 12 rfl rfl)
theorem dL_law_1443 : decode cL_law 1443 = .ok (.invokevirtual 195, 3) := dk_182 0 195 (dk_at dksL_law_55 13 rfl rfl)
theorem dL_law_1446 : decode cL_law 1446 = .ok (.aload_n 2, 1) := dk_44 (dk_at dksL_law_55 16 rfl rfl)
theorem dL_law_1447 : decode cL_law 1447 = .ok (.invokevirtual 198, 3) := dk_182 0 198 (dk_at dksL_law_55 17 rfl rfl)
theorem dL_law_1450 : decode cL_law 1450 = .ok (.if_icmp .eq 504, 3) := dk_159 1 248 (dk_at dksL_law_55 20 rfl rfl)
theorem dL_law_1453 : decode cL_law 1453 = .ok (.iconst 0, 1) := dk_3 (dk_at dksL_law_55 23 rfl rfl)
theorem dL_law_1454 : decode cL_law 1454 = .ok (.ireturn, 1) := dk_172 (dk_at dksL_law_56 0 rfl rfl)
theorem dL_law_1455 : decode cL_law 1455 = .ok (.aload_n 1, 1) := dk_43 (dk_at dksL_law_56 1 rfl rfl)
theorem dL_law_1456 : decode cL_law 1456 = .ok (.invokevirtual 199, 3) := dk_182 0 199 (dk_at dksL_law_56 2 rfl rfl)
theorem dL_law_1459 : decode cL_law 1459 = .ok (.aload_n 2, 1) := dk_44 (dk_at dksL_law_56 5 rfl rfl)
theorem dL_law_1460 : decode cL_law 1460 = .ok (.invokevirtual 202, 3) := dk_182 0 202 (dk_at dksL_law_56 6 rfl rfl)
theorem dL_law_1463 : decode cL_law 1463 = .ok (.if_icmp .eq 491, 3) := dk_159 1 235 (dk_at dksL_law_56 9 rfl rfl)
theorem dL_law_1466 : decode cL_law 1466 = .ok (.iconst 0, 1) := dk_3 (dk_at dksL_law_56 12 rfl rfl)
theorem dL_law_1467 : decode cL_law 1467 = .ok (.ireturn, 1) := dk_172 (dk_at dksL_law_56 13 rfl rfl)
theorem dL_law_1468 : decode cL_law 1468 = .ok (.aload_n 1, 1) := dk_43 (dk_at dksL_law_56 14 rfl rfl)
theorem dL_law_1469 : decode cL_law 1469 = .ok (.aload_n 0, 1) := dk_42 (dk_at dksL_law_56 15 rfl rfl)
theorem dL_law_1470 : decode cL_law 1470 = .ok (.iload 4, 2) := dk_21 4 (dk_at dksL_law_56 16 rfl rfl)
theorem dL_law_1472 : decode cL_law 1472 = .ok (.iconst 1, 1) := dk_4 (dk_at dksL_law_56 18 rfl rfl)
theorem dL_law_1473 : decode cL_law 1473 = .ok (.iadd, 1) := dk_96 (dk_at dksL_law_56 19 rfl rfl)
theorem dL_law_1474 : decode cL_law 1474 = .ok (.iaload, 1) := dk_46 (dk_at dksL_law_56 20 rfl rfl)
theorem dL_law_1475 : decode cL_law 1475 = .ok (.invokevirtual 203, 3) := dk_182 0 203 (dk_at dksL_law_56 21 rfl rfl)
theorem dL_law_1478 : decode cL_law 1478 = .ok (.aload_n 2, 1) := dk_44 (dk_at dksL_law_57 0 rfl rfl)
theorem dL_law_1479 : decode cL_law 1479 = .ok (.aload_n 0, 1) := dk_42 (dk_at dksL_law_57 1 rfl rfl)
theorem dL_law_1480 : decode cL_law 1480 = .ok (.iload 4, 2) := dk_21 4 (dk_at dksL_law_57 2 rfl rfl)
theorem dL_law_1482 : decode cL_law 1482 = .ok (.iconst 1, 1) := dk_4 (dk_at dksL_law_57 4 rfl rfl)
theorem dL_law_1483 : decode cL_law 1483 = .ok (.iadd, 1) := dk_96 (dk_at dksL_law_57 5 rfl rfl)
theorem dL_law_1484 : decode cL_law 1484 = .ok (.iaload, 1) := dk_46 (dk_at dksL_law_57 6 rfl rfl)
theorem dL_law_1485 : decode cL_law 1485 = .ok (.invokevirtual 206, 3) := dk_182 0 206 (dk_at dksL_law_57 7 rfl rfl)
theorem dL_law_1488 : decode cL_law 1488 = .ok (.if_icmp .eq 466, 3) := dk_159 1 210 (dk_at dksL_law_57 10 rfl rfl)
theorem dL_law_1491 : decode cL_law 1491 = .ok (.iconst 0, 1) := dk_3 (dk_at dksL_law_57 13 rfl rfl)
theorem dL_law_1492 : decode cL_law 1492 = .ok (.ireturn, 1) := dk_172 (dk_at dksL_law_57 14 rfl rfl)
theorem dL_law_1493 : decode cL_law 1493 = .ok (.aload_n 1, 1) := dk_43 (dk_at dksL_law_57 15 rfl rfl)
theorem dL_law_1494 : decode cL_law 1494 = .ok (.invokevirtual 207, 3) := dk_182 0 207 (dk_at dksL_law_57 16 rfl rfl)
theorem dL_law_1497 : decode cL_law 1497 = .ok (.aload_n 2, 1) := dk_44 (dk_at dksL_law_57 19 rfl rfl)
theorem dL_law_1498 : decode cL_law 1498 = .ok (.invokevirtual 210, 3) := dk_182 0 210 (dk_at dksL_law_57 20 rfl rfl)
theorem dL_law_1501 : decode cL_law 1501 = .ok (.if_icmp .eq 453, 3) := dk_159 1 197 (dk_at dksL_law_58 0 rfl rfl)
theorem dL_law_1504 : decode cL_law 1504 = .ok (.iconst 0, 1) := dk_3 (dk_at dksL_law_58 3 rfl rfl)
theorem dL_law_1505 : decode cL_law 1505 = .ok (.ireturn, 1) := dk_172 (dk_at dksL_law_58 4 rfl rfl)
theorem dL_law_1506 : decode cL_law 1506 = .ok (.aload_n 1, 1) := dk_43 (dk_at dksL_law_58 5 rfl rfl)
theorem dL_law_1507 : decode cL_law 1507 = .ok (.invokevirtual 211, 3) := dk_182 0 211 (dk_at dksL_law_58 6 rfl rfl)
theorem dL_law_1510 : decode cL_law 1510 = .ok (.aload_n 2, 1) := dk_44 (dk_at dksL_law_58 9 rfl rfl)
theorem dL_law_1511 : decode cL_law 1511 = .ok (.invokevirtual 214, 3) := dk_182 0 214 (dk_at dksL_law_58 10 rfl rfl)
theorem dL_law_1514 : decode cL_law 1514 = .ok (.if_icmp .eq 440, 3) := dk_159 1 184 (dk_at dksL_law_58 13 rfl rfl)
theorem dL_law_1517 : decode cL_law 1517 = .ok (.iconst 0, 1) := dk_3 (dk_at dksL_law_58 16 rfl rfl)
theorem dL_law_1518 : decode cL_law 1518 = .ok (.ireturn, 1) := dk_172 (dk_at dksL_law_58 17 rfl rfl)
theorem dL_law_1519 : decode cL_law 1519 = .ok (.aload_n 1, 1) := dk_43 (dk_at dksL_law_58 18 rfl rfl)
theorem dL_law_1520 : decode cL_law 1520 = .ok (.aload_n 0, 1) := dk_42 (dk_at dksL_law_58 19 rfl rfl)
theorem dL_law_1521 : decode cL_law 1521 = .ok (.iload 4, 2) := dk_21 4 (dk_at dksL_law_58 20 rfl rfl)
theorem dL_law_1523 : decode cL_law 1523 = .ok (.iconst 1, 1) := dk_4 (dk_at dksL_law_58 22 rfl rfl)
theorem dL_law_1524 : decode cL_law 1524 = .ok (.iadd, 1) := dk_96 (dk_at dksL_law_58 23 rfl rfl)
theorem dL_law_1525 : decode cL_law 1525 = .ok (.iaload, 1) := dk_46 (dk_at dksL_law_59 0 rfl rfl)
theorem dL_law_1526 : decode cL_law 1526 = .ok (.invokevirtual 215, 3) := dk_182 0 215 (dk_at dksL_law_59 1 rfl rfl)
theorem dL_law_1529 : decode cL_law 1529 = .ok (.aload_n 2, 1) := dk_44 (dk_at dksL_law_59 4 rfl rfl)
theorem dL_law_1530 : decode cL_law 1530 = .ok (.aload_n 0, 1) := dk_42 (dk_at dksL_law_59 5 rfl rfl)
theorem dL_law_1531 : decode cL_law 1531 = .ok (.iload 4, 2) := dk_21 4 (dk_at dksL_law_59 6 rfl rfl)
theorem dL_law_1533 : decode cL_law 1533 = .ok (.iconst 1, 1) := dk_4 (dk_at dksL_law_59 8 rfl rfl)
theorem dL_law_1534 : decode cL_law 1534 = .ok (.iadd, 1) := dk_96 (dk_at dksL_law_59 9 rfl rfl)
theorem dL_law_1535 : decode cL_law 1535 = .ok (.iaload, 1) := dk_46 (dk_at dksL_law_59 10 rfl rfl)
theorem dL_law_1536 : decode cL_law 1536 = .ok (.invokevirtual 218, 3) := dk_182 0 218 (dk_at dksL_law_59 11 rfl rfl)
theorem dL_law_1539 : decode cL_law 1539 = .ok (.if_icmp .eq 415, 3) := dk_159 1 159 (dk_at dksL_law_59 14 rfl rfl)
theorem dL_law_1542 : decode cL_law 1542 = .ok (.iconst 0, 1) := dk_3 (dk_at dksL_law_59 17 rfl rfl)
theorem dL_law_1543 : decode cL_law 1543 = .ok (.ireturn, 1) := dk_172 (dk_at dksL_law_59 18 rfl rfl)
theorem dL_law_1544 : decode cL_law 1544 = .ok (.aload_n 1, 1) := dk_43 (dk_at dksL_law_59 19 rfl rfl)
theorem dL_law_1545 : decode cL_law 1545 = .ok (.invokevirtual 219, 3) := dk_182 0 219 (dk_at dksL_law_59 20 rfl rfl)
theorem dL_law_1548 : decode cL_law 1548 = .ok (.aload_n 2, 1) := dk_44 (dk_at dksL_law_59 23 rfl rfl)
theorem dL_law_1549 : decode cL_law 1549 = .ok (.invokevirtual 222, 3) := dk_182 0 222 (dk_at dksL_law_60 0 rfl rfl)
theorem dL_law_1552 : decode cL_law 1552 = .ok (.if_icmp .eq 402, 3) := dk_159 1 146 (dk_at dksL_law_60 3 rfl rfl)
theorem dL_law_1555 : decode cL_law 1555 = .ok (.iconst 0, 1) := dk_3 (dk_at dksL_law_60 6 rfl rfl)
theorem dL_law_1556 : decode cL_law 1556 = .ok (.ireturn, 1) := dk_172 (dk_at dksL_law_60 7 rfl rfl)
theorem dL_law_1557 : decode cL_law 1557 = .ok (.aload_n 1, 1) := dk_43 (dk_at dksL_law_60 8 rfl rfl)
theorem dL_law_1558 : decode cL_law 1558 = .ok (.aload_n 0, 1) := dk_42 (dk_at dksL_law_60 9 rfl rfl)
theorem dL_law_1559 : decode cL_law 1559 = .ok (.iload 4, 2) := dk_21 4 (dk_at dksL_law_60 10 rfl rfl)
theorem dL_law_1561 : decode cL_law 1561 = .ok (.iconst 1, 1) := dk_4 (dk_at dksL_law_60 12 rfl rfl)
theorem dL_law_1562 : decode cL_law 1562 = .ok (.iadd, 1) := dk_96 (dk_at dksL_law_60 13 rfl rfl)
theorem dL_law_1563 : decode cL_law 1563 = .ok (.iaload, 1) := dk_46 (dk_at dksL_law_60 14 rfl rfl)
theorem dL_law_1564 : decode cL_law 1564 = .ok (.aload_n 3, 1) := dk_45 (dk_at dksL_law_60 15 rfl rfl)
theorem dL_law_1565 : decode cL_law 1565 = .ok (.invokestatic 223, 3) := dk_184 0 223 (dk_at dksL_law_60 16 rfl rfl)
theorem dL_law_1568 : decode cL_law 1568 = .ok (.istore 5, 2) := dk_54 5 (dk_at dksL_law_60 19 rfl rfl)
theorem dL_law_1570 : decode cL_law 1570 = .ok (.aload_n 2, 1) := dk_44 (dk_at dksL_law_60 21 rfl rfl)
theorem dL_law_1571 : decode cL_law 1571 = .ok (.aload_n 0, 1) := dk_42 (dk_at dksL_law_60 22 rfl rfl)
theorem dL_law_1572 : decode cL_law 1572 = .ok (.iload 4, 2) := dk_21 4 (dk_at dksL_law_61 0 rfl rfl)
theorem dL_law_1574 : decode cL_law 1574 = .ok (.iconst 1, 1) := dk_4 (dk_at dksL_law_61 2 rfl rfl)
theorem dL_law_1575 : decode cL_law 1575 = .ok (.iadd, 1) := dk_96 (dk_at dksL_law_61 3 rfl rfl)
theorem dL_law_1576 : decode cL_law 1576 = .ok (.iaload, 1) := dk_46 (dk_at dksL_law_61 4 rfl rfl)
theorem dL_law_1577 : decode cL_law 1577 = .ok (.invokevirtual 225, 3) := dk_182 0 225 (dk_at dksL_law_61 5 rfl rfl)
theorem dL_law_1580 : decode cL_law 1580 = .ok (.istore 6, 2) := dk_54 6 (dk_at dksL_law_61 8 rfl rfl)
theorem dL_law_1582 : decode cL_law 1582 = .ok (.aload_n 2, 1) := dk_44 (dk_at dksL_law_61 10 rfl rfl)
theorem dL_law_1583 : decode cL_law 1583 = .ok (.invokevirtual 102, 3) := dk_182 0 102 (dk_at dksL_law_61 11 rfl rfl)
theorem dL_law_1586 : decode cL_law 1586 = .ok (.iload 5, 2) := dk_21 5 (dk_at dksL_law_61 14 rfl rfl)
theorem dL_law_1588 : decode cL_law 1588 = .ok (.if_icmp .eq 5, 3) := dk_159 0 5 (dk_at dksL_law_61 16 rfl rfl)
theorem dL_law_1591 : decode cL_law 1591 = .ok (.iconst 0, 1) := dk_3 (dk_at dksL_law_61 19 rfl rfl)
theorem dL_law_1592 : decode cL_law 1592 = .ok (.ireturn, 1) := dk_172 (dk_at dksL_law_61 20 rfl rfl)
theorem dL_law_1593 : decode cL_law 1593 = .ok (.iload 5, 2) := dk_21 5 (dk_at dksL_law_61 21 rfl rfl)
theorem dL_law_1595 : decode cL_law 1595 = .ok (.ifCond .ne 15, 3) := dk_154 0 15 (dk_at dksL_law_62 0 rfl rfl)
theorem dL_law_1598 : decode cL_law 1598 = .ok (.aload_n 3, 1) := dk_45 (dk_at dksL_law_62 3 rfl rfl)
theorem dL_law_1599 : decode cL_law 1599 = .ok (.iconst 0, 1) := dk_3 (dk_at dksL_law_62 4 rfl rfl)
theorem dL_law_1600 : decode cL_law 1600 = .ok (.laload, 1) := dk_47 (dk_at dksL_law_62 5 rfl rfl)
theorem dL_law_1601 : decode cL_law 1601 = .ok (.iload 6, 2) := dk_21 6 (dk_at dksL_law_62 6 rfl rfl)
theorem dL_law_1603 : decode cL_law 1603 = .ok (.i2l, 1) := dk_133 (dk_at dksL_law_62 8 rfl rfl)
theorem dL_law_1604 : decode cL_law 1604 = .ok (.lcmp, 1) := dk_148 (dk_at dksL_law_62 9 rfl rfl)
theorem dL_law_1605 : decode cL_law 1605 = .ok (.ifCond .eq 5, 3) := dk_153 0 5 (dk_at dksL_law_62 10 rfl rfl)
theorem dL_law_1608 : decode cL_law 1608 = .ok (.iconst 0, 1) := dk_3 (dk_at dksL_law_62 13 rfl rfl)
theorem dL_law_1609 : decode cL_law 1609 = .ok (.ireturn, 1) := dk_172 (dk_at dksL_law_62 14 rfl rfl)
theorem dL_law_1610 : decode cL_law 1610 = .ok (.goto 344, 3) := dk_167 1 88 (dk_at dksL_law_62 15 rfl rfl)
theorem dL_law_1613 : decode cL_law 1613 = .ok (.aload_n 1, 1) := dk_43 (dk_at dksL_law_62 18 rfl rfl)
theorem dL_law_1614 : decode cL_law 1614 = .ok (.aload_n 0, 1) := dk_42 (dk_at dksL_law_62 19 rfl rfl)
theorem dL_law_1615 : decode cL_law 1615 = .ok (.iload 4, 2) := dk_21 4 (dk_at dksL_law_62 20 rfl rfl)
theorem dL_law_1617 : decode cL_law 1617 = .ok (.iconst 1, 1) := dk_4 (dk_at dksL_law_62 22 rfl rfl)
theorem dL_law_1618 : decode cL_law 1618 = .ok (.iadd, 1) := dk_96 (dk_at dksL_law_62 23 rfl rfl)
theorem dL_law_1619 : decode cL_law 1619 = .ok (.iaload, 1) := dk_46 (dk_at dksL_law_63 0 rfl rfl)
theorem dL_law_1620 : decode cL_law 1620 = .ok (.aload_n 3, 1) := dk_45 (dk_at dksL_law_63 1 rfl rfl)
theorem dL_law_1621 : decode cL_law 1621 = .ok (.invokestatic 226, 3) := dk_184 0 226 (dk_at dksL_law_63 2 rfl rfl)
theorem dL_law_1624 : decode cL_law 1624 = .ok (.istore 5, 2) := dk_54 5 (dk_at dksL_law_63 5 rfl rfl)
theorem dL_law_1626 : decode cL_law 1626 = .ok (.aload_n 2, 1) := dk_44 (dk_at dksL_law_63 7 rfl rfl)
theorem dL_law_1627 : decode cL_law 1627 = .ok (.aload_n 0, 1) := dk_42 (dk_at dksL_law_63 8 rfl rfl)
theorem dL_law_1628 : decode cL_law 1628 = .ok (.iload 4, 2) := dk_21 4 (dk_at dksL_law_63 9 rfl rfl)
theorem dL_law_1630 : decode cL_law 1630 = .ok (.iconst 1, 1) := dk_4 (dk_at dksL_law_63 11 rfl rfl)
theorem dL_law_1631 : decode cL_law 1631 = .ok (.iadd, 1) := dk_96 (dk_at dksL_law_63 12 rfl rfl)
theorem dL_law_1632 : decode cL_law 1632 = .ok (.iaload, 1) := dk_46 (dk_at dksL_law_63 13 rfl rfl)
theorem dL_law_1633 : decode cL_law 1633 = .ok (.invokevirtual 228, 3) := dk_182 0 228 (dk_at dksL_law_63 14 rfl rfl)
theorem dL_law_1636 : decode cL_law 1636 = .ok (.istore 6, 2) := dk_54 6 (dk_at dksL_law_63 17 rfl rfl)
theorem dL_law_1638 : decode cL_law 1638 = .ok (.aload_n 2, 1) := dk_44 (dk_at dksL_law_63 19 rfl rfl)
theorem dL_law_1639 : decode cL_law 1639 = .ok (.invokevirtual 102, 3) := dk_182 0 102 (dk_at dksL_law_63 20 rfl rfl)
theorem dL_law_1642 : decode cL_law 1642 = .ok (.iload 5, 2) := dk_21 5 (dk_at dksL_law_64 0 rfl rfl)
theorem dL_law_1644 : decode cL_law 1644 = .ok (.if_icmp .eq 5, 3) := dk_159 0 5 (dk_at dksL_law_64 2 rfl rfl)
theorem dL_law_1647 : decode cL_law 1647 = .ok (.iconst 0, 1) := dk_3 (dk_at dksL_law_64 5 rfl rfl)
theorem dL_law_1648 : decode cL_law 1648 = .ok (.ireturn, 1) := dk_172 (dk_at dksL_law_64 6 rfl rfl)
theorem dL_law_1649 : decode cL_law 1649 = .ok (.iload 5, 2) := dk_21 5 (dk_at dksL_law_64 7 rfl rfl)
theorem dL_law_1651 : decode cL_law 1651 = .ok (.ifCond .ne 15, 3) := dk_154 0 15 (dk_at dksL_law_64 9 rfl rfl)
theorem dL_law_1654 : decode cL_law 1654 = .ok (.aload_n 3, 1) := dk_45 (dk_at dksL_law_64 12 rfl rfl)
theorem dL_law_1655 : decode cL_law 1655 = .ok (.iconst 0, 1) := dk_3 (dk_at dksL_law_64 13 rfl rfl)
theorem dL_law_1656 : decode cL_law 1656 = .ok (.laload, 1) := dk_47 (dk_at dksL_law_64 14 rfl rfl)
theorem dL_law_1657 : decode cL_law 1657 = .ok (.iload 6, 2) := dk_21 6 (dk_at dksL_law_64 15 rfl rfl)
theorem dL_law_1659 : decode cL_law 1659 = .ok (.i2l, 1) := dk_133 (dk_at dksL_law_64 17 rfl rfl)
theorem dL_law_1660 : decode cL_law 1660 = .ok (.lcmp, 1) := dk_148 (dk_at dksL_law_64 18 rfl rfl)
theorem dL_law_1661 : decode cL_law 1661 = .ok (.ifCond .eq 5, 3) := dk_153 0 5 (dk_at dksL_law_64 19 rfl rfl)
theorem dL_law_1664 : decode cL_law 1664 = .ok (.iconst 0, 1) := dk_3 (dk_at dksL_law_64 22 rfl rfl)
theorem dL_law_1665 : decode cL_law 1665 = .ok (.ireturn, 1) := dk_172 (dk_at dksL_law_64 23 rfl rfl)
theorem dL_law_1666 : decode cL_law 1666 = .ok (.goto 288, 3) := dk_167 1 32 (dk_at dksL_law_65 0 rfl rfl)
theorem dL_law_1669 : decode cL_law 1669 = .ok (.aload_n 1, 1) := dk_43 (dk_at dksL_law_65 3 rfl rfl)
theorem dL_law_1670 : decode cL_law 1670 = .ok (.aload_n 0, 1) := dk_42 (dk_at dksL_law_65 4 rfl rfl)
theorem dL_law_1671 : decode cL_law 1671 = .ok (.iload 4, 2) := dk_21 4 (dk_at dksL_law_65 5 rfl rfl)
theorem dL_law_1673 : decode cL_law 1673 = .ok (.iconst 1, 1) := dk_4 (dk_at dksL_law_65 7 rfl rfl)
theorem dL_law_1674 : decode cL_law 1674 = .ok (.iadd, 1) := dk_96 (dk_at dksL_law_65 8 rfl rfl)
theorem dL_law_1675 : decode cL_law 1675 = .ok (.iaload, 1) := dk_46 (dk_at dksL_law_65 9 rfl rfl)
theorem dL_law_1676 : decode cL_law 1676 = .ok (.aload_n 3, 1) := dk_45 (dk_at dksL_law_65 10 rfl rfl)
theorem dL_law_1677 : decode cL_law 1677 = .ok (.invokestatic 229, 3) := dk_184 0 229 (dk_at dksL_law_65 11 rfl rfl)
theorem dL_law_1680 : decode cL_law 1680 = .ok (.istore 5, 2) := dk_54 5 (dk_at dksL_law_65 14 rfl rfl)
theorem dL_law_1682 : decode cL_law 1682 = .ok (.aload_n 2, 1) := dk_44 (dk_at dksL_law_65 16 rfl rfl)
theorem dL_law_1683 : decode cL_law 1683 = .ok (.aload_n 0, 1) := dk_42 (dk_at dksL_law_65 17 rfl rfl)
theorem dL_law_1684 : decode cL_law 1684 = .ok (.iload 4, 2) := dk_21 4 (dk_at dksL_law_65 18 rfl rfl)
theorem dL_law_1686 : decode cL_law 1686 = .ok (.iconst 1, 1) := dk_4 (dk_at dksL_law_65 20 rfl rfl)
theorem dL_law_1687 : decode cL_law 1687 = .ok (.iadd, 1) := dk_96 (dk_at dksL_law_65 21 rfl rfl)
theorem dL_law_1688 : decode cL_law 1688 = .ok (.iaload, 1) := dk_46 (dk_at dksL_law_65 22 rfl rfl)
theorem dL_law_1689 : decode cL_law 1689 = .ok (.invokevirtual 231, 3) := dk_182 0 231 (dk_at dksL_law_66 0 rfl rfl)
theorem dL_law_1692 : decode cL_law 1692 = .ok (.istore 6, 2) := dk_54 6 (dk_at dksL_law_66 3 rfl rfl)
theorem dL_law_1694 : decode cL_law 1694 = .ok (.aload_n 2, 1) := dk_44 (dk_at dksL_law_66 5 rfl rfl)
theorem dL_law_1695 : decode cL_law 1695 = .ok (.invokevirtual 102, 3) := dk_182 0 102 (dk_at dksL_law_66 6 rfl rfl)
theorem dL_law_1698 : decode cL_law 1698 = .ok (.iload 5, 2) := dk_21 5 (dk_at dksL_law_66 9 rfl rfl)
theorem dL_law_1700 : decode cL_law 1700 = .ok (.if_icmp .eq 5, 3) := dk_159 0 5 (dk_at dksL_law_66 11 rfl rfl)
theorem dL_law_1703 : decode cL_law 1703 = .ok (.iconst 0, 1) := dk_3 (dk_at dksL_law_66 14 rfl rfl)
theorem dL_law_1704 : decode cL_law 1704 = .ok (.ireturn, 1) := dk_172 (dk_at dksL_law_66 15 rfl rfl)
theorem dL_law_1705 : decode cL_law 1705 = .ok (.iload 5, 2) := dk_21 5 (dk_at dksL_law_66 16 rfl rfl)
theorem dL_law_1707 : decode cL_law 1707 = .ok (.ifCond .ne 22, 3) := dk_154 0 22 (dk_at dksL_law_66 18 rfl rfl)
theorem dL_law_1710 : decode cL_law 1710 = .ok (.aload_n 3, 1) := dk_45 (dk_at dksL_law_66 21 rfl rfl)
theorem dL_law_1711 : decode cL_law 1711 = .ok (.iconst 0, 1) := dk_3 (dk_at dksL_law_66 22 rfl rfl)
theorem dL_law_1712 : decode cL_law 1712 = .ok (.laload, 1) := dk_47 (dk_at dksL_law_66 23 rfl rfl)
theorem dL_law_1713 : decode cL_law 1713 = .ok (.iload 6, 2) := dk_21 6 (dk_at dksL_law_67 0 rfl rfl)
theorem dL_law_1715 : decode cL_law 1715 = .ok (.ifCond .eq 7, 3) := dk_153 0 7 (dk_at dksL_law_67 2 rfl rfl)
theorem dL_law_1718 : decode cL_law 1718 = .ok (.lconst 1, 1) := dk_10 (dk_at dksL_law_67 5 rfl rfl)
theorem dL_law_1719 : decode cL_law 1719 = .ok (.goto 4, 3) := dk_167 0 4 (dk_at dksL_law_67 6 rfl rfl)
theorem dL_law_1722 : decode cL_law 1722 = .ok (.lconst 0, 1) := dk_9 (dk_at dksL_law_67 9 rfl rfl)
theorem dL_law_1723 : decode cL_law 1723 = .ok (.lcmp, 1) := dk_148 (dk_at dksL_law_67 10 rfl rfl)
theorem dL_law_1724 : decode cL_law 1724 = .ok (.ifCond .eq 5, 3) := dk_153 0 5 (dk_at dksL_law_67 11 rfl rfl)
theorem dL_law_1727 : decode cL_law 1727 = .ok (.iconst 0, 1) := dk_3 (dk_at dksL_law_67 14 rfl rfl)
theorem dL_law_1728 : decode cL_law 1728 = .ok (.ireturn, 1) := dk_172 (dk_at dksL_law_67 15 rfl rfl)
theorem dL_law_1729 : decode cL_law 1729 = .ok (.goto 225, 3) := dk_167 0 225 (dk_at dksL_law_67 16 rfl rfl)
theorem dL_law_1732 : decode cL_law 1732 = .ok (.aload_n 1, 1) := dk_43 (dk_at dksL_law_67 19 rfl rfl)
theorem dL_law_1733 : decode cL_law 1733 = .ok (.aload_n 3, 1) := dk_45 (dk_at dksL_law_67 20 rfl rfl)
theorem dL_law_1734 : decode cL_law 1734 = .ok (.invokestatic 232, 3) := dk_184 0 232 (dk_at dksL_law_67 21 rfl rfl)
theorem dL_law_1737 : decode cL_law 1737 = .ok (.istore 5, 2) := dk_54 5 (dk_at dksL_law_68 0 rfl rfl)
theorem dL_law_1739 : decode cL_law 1739 = .ok (.aload_n 2, 1) := dk_44 (dk_at dksL_law_68 2 rfl rfl)
theorem dL_law_1740 : decode cL_law 1740 = .ok (.invokevirtual 234, 3) := dk_182 0 234 (dk_at dksL_law_68 3 rfl rfl)
theorem dL_law_1743 : decode cL_law 1743 = .ok (.istore 6, 2) := dk_54 6 (dk_at dksL_law_68 6 rfl rfl)
theorem dL_law_1745 : decode cL_law 1745 = .ok (.aload_n 2, 1) := dk_44 (dk_at dksL_law_68 8 rfl rfl)
theorem dL_law_1746 : decode cL_law 1746 = .ok (.invokevirtual 102, 3) := dk_182 0 102 (dk_at dksL_law_68 9 rfl rfl)
theorem dL_law_1749 : decode cL_law 1749 = .ok (.iload 5, 2) := dk_21 5 (dk_at dksL_law_68 12 rfl rfl)
theorem dL_law_1751 : decode cL_law 1751 = .ok (.if_icmp .eq 5, 3) := dk_159 0 5 (dk_at dksL_law_68 14 rfl rfl)
theorem dL_law_1754 : decode cL_law 1754 = .ok (.iconst 0, 1) := dk_3 (dk_at dksL_law_68 17 rfl rfl)
theorem dL_law_1755 : decode cL_law 1755 = .ok (.ireturn, 1) := dk_172 (dk_at dksL_law_68 18 rfl rfl)
theorem dL_law_1756 : decode cL_law 1756 = .ok (.iload 5, 2) := dk_21 5 (dk_at dksL_law_68 19 rfl rfl)
theorem dL_law_1758 : decode cL_law 1758 = .ok (.ifCond .ne 15, 3) := dk_154 0 15 (dk_at dksL_law_68 21 rfl rfl)
theorem dL_law_1761 : decode cL_law 1761 = .ok (.aload_n 3, 1) := dk_45 (dk_at dksL_law_69 0 rfl rfl)
theorem dL_law_1762 : decode cL_law 1762 = .ok (.iconst 0, 1) := dk_3 (dk_at dksL_law_69 1 rfl rfl)
theorem dL_law_1763 : decode cL_law 1763 = .ok (.laload, 1) := dk_47 (dk_at dksL_law_69 2 rfl rfl)
theorem dL_law_1764 : decode cL_law 1764 = .ok (.iload 6, 2) := dk_21 6 (dk_at dksL_law_69 3 rfl rfl)
theorem dL_law_1766 : decode cL_law 1766 = .ok (.i2l, 1) := dk_133 (dk_at dksL_law_69 5 rfl rfl)
theorem dL_law_1767 : decode cL_law 1767 = .ok (.lcmp, 1) := dk_148 (dk_at dksL_law_69 6 rfl rfl)
theorem dL_law_1768 : decode cL_law 1768 = .ok (.ifCond .eq 5, 3) := dk_153 0 5 (dk_at dksL_law_69 7 rfl rfl)
theorem dL_law_1771 : decode cL_law 1771 = .ok (.iconst 0, 1) := dk_3 (dk_at dksL_law_69 10 rfl rfl)
theorem dL_law_1772 : decode cL_law 1772 = .ok (.ireturn, 1) := dk_172 (dk_at dksL_law_69 11 rfl rfl)
theorem dL_law_1773 : decode cL_law 1773 = .ok (.goto 181, 3) := dk_167 0 181 (dk_at dksL_law_69 12 rfl rfl)
theorem dL_law_1776 : decode cL_law 1776 = .ok (.aload_n 1, 1) := dk_43 (dk_at dksL_law_69 15 rfl rfl)
theorem dL_law_1777 : decode cL_law 1777 = .ok (.invokevirtual 235, 3) := dk_182 0 235 (dk_at dksL_law_69 16 rfl rfl)
theorem dL_law_1780 : decode cL_law 1780 = .ok (.aload_n 2, 1) := dk_44 (dk_at dksL_law_69 19 rfl rfl)
theorem dL_law_1781 : decode cL_law 1781 = .ok (.invokevirtual 238, 3) := dk_182 0 238 (dk_at dksL_law_69 20 rfl rfl)
theorem dL_law_1784 : decode cL_law 1784 = .ok (.if_icmp .eq 170, 3) := dk_159 0 170 (dk_at dksL_law_70 0 rfl rfl)
theorem dL_law_1787 : decode cL_law 1787 = .ok (.iconst 0, 1) := dk_3 (dk_at dksL_law_70 3 rfl rfl)
theorem dL_law_1788 : decode cL_law 1788 = .ok (.ireturn, 1) := dk_172 (dk_at dksL_law_70 4 rfl rfl)
theorem dL_law_1789 : decode cL_law 1789 = .ok (.aload_n 1, 1) := dk_43 (dk_at dksL_law_70 5 rfl rfl)
theorem dL_law_1790 : decode cL_law 1790 = .ok (.invokevirtual 239, 3) := dk_182 0 239 (dk_at dksL_law_70 6 rfl rfl)
theorem dL_law_1793 : decode cL_law 1793 = .ok (.dstore 5, 2) := dk_57 5 (dk_at dksL_law_70 9 rfl rfl)
theorem dL_law_1795 : decode cL_law 1795 = .ok (.aload_n 2, 1) := dk_44 (dk_at dksL_law_70 11 rfl rfl)
theorem dL_law_1796 : decode cL_law 1796 = .ok (.invokevirtual 243, 3) := dk_182 0 243 (dk_at dksL_law_70 12 rfl rfl)
theorem dL_law_1799 : decode cL_law 1799 = .ok (.dstore 7, 2) := dk_57 7 (dk_at dksL_law_70 15 rfl rfl)
theorem dL_law_1801 : decode cL_law 1801 = .ok (.dload 5, 2) := dk_24 5 (dk_at dksL_law_70 17 rfl rfl)
theorem dL_law_1803 : decode cL_law 1803 = .ok (.dload 7, 2) := dk_24 7 (dk_at dksL_law_70 19 rfl rfl)
theorem dL_law_1805 : decode cL_law 1805 = .ok (.dcmp .l, 1) := dk_151 (dk_at dksL_law_70 21 rfl rfl)
theorem dL_law_1806 : decode cL_law 1806 = .ok (.ifCond .eq 21, 3) := dk_153 0 21 (dk_at dksL_law_71 0 rfl rfl)
theorem dL_law_1809 : decode cL_law 1809 = .ok (.dload 5, 2) := dk_24 5 (dk_at dksL_law_71 3 rfl rfl)
theorem dL_law_1811 : decode cL_law 1811 = .ok (.dload 5, 2) := dk_24 5 (dk_at dksL_law_71 5 rfl rfl)
theorem dL_law_1813 : decode cL_law 1813 = .ok (.dcmp .l, 1) := dk_151 (dk_at dksL_law_71 7 rfl rfl)
theorem dL_law_1814 : decode cL_law 1814 = .ok (.ifCond .eq 11, 3) := dk_153 0 11 (dk_at dksL_law_71 8 rfl rfl)
theorem dL_law_1817 : decode cL_law 1817 = .ok (.dload 7, 2) := dk_24 7 (dk_at dksL_law_71 11 rfl rfl)
theorem dL_law_1819 : decode cL_law 1819 = .ok (.dload 7, 2) := dk_24 7 (dk_at dksL_law_71 13 rfl rfl)
theorem dL_law_1821 : decode cL_law 1821 = .ok (.dcmp .l, 1) := dk_151 (dk_at dksL_law_71 15 rfl rfl)
theorem dL_law_1822 : decode cL_law 1822 = .ok (.ifCond .ne 5, 3) := dk_154 0 5 (dk_at dksL_law_71 16 rfl rfl)
theorem dL_law_1825 : decode cL_law 1825 = .ok (.iconst 0, 1) := dk_3 (dk_at dksL_law_71 19 rfl rfl)
theorem dL_law_1826 : decode cL_law 1826 = .ok (.ireturn, 1) := dk_172 (dk_at dksL_law_71 20 rfl rfl)
theorem dL_law_1827 : decode cL_law 1827 = .ok (.goto 127, 3) := dk_167 0 127 (dk_at dksL_law_71 21 rfl rfl)
theorem dL_law_1830 : decode cL_law 1830 = .ok (.aload_n 1, 1) := dk_43 (dk_at dksL_law_72 0 rfl rfl)
theorem dL_law_1831 : decode cL_law 1831 = .ok (.invokevirtual 244, 3) := dk_182 0 244 (dk_at dksL_law_72 1 rfl rfl)
theorem dL_law_1834 : decode cL_law 1834 = .ok (.f2d, 1) := dk_141 (dk_at dksL_law_72 4 rfl rfl)
theorem dL_law_1835 : decode cL_law 1835 = .ok (.dstore 5, 2) := dk_57 5 (dk_at dksL_law_72 5 rfl rfl)
theorem dL_law_1837 : decode cL_law 1837 = .ok (.aload_n 2, 1) := dk_44 (dk_at dksL_law_72 7 rfl rfl)
theorem dL_law_1838 : decode cL_law 1838 = .ok (.invokevirtual 248, 3) := dk_182 0 248 (dk_at dksL_law_72 8 rfl rfl)
theorem dL_law_1841 : decode cL_law 1841 = .ok (.f2d, 1) := dk_141 (dk_at dksL_law_72 11 rfl rfl)
theorem dL_law_1842 : decode cL_law 1842 = .ok (.dstore 7, 2) := dk_57 7 (dk_at dksL_law_72 12 rfl rfl)
theorem dL_law_1844 : decode cL_law 1844 = .ok (.dload 5, 2) := dk_24 5 (dk_at dksL_law_72 14 rfl rfl)
theorem dL_law_1846 : decode cL_law 1846 = .ok (.dload 7, 2) := dk_24 7 (dk_at dksL_law_72 16 rfl rfl)
theorem dL_law_1848 : decode cL_law 1848 = .ok (.dcmp .l, 1) := dk_151 (dk_at dksL_law_72 18 rfl rfl)
theorem dL_law_1849 : decode cL_law 1849 = .ok (.ifCond .eq 21, 3) := dk_153 0 21 (dk_at dksL_law_72 19 rfl rfl)
theorem dL_law_1852 : decode cL_law 1852 = .ok (.dload 5, 2) := dk_24 5 (dk_at dksL_law_72 22 rfl rfl)
theorem dL_law_1854 : decode cL_law 1854 = .ok (.dload 5, 2) := dk_24 5 (dk_at dksL_law_73 0 rfl rfl)
theorem dL_law_1856 : decode cL_law 1856 = .ok (.dcmp .l, 1) := dk_151 (dk_at dksL_law_73 2 rfl rfl)
theorem dL_law_1857 : decode cL_law 1857 = .ok (.ifCond .eq 11, 3) := dk_153 0 11 (dk_at dksL_law_73 3 rfl rfl)
theorem dL_law_1860 : decode cL_law 1860 = .ok (.dload 7, 2) := dk_24 7 (dk_at dksL_law_73 6 rfl rfl)
theorem dL_law_1862 : decode cL_law 1862 = .ok (.dload 7, 2) := dk_24 7 (dk_at dksL_law_73 8 rfl rfl)
theorem dL_law_1864 : decode cL_law 1864 = .ok (.dcmp .l, 1) := dk_151 (dk_at dksL_law_73 10 rfl rfl)
theorem dL_law_1865 : decode cL_law 1865 = .ok (.ifCond .ne 5, 3) := dk_154 0 5 (dk_at dksL_law_73 11 rfl rfl)
theorem dL_law_1868 : decode cL_law 1868 = .ok (.iconst 0, 1) := dk_3 (dk_at dksL_law_73 14 rfl rfl)
theorem dL_law_1869 : decode cL_law 1869 = .ok (.ireturn, 1) := dk_172 (dk_at dksL_law_73 15 rfl rfl)
theorem dL_law_1870 : decode cL_law 1870 = .ok (.goto 84, 3) := dk_167 0 84 (dk_at dksL_law_73 16 rfl rfl)
theorem dL_law_1873 : decode cL_law 1873 = .ok (.aload_n 1, 1) := dk_43 (dk_at dksL_law_73 19 rfl rfl)
theorem dL_law_1874 : decode cL_law 1874 = .ok (.aload_n 0, 1) := dk_42 (dk_at dksL_law_73 20 rfl rfl)
theorem dL_law_1875 : decode cL_law 1875 = .ok (.iload 4, 2) := dk_21 4 (dk_at dksL_law_73 21 rfl rfl)
theorem dL_law_1877 : decode cL_law 1877 = .ok (.iconst 1, 1) := dk_4 (dk_at dksL_law_73 23 rfl rfl)
theorem dL_law_1878 : decode cL_law 1878 = .ok (.iadd, 1) := dk_96 (dk_at dksL_law_74 0 rfl rfl)
theorem dL_law_1879 : decode cL_law 1879 = .ok (.iaload, 1) := dk_46 (dk_at dksL_law_74 1 rfl rfl)
theorem dL_law_1880 : decode cL_law 1880 = .ok (.aload_n 3, 1) := dk_45 (dk_at dksL_law_74 2 rfl rfl)
theorem dL_law_1881 : decode cL_law 1881 = .ok (.invokestatic 249, 3) := dk_184 0 249 (dk_at dksL_law_74 3 rfl rfl)
theorem dL_law_1884 : decode cL_law 1884 = .ok (.istore 5, 2) := dk_54 5 (dk_at dksL_law_74 6 rfl rfl)
theorem dL_law_1886 : decode cL_law 1886 = .ok (.aload_n 2, 1) := dk_44 (dk_at dksL_law_74 8 rfl rfl)
theorem dL_law_1887 : decode cL_law 1887 = .ok (.aload_n 0, 1) := dk_42 (dk_at dksL_law_74 9 rfl rfl)
theorem dL_law_1888 : decode cL_law 1888 = .ok (.iload 4, 2) := dk_21 4 (dk_at dksL_law_74 10 rfl rfl)
theorem dL_law_1890 : decode cL_law 1890 = .ok (.iconst 1, 1) := dk_4 (dk_at dksL_law_74 12 rfl rfl)
theorem dL_law_1891 : decode cL_law 1891 = .ok (.iadd, 1) := dk_96 (dk_at dksL_law_74 13 rfl rfl)
theorem dL_law_1892 : decode cL_law 1892 = .ok (.iaload, 1) := dk_46 (dk_at dksL_law_74 14 rfl rfl)
theorem dL_law_1893 : decode cL_law 1893 = .ok (.invokevirtual 251, 3) := dk_182 0 251 (dk_at dksL_law_74 15 rfl rfl)
theorem dL_law_1896 : decode cL_law 1896 = .ok (.istore 6, 2) := dk_54 6 (dk_at dksL_law_74 18 rfl rfl)
theorem dL_law_1898 : decode cL_law 1898 = .ok (.aload_n 2, 1) := dk_44 (dk_at dksL_law_74 20 rfl rfl)
theorem dL_law_1899 : decode cL_law 1899 = .ok (.invokevirtual 102, 3) := dk_182 0 102 (dk_at dksL_law_74 21 rfl rfl)
theorem dL_law_1902 : decode cL_law 1902 = .ok (.iload 5, 2) := dk_21 5 (dk_at dksL_law_75 0 rfl rfl)
theorem dL_law_1904 : decode cL_law 1904 = .ok (.if_icmp .eq 5, 3) := dk_159 0 5 (dk_at dksL_law_75 2 rfl rfl)
theorem dL_law_1907 : decode cL_law 1907 = .ok (.iconst 0, 1) := dk_3 (dk_at dksL_law_75 5 rfl rfl)
theorem dL_law_1908 : decode cL_law 1908 = .ok (.ireturn, 1) := dk_172 (dk_at dksL_law_75 6 rfl rfl)
theorem dL_law_1909 : decode cL_law 1909 = .ok (.iload 5, 2) := dk_21 5 (dk_at dksL_law_75 7 rfl rfl)
theorem dL_law_1911 : decode cL_law 1911 = .ok (.ifCond .ne 15, 3) := dk_154 0 15 (dk_at dksL_law_75 9 rfl rfl)
theorem dL_law_1914 : decode cL_law 1914 = .ok (.aload_n 3, 1) := dk_45 (dk_at dksL_law_75 12 rfl rfl)
theorem dL_law_1915 : decode cL_law 1915 = .ok (.iconst 0, 1) := dk_3 (dk_at dksL_law_75 13 rfl rfl)
theorem dL_law_1916 : decode cL_law 1916 = .ok (.laload, 1) := dk_47 (dk_at dksL_law_75 14 rfl rfl)
theorem dL_law_1917 : decode cL_law 1917 = .ok (.iload 6, 2) := dk_21 6 (dk_at dksL_law_75 15 rfl rfl)
theorem dL_law_1919 : decode cL_law 1919 = .ok (.i2l, 1) := dk_133 (dk_at dksL_law_75 17 rfl rfl)
theorem dL_law_1920 : decode cL_law 1920 = .ok (.lcmp, 1) := dk_148 (dk_at dksL_law_75 18 rfl rfl)
theorem dL_law_1921 : decode cL_law 1921 = .ok (.ifCond .eq 5, 3) := dk_153 0 5 (dk_at dksL_law_75 19 rfl rfl)
theorem dL_law_1924 : decode cL_law 1924 = .ok (.iconst 0, 1) := dk_3 (dk_at dksL_law_75 22 rfl rfl)
theorem dL_law_1925 : decode cL_law 1925 = .ok (.ireturn, 1) := dk_172 (dk_at dksL_law_75 23 rfl rfl)
theorem dL_law_1926 : decode cL_law 1926 = .ok (.goto 28, 3) := dk_167 0 28 (dk_at dksL_law_76 0 rfl rfl)
theorem dL_law_1929 : decode cL_law 1929 = .ok (.aload_n 1, 1) := dk_43 (dk_at dksL_law_76 3 rfl rfl)
theorem dL_law_1930 : decode cL_law 1930 = .ok (.aload_n 0, 1) := dk_42 (dk_at dksL_law_76 4 rfl rfl)
theorem dL_law_1931 : decode cL_law 1931 = .ok (.iload 4, 2) := dk_21 4 (dk_at dksL_law_76 5 rfl rfl)
theorem dL_law_1933 : decode cL_law 1933 = .ok (.iconst 1, 1) := dk_4 (dk_at dksL_law_76 7 rfl rfl)
theorem dL_law_1934 : decode cL_law 1934 = .ok (.iadd, 1) := dk_96 (dk_at dksL_law_76 8 rfl rfl)
theorem dL_law_1935 : decode cL_law 1935 = .ok (.iaload, 1) := dk_46 (dk_at dksL_law_76 9 rfl rfl)
theorem dL_law_1936 : decode cL_law 1936 = .ok (.invokevirtual 252, 3) := dk_182 0 252 (dk_at dksL_law_76 10 rfl rfl)
theorem dL_law_1939 : decode cL_law 1939 = .ok (.aload_n 2, 1) := dk_44 (dk_at dksL_law_76 13 rfl rfl)
theorem dL_law_1940 : decode cL_law 1940 = .ok (.aload_n 0, 1) := dk_42 (dk_at dksL_law_76 14 rfl rfl)
theorem dL_law_1941 : decode cL_law 1941 = .ok (.iload 4, 2) := dk_21 4 (dk_at dksL_law_76 15 rfl rfl)
theorem dL_law_1943 : decode cL_law 1943 = .ok (.iconst 1, 1) := dk_4 (dk_at dksL_law_76 17 rfl rfl)
theorem dL_law_1944 : decode cL_law 1944 = .ok (.iadd, 1) := dk_96 (dk_at dksL_law_76 18 rfl rfl)
theorem dL_law_1945 : decode cL_law 1945 = .ok (.iaload, 1) := dk_46 (dk_at dksL_law_76 19 rfl rfl)
theorem dL_law_1946 : decode cL_law 1946 = .ok (.invokevirtual 255, 3) := dk_182 0 255 (dk_at dksL_law_76 20 rfl rfl)
theorem dL_law_1949 : decode cL_law 1949 = .ok (.if_icmp .eq 5, 3) := dk_159 0 5 (dk_at dksL_law_77 0 rfl rfl)
theorem dL_law_1952 : decode cL_law 1952 = .ok (.iconst 0, 1) := dk_3 (dk_at dksL_law_77 3 rfl rfl)
theorem dL_law_1953 : decode cL_law 1953 = .ok (.ireturn, 1) := dk_172 (dk_at dksL_law_77 4 rfl rfl)
theorem dL_law_1954 : decode cL_law 1954 = .ok (.iinc 4 4, 3) := dk_132 4 4 (dk_at dksL_law_77 5 rfl rfl)
theorem dL_law_1957 : decode cL_law 1957 = .ok (.goto (-1934), 3) := dk_167 248 114 (dk_at dksL_law_77 8 rfl rfl)
theorem dL_law_1960 : decode cL_law 1960 = .ok (.iconst 1, 1) := dk_4 (dk_at dksL_law_77 11 rfl rfl)
theorem dL_law_1961 : decode cL_law 1961 = .ok (.ireturn, 1) := dk_172 (dk_at dksL_law_77 12 rfl rfl)
